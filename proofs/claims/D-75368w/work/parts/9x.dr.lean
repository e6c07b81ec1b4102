/-! Plain law: the component's steps, one by one; judge -/
def StV (P : Nat → Bool) (k : Nat) (r : Int) : Prop := (r = -1 ∧ ∀ i, P i = true → cnB P i < k) ∨ ∃ i : Nat, r = i ∧ P i = true ∧ cnB P i = k
noncomputable def stV (P : Nat → Bool) (k : Nat) : Int := @dite _ (∃ i, P i = true ∧ cnB P i = k) (Classical.propDecidable _) (fun h => ((Classical.choose h : Nat) : Int)) (fun _ => -1)
theorem cnB_mn {P : Nat → Bool} {m : Nat} : ∀ d, cnB P m ≤ cnB P (m + d)
  | 0 => Nat.le_refl _
  | d + 1 => by
    have := cnB_mn (P := P) (m := m) d
    rw [← Nat.add_assoc, cnB]
    omega
theorem cnB_inj {P : Nat → Bool} {i j : Nat} (hi : P i = true) (hj : P j = true) (h : cnB P i = cnB P j) : i = j := by
  rcases Nat.lt_trichotomy i j with c | c | c
  · have := cnB_mn (P := P) (m := i + 1) (j - (i + 1))
    rw [show i + 1 + (j - (i + 1)) = j by omega, cnB, hi] at this
    simp only [if_true] at this
    omega
  · exact c
  · have := cnB_mn (P := P) (m := j + 1) (i - (j + 1))
    rw [show j + 1 + (i - (j + 1)) = i by omega, cnB, hj] at this
    simp only [if_true] at this
    omega
theorem StV.eq {P : Nat → Bool} {k : Nat} {r : Int} (h : StV P k r) : r = stV P k := by
  unfold stV
  rcases h with ⟨rfl, h⟩ | ⟨i, rfl, h1, h2⟩
  · rw [dif_neg]
    rintro ⟨i, h1, h2⟩
    have := h i h1
    omega
  · have hh : ∃ i, P i = true ∧ cnB P i = k := ⟨i, h1, h2⟩
    rw [dif_pos hh]
    have := Classical.choose_spec hh
    rw [cnB_inj h1 this.1 (h2.trans this.2.symm)]
theorem cnB_0 {P : Nat → Bool} {m : Nat} : ∀ {d : Nat}, (∀ i, m ≤ i → i < m + d → P i = false) → cnB P (m + d) = cnB P m
  | 0, _ => rfl
  | d + 1, h => by
    rw [← Nat.add_assoc, cnB, h (m + d) (by omega) (by omega), cnB_0 (d := d) (fun i h1 h2 => h i h1 (by omega))]
    rfl
/-- the next one counts one more -/
theorem StV.nx {P : Nat → Bool} {f k : Nat} {r : Int} (hf : cnB P f = k) (h : NxB P f r) : StV P k r := by
  rcases h with ⟨rfl, h⟩ | ⟨i, rfl, h1, h2, h3⟩
  · refine .inl ⟨rfl, fun i hi => ?_⟩
    have c : i < f := Nat.lt_of_not_le (fun e => by rw [h i e] at hi; cases hi)
    have := cnB_mn (P := P) (m := i + 1) (f - (i + 1))
    rw [show i + 1 + (f - (i + 1)) = f by omega, cnB, hi] at this
    simp only [if_true] at this
    omega
  · refine .inr ⟨i, rfl, h2, ?_⟩
    have := cnB_0 (P := P) (m := f) (d := i - f) (fun j a b => h3 j a (by omega))
    rw [show f + (i - f) = i by omega] at this
    omega
noncomputable def stpB (ρ : Nat → Nat) (a : Nat) : Nat → Bool := fun i => @decide (stp ρ a (ρ 2) i) (Classical.propDecidable _)
noncomputable def steI (ρ : Nat → Nat) (a : Nat) (z : Int) : Int := if z < 0 then -1 else stV (stpB ρ a) z.toNat
section
variable {w : WH} {x s q F n : Nat} {ρ : Nat → Nat} {ν : NH} {t a : Nat} {σ : SG} {η : RH}
theorem q_step (h : MR w x F s q ν ρ) (hW : WF w) (ha : a < ρ 1) {z : Int} (hz : bI z) (hC : 8 ≤ wC w) (hS : 2000 ≤ wS w) : ∃ w', fX1_step x (zN a) (zI z) w = some (.inl (zI (steI ρ a z)), w') ∧ Kg F nQ w w' 8 2000 := by
  obtain ⟨w', ws, nw, u, W, st, e, hB, hb, k⟩ := c_steps h hW ha hC hS
  refine ⟨w', ?_, k⟩
  have eP : bit W = stpB ρ a := by
    funext i
    unfold stpB
    rw [Bool.eq_iff_iff]
    exact (hb i).trans (@decide_eq_true_iff _ (Classical.propDecidable _)).symm
  have i1 : hIs w' (wN w) 0 = some () := c_C hB.1
  have hu : 64 * u ≤ 65536 := by
    have := hB.2.2.1
    have := hB.2.2.2.1
    omega
  obtain ⟨r0, e0, n0, b0⟩ := c_nsb hB (f := 0) (by omega)
  rw [eP] at n0
  have v0 : StV (stpB ρ a) 0 r0 := StV.nx rfl n0
  have H : ∃ r, fX1_step_l20 (zI z) (wN w) (zI r0) (zN 0) w' = some r ∧ r = (.inl (zI (steI ρ a z)), w') := by
    refine wh_dn (P := fun d y => ∃ (r : Int) (k : Nat), y = (zI r, zN k, w') ∧ StV (stpB ρ a) k r ∧ (k : Int) ≤ (if z < 0 then 0 else z) ∧ (r = -1 ∨ ∃ i : Nat, r = i ∧ i < 64 * u ∧ d = 65536 - i)) ?_ (match r0 with | .ofNat i => 65536 - i | _ => 0) _ ⟨r0, 0, rfl, v0, by split <;> omega, ?_⟩
    · rintro d y ⟨r, k, rfl, hv, hk, hr⟩
      have hz' := hz
      unfold bI at hz'
      have kb : k < 2147483648 := by
        split at hk <;> omega
      have c1 : (zI z ≤ zN k) = (z ≤ (k : Int)) := zI_le (by omega) (by omega)
      have fin : z ≤ (k : Int) ∨ r = -1 → zI (steI ρ a z) = if z < 0 then zI (-1) else zI r := by
        intro hh
        unfold steI
        by_cases c : z < 0
        · rw [if_pos c, if_pos c]
        · rw [if_neg c, if_neg c]
          rw [if_neg c] at hk
          have : StV (stpB ρ a) z.toNat r := by
            rcases hh with hh | hh
            · rw [show z.toNat = k by omega]; exact hv
            · rcases hv with ⟨e1, h1⟩ | ⟨i, e1, -⟩
              · exact .inl ⟨e1, fun i hi => by have := h1 i hi; omega⟩
              · omega
          rw [this.eq]
      have b47 : z ≤ (k : Int) ∨ r = -1 → fX1_step_b47 (zI z) (zI r) w' = some (.inl (zI (steI ρ a z)), w') := by
        intro hh
        rw [fin hh]
        unfold fX1_step_b47
        have c2 : ((0 : Int32) ≤ zI z) = (0 ≤ z) := zI_le (a := 0) (by omega) (by omega)
        by_cases c : z < 0
        · rw [if_neg (by rw [c2]; omega), if_pos c]; rfl
        · rw [if_pos (by rw [c2]; omega), if_neg c]
      by_cases c : z ≤ (k : Int)
      · right
        refine ⟨_, ?_, rfl⟩
        have := b47 (.inl c)
        rw [eq_true c] at c1
        simp (disch := omega) only [b2_some, bd_some, nm_eq, Option.map_some, zN_lit, zN_add, zN_mul, zN_neg1, if_true, if_false, reduceIte, eq_self, Nat.reduceEqDiff, Nat.reduceAdd, Nat.reduceMul, Nat.reduceSub, Nat.reduceLeDiff, Nat.one_ne_zero, not_false_eq_true, Bool.false_eq_true, zN_eq, zN_lt, zN_le,  fX1_step_b20, c1, this]
      · rw [eq_false c] at c1
        by_cases cr : r = -1
        · right
          refine ⟨_, ?_, rfl⟩
          have := b47 (.inr cr)
          have c3 : (zI r < zN 0) = True := eq_true (by rw [cr]; decide)
          simp (disch := omega) only [b2_some, bd_some, nm_eq, Option.map_some, zN_lit, zN_add, zN_mul, zN_neg1, if_true, if_false, reduceIte, eq_self, Nat.reduceEqDiff, Nat.reduceAdd, Nat.reduceMul, Nat.reduceSub, Nat.reduceLeDiff, Nat.one_ne_zero, not_false_eq_true, Bool.false_eq_true, zN_eq, zN_lt, zN_le,  fX1_step_b20, c1, c3, this]
        · left
          obtain ⟨i, e1, e2, e3⟩ : ∃ i : Nat, r = i ∧ i < 64 * u ∧ d = 65536 - i := by
            rcases hr with hr | hr
            · exact absurd hr cr
            · exact hr
          subst e1
          subst e3
          obtain ⟨r2, e4, n2, b2⟩ := c_nsb hB (f := i + 1) (by omega)
          rw [eP] at n2
          have hc : cnB (stpB ρ a) (i + 1) = k + 1 := by
            rcases hv with ⟨e5, -⟩ | ⟨j, e5, e6, e7⟩
            · omega
            · have : j = i := by omega
              subst this
              rw [cnB, e6, e7]
              rfl
          have c3 : (zI (i : Int) < zN 0) = False := eq_false (by
            rw [show zN 0 = zI 0 from rfl, zI_lt (by omega) (by omega)]
            omega)
          have c4 : zI (i : Int) + zN 1 = zN (i + 1) := by rw [zI_cast, zN_add]
          have hi2 : r2 = -1 ∨ ∃ j : Nat, r2 = j ∧ j < 64 * u ∧ i < j := by
            rcases n2 with ⟨e5, -⟩ | ⟨j, e5, e6, -⟩
            · exact .inl e5
            · rcases b2 with b2 | ⟨j', e7, e8⟩
              · exact .inl b2
              · exact .inr ⟨j, e5, by omega, by omega⟩
          refine ⟨(zI r2, zN (k + 1), w'), (match r2 with | .ofNat j => 65536 - j | _ => 0), ?_, ?_, r2, k + 1, rfl, StV.nx hc n2, ?_, ?_⟩
          · rcases hi2 with rfl | ⟨j, rfl, h1, h2⟩
            · show 0 < 65536 - i; omega
            · show 65536 - j < 65536 - i; omega
          · simp (disch := omega) only [b2_some, bd_some, nm_eq, Option.map_some, zN_lit, zN_add, zN_mul, zN_neg1, if_true, if_false, reduceIte, eq_self, Nat.reduceEqDiff, Nat.reduceAdd, Nat.reduceMul, Nat.reduceSub, Nat.reduceLeDiff, Nat.one_ne_zero, not_false_eq_true, Bool.false_eq_true, zN_eq, zN_lt, zN_le,  fX1_step_b20, c1, c3, i1, c4, e4]
          · split at hk
            · omega
            · rename_i hh
              rw [if_neg hh]
              omega
          · rcases hi2 with rfl | ⟨j, rfl, h1, h2⟩
            · exact .inl rfl
            · exact .inr ⟨j, rfl, h1, rfl⟩
    · rcases b0 with rfl | ⟨i, rfl, h1⟩
      · exact .inl rfl
      · exact .inr ⟨i, rfl, h1, rfl⟩
  obtain ⟨r, e2, rfl⟩ := H
  simp (disch := omega) only [b2_some, bd_some, nm_eq, Option.map_some, zN_lit, zN_add, zN_mul, zN_neg1, if_true, if_false, reduceIte, eq_self, Nat.reduceEqDiff, Nat.reduceAdd, Nat.reduceMul, Nat.reduceSub, Nat.reduceLeDiff, Nat.one_ne_zero, not_false_eq_true, Bool.false_eq_true, zN_eq, zN_lt, zN_le,  fX1_step, h.g0, h.g1, h.xI, h.1.FI, c_snet h.1.2.1, c_sI h.1.2.1, c_nal h.1.2.2.1, c_ntl h.1.2.2.1, c_nn h.1.2.2.1, c_alI h.1.2.2.1, c_tlI h.1.2.2.1, c_size h.1.2.2.1, c_size2 h.1.2.2.1, c_arcAt1 h ha, ex_, e, i1, e0]
  exact e2
/-- judge empties the buffer -/
def sgC (σ : SG) : SG := (σ.1, σ.2.1, σ.2.2.1, σ.2.2.2.1, (0, σ.2.2.2.2.1.2), σ.2.2.2.2.2.1, σ.2.2.2.2.2.2)
theorem c_judge1 (h : RcP w x σ F s q ν η) (ht : t < σ.1 2) : ∃ w', fX1_judge x (zN t) w = some (.inl (zI (judI σ.1 t (sgB σ) (sgL σ))), w') ∧ Don w w' x (hL η) (sgC σ) 0 0 := by
  have M := h.mr
  have ej := c_judged h ht
  have htx : TxK w (hTx η) 0 (sgB σ) := by
    obtain ⟨f, h1, h2, h3⟩ := h.2.2.2.2.2.2.2.1
    exact ⟨f, h1, by omega, fun k hk => absurd hk (Nat.not_lt_zero _)⟩
  have h2 := h.rt (bu := (0, sgB σ)) (er := σ.2.2.2.2.2.1) htx
  have p1 : hPut w x 17 5 (.int (zN 0)) = some (hUp w x (rtC s F (hP η) (hSn η) (hTx η) (hOu η) (zN 0) (zN (sgE σ)) (zI (sgS σ)))) := c_P h.2.2.1 (k := 5) (show 5 < 9 by decide) _
  have h2' : RcP (hUp w x (rtC s F (hP η) (hSn η) (hTx η) (hOu η) (zN 0) (zN (sgE σ)) (zI (sgS σ)))) x (sgC σ) F s q ν η := h2
  have D1 : Don w (hUp w x (rtC s F (hP η) (hSn η) (hTx η) (hOu η) (zN 0) (zN (sgE σ)) (zI (sgS σ)))) x (hL η) (sgC σ) 0 0 := ⟨⟨F, s, q, ν, η, h2', rfl⟩, Nat.le_refl _, Nat.le_refl _⟩
  generalize hUp w x (rtC s F (hP η) (hSn η) (hTx η) (hOu η) (zN 0) (zN (sgE σ)) (zI (sgS σ))) = w1 at p1 h2' D1
  have M2 := h2'.mr
  have i1 : hIs w (nTr ν t) 28 = some () := c_tI M.1.2.2.1 ht
  have hI := h.1.2.2.2.1
  have hJ : jdgI σ.1 (uT σ.1 0 (-1) 0) t (sgB σ) (sgL σ) = -1 ∨ (0 ≤ jdgI σ.1 (uT σ.1 0 (-1) 0) t (sgB σ) (sgL σ) ∧ jdgI σ.1 (uT σ.1 0 (-1) 0) t (sgB σ) (sgL σ) ≤ 29979 * 600 ∧ ∃ z, lT σ.1 0 (-1) 0 t (pFr σ.1 t) = some z) := by
    obtain ⟨f, -, hn, -⟩ := h.2.2.2.2.2.2.2.1
    unfold jdgI
    cases ejd : jdg σ.1 (uT σ.1 0 (-1) 0) t (sgB σ) (sgL σ) with
    | none => exact .inl rfl
    | some q' =>
      dsimp only
      by_cases c : q'.1 = pTo σ.1 t
      · rw [if_pos c]
        right
        have hr := jdg_rng hI ht _ q' ejd
        refine ⟨by omega, by omega, ?_⟩
        cases hz : lT σ.1 0 (-1) 0 t (pFr σ.1 t) with
        | some z => exact ⟨z, rfl⟩
        | none =>
          have := jdg_path hI ht hz _ q' ejd
          rw [c, lT_last hI ht] at this
          cases this
      · rw [if_neg c]
        exact .inl rfl
  unfold judI
  generalize jdgI σ.1 (uT σ.1 0 (-1) 0) t (sgB σ) (sgL σ) = J at ej hJ
  have z4 : (-4 : Int64) = zJ (-4) := rfl
  have tA := c_tripAt1 M ht
  have xi := M.xI
  by_cases c : J = -1
  · rw [if_pos c] at ej ⊢
    refine ⟨w1, ?_, D1⟩
    have c0 : (lg_cmp (zJ (-4)) (zJ (-4)) = zN 0) = True := by decide
    unfold fX1_judge
    rw [xi, bd_some, tA, b2_some]
    unfold ex_
    dsimp only
    rw [bd_some, xi, bd_some, ej, b2_some, show (0 : Int32) = zN 0 from rfl, p1, bd_some, z4, if_pos (of_eq_true c0)]
    rfl
  · rw [if_neg c] at ej ⊢
    rcases hJ with hJ | ⟨j1, j2, z, hz⟩
    · exact absurd hJ c
    obtain ⟨w2, e2, k2⟩ := c_fltBy M2 ht
    have e2' : fX1_feltBy x (nTr ν t) w1 = some (encF (lT σ.1 0 (-1) 0 t (pFr σ.1 t)), w2) := e2
    rw [hz, encF_some] at e2'
    have hl : lI σ.1 0 (-1) 0 t (pFr σ.1 t) = z := lT_lI hz
    rw [hl]
    have c0 : (lg_cmp (zJ J) (zJ (-4)) = zN 0) = False := by rw [lgc_eq (by unfold bJ; omega) (by unfold bJ; omega)]; exact eq_false (by omega)
    have D2 : Don w w2 x (hL η) (sgC σ) 0 0 := by
      have := Don.tr (w := w) (w1 := w1) D1.2.1 D1.2.2 (h2'.kfd k2)
      exact this
    refine ⟨w2, ?_, D2⟩
    have xi1 := M2.xI
    unfold fX1_judge
    rw [xi, bd_some, tA, b2_some]
    unfold ex_
    dsimp only
    rw [bd_some, xi, bd_some, ej, b2_some, show (0 : Int32) = zN 0 from rfl, p1, bd_some, z4, if_neg (of_eq_false c0), xi1, bd_some, e2', b2_some, zJ_sub, zJ_I]
end
