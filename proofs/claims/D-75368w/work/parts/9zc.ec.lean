/-! Plain law: the component writes tolls; a byte of the output -/
section
variable {w w' : WH} {x s q F n k c : Nat} {ρ : Nat → Nat} {ν : NH} {t a I : Nat} {σ : SG} {η : RH}
theorem RcP.fo (h : RcP w x σ F s q ν η) {fs : List Value} (hk : k = 4 ∨ k = 7) (hI : w.1 I = some (.inr (k, fs))) (z : hE) : RcP (hUp w I z) x σ F s q ν η := by
  obtain ⟨h1, h2, h3, h4, h5, h6, h7, h8, ⟨h9, h9c⟩, h10, h11, h12⟩ := h
  have K : Kg F (fun a => a = I) w (hUp w I z) 0 0 := (Kg.refl (Q := fun a => a = I) h1.1 h2).up hI (by rcases hk with rfl | rfl <;> rfl) (.inr rfl) z
  have kp : KpK (fun y => y == (104, 0) || y == (107, 0)) w (hUp w I z) := fun a y hy hf hb => K.keep h1.1 h2 hy hf (fun qa => by
    rw [qa, hI] at hy
    cases hy
    rcases hk with rfl | rfl <;> cases hb)
  have nc : ((2, hCap η) == ((104, 0) : Nat × Nat) || (2, hCap η) == ((107, 0) : Nat × Nat)) = false := rfl
  exact ⟨⟨K.2.1, h1.2.1.kp kp (by decide), h1.2.2.1.kp kp (by decide), h1.2.2.2.1, h1.2.2.2.2⟩, K.2.2.1, kp _ _ h3 rfl rfl, h4.kp kp ⟨rfl, rfl⟩, h5.kp kp (by decide), h6.kp kp rfl, ⟨h7.1.kp kp (by decide), h7.2.kp kp (by decide)⟩, h8.kp kp rfl, ⟨h9.kp kp ⟨rfl, nc⟩, h9c⟩, h10, h11.kp kp rfl (fun _ hz => hz), h12.kg h1.1 K (fun a qa => by rw [qa, hI]; simp)⟩
theorem app_cons (X Y : List Nat) (c : Nat) : X ++ [c] ++ Y = X ++ c :: Y := by rw [List.append_assoc]; rfl
theorem c_wrT (h : RcP w x σ F s q ν η) (hC : 100 ≤ wC w) (hS : 60000 ≤ wS w) : ∃ w', fX1_writeTolls x w = some (zN (wrT σ.1 (σ.1 1)).length, w') ∧ Don w w' x (hL η) (sgW σ (wrT σ.1 (σ.1 1))) 100 60000 := by
  have hI := h.1.2.2.2.1
  have h1 := hI.h1
  obtain ⟨w1, e1, V1, cap1, R1, -, v1, K1⟩ := r_clr h
  have M1 := R1.mr
  have c1 : wC w ≤ wC w1 + 0 := K1.2.2.2.2.2.1
  have c2 : wS w ≤ wS w1 + 0 := K1.2.2.2.2.2.2
  have it := (c_itN M1 R1.2.1 (by omega) (by omega)).1
  have K2 : Kg F nQ w1 (hMk w1 4 (itC 0 (-1) ν.2.2.2.1 (nAl ν))) 1 4 := Kg.mk R1.1.1 R1.2.1 _ _
  have R2 := R1.kg K2
  have I2 := hMk_eq w1 4 (itC 0 (-1) ν.2.2.2.1 (nAl ν))
  have K12 := K1.tr0 K2
  have hwn : wN w ≤ wN w1 := K1.2.2.2.1
  generalize hMk w1 4 (itC 0 (-1) ν.2.2.2.1 (nAl ν)) = w2 at it K2 R2 I2 K12
  have H : ∃ r, fX1_writeTolls_l24 x (some (wN w1)) w2 = some r ∧ ∃ w', r = (zN (wrT σ.1 (σ.1 1)).length, w') ∧ WrD F w w' x σ s q ν η (wrT σ.1 (σ.1 1)) 100 60000 := by
    refine wh_up (P := fun i y => i ≤ σ.1 1 ∧ ∃ lr, y.1 (wN w1) = some (itC i lr ν.2.2.2.1 (nAl ν)) ∧ WrD F w y x σ s q ν η (wrT σ.1 i) (1 + 4 * i) (4 + 2120 * i)) (σ.1 1) ?_ ?_ (σ.1 1) 0 _ (by omega) ⟨by omega, _, I2, V1, cap1, R2, R2.2.2.2.2.2.2.2.2.1.2, v1, K12.mono (by omega) (by omega)⟩
    · rintro i y hi ⟨-, lr, hIt, V, cap, R, -, hv, hK⟩
      have M := R.mr
      have ci := hI.ha hi
      have wl := wrT_len σ.1 i
      obtain ⟨g, hLs, hg⟩ := M.1.2.2.1.la M.inv
      have hn1 := c_hasN hLs hIt (k := i) (Nat.le_of_lt hi)
      rw [if_neg (show ¬ i = (sgW σ (wrT σ.1 i)).1 1 from by show ¬ i = σ.1 1; omega)] at hn1
      have nx := c_nxt hLs hIt hi
      rw [hg i hi] at nx
      have R1' := R.fo (.inl rfl) hIt (itC (i + 1) (zN i) ν.2.2.2.1 (nAl ν))
      have I1' := hUp_eq y (wN w1) (itC (i + 1) (zN i) ν.2.2.2.1 (nAl ν))
      have K1' := hK.up hIt rfl (.inl hwn) (itC (i + 1) (zN i) ν.2.2.2.1 (nAl ν))
      have ii : hIs y (wN w1) 4 = some () := c_C hIt
      generalize hUp y (wN w1) (itC (i + 1) (zN i) ν.2.2.2.1 (nAl ν)) = y1 at nx R1' I1' K1'
      have M1' := R1'.mr
      have hai := c_aI M1'.1.2.2.1 hi
      have hto := c_toll M1'.1.2.1 M1'.1.2.2.1 M1'.inv hi
      have hnu := c_num M1'.1.2.2.1 hi
      have cC : wC w ≤ wC y1 + (1 + 4 * i) := K1'.2.2.2.2.2.1
      have cS : wS w ≤ wS y1 + (4 + 2120 * i) := K1'.2.2.2.2.2.2
      have gO1 : gR y1 x 17 8 = some (some (hOu η)) := R1'.gO
      have oi1 : hIs y1 (hOu η) 15 = some () := R1'.Oi
      have ln1 : fJ8_length (hOu η) y1 = some (zN (wrT σ.1 i).length, y1) := r_len R1'
      left
      by_cases c0 : aTl σ.1 i = 0
      · have ew : wrT σ.1 (i + 1) = wrT σ.1 i := by rw [wrT, if_neg (by omega)]
        have hto' : fX2_toll s (nAr ν i) y1 = some (zN 0, y1) := by rw [← c0]; exact hto
        refine ⟨y1, ?_, by omega, _, I1', by rw [ew]; exact ⟨V, cap, R1', R1'.2.2.2.2.2.2.2.2.1.2, hv, K1'.mono (by omega) (by omega)⟩⟩
        simp (disch := omega) only [b2_some, bd_some, nm_eq, Option.map_some, zN_lit, zN_add, zN_mul, zN_neg1, if_true, if_false, reduceIte, eq_self, Nat.reduceEqDiff, Nat.reduceAdd, Nat.reduceMul, Nat.reduceSub, Nat.reduceLeDiff, Nat.one_ne_zero, not_false_eq_true, Bool.false_eq_true, zN_eq, zN_lt, zN_le,  fX1_writeTolls_b24, ii, hn1, nx, hai, M1'.g0, c_sI M1'.1.2.1, hto']
      · have n0 : ¬ (aTl σ.1 i = 0) := c0
        have hto' : fX2_toll s (nAr ν i) y1 = some (zN (aTl σ.1 i), y1) := hto
        -- a semicolon or none
        have A : ∃ y2 o2, (o2 = wrT σ.1 i ++ (if 0 < (wrT σ.1 i).length then [59] else [])) ∧ WrD F y1 y2 x (sgW σ (wrT σ.1 i)) s q ν (rhW η V cap) o2 1 530 ∧ fX1_writeTolls_b24 x (some (wN w1)) y = fX1_writeTolls_b77 x (wN w1) (nAr ν i) y2 := by
          by_cases cl : (wrT σ.1 i).length ≤ 0
          · refine ⟨y1, _, rfl, ?_, ?_⟩
            · rw [if_neg (by omega), List.append_nil]
              exact (WrD.refl R1').mono (by omega) (by omega)
            · simp (disch := omega) only [b2_some, bd_some, nm_eq, Option.map_some, zN_lit, zN_add, zN_mul, zN_neg1, if_true, if_false, reduceIte, eq_self, Nat.reduceEqDiff, Nat.reduceAdd, Nat.reduceMul, Nat.reduceSub, Nat.reduceLeDiff, Nat.one_ne_zero, not_false_eq_true, Bool.false_eq_true, zN_eq, zN_lt, zN_le,  fX1_writeTolls_b24, ii, hn1, nx, hai, M1'.g0, c_sI M1'.1.2.1, hto', n0, gO1, oi1, ln1, cl]
          · obtain ⟨y2, e2, D2⟩ := r_chr R1' (ch := 59) (by omega) (by show (wrT σ.1 i).length ≤ 259; omega) (by omega) (by omega)
            have e2' : fJ8_append_3 (hOu η) (zN 59) y1 = some (some (hOu η), y2) := e2
            refine ⟨y2, _, rfl, ?_, ?_⟩
            · rw [if_pos (by omega)]
              exact D2
            · simp (disch := omega) only [b2_some, bd_some, nm_eq, Option.map_some, zN_lit, zN_add, zN_mul, zN_neg1, if_true, if_false, reduceIte, eq_self, Nat.reduceEqDiff, Nat.reduceAdd, Nat.reduceMul, Nat.reduceSub, Nat.reduceLeDiff, Nat.one_ne_zero, not_false_eq_true, Bool.false_eq_true, zN_eq, zN_lt, zN_le,  fX1_writeTolls_b24, ii, hn1, nx, hai, M1'.g0, c_sI M1'.1.2.1, hto', n0, gO1, oi1, ln1, cl, e2']
        obtain ⟨y2, o2, eo2, D2, hb⟩ := A
        have I2' := D2.cell R1' I1' rfl ⟨(by decide : (104 : Nat) ≠ 115), (by decide : (104 : Nat) ≠ 2)⟩
        obtain ⟨V2, cap2, R2', -, v2, K2'⟩ := D2
        have l2 : o2.length ≤ 10 * i + 1 := by
          rw [eo2, List.length_append]
          split
          · rw [List.length_singleton]; omega
          · rw [List.length_nil]; omega
        have M2 := R2'.mr
        have cC2 : wC y1 ≤ wC y2 + 1 := K2'.2.2.2.2.2.1
        have cS2 : wS y1 ≤ wS y2 + 530 := K2'.2.2.2.2.2.2
        have dl := dgs_len i
        obtain ⟨y3, e3, D3⟩ := r_int R2' (v := i) (by omega) (by show o2.length ≤ 256; omega) (by omega) (by omega)
        have I3 := D3.cell R2' I2' rfl ⟨(by decide : (104 : Nat) ≠ 115), (by decide : (104 : Nat) ≠ 2)⟩
        obtain ⟨V3, cap3, R3, -, v3, K3⟩ := D3
        have cC3 : wC y2 ≤ wC y3 + 1 := K3.2.2.2.2.2.1
        have cS3 : wS y2 ≤ wS y3 + 530 := K3.2.2.2.2.2.2
        obtain ⟨y4, e4, D4⟩ := r_chr R3 (ch := 58) (by omega) (by show (o2 ++ dgs i).length ≤ 259; rw [List.length_append]; omega) (by omega) (by omega)
        have I4 := D4.cell R3 I3 rfl ⟨(by decide : (104 : Nat) ≠ 115), (by decide : (104 : Nat) ≠ 2)⟩
        obtain ⟨V4, cap4, R4, -, v4, K4⟩ := D4
        have cC4 : wC y3 ≤ wC y4 + 1 := K4.2.2.2.2.2.1
        have cS4 : wS y3 ≤ wS y4 + 530 := K4.2.2.2.2.2.2
        obtain ⟨y5, e5, D5⟩ := r_int R4 (v := aTl σ.1 i) (by omega) (by show (o2 ++ dgs i ++ [58]).length ≤ 256; rw [List.length_append, List.length_append, List.length_singleton]; omega) (by omega) (by omega)
        have I5 := D5.cell R4 I4 rfl ⟨(by decide : (104 : Nat) ≠ 115), (by decide : (104 : Nat) ≠ 2)⟩
        have T4 := WrD.tr v4 K4 D5
        have T3 := WrD.tr v3 K3 T4
        have T2 := WrD.tr v2 K2' T3
        have T1 := WrD.tr hv K1' T2
        have ew : wrT σ.1 (i + 1) = o2 ++ dgs i ++ [58] ++ dgs (aTl σ.1 i) := by
          rw [wrT, if_pos (by omega), eo2, app_cons]
        refine ⟨y5, ?_, by omega, _, I5, by rw [ew]; exact WrD.mono T1 (by omega) (by omega)⟩
        rw [hb]
        have gO2 : gR y2 x 17 8 = some (some (hOu η)) := R2'.gO
        have oi2 : hIs y2 (hOu η) 15 = some () := R2'.Oi
        have oi3 : hIs y3 (hOu η) 15 = some () := R3.Oi
        have oi4 : hIs y4 (hOu η) 15 = some () := R4.Oi
        have hai2 := c_aI M2.1.2.2.1 hi
        have hnu2 := c_num M2.1.2.2.1 hi
        have M4 := R4.mr
        have hto4 : fX2_toll s (nAr ν i) y4 = some (zN (aTl σ.1 i), y4) := c_toll M4.1.2.1 M4.1.2.2.1 M4.inv hi
        have e3' : fJ8_append_2 (hOu η) (zN i) y2 = some (some (hOu η), y3) := e3
        have e4' : fJ8_append_3 (hOu η) (zN 58) y3 = some (some (hOu η), y4) := e4
        have e5' : fJ8_append_2 (hOu η) (zN (aTl σ.1 i)) y4 = some (some (hOu η), y5) := e5
        have s4 : gR y4 x 17 0 = some (some s) := M4.g0
        have si4 : hIs y4 s 21 = some () := c_sI M4.1.2.1
        simp (disch := omega) only [b2_some, bd_some, nm_eq, Option.map_some, zN_lit, zN_add, zN_mul, zN_neg1, if_true, if_false, reduceIte, eq_self, Nat.reduceEqDiff, Nat.reduceAdd, Nat.reduceMul, Nat.reduceSub, Nat.reduceLeDiff, Nat.one_ne_zero, not_false_eq_true, Bool.false_eq_true, zN_eq, zN_lt, zN_le,  fX1_writeTolls_b77, gO2, hai2, hnu2, oi2, e3', oi3, e4', s4, si4, hto4, oi4, e5']
    · rintro y ⟨-, lr, hIt, V, cap, R, -, hv, hK⟩
      have M := R.mr
      obtain ⟨g, hLs, hg⟩ := M.1.2.2.1.la M.inv
      have hn1 := c_hasN hLs hIt (k := σ.1 1) (Nat.le_refl _)
      rw [if_pos (show σ.1 1 = (sgW σ (wrT σ.1 (σ.1 1))).1 1 from rfl)] at hn1
      have ii : hIs y (wN w1) 4 = some () := c_C hIt
      have gO1 : gR y x 17 8 = some (some (hOu η)) := R.gO
      have oi1 : hIs y (hOu η) 15 = some () := R.Oi
      have ln1 : fJ8_length (hOu η) y = some (zN (wrT σ.1 (σ.1 1)).length, y) := r_len R
      refine ⟨_, ?_, y, rfl, V, cap, R, R.2.2.2.2.2.2.2.2.1.2, hv, hK.mono (by omega) (by omega)⟩
      simp (disch := omega) only [b2_some, bd_some, nm_eq, Option.map_some, zN_lit, zN_add, zN_mul, zN_neg1, if_true, if_false, reduceIte, eq_self, Nat.reduceEqDiff, Nat.reduceAdd, Nat.reduceMul, Nat.reduceSub, Nat.reduceLeDiff, Nat.one_ne_zero, not_false_eq_true, Bool.false_eq_true, zN_eq, zN_lt, zN_le,  fX1_writeTolls_b24, ii, hn1, fX1_writeTolls_b108, gO1, oi1, ln1]
  obtain ⟨r, e2, w', rfl, D⟩ := H
  refine ⟨w', ?_, D.don⟩
  simp (disch := omega) only [b2_some, bd_some, nm_eq, Option.map_some, zN_lit, zN_add, zN_mul, zN_neg1, if_true, if_false, reduceIte, eq_self, Nat.reduceEqDiff, Nat.reduceAdd, Nat.reduceMul, Nat.reduceSub, Nat.reduceLeDiff, Nat.one_ne_zero, not_false_eq_true, Bool.false_eq_true, zN_eq, zN_lt, zN_le,  fX1_writeTolls, h.gO, h.Oi, e1, M1.g0, M1.g1, M1.xI, M1.1.FI, c_snet M1.1.2.1, c_sI M1.1.2.1, c_nal M1.1.2.2.1, c_ntl M1.1.2.2.1, c_nn M1.1.2.2.1, c_alI M1.1.2.2.1, c_tlI M1.1.2.2.1, c_size M1.1.2.2.1, c_size2 M1.1.2.2.1, it]
  exact e2
theorem f_oByte (h : RcP w x σ F s q ν η) (ho : ∀ c ∈ sgO σ, c < 128) {z : Int} (hz : bI z) : fX1_outputByte x (zI z) w = some (zI (if 0 ≤ z ∧ z < (sgO σ).length then ((sgO σ).getD z.toNat 0 : Int) else -1), w) := by
  have hcap : hCap η ≤ 522 := h.2.2.2.2.2.2.2.2.1.2
  have hl := h.bd.2.2.1
  have ln := r_len h
  have e2 := c_inZ (w := w) hz (lo := 0) (hi := ((sgO σ).length : Int) - 1) ⟨by omega, by omega⟩ ⟨by omega, by omega⟩
  have e3 : (zN (sgO σ).length - zN 1).toInt64 = zJ (((sgO σ).length : Int) - 1) := by
    rw [show zN (sgO σ).length - zN 1 = zI (((sgO σ).length : Int) - 1) from zI_sub ((sgO σ).length : Int) 1, zI_J (by omega)]
  have z0 : (0 : Int64) = zJ 0 := rfl
  by_cases c : 0 ≤ z ∧ z < (sgO σ).length
  · rw [if_pos c]
    rw [if_pos (by omega)] at e2
    have ct := c_bAt h.bd ho (by omega) (k := z.toNat) (by omega)
    rw [← zI_nn c.1] at ct
    simp (disch := omega) only [b2_some, bd_some, nm_eq, Option.map_some, zN_lit, zN_add, zN_mul, zN_neg1, if_true, if_false, reduceIte, eq_self, Nat.reduceEqDiff, Nat.reduceAdd, Nat.reduceMul, Nat.reduceSub, Nat.reduceLeDiff, Nat.one_ne_zero, not_false_eq_true, Bool.false_eq_true, zN_eq, zN_lt, zN_le,  fX1_outputByte, h.gO, h.Oi, ln, e3, z0, e2, ct]
    rfl
  · rw [if_neg c]
    rw [if_neg (by omega)] at e2
    simp (disch := omega) only [b2_some, bd_some, nm_eq, Option.map_some, zN_lit, zN_add, zN_mul, zN_neg1, if_true, if_false, reduceIte, eq_self, Nat.reduceEqDiff, Nat.reduceAdd, Nat.reduceMul, Nat.reduceSub, Nat.reduceLeDiff, Nat.one_ne_zero, not_false_eq_true, Bool.false_eq_true, zN_eq, zN_lt, zN_le,  fX1_outputByte, h.gO, h.Oi, ln, e3, z0, e2]
end
