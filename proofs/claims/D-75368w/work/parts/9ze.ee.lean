/-! Plain law: the component writes a path -/
noncomputable def wpL (ρ : Nat → Nat) (t : Nat) : List Nat := match PT ρ 0 (-1) 0 t with
  | none => [110, 111, 110, 101]
  | some p => wrP ρ t p p.length
noncomputable def spWp (σ : SG) (z : Int) : SP := if 0 ≤ z ∧ z < σ.1 2 then (0, ((wpL σ.1 z.toNat).length : Int), sgW σ (wpL σ.1 z.toNat)) else (1, 0, σ)
section
variable {w w' : WH} {x s q F n k c : Nat} {ρ : Nat → Nat} {ν : NH} {t a I L0 : Nat} {it : Nat → Nat} {σ : SG} {η : RH}
theorem WrD.lk {o1 : List Nat} {m : Nat} (h : WrD F w w' x σ s q ν η o1 c n) (h0 : RcP w x σ F s q ν η) (hl : LkC w L0 m it) : LkC w' L0 m it := by
  obtain ⟨⟨mc, h1⟩, h2⟩ := hl
  exact ⟨⟨mc, h.cell h0 h1 rfl ⟨(by decide : (111 : Nat) ≠ 115), (by decide : (111 : Nat) ≠ 2)⟩⟩, fun j j1 j2 => h.cell h0 (h2 j j1 j2) rfl ⟨(by decide : (103 : Nat) ≠ 115), (by decide : (103 : Nat) ≠ 2)⟩⟩
theorem r_non (h : RcP w x σ F s q ν η) (ho : (sgO σ).length ≤ 256) (hC : 1 ≤ wC w) (hS : 530 ≤ wS w) : ∃ w', fJ8_append (hOu η) (wK w 4) w = some (some (hOu η), w') ∧ WrD F w w' x σ s q ν η (sgO σ ++ [110, 111, 110, 101]) 1 530 := by
  have hcap : hCap η ≤ 522 := h.2.2.2.2.2.2.2.2.1.2
  obtain ⟨w', V', cap', e, B, hV, K, hcp⟩ := c_bNon h.1.1 h.2.1 h.kn h.bd (by omega) (by omega) hC (by omega)
  exact ⟨w', e, V', cap', h.ou K B (by omega), by omega, hV, K.mono (Nat.le_refl _) (by omega)⟩
theorem wpath_one (h : RcP w x σ F s q ν η) (ha : a < σ.1 1) (hl : (sgO σ).length ≤ 240) (hC : 4 ≤ wC w) (hS : 2120 ≤ wS w) {w0 : WH} {I2 : Nat} (hb : ∀ u, fX1_writePath_b60 x (some I2) w0 = some u ↔ (if aTl σ.1 a ≤ 0 then fX1_writePath_b114 x I2 (nAr ν a) w else (b2_ (fJ8_append_3 (hOu η) (zN 61) w) fun x31 w28 => (gR w28 x 17 0).bind fun x32 => x32.bind fun a34 => (hIs w28 a34 21).bind fun _ => b2_ (fX2_toll a34 (nAr ν a) w28) fun x39 w36 => x31.bind fun a40 => (hIs w36 a40 15).bind fun _ => b2_ (fJ8_append_2 a40 x39 w36) fun x45 w42 => fX1_writePath_b114 x I2 (nAr ν a) w42)) = some u) :
    ∃ w', fX1_writePath_b60 x (some I2) w0 = some (.inl w') ∧ WrD F w w' x σ s q ν η (sgO σ ++ wrA1 σ.1 a) 4 2120 := by
  have hI := h.1.2.2.2.1
  have ca := hI.ha ha
  have A : ∃ w2 o2, o2 = sgO σ ++ (if 0 < aTl σ.1 a then 61 :: dgs (aTl σ.1 a) else []) ∧ WrD F w w2 x σ s q ν η o2 2 1060 ∧ (∀ u, fX1_writePath_b60 x (some I2) w0 = some u ↔ fX1_writePath_b114 x I2 (nAr ν a) w2 = some u) := by
    by_cases c0 : aTl σ.1 a ≤ 0
    · refine ⟨w, _, rfl, ?_, fun u => ?_⟩
      · rw [if_neg (by omega), List.append_nil]
        exact (WrD.refl h).mono (by omega) (by omega)
      · rw [hb u, if_pos c0]
    · obtain ⟨w1, e1, D1⟩ := r_chr h (ch := 61) (by omega) (by omega) (by omega) (by omega)
      obtain ⟨V1, cap1, R1, -, v1, K1⟩ := D1
      have cC1 : wC w ≤ wC w1 + 1 := K1.2.2.2.2.2.1
      have cS1 : wS w ≤ wS w1 + 530 := K1.2.2.2.2.2.2
      obtain ⟨w2, e2, D2⟩ := r_int R1 (v := aTl σ.1 a) (by omega) (by show (sgO σ ++ [61]).length ≤ 256; rw [List.length_append, List.length_singleton]; omega) (by omega) (by omega)
      have T := WrD.tr v1 K1 D2
      refine ⟨w2, _, rfl, ?_, fun u => ?_⟩
      · rw [if_pos (by omega), ← app_cons]
        exact T
      · rw [hb u, if_neg c0]
        have M1 := R1.mr
        have ht1 : fX2_toll s (nAr ν a) w1 = some (zN (aTl σ.1 a), w1) := c_toll M1.1.2.1 M1.1.2.2.1 M1.inv ha
        have e2' : fJ8_append_2 (hOu η) (zN (aTl σ.1 a)) w1 = some (some (hOu η), w2) := e2
        have oi1 : hIs w1 (hOu η) 15 = some () := R1.Oi
        have s1g : gR w1 x 17 0 = some (some s) := M1.g0
        have si1 : hIs w1 s 21 = some () := c_sI M1.1.2.1
        rw [e1, b2_some, s1g, bd_some, bd_some, si1, bd_some, ht1, b2_some, bd_some, oi1, bd_some, e2', b2_some]
  obtain ⟨w2, o2, eo2, D2, hb2⟩ := A
  obtain ⟨V2, cap2, R2, -, v2, K2⟩ := D2
  have cC2 : wC w ≤ wC w2 + 2 := K2.2.2.2.2.2.1
  have cS2 : wS w ≤ wS w2 + 1060 := K2.2.2.2.2.2.2
  have dl := dgs_len (aTl σ.1 a)
  have l2 : o2.length ≤ (sgO σ).length + 5 := by
    rw [eo2, List.length_append]
    split
    · rw [List.length_cons]; omega
    · rw [List.length_nil]; omega
  obtain ⟨w3, e3, D3⟩ := r_chr R2 (ch := 62) (by omega) (by show o2.length ≤ 259; omega) (by omega) (by omega)
  obtain ⟨V3, cap3, R3, -, v3, K3⟩ := D3
  have cC3 : wC w2 ≤ wC w3 + 1 := K3.2.2.2.2.2.1
  have cS3 : wS w2 ≤ wS w3 + 530 := K3.2.2.2.2.2.2
  obtain ⟨w4, e4, D4⟩ := r_int R3 (v := aTo σ.1 a) (by omega) (by show (o2 ++ [62]).length ≤ 256; rw [List.length_append, List.length_singleton]; omega) (by omega) (by omega)
  have T3 := WrD.tr v3 K3 D4
  have T2 := WrD.tr v2 K2 T3
  have eo : sgO σ ++ wrA1 σ.1 a = o2 ++ [62] ++ dgs (aTo σ.1 a) := by
    unfold wrA1
    rw [eo2, app_cons, List.append_assoc]
  refine ⟨w4, (hb2 _).mpr ?_, by rw [eo]; exact WrD.mono T2 (by omega) (by omega)⟩
  have gO2 : gR w2 x 17 8 = some (some (hOu η)) := R2.gO
  have oi2 : hIs w2 (hOu η) 15 = some () := R2.Oi
  have oi3 : hIs w3 (hOu η) 15 = some () := R3.Oi
  have e3' : fJ8_append_3 (hOu η) (zN 62) w2 = some (some (hOu η), w3) := e3
  have e4' : fJ8_append_2 (hOu η) (zN (aTo σ.1 a)) w3 = some (some (hOu η), w4) := e4
  have M3 := R3.mr
  have hai3 : hIs w3 (nAr ν a) 27 = some () := c_aI M3.1.2.2.1 ha
  have hto3 : fX8_to (nAr ν a) w3 = some (zN (aTo σ.1 a), w3) := c_to M3.1.2.2.1 ha
  simp (disch := omega) only [b2_some, bd_some, nm_eq, Option.map_some, zN_lit, zN_add, zN_mul, zN_neg1, if_true, if_false, reduceIte, eq_self, Nat.reduceEqDiff, Nat.reduceAdd, Nat.reduceMul, Nat.reduceSub, Nat.reduceLeDiff, Nat.one_ne_zero, not_false_eq_true, Bool.false_eq_true, zN_eq, zN_lt, zN_le,  fX1_writePath_b114, gO2, oi2, e3', hai3, hto3, oi3, e4']
theorem f_wp (h : RcP w x σ F s q ν η) {z : Int} (hz : bI z) (hC : 60 ≤ wC w) (hS : 25000 ≤ wS w) : F1 zI km0 (fX1_writePath x (zI z) w) w x (hL η) (spWp σ z) 60 25000 := by
  unfold spWp
  by_cases c : 0 ≤ z ∧ z < σ.1 2
  · rw [if_pos c, zI_nn c.1]
    have ht : z.toNat < σ.1 2 := by omega
    generalize z.toNat = t at ht
    have hI := h.1.2.2.2.1
    have h0 := hI.h0
    unfold wpL
    rcases c_pathOf h.mr h.2.1 ht (by omega) (by omega) with ⟨e1, w1, e, k⟩ | ⟨p, w1, L0, it, e1, e, hLk, hit, hK, hN, hle⟩
    · rw [e1]
      have R1 := h.kf k
      obtain ⟨w2, e2, D2⟩ := r_clr R1
      obtain ⟨V2, cap2, R2, -, v2, K2⟩ := D2
      have cC1 : wC w1 = wC w := congrArg (fun z => z.2.2.1) k.2.1
      have cS1 : wS w1 = wS w := congrArg (fun z => z.2.2.2) k.2.1
      have cC2 : wC w1 ≤ wC w2 + 0 := K2.2.2.2.2.2.1
      have cS2 : wS w1 ≤ wS w2 + 0 := K2.2.2.2.2.2.2
      obtain ⟨w3, e3, D3⟩ := r_non R2 (Nat.zero_le _) (by omega) (by omega)
      obtain ⟨V3, cap3, R3, -, v3, K3⟩ := D3
      have cC3 : wC w2 ≤ wC w3 + 1 := K3.2.2.2.2.2.1
      have cS3 : wS w2 ≤ wS w3 + 530 := K3.2.2.2.2.2.2
      refine F1.of (w' := w3) ⟨⟨F, s, q, ν, _, R3, rfl⟩, by omega, by omega⟩ ?_
      have g1 : gR w1 x 17 8 = some (some (hOu η)) := R1.gO
      have o1 : hIs w1 (hOu η) 15 = some () := R1.Oi
      have g2 : gR w2 x 17 8 = some (some (hOu η)) := R2.gO
      have o2 : hIs w2 (hOu η) 15 = some () := R2.Oi
      have g3 : gR w3 x 17 8 = some (some (hOu η)) := R3.gO
      have o3 : hIs w3 (hOu η) 15 = some () := R3.Oi
      have e2' : fJ8_setLength (hOu η) (zN 0) w1 = some w2 := e2
      have e3' : fJ8_append (hOu η) (wK w2 4) w2 = some (some (hOu η), w3) := e3
      have l3 : fJ8_length (hOu η) w3 = some (zN 4, w3) := r_len R3
      simp (disch := omega) only [b2_some, bd_some, nm_eq, Option.map_some, zN_lit, zN_add, zN_mul, zN_neg1, if_true, if_false, reduceIte, eq_self, Nat.reduceEqDiff, Nat.reduceAdd, Nat.reduceMul, Nat.reduceSub, Nat.reduceLeDiff, Nat.one_ne_zero, not_false_eq_true, Bool.false_eq_true, zN_eq, zN_lt, zN_le,  fX1_writePath, h.mr.xI, e, ex_, g1, o1, e2', g2, o2, e3', g3, o3, l3]
      rfl
    · rw [e1]
      have hM0 := h.mr
      obtain ⟨f1, f2⟩ := PT_facts' hI ht e1
      have hpp := PT_all hI ht e1
      have hn1 : 1 ≤ p.length := by
        have hc := hI.ht ht
        have := hpp.2.2.1
        cases p with
        | nil => exact absurd this hc.2.2.1
        | cons a l => rw [List.length_cons]; omega
      have R1 := h.kg hK
      have cC1 : wC w ≤ wC w1 + 10 := hK.2.2.2.2.2.1
      have cS1 : wS w ≤ wS w1 + 31 := hK.2.2.2.2.2.2
      obtain ⟨w2, e2, D2⟩ := r_clr R1
      have Lk2 := D2.lk R1 hLk
      obtain ⟨V2, cap2, R2, -, v2, K2⟩ := D2
      have cC2 : wC w1 ≤ wC w2 + 0 := K2.2.2.2.2.2.1
      have cS2 : wS w1 ≤ wS w2 + 0 := K2.2.2.2.2.2.2
      have hp0 : p.getD 0 0 < σ.1 1 := f1 _ (getD_mem (by omega))
      have hfr : aFr σ.1 (p.getD 0 0) = pFr σ.1 t := by
        have h3 := hpp.2.2.1
        cases p with
        | nil => exact absurd hn1 (by decide)
        | cons a l => exact h3.1
      have c0 := hI.ha hp0
      obtain ⟨w3, e3, D3⟩ := r_int R2 (v := pFr σ.1 t) (by omega) (Nat.zero_le _) (by omega) (by omega)
      have Lk3 := D3.lk R2 Lk2
      obtain ⟨V3, cap3, R3, -, v3, K3⟩ := D3
      have cC3 : wC w2 ≤ wC w3 + 1 := K3.2.2.2.2.2.1
      have cS3 : wS w2 ≤ wS w3 + 530 := K3.2.2.2.2.2.2
      have N2 : wN w1 ≤ wN w2 := K2.2.2.2.1
      have N3 : wN w2 ≤ wN w3 := K3.2.2.2.1
      obtain ⟨w4, mc, ei, hI4, Lk4, hm4, K4⟩ := c_lkIter (F := F) (Q := nQ) Lk3 (by omega) hn1 (Kg.refl R3.1.1 R3.2.1) (by omega) (by omega) (by omega)
      have R4 := R3.kg K4
      have cC4 : wC w3 ≤ wC w4 + (0 + 1) := K4.2.2.2.2.2.1
      have cS4 : wS w3 ≤ wS w4 + (0 + 5) := K4.2.2.2.2.2.2
      have H : ∃ r, fX1_writePath_l60 x (some (wN w3)) w4 = some r ∧ ∃ w', r = (.inl (zN (wrP σ.1 t p p.length).length), w') ∧ WrD F w3 w' x (sgW σ (dgs (pFr σ.1 t))) s q ν (rhW η V3 cap3) (wrP σ.1 t p p.length) (1 + 4 * p.length) (5 + 2120 * p.length) := by
        refine wh_up (P := fun i y => i ≤ p.length ∧ ∃ lr, y.1 (wN w3) = some (liC L0 p.length i lr mc) ∧ LkC y L0 p.length it ∧ y.1 L0 = some (lkC L0 p.length mc) ∧ WrD F w3 y x (sgW σ (dgs (pFr σ.1 t))) s q ν (rhW η V3 cap3) (wrP σ.1 t p i) (1 + 4 * i) (5 + 2120 * i)) p.length ?_ ?_ p.length 0 _ (by omega) ⟨by omega, _, hI4, Lk4, hm4, V3, cap3, R4, R4.2.2.2.2.2.2.2.2.1.2, .inl rfl, (K4.wk (fun _ e => e.elim)).mono (by omega) (by omega)⟩
        · rintro i y hi ⟨-, lr, hIy, Lky, hmy, V, cap, R, -, hv, hKy⟩
          obtain ⟨n1, ii⟩ := c_liHas Lky hIy (by omega) (by omega)
          rw [if_pos hi] at n1
          obtain ⟨y1, lr', nx, I1, Lk1, hm1, K1, ey1⟩ := c_liNext Lky hmy hIy hi (by omega) (by omega) hKy (Nat.le_refl _)
          rw [hit i hi] at nx
          have R1y : RcP y1 x (sgW (sgW σ (dgs (pFr σ.1 t))) (wrP σ.1 t p i)) F s q ν (rhW (rhW η V3 cap3) V cap) := by
            rw [ey1]
            exact R.fo (.inr rfl) hIy _
          have hpa : p.getD i 0 < σ.1 1 := f1 _ (getD_mem hi)
          have M1 := R1y.mr
          have hai : hIs y1 (nAr ν (p.getD i 0)) 27 = some () := c_aI M1.1.2.2.1 hpa
          have hto : fX2_toll s (nAr ν (p.getD i 0)) y1 = some (zN (aTl σ.1 (p.getD i 0)), y1) := c_toll M1.1.2.1 M1.1.2.2.1 M1.inv hpa
          have gs : gR y1 x 17 0 = some (some s) := M1.g0
          have si : hIs y1 s 21 = some () := c_sI M1.1.2.1
          have gO1 : gR y1 x 17 8 = some (some (hOu η)) := R1y.gO
          have oi1 : hIs y1 (hOu η) 15 = some () := R1y.Oi
          have ca := hI.ha hpa
          have wl := wrP_len σ.1 t p i
          have cCy : wC w3 ≤ wC y1 + (1 + 4 * i) := K1.2.2.2.2.2.1
          have cSy : wS w3 ≤ wS y1 + (5 + 2120 * i) := K1.2.2.2.2.2.2
          have eb : fX1_writePath_b60 x (some (wN w3)) y = (if aTl σ.1 (p.getD i 0) ≤ 0 then fX1_writePath_b114 x (wN w3) (nAr ν (p.getD i 0)) y1 else (b2_ (fJ8_append_3 (hOu η) (zN 61) y1) fun x31 w28 => (gR w28 x 17 0).bind fun x32 => x32.bind fun a34 => (hIs w28 a34 21).bind fun _ => b2_ (fX2_toll a34 (nAr ν (p.getD i 0)) w28) fun x39 w36 => x31.bind fun a40 => (hIs w36 a40 15).bind fun _ => b2_ (fJ8_append_2 a40 x39 w36) fun x45 w42 => fX1_writePath_b114 x (wN w3) (nAr ν (p.getD i 0)) w42)) := by
            by_cases c0 : aTl σ.1 (p.getD i 0) ≤ 0
            · rw [if_pos c0]
              simp (disch := omega) only [b2_some, bd_some, nm_eq, Option.map_some, zN_lit, zN_add, zN_mul, zN_neg1, if_true, if_false, reduceIte, eq_self, Nat.reduceEqDiff, Nat.reduceAdd, Nat.reduceMul, Nat.reduceSub, Nat.reduceLeDiff, Nat.one_ne_zero, not_false_eq_true, Bool.false_eq_true, zN_eq, zN_lt, zN_le,  fX1_writePath_b60, ii, n1, nx, hai, gs, si, hto, c0]
            · rw [if_neg c0]
              simp (disch := omega) only [b2_some, bd_some, nm_eq, Option.map_some, zN_lit, zN_add, zN_mul, zN_neg1, if_true, if_false, reduceIte, eq_self, Nat.reduceEqDiff, Nat.reduceAdd, Nat.reduceMul, Nat.reduceSub, Nat.reduceLeDiff, Nat.one_ne_zero, not_false_eq_true, Bool.false_eq_true, zN_eq, zN_lt, zN_le,  fX1_writePath_b60, ii, n1, nx, hai, gs, si, hto, c0, gO1, oi1]
          obtain ⟨y2, e2y, D2y⟩ := wpath_one (w0 := y) (I2 := wN w3) R1y hpa (by show (wrP σ.1 t p i).length ≤ 240; omega) (by omega) (by omega) (fun u => by rw [eb]; rfl)
          have I2y := D2y.cell R1y I1 rfl ⟨(by decide : (107 : Nat) ≠ 115), (by decide : (107 : Nat) ≠ 2)⟩
          have Lk2y := D2y.lk R1y Lk1
          have hm2y := D2y.cell R1y hm1 rfl ⟨(by decide : (111 : Nat) ≠ 115), (by decide : (111 : Nat) ≠ 2)⟩
          have T := WrD.tr hv K1 D2y
          left
          exact ⟨y2, e2y, by omega, lr', I2y, Lk2y, hm2y, T.mono (by omega) (by omega)⟩
        · rintro y ⟨-, lr, hIy, Lky, hmy, V, cap, R, -, hv, hKy⟩
          obtain ⟨n1, ii⟩ := c_liHas Lky hIy (Nat.le_refl _) (by omega)
          rw [if_neg (by omega)] at n1
          have gO1 : gR y x 17 8 = some (some (hOu η)) := R.gO
          have oi1 : hIs y (hOu η) 15 = some () := R.Oi
          have ln1 : fJ8_length (hOu η) y = some (zN (wrP σ.1 t p p.length).length, y) := r_len R
          refine ⟨_, ?_, y, rfl, V, cap, R, R.2.2.2.2.2.2.2.2.1.2, hv, hKy⟩
          simp (disch := omega) only [b2_some, bd_some, nm_eq, Option.map_some, zN_lit, zN_add, zN_mul, zN_neg1, if_true, if_false, reduceIte, eq_self, Nat.reduceEqDiff, Nat.reduceAdd, Nat.reduceMul, Nat.reduceSub, Nat.reduceLeDiff, Nat.one_ne_zero, not_false_eq_true, Bool.false_eq_true, zN_eq, zN_lt, zN_le,  fX1_writePath_b60, ii, n1, fX1_writePath_b135, gO1, oi1, ln1]
      obtain ⟨r, e4, w', rfl, D4⟩ := H
      obtain ⟨V5, cap5, R5, -, v5, K5⟩ := D4
      have cC5 : wC w3 ≤ wC w' + (1 + 4 * p.length) := K5.2.2.2.2.2.1
      have cS5 : wS w3 ≤ wS w' + (5 + 2120 * p.length) := K5.2.2.2.2.2.2
      refine F1.of (w' := w') ⟨⟨F, s, q, ν, _, R5, rfl⟩, by omega, by omega⟩ ?_
      have g1 : gR w1 x 17 8 = some (some (hOu η)) := R1.gO
      have o1 : hIs w1 (hOu η) 15 = some () := R1.Oi
      have g2 : gR w2 x 17 8 = some (some (hOu η)) := R2.gO
      have o2 : hIs w2 (hOu η) 15 = some () := R2.Oi
      have e2' : fJ8_setLength (hOu η) (zN 0) w1 = some w2 := e2
      have e3' : fJ8_append_2 (hOu η) (zN (pFr σ.1 t)) w2 = some (some (hOu η), w3) := e3
      have nn : (some L0 = none) = False := eq_false (by simp)
      have lf := c_lkFirst Lk2 hn1
      have hit0 := hit 0 (by omega)
      rw [Nat.sub_zero] at hit0
      rw [hit0] at lf
      have M2 := R2.mr
      have hai2 : hIs w2 (nAr ν (p.getD 0 0)) 27 = some () := c_aI M2.1.2.2.1 hp0
      have hfr2 : fX8_from (nAr ν (p.getD 0 0)) w2 = some (zN (pFr σ.1 t), w2) := by
        rw [← hfr]
        exact c_from M2.1.2.2.1 hp0
      have il2 := (lk_sz Lk2).2
      have il3 := (lk_sz Lk3).2
      simp (disch := omega) only [b2_some, bd_some, nm_eq, Option.map_some, zN_lit, zN_add, zN_mul, zN_neg1, if_true, if_false, reduceIte, eq_self, Nat.reduceEqDiff, Nat.reduceAdd, Nat.reduceMul, Nat.reduceSub, Nat.reduceLeDiff, Nat.one_ne_zero, not_false_eq_true, Bool.false_eq_true, zN_eq, zN_lt, zN_le,  fX1_writePath, h.mr.xI, e, ex_, nn, g1, o1, e2', g2, o2, il2, lf, hai2, hfr2, e3', fX1_writePath_b55, il3, ei]
      exact e4
  · rw [if_neg c]
    refine (F1.thr (km := km0) h (j := 0) (by omega) (by decide) ?_).mono (by omega) (by omega)
    have e := c_tripAt0 h.mr hz c (by omega) (by omega)
    have ep : fX1_pathOf x (zI z) w = some (.inr (0, wN w), wTh w) := by
      simp (disch := omega) only [b2_some, bd_some, nm_eq, Option.map_some, zN_lit, zN_add, zN_mul, zN_neg1, if_true, if_false, reduceIte, eq_self, Nat.reduceEqDiff, Nat.reduceAdd, Nat.reduceMul, Nat.reduceSub, Nat.reduceLeDiff, Nat.one_ne_zero, not_false_eq_true, Bool.false_eq_true, zN_eq, zN_lt, zN_le,  fX1_pathOf, h.mr.g0, h.mr.g1, h.mr.xI, h.mr.1.FI, c_snet h.mr.1.2.1, c_sI h.mr.1.2.1, c_nal h.mr.1.2.2.1, c_ntl h.mr.1.2.2.1, c_nn h.mr.1.2.2.1, c_alI h.mr.1.2.2.1, c_tlI h.mr.1.2.2.1, c_size h.mr.1.2.2.1, c_size2 h.mr.1.2.2.1, e, ex_]
    simp (disch := omega) only [b2_some, bd_some, nm_eq, Option.map_some, zN_lit, zN_add, zN_mul, zN_neg1, if_true, if_false, reduceIte, eq_self, Nat.reduceEqDiff, Nat.reduceAdd, Nat.reduceMul, Nat.reduceSub, Nat.reduceLeDiff, Nat.one_ne_zero, not_false_eq_true, Bool.false_eq_true, zN_eq, zN_lt, zN_le,  fX1_writePath, h.mr.xI, ep, ex_]
end
