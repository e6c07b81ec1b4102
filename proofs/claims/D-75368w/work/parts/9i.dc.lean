/-! Plain law: the component copies a state -/
def steC (n q : Nat) (f : Int32) : hE := .inr (21, [.ref n, .ref q, .ref (q + 1), .ref (q + 2), .int f])
def demC (f : Nat → Int32) : hE := .inl (0, 6, .inl f)
section
variable {w : WH} {x s q F n a a0 : Nat} {ρ : Nat → Nat} {ν : NH}
theorem c_cpI {t n0 n1 k : Nat} {f g : Nat → Int32} (h0 : w.1 a0 = some (.inl (t, n0, .inl f))) (h1 : w.1 a = some (.inl (t, n1, .inl g))) (hne : a0 ≠ a) (hk : k ≤ n0) (hk1 : k ≤ n1) (hn : n0 ≤ 65536) (ht : t ≠ 2) : cpI w t a0 (zN 0) a (zN 0) (zN k) = some (hUp w a (.inl (t, n1, .inl (va_cpy f g 0 0 k)))) := by
  unfold cpI hArr
  rw [h0, h1]
  dsimp only
  have e1 : (zN k).toNatClampNeg = k := zN_cl (by omega)
  have e0 : (zN 0).toNatClampNeg = 0 := zN_cl (by omega)
  have n0' : ¬ (zN k < 0) := by rw [show (0 : Int32) = zN 0 from rfl, zN_lt (by omega) (by omega)]; omega
  rw [e1, e0, if_pos]
  exact ⟨⟨rfl, rfl, hne⟩, ⟨by decide, by decide, n0', by omega, by omega⟩, fun e => absurd e ht⟩
theorem c_na {t k : Nat} (hk : k ≤ 65536) (hC : 1 ≤ wC w) (hS : k ≤ wS w) : hNa w t (zN k) = some (wN w, hMk w k (.inl (t, k, aDf t))) := by
  unfold hNa
  rw [zN_cl (by omega), if_pos]
  exact ⟨by rw [show (0 : Int32) = zN 0 from rfl, zN_lt (by omega) (by omega)]; omega, hk, hC, hS⟩
theorem c_cpS (hF : FiC w F) (hW : WF w) (h : StC w s q n ρ) (hI : Inv ρ) (hC : 5 ≤ wC w) (hS : 39 ≤ wS w) : ∃ w', fX2_init_2 (wN w) s (hMk w 5 (.inr (21, [.null, .null, .null, .null, .int 0]))) = some w' ∧ Kg F nQ w w' 5 39 ∧ StC w' (wN w) (wN w + 1) n ρ ∧ wN w' = wN w + 5 := by
  have h2 := hI.h2
  have h3 := hI.h3
  have A0 := hMk_eq w 5 (.inr (21, [.null, .null, .null, .null, .int 0]))
  have K0 : Kg F nQ w (hMk w 5 (.inr (21, [.null, .null, .null, .null, .int 0]))) 1 5 := Kg.mk hF hW _ _
  have N0 : wN (hMk w 5 (.inr (21, [.null, .null, .null, .null, .int 0]))) = wN w + 1 := rfl
  generalize hw0 : hMk w 5 (.inr (21, [.null, .null, .null, .null, .int 0])) = w0 at A0 K0 N0
  have bd : ∀ {w' : WH} {c k : Nat}, Kg F nQ w w' c k → 5 ≤ wC w' + c ∧ 39 ≤ wS w' + k := fun hk => ⟨by have := hk.2.2.2.2.2.1; omega, by have := hk.2.2.2.2.2.2; omega⟩
  -- tolls
  have z1 := c_na (w := w0) (t := 0) (k := 24) (by omega) (by have := (bd K0).1; omega) (by have := (bd K0).2; omega)
  have A1 : (hMk w0 24 (tolC (fun _ => 0))).1 (wN w) = _ := (hMk_ne w0 24 (tolC (fun _ => 0)) (by omega)).trans A0
  have T1 : (hMk w0 24 (tolC (fun _ => 0))).1 (wN w + 1) = some (tolC (fun _ => 0)) := by rw [← N0]; exact hMk_eq _ _ _
  have K1 : Kg F nQ w (hMk w0 24 (tolC (fun _ => 0))) 2 29 := K0.tr0 (Kg.mk K0.2.1 K0.2.2.1 _ _)
  have N1 : wN (hMk w0 24 (tolC (fun _ => 0))) = wN w + 2 := by rw [hMk_N]; omega
  have z1' : hNa w0 0 (zN 24) = some (wN w + 1, hMk w0 24 (tolC (fun _ => 0))) := by rw [← N0]; exact z1
  generalize hMk w0 24 (tolC (fun _ => 0)) = w1 at z1' A1 T1 K1 N1
  have p1 := c_P A1 (k := 1) (show 1 < 5 by decide) (.ref (wN w + 1))
  have A2 := hUp_eq w1 (wN w) (.inr (21, [.null, .ref (wN w + 1), .null, .null, .int 0]))
  have T2 := (hUp_ne w1 (.inr (21, [.null, .ref (wN w + 1), .null, .null, .int 0])) (show wN w + 1 ≠ wN w by omega)).trans T1
  have K2 := K1.up A1 rfl (.inl (Nat.le_refl _)) (.inr (21, [.null, .ref (wN w + 1), .null, .null, .int 0]))
  have N2 : wN (hUp w1 (wN w) (.inr (21, [.null, .ref (wN w + 1), .null, .null, .int 0]))) = wN w + 2 := N1
  have p1' : hPut w1 (wN w) 21 1 (.ref (wN w + 1)) = some (hUp w1 (wN w) (.inr (21, [.null, .ref (wN w + 1), .null, .null, .int 0]))) := p1
  generalize hUp w1 (wN w) (.inr (21, [.null, .ref (wN w + 1), .null, .null, .int 0])) = w2 at p1' A2 T2 K2 N2
  -- demands
  have z2 := c_na (w := w2) (t := 0) (k := 6) (by omega) (by have := (bd K2).1; omega) (by have := (bd K2).2; omega)
  have A3 := (hMk_ne w2 6 (demC (fun _ => 0)) (show wN w ≠ wN w2 by omega)).trans A2
  have T3 := (hMk_ne w2 6 (demC (fun _ => 0)) (show wN w + 1 ≠ wN w2 by omega)).trans T2
  have D3 : (hMk w2 6 (demC (fun _ => 0))).1 (wN w + 2) = some (demC (fun _ => 0)) := by rw [← N2]; exact hMk_eq _ _ _
  have K3 : Kg F nQ w (hMk w2 6 (demC (fun _ => 0))) 3 35 := K2.tr0 (Kg.mk K2.2.1 K2.2.2.1 _ _)
  have N3 : wN (hMk w2 6 (demC (fun _ => 0))) = wN w + 3 := by rw [hMk_N]; omega
  have z2' : hNa w2 0 (zN 6) = some (wN w + 2, hMk w2 6 (demC (fun _ => 0))) := by rw [← N2]; exact z2
  generalize hMk w2 6 (demC (fun _ => 0)) = w3 at z2' A3 T3 D3 K3 N3
  have p2' : hPut w3 (wN w) 21 2 (.ref (wN w + 2)) = some (hUp w3 (wN w) (.inr (21, [.null, .ref (wN w + 1), .ref (wN w + 2), .null, .int 0]))) := c_P A3 (k := 2) (show 2 < 5 by decide) _
  have A4 := hUp_eq w3 (wN w) (.inr (21, [.null, .ref (wN w + 1), .ref (wN w + 2), .null, .int 0]))
  have T4 := (hUp_ne w3 (.inr (21, [.null, .ref (wN w + 1), .ref (wN w + 2), .null, .int 0])) (show wN w + 1 ≠ wN w by omega)).trans T3
  have D4 := (hUp_ne w3 (.inr (21, [.null, .ref (wN w + 1), .ref (wN w + 2), .null, .int 0])) (show wN w + 2 ≠ wN w by omega)).trans D3
  have K4 := K3.up A3 rfl (.inl (Nat.le_refl _)) (.inr (21, [.null, .ref (wN w + 1), .ref (wN w + 2), .null, .int 0]))
  have N4 : wN (hUp w3 (wN w) (.inr (21, [.null, .ref (wN w + 1), .ref (wN w + 2), .null, .int 0]))) = wN w + 3 := N3
  generalize hUp w3 (wN w) (.inr (21, [.null, .ref (wN w + 1), .ref (wN w + 2), .null, .int 0])) = w4 at p2' A4 T4 D4 K4 N4
  -- closed
  have z3 : hNw w4 3 0 [.null, .int 0, .int 0] = some (wN w4, hMk w4 3 (.inr (0, [.null, .int 0, .int 0]))) := c_new (by have := (bd K4).1; omega) (by have := (bd K4).2; omega)
  have i3 := c_bsnew (w := w4) (n := 24) (by omega) (by omega) (by have := (bd K4).1; omega) (by have := (bd K4).2; omega)
  have B5 := bsN_Bs w4 1
  have A5 : (bsN w4 1).1 (wN w) = _ := (hMk_ne (hMk w4 3 (bsC (wN w4 + 1) 0 1)) 1 (lngC 1 (fun _ => 0)) (show wN w ≠ wN w4 + 1 by omega)).trans ((hMk_ne w4 3 (bsC (wN w4 + 1) 0 1) (by omega)).trans A4)
  have T5 : (bsN w4 1).1 (wN w + 1) = _ := (hMk_ne (hMk w4 3 (bsC (wN w4 + 1) 0 1)) 1 (lngC 1 (fun _ => 0)) (show wN w + 1 ≠ wN w4 + 1 by omega)).trans ((hMk_ne w4 3 (bsC (wN w4 + 1) 0 1) (by omega)).trans T4)
  have D5 : (bsN w4 1).1 (wN w + 2) = _ := (hMk_ne (hMk w4 3 (bsC (wN w4 + 1) 0 1)) 1 (lngC 1 (fun _ => 0)) (show wN w + 2 ≠ wN w4 + 1 by omega)).trans ((hMk_ne w4 3 (bsC (wN w4 + 1) 0 1) (by omega)).trans D4)
  have K5 : Kg F nQ w (bsN w4 1) 5 39 := K4.tr0 (bsN_Kg K4.2.1 K4.2.2.1 1)
  have N5 : wN (bsN w4 1) = wN w + 5 := by
    show wN w4 + 1 + 1 = _
    omega
  rw [N4] at z3 i3 B5
  generalize hMk w4 3 (.inr (0, [.null, .int 0, .int 0])) = w4' at z3 i3
  generalize bsN w4 1 = w5 at i3 B5 A5 T5 D5 K5 N5
  -- the record
  have p3' : hPut w5 (wN w) 21 3 (.ref (wN w + 3)) = some (hUp w5 (wN w) (.inr (21, [.null, .ref (wN w + 1), .ref (wN w + 2), .ref (wN w + 3), .int 0]))) := c_P A5 (k := 3) (show 3 < 5 by decide) _
  have A6 := hUp_eq w5 (wN w) (.inr (21, [.null, .ref (wN w + 1), .ref (wN w + 2), .ref (wN w + 3), .int 0]))
  have p4' : hPut (hUp w5 (wN w) (.inr (21, [.null, .ref (wN w + 1), .ref (wN w + 2), .ref (wN w + 3), .int 0]))) (wN w) 21 4 (.int (zN 1)) = some (hUp w5 (wN w) (.inr (21, [.null, .ref (wN w + 1), .ref (wN w + 2), .ref (wN w + 3), .int (zN 1)]))) := by
    have := c_P A6 (k := 4) (show 4 < 5 by decide) (.int (zN 1))
    rw [hUp_hUp] at this
    exact this
  have A7 := hUp_eq w5 (wN w) (.inr (21, [.null, .ref (wN w + 1), .ref (wN w + 2), .ref (wN w + 3), .int (zN 1)]))
  have S7 := (K5.up A5 rfl (.inl (Nat.le_refl _)) (.inr (21, [.null, .ref (wN w + 1), .ref (wN w + 2), .ref (wN w + 3), .int (zN 1)]))).st hF hW h
  have r7 : gR (hUp w5 (wN w) (.inr (21, [.null, .ref (wN w + 1), .ref (wN w + 2), .ref (wN w + 3), .int (zN 1)]))) s 21 0 = some (some n) := c_R S7.1 0
  have p5' : hPut (hUp w5 (wN w) (.inr (21, [.null, .ref (wN w + 1), .ref (wN w + 2), .ref (wN w + 3), .int (zN 1)]))) (wN w) 21 0 (.ref n) = some (hUp w5 (wN w) (steC n (wN w + 1) (zN 1))) := by
    have := c_P A7 (k := 0) (show 0 < 5 by decide) (.ref n)
    rw [hUp_hUp] at this
    exact this
  generalize hUp w5 (wN w) (.inr (21, [.null, .ref (wN w + 1), .ref (wN w + 2), .ref (wN w + 3), .int 0])) = w6 at p3' p4'
  generalize hUp w5 (wN w) (.inr (21, [.null, .ref (wN w + 1), .ref (wN w + 2), .ref (wN w + 3), .int (zN 1)])) = w7 at p4' r7 p5'
  have A8 := hUp_eq w5 (wN w) (steC n (wN w + 1) (zN 1))
  have T8 := (hUp_ne w5 (steC n (wN w + 1) (zN 1)) (show wN w + 1 ≠ wN w by omega)).trans T5
  have D8 := (hUp_ne w5 (steC n (wN w + 1) (zN 1)) (show wN w + 2 ≠ wN w by omega)).trans D5
  have B8 : Bs (hUp w5 (wN w) (steC n (wN w + 1) (zN 1))) (wN w + 3) (wN w + 3 + 1) (fun _ => 0) 0 1 := ⟨(hUp_ne w5 _ (by omega)).trans B5.1, (hUp_ne w5 _ (by omega)).trans B5.2.1, B5.2.2⟩
  have K8 := K5.up A5 rfl (.inl (Nat.le_refl _)) (steC n (wN w + 1) (zN 1))
  have N8 : wN (hUp w5 (wN w) (steC n (wN w + 1) (zN 1))) = wN w + 5 := N5
  generalize hUp w5 (wN w) (steC n (wN w + 1) (zN 1)) = w8 at p5' A8 T8 D8 B8 K8 N8
  -- the arrays
  have S8 := K8.st hF hW h
  obtain ⟨f, hf, hfv⟩ := S8.2.1
  have lq := hW.lt h.1
  have lt1 : q < wN w := by obtain ⟨f0, e0, -⟩ := h.2.1; exact hW.lt e0
  have lt2 : q + 1 < wN w := by obtain ⟨f0, e0, -⟩ := h.2.2.1; exact hW.lt e0
  have lt3 : q + 2 < wN w := hW.lt h.2.2.2.1
  have lt4 : q + 3 < wN w := by obtain ⟨g0, e0, -⟩ := h.2.2.2.2; exact hW.lt e0
  have x1 : gR w8 s 21 1 = some (some q) := c_R S8.1 1
  have x2 : gR w8 (wN w) 21 1 = some (some (wN w + 1)) := c_R A8 1
  have x3 : cpI w8 0 q (zN 0) (wN w + 1) (zN 0) (zN 24) = some (hUp w8 (wN w + 1) (tolC (va_cpy f (fun _ => 0) 0 0 24))) := c_cpI hf T8 (by omega) (by omega) (by omega) (by omega) (by omega)
  have A9 := (hUp_ne w8 (tolC (va_cpy f (fun _ => 0) 0 0 24)) (show wN w ≠ wN w + 1 by omega)).trans A8
  have T9 := hUp_eq w8 (wN w + 1) (tolC (va_cpy f (fun _ => 0) 0 0 24))
  have D9 := (hUp_ne w8 (tolC (va_cpy f (fun _ => 0) 0 0 24)) (show wN w + 2 ≠ wN w + 1 by omega)).trans D8
  have B9 : Bs (hUp w8 (wN w + 1) (tolC (va_cpy f (fun _ => 0) 0 0 24))) (wN w + 3) (wN w + 3 + 1) (fun _ => 0) 0 1 := ⟨(hUp_ne w8 _ (by omega)).trans B8.1, (hUp_ne w8 _ (by omega)).trans B8.2.1, B8.2.2⟩
  have K9 := K8.up T8 rfl (.inl (Nat.le_succ _)) (tolC (va_cpy f (fun _ => 0) 0 0 24))
  have N9 : wN (hUp w8 (wN w + 1) (tolC (va_cpy f (fun _ => 0) 0 0 24))) = wN w + 5 := N8
  generalize hUp w8 (wN w + 1) (tolC (va_cpy f (fun _ => 0) 0 0 24)) = w9 at x3 A9 T9 D9 B9 K9 N9
  have S9 := K9.st hF hW h
  obtain ⟨f', hf', hfv'⟩ := S9.2.2.1
  have y1 : gR w9 s 21 2 = some (some (q + 1)) := c_R S9.1 2
  have y2 : gR w9 (wN w) 21 2 = some (some (wN w + 1 + 1)) := c_R A9 2
  have y3 : cpI w9 0 (q + 1) (zN 0) (wN w + 1 + 1) (zN 0) (zN 6) = some (hUp w9 (wN w + 2) (demC (va_cpy f' (fun _ => 0) 0 0 6))) := c_cpI hf' D9 (by omega) (by omega) (by omega) (by omega) (by omega)
  have A10 := (hUp_ne w9 (demC (va_cpy f' (fun _ => 0) 0 0 6)) (show wN w ≠ wN w + 2 by omega)).trans A9
  have T10 := (hUp_ne w9 (demC (va_cpy f' (fun _ => 0) 0 0 6)) (show wN w + 1 ≠ wN w + 2 by omega)).trans T9
  have D10 := hUp_eq w9 (wN w + 2) (demC (va_cpy f' (fun _ => 0) 0 0 6))
  have B10 : Bs (hUp w9 (wN w + 2) (demC (va_cpy f' (fun _ => 0) 0 0 6))) (wN w + 3) (wN w + 3 + 1) (fun _ => 0) 0 1 := ⟨(hUp_ne w9 _ (by omega)).trans B9.1, (hUp_ne w9 _ (by omega)).trans B9.2.1, B9.2.2⟩
  have K10 := K9.up D9 rfl (.inl (by omega)) (demC (va_cpy f' (fun _ => 0) 0 0 6))
  have N10 : wN (hUp w9 (wN w + 2) (demC (va_cpy f' (fun _ => 0) 0 0 6))) = wN w + 5 := N9
  generalize hUp w9 (wN w + 2) (demC (va_cpy f' (fun _ => 0) 0 0 6)) = w10 at y3 A10 T10 D10 B10 K10 N10
  have S10 := K10.st hF hW h
  obtain ⟨g2, hB2⟩ := S10.Bs
  have u1 : gR w10 s 21 3 = some (some (q + 2)) := c_R S10.1 3
  have u2 : gR w10 (wN w) 21 3 = some (some (wN w + 3)) := c_R A10 3
  have u3 : hIs w10 (wN w + 3) 0 = some () := c_C B10.1
  obtain ⟨g', o1, o2⟩ := c_or1 B10 hB2 (by omega) (by omega)
  have A11 : (hUp (hUp w10 (wN w + 3) (bsC (wN w + 3 + 1) (uM (clm ρ)) 1)) (wN w + 3 + 1) (lngC 1 g')).1 (wN w) = _ := (hUp_ne _ _ (by omega)).trans ((hUp_ne _ _ (by omega)).trans A10)
  have T11 : (hUp (hUp w10 (wN w + 3) (bsC (wN w + 3 + 1) (uM (clm ρ)) 1)) (wN w + 3 + 1) (lngC 1 g')).1 (wN w + 1) = _ := (hUp_ne _ _ (by omega)).trans ((hUp_ne _ _ (by omega)).trans T10)
  have D11 : (hUp (hUp w10 (wN w + 3) (bsC (wN w + 3 + 1) (uM (clm ρ)) 1)) (wN w + 3 + 1) (lngC 1 g')).1 (wN w + 2) = _ := (hUp_ne _ _ (by omega)).trans ((hUp_ne _ _ (by omega)).trans D10)
  have E11 : (hUp (hUp w10 (wN w + 3) (bsC (wN w + 3 + 1) (uM (clm ρ)) 1)) (wN w + 3 + 1) (lngC 1 g')).1 (wN w + 3) = some (bsC (wN w + 3 + 1) (uM (clm ρ)) 1) := (hUp_ne _ _ (by omega)).trans (hUp_eq _ _ _)
  have G11 : (hUp (hUp w10 (wN w + 3) (bsC (wN w + 3 + 1) (uM (clm ρ)) 1)) (wN w + 3 + 1) (lngC 1 g')).1 (wN w + 3 + 1) = some (lngC 1 g') := hUp_eq _ _ _
  have K11 := (K10.up B10.1 rfl (.inl (by omega)) (bsC (wN w + 3 + 1) (uM (clm ρ)) 1)).up (a := wN w + 3 + 1) ((hUp_ne _ _ (by omega)).trans B10.2.1) rfl (.inl (by omega)) (lngC 1 g')
  have N11 : wN (hUp (hUp w10 (wN w + 3) (bsC (wN w + 3 + 1) (uM (clm ρ)) 1)) (wN w + 3 + 1) (lngC 1 g')) = wN w + 5 := N10
  generalize hUp (hUp w10 (wN w + 3) (bsC (wN w + 3 + 1) (uM (clm ρ)) 1)) (wN w + 3 + 1) (lngC 1 g') = w11 at o1 A11 T11 D11 E11 G11 K11 N11
  have S11 := K11.st hF hW h
  have v1 : gI w11 s 21 4 = some (zN (ρ 3)) := c_I S11.1 4
  have v2 : fz_ .boolean (zN (ρ 3)) = some () := by
    have : ρ 3 = 0 ∨ ρ 3 = 1 := by omega
    rcases this with e | e <;> rw [e] <;> decide
  have v3 : hPut w11 (wN w) 21 4 (.int (zN (ρ 3))) = some (hUp w11 (wN w) (steC n (wN w + 1) (zN (ρ 3)))) := c_P A11 (k := 4) (show 4 < 5 by decide) _
  have K12 := K11.up A11 rfl (.inl (Nat.le_refl _)) (steC n (wN w + 1) (zN (ρ 3)))
  refine ⟨hUp w11 (wN w) (steC n (wN w + 1) (zN (ρ 3))), ?_, K12, ?_, N11⟩
  · have z0 : (0 : Int32) = zN 0 := rfl
    rw [z0] at z3
    simp (disch := omega) only [b2_some, bd_some, nm_eq, Option.map_some, zN_lit, zN_add, zN_mul, zN_neg1, if_true, if_false, reduceIte, eq_self, Nat.reduceEqDiff, Nat.reduceAdd, Nat.reduceMul, Nat.reduceSub, Nat.reduceLeDiff, Nat.one_ne_zero, not_false_eq_true, Bool.false_eq_true, zN_eq, zN_lt, zN_le,  fX2_init_2, z1', p1', z2', p2', z3, i3, p3', p4', r7, va_rf, p5', fX2_init_2_b46, x1, x2, x3, y1, y2, y3, u1, u2, u3, o1, v1, v2, v3, fX2_init_2_b95]
  · refine ⟨hUp_eq _ _ _, ⟨_, (hUp_ne _ _ (by omega)).trans T11, fun k hk => ?_⟩, ⟨_, (hUp_ne _ _ (by omega)).trans D11, fun k hk => ?_⟩, (hUp_ne _ _ (by omega)).trans E11, g', (hUp_ne _ _ (by omega)).trans G11, o2⟩
    · rw [← hfv k hk]
      unfold va_cpy
      rw [if_pos (by omega), Nat.sub_zero, Nat.zero_add]
    · rw [← hfv' k hk]
      unfold va_cpy
      rw [if_pos (by omega), Nat.sub_zero, Nat.zero_add]
end
