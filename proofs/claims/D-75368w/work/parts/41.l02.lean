set_option maxRecDepth 100000
set_option maxHeartbeats 4000000
noncomputable def fL_law_b1820 (L : Nat) (xs : Nat → Int32) (v1 : Nat) (v3 : Nat) (v4 : Int32) (w : LW) : Option (Sum (Int32 × LW) (Int32)) :=
  (sld L xs (v4 + 1)).bind fun x1 =>
  (sld L xs (v4 + 2)).bind fun x3 =>
  b2_ (fX0_keepToll v1 x1 x3 v3 w.2) fun x5 w7 =>
  (sld L xs (v4 + 1)).bind fun x8 =>
  (sld L xs (v4 + 2)).bind fun x10 =>
  b2_ (fX5_keepToll x8 x10 w.1) fun x12 t14 =>
  b2_ (fX5_thrown  t14) fun x15 t17 =>
  if x15 = x5 then (
    fL_law_b1868 L xs v1 v3 v4 x5 x12 (t17, w7)
  ) else (
    some (.inr 0)
  )
theorem bL_law_1820 {p : Program} {l : Launch} {e : Env} {s : State} {m : MethodId} {args : Array Value} {below : List Frame} {meth : Method} {c : Code} {H : Heap} {locs : List Loc} {ls : Array Slot} {G : gE} {w0 : WH} {o b L : Nat} {xs : Nat → Int32} {Q : Int32 → State → Prop} (B : lB G b L xs w0 p s m args meth c) (hE : lE l G w0 p e s m args below meth c Q) (hl0 : l.stackTraces = false) {v1 : Nat} {v3 : Nat} {v4 : Int32} {w : LW} {x : Sum (Int32 × LW) (Int32)} {r : Int32} (h : fL_law_b1820 L xs v1 v3 v4 w = some x)  (k23 : ∀ (v4' : Int32) (w' : LW), x = (.inl (v4', w')) → ∀ (H : Heap) (locs : List Loc) (ls : Array Slot), RepL G o w' H → Cu (gFr G) s w0 w'.2 H locs → lv_has ls 8 [(0, .ref b), (1, .ref v1), (2, .ref o), (3, .ref v3), (4, .int v4')] → W p l e room_1 s m args below meth c H locs (wC w0 - wC w'.2) (wS w0 - wS w'.2) (Q r) (F0 m 23 ls [])) (kR : ∀ q, x = (.inr q) → q = r) (hR : RepL G o w H) (hS : Cu (gFr G) s w0 w.2 H locs) (hl : lv_has ls 8 [(0, .ref b), (1, .ref v1), (2, .ref o), (3, .ref v3), (4, .int v4)]) : W p l e room_1 s m args below meth c H locs (wC w0 - wC w.2) (wS w0 - wS w.2) (Q r) (F0 m 1820 ls []) := by
  have B0 := B
  obtain ⟨⟨hx, hb, hml, hown, hts, hr, hlk, hK⟩, hX, hbl, hbA, hRc, hRs⟩ := B0
  unfold fL_law_b1820 at h
  refine lv_aload_n hx hb dL_law_1820 rfl (lv_at hl 1 rfl) ?_
  refine lv_aload_n hx hb dL_law_1821 rfl (lv_at hl 0 rfl) ?_
  refine lv_iload hx hb dL_law_1822 (lv_at hl 4 rfl) ?_
  refine lv_iconst (v := 1) hx hb dL_law_1824 (by decide) ?_
  refine lv_iadd hx hb dL_law_1825 ?_
  replace h := bo_o h
  obtain ⟨x1, e2, h⟩ := h
  refine l_sld (w := w) hx hb hX hbl hbA hS e2 dL_law_1826 ?_
  refine lv_aload_n hx hb dL_law_1827 rfl (lv_at hl 0 rfl) ?_
  refine lv_iload hx hb dL_law_1828 (lv_at hl 4 rfl) ?_
  refine lv_iconst (v := 2) hx hb dL_law_1830 (by decide) ?_
  refine lv_iadd hx hb dL_law_1831 ?_
  replace h := bo_o h
  obtain ⟨x3, e4, h⟩ := h
  refine l_sld (w := w) hx hb hX hbl hbA hS e4 dL_law_1832 ?_
  refine lv_aload_n hx hb dL_law_1833 rfl (lv_at hl 3 rfl) ?_
  replace h := b2_o h
  obtain ⟨x5, w7, e6, h⟩ := h
  refine l_callSW 4 (As := [.ref v1, .int x1, .int x3, .ref v3]) (rest := []) (v := (some (.int x5))) (w' := w7) (st1 := [.int x5]) hx hb hml hown hts hK hR hS hRc hRs (mX0_keepToll hl0 e6) (lw_SW q2185 q2186 q111 q2187) (by decide +kernel) (Nat.le_of_ble_eq_true rfl) (Nat.le_of_ble_eq_true rfl) rfl hl.1 (Nat.le_of_ble_eq_true rfl) dL_law_1834 rfl rfl (fun H locs hR hS => ?_)
  refine lv_istore (lv' := [(5, .int x5), (0, .ref b), (1, .ref v1), (2, .ref o), (3, .ref v3), (4, .int v4)]) hx hb dL_law_1837 hl (by decide) rfl (fun ls hl => ?_)
  refine lv_aload_n hx hb dL_law_1839 rfl (lv_at hl 3 rfl) ?_
  refine lv_aload_n hx hb dL_law_1840 rfl (lv_at hl 1 rfl) ?_
  refine lv_iload hx hb dL_law_1841 (lv_at hl 5 rfl) ?_
  refine lv_iconst (v := 1) hx hb dL_law_1843 (by decide) ?_
  refine lv_iadd hx hb dL_law_1844 ?_
  replace h := bo_o h
  obtain ⟨x8, e9, h⟩ := h
  refine l_sld (w := (w.1, w7)) hx hb hX hbl hbA hS e9 dL_law_1845 ?_
  refine lv_aload_n hx hb dL_law_1846 rfl (lv_at hl 1 rfl) ?_
  refine lv_iload hx hb dL_law_1847 (lv_at hl 5 rfl) ?_
  refine lv_iconst (v := 2) hx hb dL_law_1849 (by decide) ?_
  refine lv_iadd hx hb dL_law_1850 ?_
  replace h := bo_o h
  obtain ⟨x10, e11, h⟩ := h
  refine l_sld (w := (w.1, w7)) hx hb hX hbl hbA hS e11 dL_law_1851 ?_
  replace h := b2_o h
  obtain ⟨x12, t14, e13, h⟩ := h
  refine l_callT 2 (As := [.int x8, .int x10]) (rest := []) (v := (some (.int x12))) (T' := t14) (st1 := [.int x12]) hx hb hml hown hts hK hR hS hRc hRs (mX5_keepToll e13) (lw_V q2901 q2902 q2903 q137 q2904) (by decide +kernel) (Nat.le_of_ble_eq_true rfl) (Nat.le_of_ble_eq_true rfl) rfl hl.1 (Nat.le_of_ble_eq_true rfl) dL_law_1852 rfl rfl (fun H locs hR hS => ?_)
  refine lv_istore (lv' := [(6, .int x12), (5, .int x5), (0, .ref b), (1, .ref v1), (2, .ref o), (3, .ref v3), (4, .int v4)]) hx hb dL_law_1855 hl (by decide) rfl (fun ls hl => ?_)
  refine lv_aload_n hx hb dL_law_1857 rfl (lv_at hl 4 rfl) ?_
  replace h := b2_o h
  obtain ⟨x15, t17, e16, h⟩ := h
  refine l_callT 0 (As := []) (rest := []) (v := (some (.int x15))) (T' := t17) (st1 := [.int x15]) hx hb hml hown hts hK hR hS hRc hRs (mX5_thrown e16) (lw_V q2534 q2535 q2536 q137 q2537) (by decide +kernel) (Nat.le_of_ble_eq_true rfl) (Nat.le_of_ble_eq_true rfl) rfl hl.1 (Nat.le_of_ble_eq_true rfl) dL_law_1858 rfl rfl (fun H locs hR hS => ?_)
  refine lv_iload hx hb dL_law_1861 (lv_at hl 1 rfl) ?_
  refine lv_icmp_eq (tgt := 1868) hx hb dL_law_1863 (by decide) (fun c18 => ?_) (fun c18 => ?_)
  · replace h := it_o c18 h
    exact bL_law_1868 (w := (t17, w7)) B hE hl0 h k23 kR hR hS (lv_sub hl [2, 3, 4, 5, 6, 1, 0] rfl)
  · replace h := if_o c18 h
    refine lv_iconst (v := 0) hx hb dL_law_1866 (by decide) ?_
    have eR := kR _ (Option.some.inj h).symm
    subst eR
    exact hE _ ls H locs w7 _ dL_law_1867 hS
noncomputable def fL_law_b1941 (L : Nat) (xs : Nat → Int32) (v1 : Nat) (v3 : Nat) (v4 : Int32) (w : LW) : Option (Sum (Int32 × LW) (Int32)) :=
  fL_law_b3008 L xs v1 v3 v4 w
theorem bL_law_1941 {p : Program} {l : Launch} {e : Env} {s : State} {m : MethodId} {args : Array Value} {below : List Frame} {meth : Method} {c : Code} {H : Heap} {locs : List Loc} {ls : Array Slot} {G : gE} {w0 : WH} {o b L : Nat} {xs : Nat → Int32} {Q : Int32 → State → Prop} (B : lB G b L xs w0 p s m args meth c) (hE : lE l G w0 p e s m args below meth c Q) (hl0 : l.stackTraces = false) {v1 : Nat} {v3 : Nat} {v4 : Int32} {w : LW} {x : Sum (Int32 × LW) (Int32)} {r : Int32} (h : fL_law_b1941 L xs v1 v3 v4 w = some x)  (k23 : ∀ (v4' : Int32) (w' : LW), x = (.inl (v4', w')) → ∀ (H : Heap) (locs : List Loc) (ls : Array Slot), RepL G o w' H → Cu (gFr G) s w0 w'.2 H locs → lv_has ls 8 [(0, .ref b), (1, .ref v1), (2, .ref o), (3, .ref v3), (4, .int v4')] → W p l e room_1 s m args below meth c H locs (wC w0 - wC w'.2) (wS w0 - wS w'.2) (Q r) (F0 m 23 ls [])) (kR : ∀ q, x = (.inr q) → q = r) (hR : RepL G o w H) (hS : Cu (gFr G) s w0 w.2 H locs) (hl : lv_has ls 8 [(0, .ref b), (1, .ref v1), (2, .ref o), (3, .ref v3), (4, .int v4)]) : W p l e room_1 s m args below meth c H locs (wC w0 - wC w.2) (wS w0 - wS w.2) (Q r) (F0 m 1941 ls []) := by
  have B0 := B
  obtain ⟨⟨hx, hb, hml, hown, hts, hr, hlk, hK⟩, hX, hbl, hbA, hRc, hRs⟩ := B0
  unfold fL_law_b1941 at h
  refine lv_goto (tgt := 3008) hx hb dL_law_1941 (by decide) ?_
  exact bL_law_3008 (w := w) B hE hl0 h k23 kR hR hS (lv_sub hl [0, 1, 2, 3, 4] rfl)
noncomputable def fL_law_b1888 (L : Nat) (xs : Nat → Int32) (v1 : Nat) (v3 : Nat) (v4 : Int32) (w : LW) : Option (Sum (Int32 × LW) (Int32)) :=
  (sld L xs (v4 + 1)).bind fun x1 =>
  b2_ (fX0_bestToll v1 x1 v3 w.2) fun x3 w5 =>
  (sld L xs (v4 + 1)).bind fun x6 =>
  b2_ (fX5_bestToll x6 w.1) fun x8 t10 =>
  b2_ (fX5_thrown  t10) fun x11 t13 =>
  if x11 = x3 then (
    if x3 = 0 then (
      (ldJ w5 v3 0).bind fun x16 =>
      if lg_cmp x16 (x8.toInt64) = 0 then (
        fL_law_b1941 L xs v1 v3 v4 (t13, w5)
      ) else (
        some (.inr 0)
      )
    ) else (
      fL_law_b1941 L xs v1 v3 v4 (t13, w5)
    )
  ) else (
    some (.inr 0)
  )
theorem bL_law_1888 {p : Program} {l : Launch} {e : Env} {s : State} {m : MethodId} {args : Array Value} {below : List Frame} {meth : Method} {c : Code} {H : Heap} {locs : List Loc} {ls : Array Slot} {G : gE} {w0 : WH} {o b L : Nat} {xs : Nat → Int32} {Q : Int32 → State → Prop} (B : lB G b L xs w0 p s m args meth c) (hE : lE l G w0 p e s m args below meth c Q) (hl0 : l.stackTraces = false) {v1 : Nat} {v3 : Nat} {v4 : Int32} {w : LW} {x : Sum (Int32 × LW) (Int32)} {r : Int32} (h : fL_law_b1888 L xs v1 v3 v4 w = some x)  (k23 : ∀ (v4' : Int32) (w' : LW), x = (.inl (v4', w')) → ∀ (H : Heap) (locs : List Loc) (ls : Array Slot), RepL G o w' H → Cu (gFr G) s w0 w'.2 H locs → lv_has ls 8 [(0, .ref b), (1, .ref v1), (2, .ref o), (3, .ref v3), (4, .int v4')] → W p l e room_1 s m args below meth c H locs (wC w0 - wC w'.2) (wS w0 - wS w'.2) (Q r) (F0 m 23 ls [])) (kR : ∀ q, x = (.inr q) → q = r) (hR : RepL G o w H) (hS : Cu (gFr G) s w0 w.2 H locs) (hl : lv_has ls 8 [(0, .ref b), (1, .ref v1), (2, .ref o), (3, .ref v3), (4, .int v4)]) : W p l e room_1 s m args below meth c H locs (wC w0 - wC w.2) (wS w0 - wS w.2) (Q r) (F0 m 1888 ls []) := by
  have B0 := B
  obtain ⟨⟨hx, hb, hml, hown, hts, hr, hlk, hK⟩, hX, hbl, hbA, hRc, hRs⟩ := B0
  unfold fL_law_b1888 at h
  refine lv_aload_n hx hb dL_law_1888 rfl (lv_at hl 1 rfl) ?_
  refine lv_aload_n hx hb dL_law_1889 rfl (lv_at hl 0 rfl) ?_
  refine lv_iload hx hb dL_law_1890 (lv_at hl 4 rfl) ?_
  refine lv_iconst (v := 1) hx hb dL_law_1892 (by decide) ?_
  refine lv_iadd hx hb dL_law_1893 ?_
  replace h := bo_o h
  obtain ⟨x1, e2, h⟩ := h
  refine l_sld (w := w) hx hb hX hbl hbA hS e2 dL_law_1894 ?_
  refine lv_aload_n hx hb dL_law_1895 rfl (lv_at hl 3 rfl) ?_
  replace h := b2_o h
  obtain ⟨x3, w5, e4, h⟩ := h
  refine l_callSW 3 (As := [.ref v1, .int x1, .ref v3]) (rest := []) (v := (some (.int x3))) (w' := w5) (st1 := [.int x3]) hx hb hml hown hts hK hR hS hRc hRs (mX0_bestToll hl0 e4) (lw_SW q2193 q2194 q111 q2195) (by decide +kernel) (Nat.le_of_ble_eq_true rfl) (Nat.le_of_ble_eq_true rfl) rfl hl.1 (Nat.le_of_ble_eq_true rfl) dL_law_1896 rfl rfl (fun H locs hR hS => ?_)
  refine lv_istore (lv' := [(5, .int x3), (0, .ref b), (1, .ref v1), (2, .ref o), (3, .ref v3), (4, .int v4)]) hx hb dL_law_1899 hl (by decide) rfl (fun ls hl => ?_)
  refine lv_aload_n hx hb dL_law_1901 rfl (lv_at hl 3 rfl) ?_
  refine lv_aload_n hx hb dL_law_1902 rfl (lv_at hl 1 rfl) ?_
  refine lv_iload hx hb dL_law_1903 (lv_at hl 5 rfl) ?_
  refine lv_iconst (v := 1) hx hb dL_law_1905 (by decide) ?_
  refine lv_iadd hx hb dL_law_1906 ?_
  replace h := bo_o h
  obtain ⟨x6, e7, h⟩ := h
  refine l_sld (w := (w.1, w5)) hx hb hX hbl hbA hS e7 dL_law_1907 ?_
  replace h := b2_o h
  obtain ⟨x8, t10, e9, h⟩ := h
  refine l_callT 1 (As := [.int x6]) (rest := []) (v := (some (.int x8))) (T' := t10) (st1 := [.int x8]) hx hb hml hown hts hK hR hS hRc hRs (mX5_bestToll e9) (lw_V q2921 q2922 q2923 q137 q2924) (by decide +kernel) (Nat.le_of_ble_eq_true rfl) (Nat.le_of_ble_eq_true rfl) rfl hl.1 (Nat.le_of_ble_eq_true rfl) dL_law_1908 rfl rfl (fun H locs hR hS => ?_)
  refine lv_istore (lv' := [(6, .int x8), (5, .int x3), (0, .ref b), (1, .ref v1), (2, .ref o), (3, .ref v3), (4, .int v4)]) hx hb dL_law_1911 hl (by decide) rfl (fun ls hl => ?_)
  refine lv_aload_n hx hb dL_law_1913 rfl (lv_at hl 4 rfl) ?_
  replace h := b2_o h
  obtain ⟨x11, t13, e12, h⟩ := h
  refine l_callT 0 (As := []) (rest := []) (v := (some (.int x11))) (T' := t13) (st1 := [.int x11]) hx hb hml hown hts hK hR hS hRc hRs (mX5_thrown e12) (lw_V q2534 q2535 q2536 q137 q2537) (by decide +kernel) (Nat.le_of_ble_eq_true rfl) (Nat.le_of_ble_eq_true rfl) rfl hl.1 (Nat.le_of_ble_eq_true rfl) dL_law_1914 rfl rfl (fun H locs hR hS => ?_)
  refine lv_iload hx hb dL_law_1917 (lv_at hl 1 rfl) ?_
  refine lv_icmp_eq (tgt := 1924) hx hb dL_law_1919 (by decide) (fun c14 => ?_) (fun c14 => ?_)
  · replace h := it_o c14 h
    refine lv_iload hx hb dL_law_1924 (lv_at hl 1 rfl) ?_
    refine lv_if_ne (tgt := 1941) hx hb dL_law_1926 (by decide) (fun c15 => ?_) (fun c15 => ?_)
    · replace h := if_o c15 h
      exact bL_law_1941 (w := (t13, w5)) B hE hl0 h k23 kR hR hS (lv_sub hl [2, 3, 4, 5, 6] rfl)
    · replace h := it_o c15 h
      refine lv_aload_n hx hb dL_law_1929 rfl (lv_at hl 5 rfl) ?_
      refine lv_iconst (v := 0) hx hb dL_law_1930 (by decide) ?_
      replace h := bo_o h
      obtain ⟨x16, e17, h⟩ := h
      refine h_lald hx hb hK hR.2.weak e17 dL_law_1931 ?_
      refine lv_iload hx hb dL_law_1932 (lv_at hl 0 rfl) ?_
      refine lv_i2l hx hb dL_law_1934 rfl ?_
      refine W.lcmp hx hb dL_law_1935 ?_
      refine lv_if_eq (tgt := 1941) hx hb dL_law_1936 (by decide) (fun c18 => ?_) (fun c18 => ?_)
      · replace h := it_o c18 h
        exact bL_law_1941 (w := (t13, w5)) B hE hl0 h k23 kR hR hS (lv_sub hl [2, 3, 4, 5, 6] rfl)
      · replace h := if_o c18 h
        refine lv_iconst (v := 0) hx hb dL_law_1939 (by decide) ?_
        have eR := kR _ (Option.some.inj h).symm
        subst eR
        exact hE _ ls H locs w5 _ dL_law_1940 hS
  · replace h := if_o c14 h
    refine lv_iconst (v := 0) hx hb dL_law_1922 (by decide) ?_
    have eR := kR _ (Option.some.inj h).symm
    subst eR
    exact hE _ ls H locs w5 _ dL_law_1923 hS
noncomputable def fL_law_b1944 (L : Nat) (xs : Nat → Int32) (v1 : Nat) (v3 : Nat) (v4 : Int32) (w : LW) : Option (Sum (Int32 × LW) (Int32)) :=
  (hIs w.2 v1 17).bind fun _ =>
  b2_ (fX1_improve v1 w.2) fun x1 w3 =>
  b2_ (fX5_improve  w.1) fun x5 t7 =>
  if x1 = x5 then (
    fL_law_b3008 L xs v1 v3 v4 (t7, w3)
  ) else (
    some (.inr 0)
  )
theorem bL_law_1944 {p : Program} {l : Launch} {e : Env} {s : State} {m : MethodId} {args : Array Value} {below : List Frame} {meth : Method} {c : Code} {H : Heap} {locs : List Loc} {ls : Array Slot} {G : gE} {w0 : WH} {o b L : Nat} {xs : Nat → Int32} {Q : Int32 → State → Prop} (B : lB G b L xs w0 p s m args meth c) (hE : lE l G w0 p e s m args below meth c Q) (hl0 : l.stackTraces = false) {v1 : Nat} {v3 : Nat} {v4 : Int32} {w : LW} {x : Sum (Int32 × LW) (Int32)} {r : Int32} (h : fL_law_b1944 L xs v1 v3 v4 w = some x)  (k23 : ∀ (v4' : Int32) (w' : LW), x = (.inl (v4', w')) → ∀ (H : Heap) (locs : List Loc) (ls : Array Slot), RepL G o w' H → Cu (gFr G) s w0 w'.2 H locs → lv_has ls 8 [(0, .ref b), (1, .ref v1), (2, .ref o), (3, .ref v3), (4, .int v4')] → W p l e room_1 s m args below meth c H locs (wC w0 - wC w'.2) (wS w0 - wS w'.2) (Q r) (F0 m 23 ls [])) (kR : ∀ q, x = (.inr q) → q = r) (hR : RepL G o w H) (hS : Cu (gFr G) s w0 w.2 H locs) (hl : lv_has ls 8 [(0, .ref b), (1, .ref v1), (2, .ref o), (3, .ref v3), (4, .int v4)]) : W p l e room_1 s m args below meth c H locs (wC w0 - wC w.2) (wS w0 - wS w.2) (Q r) (F0 m 1944 ls []) := by
  have B0 := B
  obtain ⟨⟨hx, hb, hml, hown, hts, hr, hlk, hK⟩, hX, hbl, hbA, hRc, hRs⟩ := B0
  unfold fL_law_b1944 at h
  refine lv_aload_n hx hb dL_law_1944 rfl (lv_at hl 1 rfl) ?_
  replace h := bo_o h
  obtain ⟨_, e4, h⟩ := h
  replace h := b2_o h
  obtain ⟨x1, w3, e2, h⟩ := h
  refine l_callV 0 (ci := 17) (As := []) (rest := []) (v := (some (.int x1))) (w' := w3) (st1 := [.int x1]) hx hb hml hown hts hK hR hS hRc hRs rfl e4 (mX1_improve e2) (lw_V q1760 q1761 q1762 q112 q1763) (by decide +kernel) (Nat.le_of_ble_eq_true rfl) (Nat.le_of_ble_eq_true rfl) rfl hl.1 (Nat.le_of_ble_eq_true rfl) dL_law_1945 rfl rfl (fun H locs hR hS => ?_)
  refine lv_aload_n hx hb dL_law_1948 rfl (lv_at hl 2 rfl) ?_
  replace h := b2_o h
  obtain ⟨x5, t7, e6, h⟩ := h
  refine l_callT 0 (As := []) (rest := [.int x1]) (v := (some (.int x5))) (T' := t7) (st1 := [.int x5, .int x1]) hx hb hml hown hts hK hR hS hRc hRs (mX5_improve e6) (lw_V q2936 q2937 q2938 q137 q2939) (by decide +kernel) (Nat.le_of_ble_eq_true rfl) (Nat.le_of_ble_eq_true rfl) rfl hl.1 (Nat.le_of_ble_eq_true rfl) dL_law_1949 rfl rfl (fun H locs hR hS => ?_)
  refine lv_icmp_eq (tgt := 3008) hx hb dL_law_1952 (by decide) (fun c8 => ?_) (fun c8 => ?_)
  · replace h := it_o c8 h
    exact bL_law_3008 (w := (t7, w3)) B hE hl0 h k23 kR hR hS (lv_sub hl [0, 1, 2, 3, 4] rfl)
  · replace h := if_o c8 h
    refine lv_iconst (v := 0) hx hb dL_law_1955 (by decide) ?_
    have eR := kR _ (Option.some.inj h).symm
    subst eR
    exact hE _ ls H locs w3 _ dL_law_1956 hS
noncomputable def fL_law_b2010 (L : Nat) (xs : Nat → Int32) (v1 : Nat) (v3 : Nat) (v4 : Int32) (w : LW) : Option (Sum (Int32 × LW) (Int32)) :=
  fL_law_b3008 L xs v1 v3 v4 w
theorem bL_law_2010 {p : Program} {l : Launch} {e : Env} {s : State} {m : MethodId} {args : Array Value} {below : List Frame} {meth : Method} {c : Code} {H : Heap} {locs : List Loc} {ls : Array Slot} {G : gE} {w0 : WH} {o b L : Nat} {xs : Nat → Int32} {Q : Int32 → State → Prop} (B : lB G b L xs w0 p s m args meth c) (hE : lE l G w0 p e s m args below meth c Q) (hl0 : l.stackTraces = false) {v1 : Nat} {v3 : Nat} {v4 : Int32} {w : LW} {x : Sum (Int32 × LW) (Int32)} {r : Int32} (h : fL_law_b2010 L xs v1 v3 v4 w = some x)  (k23 : ∀ (v4' : Int32) (w' : LW), x = (.inl (v4', w')) → ∀ (H : Heap) (locs : List Loc) (ls : Array Slot), RepL G o w' H → Cu (gFr G) s w0 w'.2 H locs → lv_has ls 8 [(0, .ref b), (1, .ref v1), (2, .ref o), (3, .ref v3), (4, .int v4')] → W p l e room_1 s m args below meth c H locs (wC w0 - wC w'.2) (wS w0 - wS w'.2) (Q r) (F0 m 23 ls [])) (kR : ∀ q, x = (.inr q) → q = r) (hR : RepL G o w H) (hS : Cu (gFr G) s w0 w.2 H locs) (hl : lv_has ls 8 [(0, .ref b), (1, .ref v1), (2, .ref o), (3, .ref v3), (4, .int v4)]) : W p l e room_1 s m args below meth c H locs (wC w0 - wC w.2) (wS w0 - wS w.2) (Q r) (F0 m 2010 ls []) := by
  have B0 := B
  obtain ⟨⟨hx, hb, hml, hown, hts, hr, hlk, hK⟩, hX, hbl, hbA, hRc, hRs⟩ := B0
  unfold fL_law_b2010 at h
  refine lv_goto (tgt := 3008) hx hb dL_law_2010 (by decide) ?_
  exact bL_law_3008 (w := w) B hE hl0 h k23 kR hR hS (lv_sub hl [0, 1, 2, 3, 4] rfl)
noncomputable def fL_law_b1957 (L : Nat) (xs : Nat → Int32) (v1 : Nat) (v3 : Nat) (v4 : Int32) (w : LW) : Option (Sum (Int32 × LW) (Int32)) :=
  (sld L xs (v4 + 1)).bind fun x1 =>
  b2_ (fX0_optimize v1 x1 v3 w.2) fun x3 w5 =>
  (sld L xs (v4 + 1)).bind fun x6 =>
  b2_ (fX5_optimize x6 w.1) fun x8 t10 =>
  b2_ (fX5_thrown  t10) fun x11 t13 =>
  if x11 = x3 then (
    if x3 = 0 then (
      (ldJ w5 v3 0).bind fun x16 =>
      if lg_cmp x16 (x8.toInt64) = 0 then (
        fL_law_b2010 L xs v1 v3 v4 (t13, w5)
      ) else (
        some (.inr 0)
      )
    ) else (
      fL_law_b2010 L xs v1 v3 v4 (t13, w5)
    )
  ) else (
    some (.inr 0)
  )
theorem bL_law_1957 {p : Program} {l : Launch} {e : Env} {s : State} {m : MethodId} {args : Array Value} {below : List Frame} {meth : Method} {c : Code} {H : Heap} {locs : List Loc} {ls : Array Slot} {G : gE} {w0 : WH} {o b L : Nat} {xs : Nat → Int32} {Q : Int32 → State → Prop} (B : lB G b L xs w0 p s m args meth c) (hE : lE l G w0 p e s m args below meth c Q) (hl0 : l.stackTraces = false) {v1 : Nat} {v3 : Nat} {v4 : Int32} {w : LW} {x : Sum (Int32 × LW) (Int32)} {r : Int32} (h : fL_law_b1957 L xs v1 v3 v4 w = some x)  (k23 : ∀ (v4' : Int32) (w' : LW), x = (.inl (v4', w')) → ∀ (H : Heap) (locs : List Loc) (ls : Array Slot), RepL G o w' H → Cu (gFr G) s w0 w'.2 H locs → lv_has ls 8 [(0, .ref b), (1, .ref v1), (2, .ref o), (3, .ref v3), (4, .int v4')] → W p l e room_1 s m args below meth c H locs (wC w0 - wC w'.2) (wS w0 - wS w'.2) (Q r) (F0 m 23 ls [])) (kR : ∀ q, x = (.inr q) → q = r) (hR : RepL G o w H) (hS : Cu (gFr G) s w0 w.2 H locs) (hl : lv_has ls 8 [(0, .ref b), (1, .ref v1), (2, .ref o), (3, .ref v3), (4, .int v4)]) : W p l e room_1 s m args below meth c H locs (wC w0 - wC w.2) (wS w0 - wS w.2) (Q r) (F0 m 1957 ls []) := by
  have B0 := B
  obtain ⟨⟨hx, hb, hml, hown, hts, hr, hlk, hK⟩, hX, hbl, hbA, hRc, hRs⟩ := B0
  unfold fL_law_b1957 at h
  refine lv_aload_n hx hb dL_law_1957 rfl (lv_at hl 1 rfl) ?_
  refine lv_aload_n hx hb dL_law_1958 rfl (lv_at hl 0 rfl) ?_
  refine lv_iload hx hb dL_law_1959 (lv_at hl 4 rfl) ?_
  refine lv_iconst (v := 1) hx hb dL_law_1961 (by decide) ?_
  refine lv_iadd hx hb dL_law_1962 ?_
  replace h := bo_o h
  obtain ⟨x1, e2, h⟩ := h
  refine l_sld (w := w) hx hb hX hbl hbA hS e2 dL_law_1963 ?_
  refine lv_aload_n hx hb dL_law_1964 rfl (lv_at hl 3 rfl) ?_
  replace h := b2_o h
  obtain ⟨x3, w5, e4, h⟩ := h
  refine l_callSW 3 (As := [.ref v1, .int x1, .ref v3]) (rest := []) (v := (some (.int x3))) (w' := w5) (st1 := [.int x3]) hx hb hml hown hts hK hR hS hRc hRs (mX0_optimize hl0 e4) (lw_SW q2200 q2201 q111 q2202) (by decide +kernel) (Nat.le_of_ble_eq_true rfl) (Nat.le_of_ble_eq_true rfl) rfl hl.1 (Nat.le_of_ble_eq_true rfl) dL_law_1965 rfl rfl (fun H locs hR hS => ?_)
  refine lv_istore (lv' := [(5, .int x3), (0, .ref b), (1, .ref v1), (2, .ref o), (3, .ref v3), (4, .int v4)]) hx hb dL_law_1968 hl (by decide) rfl (fun ls hl => ?_)
  refine lv_aload_n hx hb dL_law_1970 rfl (lv_at hl 3 rfl) ?_
  refine lv_aload_n hx hb dL_law_1971 rfl (lv_at hl 1 rfl) ?_
  refine lv_iload hx hb dL_law_1972 (lv_at hl 5 rfl) ?_
  refine lv_iconst (v := 1) hx hb dL_law_1974 (by decide) ?_
  refine lv_iadd hx hb dL_law_1975 ?_
  replace h := bo_o h
  obtain ⟨x6, e7, h⟩ := h
  refine l_sld (w := (w.1, w5)) hx hb hX hbl hbA hS e7 dL_law_1976 ?_
  replace h := b2_o h
  obtain ⟨x8, t10, e9, h⟩ := h
  refine l_callT 1 (As := [.int x6]) (rest := []) (v := (some (.int x8))) (T' := t10) (st1 := [.int x8]) hx hb hml hown hts hK hR hS hRc hRs (mX5_optimize e9) (lw_V q2944 q2945 q2946 q137 q2947) (by decide +kernel) (Nat.le_of_ble_eq_true rfl) (Nat.le_of_ble_eq_true rfl) rfl hl.1 (Nat.le_of_ble_eq_true rfl) dL_law_1977 rfl rfl (fun H locs hR hS => ?_)
  refine lv_istore (lv' := [(6, .int x8), (5, .int x3), (0, .ref b), (1, .ref v1), (2, .ref o), (3, .ref v3), (4, .int v4)]) hx hb dL_law_1980 hl (by decide) rfl (fun ls hl => ?_)
  refine lv_aload_n hx hb dL_law_1982 rfl (lv_at hl 4 rfl) ?_
  replace h := b2_o h
  obtain ⟨x11, t13, e12, h⟩ := h
  refine l_callT 0 (As := []) (rest := []) (v := (some (.int x11))) (T' := t13) (st1 := [.int x11]) hx hb hml hown hts hK hR hS hRc hRs (mX5_thrown e12) (lw_V q2534 q2535 q2536 q137 q2537) (by decide +kernel) (Nat.le_of_ble_eq_true rfl) (Nat.le_of_ble_eq_true rfl) rfl hl.1 (Nat.le_of_ble_eq_true rfl) dL_law_1983 rfl rfl (fun H locs hR hS => ?_)
  refine lv_iload hx hb dL_law_1986 (lv_at hl 1 rfl) ?_
  refine lv_icmp_eq (tgt := 1993) hx hb dL_law_1988 (by decide) (fun c14 => ?_) (fun c14 => ?_)
  · replace h := it_o c14 h
    refine lv_iload hx hb dL_law_1993 (lv_at hl 1 rfl) ?_
    refine lv_if_ne (tgt := 2010) hx hb dL_law_1995 (by decide) (fun c15 => ?_) (fun c15 => ?_)
    · replace h := if_o c15 h
      exact bL_law_2010 (w := (t13, w5)) B hE hl0 h k23 kR hR hS (lv_sub hl [2, 3, 4, 5, 6] rfl)
    · replace h := it_o c15 h
      refine lv_aload_n hx hb dL_law_1998 rfl (lv_at hl 5 rfl) ?_
      refine lv_iconst (v := 0) hx hb dL_law_1999 (by decide) ?_
      replace h := bo_o h
      obtain ⟨x16, e17, h⟩ := h
      refine h_lald hx hb hK hR.2.weak e17 dL_law_2000 ?_
      refine lv_iload hx hb dL_law_2001 (lv_at hl 0 rfl) ?_
      refine lv_i2l hx hb dL_law_2003 rfl ?_
      refine W.lcmp hx hb dL_law_2004 ?_
      refine lv_if_eq (tgt := 2010) hx hb dL_law_2005 (by decide) (fun c18 => ?_) (fun c18 => ?_)
      · replace h := it_o c18 h
        exact bL_law_2010 (w := (t13, w5)) B hE hl0 h k23 kR hR hS (lv_sub hl [2, 3, 4, 5, 6] rfl)
      · replace h := if_o c18 h
        refine lv_iconst (v := 0) hx hb dL_law_2008 (by decide) ?_
        have eR := kR _ (Option.some.inj h).symm
        subst eR
        exact hE _ ls H locs w5 _ dL_law_2009 hS
  · replace h := if_o c14 h
    refine lv_iconst (v := 0) hx hb dL_law_1991 (by decide) ?_
    have eR := kR _ (Option.some.inj h).symm
    subst eR
    exact hE _ ls H locs w5 _ dL_law_1992 hS
noncomputable def fL_law_b2090 (L : Nat) (xs : Nat → Int32) (v1 : Nat) (v3 : Nat) (v4 : Int32) (w : LW) : Option (Sum (Int32 × LW) (Int32)) :=
  fL_law_b3008 L xs v1 v3 v4 w
theorem bL_law_2090 {p : Program} {l : Launch} {e : Env} {s : State} {m : MethodId} {args : Array Value} {below : List Frame} {meth : Method} {c : Code} {H : Heap} {locs : List Loc} {ls : Array Slot} {G : gE} {w0 : WH} {o b L : Nat} {xs : Nat → Int32} {Q : Int32 → State → Prop} (B : lB G b L xs w0 p s m args meth c) (hE : lE l G w0 p e s m args below meth c Q) (hl0 : l.stackTraces = false) {v1 : Nat} {v3 : Nat} {v4 : Int32} {w : LW} {x : Sum (Int32 × LW) (Int32)} {r : Int32} (h : fL_law_b2090 L xs v1 v3 v4 w = some x)  (k23 : ∀ (v4' : Int32) (w' : LW), x = (.inl (v4', w')) → ∀ (H : Heap) (locs : List Loc) (ls : Array Slot), RepL G o w' H → Cu (gFr G) s w0 w'.2 H locs → lv_has ls 8 [(0, .ref b), (1, .ref v1), (2, .ref o), (3, .ref v3), (4, .int v4')] → W p l e room_1 s m args below meth c H locs (wC w0 - wC w'.2) (wS w0 - wS w'.2) (Q r) (F0 m 23 ls [])) (kR : ∀ q, x = (.inr q) → q = r) (hR : RepL G o w H) (hS : Cu (gFr G) s w0 w.2 H locs) (hl : lv_has ls 8 [(0, .ref b), (1, .ref v1), (2, .ref o), (3, .ref v3), (4, .int v4)]) : W p l e room_1 s m args below meth c H locs (wC w0 - wC w.2) (wS w0 - wS w.2) (Q r) (F0 m 2090 ls []) := by
  have B0 := B
  obtain ⟨⟨hx, hb, hml, hown, hts, hr, hlk, hK⟩, hX, hbl, hbA, hRc, hRs⟩ := B0
  unfold fL_law_b2090 at h
  refine lv_goto (tgt := 3008) hx hb dL_law_2090 (by decide) ?_
  exact bL_law_3008 (w := w) B hE hl0 h k23 kR hR hS (lv_sub hl [0, 1, 2, 3, 4] rfl)
noncomputable def fL_law_b2062 (L : Nat) (xs : Nat → Int32) (v1 : Nat) (v3 : Nat) (v4 : Int32) (v5 : Int32) (v6 : Int32) (w : LW) : Option (Sum (Int32 × LW) (Int32)) :=
  b2_ (fX5_thrown  w.1) fun x1 t3 =>
  if x1 = v5 then (
    if v5 = 0 then (
      (ldJ w.2 v3 0).bind fun x6 =>
      if lg_cmp x6 (v6.toInt64) = 0 then (
        fL_law_b2090 L xs v1 v3 v4 (t3, w.2)
      ) else (
        some (.inr 0)
      )
    ) else (
      fL_law_b2090 L xs v1 v3 v4 (t3, w.2)
    )
  ) else (
    some (.inr 0)
  )
theorem bL_law_2062 {p : Program} {l : Launch} {e : Env} {s : State} {m : MethodId} {args : Array Value} {below : List Frame} {meth : Method} {c : Code} {H : Heap} {locs : List Loc} {ls : Array Slot} {G : gE} {w0 : WH} {o b L : Nat} {xs : Nat → Int32} {Q : Int32 → State → Prop} (B : lB G b L xs w0 p s m args meth c) (hE : lE l G w0 p e s m args below meth c Q) (hl0 : l.stackTraces = false) {v1 : Nat} {v3 : Nat} {v4 : Int32} {v5 : Int32} {v6 : Int32} {w : LW} {x : Sum (Int32 × LW) (Int32)} {r : Int32} (h : fL_law_b2062 L xs v1 v3 v4 v5 v6 w = some x)  (k23 : ∀ (v4' : Int32) (w' : LW), x = (.inl (v4', w')) → ∀ (H : Heap) (locs : List Loc) (ls : Array Slot), RepL G o w' H → Cu (gFr G) s w0 w'.2 H locs → lv_has ls 8 [(0, .ref b), (1, .ref v1), (2, .ref o), (3, .ref v3), (4, .int v4')] → W p l e room_1 s m args below meth c H locs (wC w0 - wC w'.2) (wS w0 - wS w'.2) (Q r) (F0 m 23 ls [])) (kR : ∀ q, x = (.inr q) → q = r) (hR : RepL G o w H) (hS : Cu (gFr G) s w0 w.2 H locs) (hl : lv_has ls 8 [(0, .ref b), (1, .ref v1), (2, .ref o), (3, .ref v3), (4, .int v4), (5, .int v5), (6, .int v6)]) : W p l e room_1 s m args below meth c H locs (wC w0 - wC w.2) (wS w0 - wS w.2) (Q r) (F0 m 2062 ls []) := by
  have B0 := B
  obtain ⟨⟨hx, hb, hml, hown, hts, hr, hlk, hK⟩, hX, hbl, hbA, hRc, hRs⟩ := B0
  unfold fL_law_b2062 at h
  refine lv_aload_n hx hb dL_law_2062 rfl (lv_at hl 2 rfl) ?_
  replace h := b2_o h
  obtain ⟨x1, t3, e2, h⟩ := h
  refine l_callT 0 (As := []) (rest := []) (v := (some (.int x1))) (T' := t3) (st1 := [.int x1]) hx hb hml hown hts hK hR hS hRc hRs (mX5_thrown e2) (lw_V q2534 q2535 q2536 q137 q2537) (by decide +kernel) (Nat.le_of_ble_eq_true rfl) (Nat.le_of_ble_eq_true rfl) rfl hl.1 (Nat.le_of_ble_eq_true rfl) dL_law_2063 rfl rfl (fun H locs hR hS => ?_)
  refine lv_iload hx hb dL_law_2066 (lv_at hl 5 rfl) ?_
  refine lv_icmp_eq (tgt := 2073) hx hb dL_law_2068 (by decide) (fun c4 => ?_) (fun c4 => ?_)
  · replace h := it_o c4 h
    refine lv_iload hx hb dL_law_2073 (lv_at hl 5 rfl) ?_
    refine lv_if_ne (tgt := 2090) hx hb dL_law_2075 (by decide) (fun c5 => ?_) (fun c5 => ?_)
    · replace h := if_o c5 h
      exact bL_law_2090 (w := (t3, w.2)) B hE hl0 h k23 kR hR hS (lv_sub hl [0, 1, 2, 3, 4] rfl)
    · replace h := it_o c5 h
      refine lv_aload_n hx hb dL_law_2078 rfl (lv_at hl 3 rfl) ?_
      refine lv_iconst (v := 0) hx hb dL_law_2079 (by decide) ?_
      replace h := bo_o h
      obtain ⟨x6, e7, h⟩ := h
      refine h_lald hx hb hK hR.2.weak e7 dL_law_2080 ?_
      refine lv_iload hx hb dL_law_2081 (lv_at hl 6 rfl) ?_
      refine lv_i2l hx hb dL_law_2083 rfl ?_
      refine W.lcmp hx hb dL_law_2084 ?_
      refine lv_if_eq (tgt := 2090) hx hb dL_law_2085 (by decide) (fun c8 => ?_) (fun c8 => ?_)
      · replace h := it_o c8 h
        exact bL_law_2090 (w := (t3, w.2)) B hE hl0 h k23 kR hR hS (lv_sub hl [0, 1, 2, 3, 4] rfl)
      · replace h := if_o c8 h
        refine lv_iconst (v := 0) hx hb dL_law_2088 (by decide) ?_
        have eR := kR _ (Option.some.inj h).symm
        subst eR
        exact hE _ ls H locs w.2 _ dL_law_2089 hS
  · replace h := if_o c4 h
    refine lv_iconst (v := 0) hx hb dL_law_2071 (by decide) ?_
    have eR := kR _ (Option.some.inj h).symm
    subst eR
    exact hE _ ls H locs w.2 _ dL_law_2072 hS
noncomputable def fL_law_b2013 (L : Nat) (xs : Nat → Int32) (v1 : Nat) (v3 : Nat) (v4 : Int32) (w : LW) : Option (Sum (Int32 × LW) (Int32)) :=
  (sld L xs (v4 + 1)).bind fun x1 =>
  (sld L xs (v4 + 2)).bind fun x3 =>
  (sld L xs (v4 + 3)).bind fun x5 =>
  b2_ (fX0_bestPair v1 x1 x3 x5 v3 w.2) fun x7 w9 =>
  (sld L xs (v4 + 1)).bind fun x10 =>
  (sld L xs (v4 + 2)).bind fun x12 =>
  (sld L xs (v4 + 3)).bind fun x14 =>
  b2_ (fX5_bestPair x10 x12 x14 w.1) fun x16 t18 =>
  fL_law_b2062 L xs v1 v3 v4 x7 x16 (t18, w9)
theorem bL_law_2013 {p : Program} {l : Launch} {e : Env} {s : State} {m : MethodId} {args : Array Value} {below : List Frame} {meth : Method} {c : Code} {H : Heap} {locs : List Loc} {ls : Array Slot} {G : gE} {w0 : WH} {o b L : Nat} {xs : Nat → Int32} {Q : Int32 → State → Prop} (B : lB G b L xs w0 p s m args meth c) (hE : lE l G w0 p e s m args below meth c Q) (hl0 : l.stackTraces = false) {v1 : Nat} {v3 : Nat} {v4 : Int32} {w : LW} {x : Sum (Int32 × LW) (Int32)} {r : Int32} (h : fL_law_b2013 L xs v1 v3 v4 w = some x)  (k23 : ∀ (v4' : Int32) (w' : LW), x = (.inl (v4', w')) → ∀ (H : Heap) (locs : List Loc) (ls : Array Slot), RepL G o w' H → Cu (gFr G) s w0 w'.2 H locs → lv_has ls 8 [(0, .ref b), (1, .ref v1), (2, .ref o), (3, .ref v3), (4, .int v4')] → W p l e room_1 s m args below meth c H locs (wC w0 - wC w'.2) (wS w0 - wS w'.2) (Q r) (F0 m 23 ls [])) (kR : ∀ q, x = (.inr q) → q = r) (hR : RepL G o w H) (hS : Cu (gFr G) s w0 w.2 H locs) (hl : lv_has ls 8 [(0, .ref b), (1, .ref v1), (2, .ref o), (3, .ref v3), (4, .int v4)]) : W p l e room_1 s m args below meth c H locs (wC w0 - wC w.2) (wS w0 - wS w.2) (Q r) (F0 m 2013 ls []) := by
  have B0 := B
  obtain ⟨⟨hx, hb, hml, hown, hts, hr, hlk, hK⟩, hX, hbl, hbA, hRc, hRs⟩ := B0
  unfold fL_law_b2013 at h
  refine lv_aload_n hx hb dL_law_2013 rfl (lv_at hl 1 rfl) ?_
  refine lv_aload_n hx hb dL_law_2014 rfl (lv_at hl 0 rfl) ?_
  refine lv_iload hx hb dL_law_2015 (lv_at hl 4 rfl) ?_
  refine lv_iconst (v := 1) hx hb dL_law_2017 (by decide) ?_
  refine lv_iadd hx hb dL_law_2018 ?_
  replace h := bo_o h
  obtain ⟨x1, e2, h⟩ := h
  refine l_sld (w := w) hx hb hX hbl hbA hS e2 dL_law_2019 ?_
  refine lv_aload_n hx hb dL_law_2020 rfl (lv_at hl 0 rfl) ?_
  refine lv_iload hx hb dL_law_2021 (lv_at hl 4 rfl) ?_
  refine lv_iconst (v := 2) hx hb dL_law_2023 (by decide) ?_
  refine lv_iadd hx hb dL_law_2024 ?_
  replace h := bo_o h
  obtain ⟨x3, e4, h⟩ := h
  refine l_sld (w := w) hx hb hX hbl hbA hS e4 dL_law_2025 ?_
  refine lv_aload_n hx hb dL_law_2026 rfl (lv_at hl 0 rfl) ?_
  refine lv_iload hx hb dL_law_2027 (lv_at hl 4 rfl) ?_
  refine lv_iconst (v := 3) hx hb dL_law_2029 (by decide) ?_
  refine lv_iadd hx hb dL_law_2030 ?_
  replace h := bo_o h
  obtain ⟨x5, e6, h⟩ := h
  refine l_sld (w := w) hx hb hX hbl hbA hS e6 dL_law_2031 ?_
  refine lv_aload_n hx hb dL_law_2032 rfl (lv_at hl 3 rfl) ?_
  replace h := b2_o h
  obtain ⟨x7, w9, e8, h⟩ := h
  refine l_callSW 5 (As := [.ref v1, .int x1, .int x3, .int x5, .ref v3]) (rest := []) (v := (some (.int x7))) (w' := w9) (st1 := [.int x7]) hx hb hml hown hts hK hR hS hRc hRs (mX0_bestPair hl0 e8) (lw_SW q2208 q2209 q111 q2210) (by decide +kernel) (Nat.le_of_ble_eq_true rfl) (Nat.le_of_ble_eq_true rfl) rfl hl.1 (Nat.le_of_ble_eq_true rfl) dL_law_2033 rfl rfl (fun H locs hR hS => ?_)
  refine lv_istore (lv' := [(5, .int x7), (0, .ref b), (1, .ref v1), (2, .ref o), (3, .ref v3), (4, .int v4)]) hx hb dL_law_2036 hl (by decide) rfl (fun ls hl => ?_)
  refine lv_aload_n hx hb dL_law_2038 rfl (lv_at hl 3 rfl) ?_
  refine lv_aload_n hx hb dL_law_2039 rfl (lv_at hl 1 rfl) ?_
  refine lv_iload hx hb dL_law_2040 (lv_at hl 5 rfl) ?_
  refine lv_iconst (v := 1) hx hb dL_law_2042 (by decide) ?_
  refine lv_iadd hx hb dL_law_2043 ?_
  replace h := bo_o h
  obtain ⟨x10, e11, h⟩ := h
  refine l_sld (w := (w.1, w9)) hx hb hX hbl hbA hS e11 dL_law_2044 ?_
  refine lv_aload_n hx hb dL_law_2045 rfl (lv_at hl 1 rfl) ?_
  refine lv_iload hx hb dL_law_2046 (lv_at hl 5 rfl) ?_
  refine lv_iconst (v := 2) hx hb dL_law_2048 (by decide) ?_
  refine lv_iadd hx hb dL_law_2049 ?_
  replace h := bo_o h
  obtain ⟨x12, e13, h⟩ := h
  refine l_sld (w := (w.1, w9)) hx hb hX hbl hbA hS e13 dL_law_2050 ?_
  refine lv_aload_n hx hb dL_law_2051 rfl (lv_at hl 1 rfl) ?_
  refine lv_iload hx hb dL_law_2052 (lv_at hl 5 rfl) ?_
  refine lv_iconst (v := 3) hx hb dL_law_2054 (by decide) ?_
  refine lv_iadd hx hb dL_law_2055 ?_
  replace h := bo_o h
  obtain ⟨x14, e15, h⟩ := h
  refine l_sld (w := (w.1, w9)) hx hb hX hbl hbA hS e15 dL_law_2056 ?_
  replace h := b2_o h
  obtain ⟨x16, t18, e17, h⟩ := h
  refine l_callT 3 (As := [.int x10, .int x12, .int x14]) (rest := []) (v := (some (.int x16))) (T' := t18) (st1 := [.int x16]) hx hb hml hown hts hK hR hS hRc hRs (mX5_bestPair e17) (lw_V q2952 q2953 q2954 q137 q2955) (by decide +kernel) (Nat.le_of_ble_eq_true rfl) (Nat.le_of_ble_eq_true rfl) rfl hl.1 (Nat.le_of_ble_eq_true rfl) dL_law_2057 rfl rfl (fun H locs hR hS => ?_)
  refine lv_istore (lv' := [(6, .int x16), (5, .int x7), (0, .ref b), (1, .ref v1), (2, .ref o), (3, .ref v3), (4, .int v4)]) hx hb dL_law_2060 hl (by decide) rfl (fun ls hl => ?_)
  exact bL_law_2062 (w := (t18, w9)) B hE hl0 h k23 kR hR hS (lv_sub hl [2, 3, 4, 5, 6, 1, 0] rfl)
noncomputable def fL_law_b2158 (L : Nat) (xs : Nat → Int32) (v1 : Nat) (v3 : Nat) (v4 : Int32) (w : LW) : Option (Sum (Int32 × LW) (Int32)) :=
  fL_law_b3008 L xs v1 v3 v4 w
theorem bL_law_2158 {p : Program} {l : Launch} {e : Env} {s : State} {m : MethodId} {args : Array Value} {below : List Frame} {meth : Method} {c : Code} {H : Heap} {locs : List Loc} {ls : Array Slot} {G : gE} {w0 : WH} {o b L : Nat} {xs : Nat → Int32} {Q : Int32 → State → Prop} (B : lB G b L xs w0 p s m args meth c) (hE : lE l G w0 p e s m args below meth c Q) (hl0 : l.stackTraces = false) {v1 : Nat} {v3 : Nat} {v4 : Int32} {w : LW} {x : Sum (Int32 × LW) (Int32)} {r : Int32} (h : fL_law_b2158 L xs v1 v3 v4 w = some x)  (k23 : ∀ (v4' : Int32) (w' : LW), x = (.inl (v4', w')) → ∀ (H : Heap) (locs : List Loc) (ls : Array Slot), RepL G o w' H → Cu (gFr G) s w0 w'.2 H locs → lv_has ls 8 [(0, .ref b), (1, .ref v1), (2, .ref o), (3, .ref v3), (4, .int v4')] → W p l e room_1 s m args below meth c H locs (wC w0 - wC w'.2) (wS w0 - wS w'.2) (Q r) (F0 m 23 ls [])) (kR : ∀ q, x = (.inr q) → q = r) (hR : RepL G o w H) (hS : Cu (gFr G) s w0 w.2 H locs) (hl : lv_has ls 8 [(0, .ref b), (1, .ref v1), (2, .ref o), (3, .ref v3), (4, .int v4)]) : W p l e room_1 s m args below meth c H locs (wC w0 - wC w.2) (wS w0 - wS w.2) (Q r) (F0 m 2158 ls []) := by
  have B0 := B
  obtain ⟨⟨hx, hb, hml, hown, hts, hr, hlk, hK⟩, hX, hbl, hbA, hRc, hRs⟩ := B0
  unfold fL_law_b2158 at h
  refine lv_goto (tgt := 3008) hx hb dL_law_2158 (by decide) ?_
  exact bL_law_3008 (w := w) B hE hl0 h k23 kR hR hS (lv_sub hl [0, 1, 2, 3, 4] rfl)
noncomputable def fL_law_b2141 (L : Nat) (xs : Nat → Int32) (v1 : Nat) (v3 : Nat) (v4 : Int32) (v5 : Int32) (v6 : Int32) (w : LW) : Option (Sum (Int32 × LW) (Int32)) :=
  if v5 = 0 then (
    (ldJ w.2 v3 0).bind fun x2 =>
    if lg_cmp x2 (v6.toInt64) = 0 then (
      fL_law_b2158 L xs v1 v3 v4 w
    ) else (
      some (.inr 0)
    )
  ) else (
    fL_law_b2158 L xs v1 v3 v4 w
  )
theorem bL_law_2141 {p : Program} {l : Launch} {e : Env} {s : State} {m : MethodId} {args : Array Value} {below : List Frame} {meth : Method} {c : Code} {H : Heap} {locs : List Loc} {ls : Array Slot} {G : gE} {w0 : WH} {o b L : Nat} {xs : Nat → Int32} {Q : Int32 → State → Prop} (B : lB G b L xs w0 p s m args meth c) (hE : lE l G w0 p e s m args below meth c Q) (hl0 : l.stackTraces = false) {v1 : Nat} {v3 : Nat} {v4 : Int32} {v5 : Int32} {v6 : Int32} {w : LW} {x : Sum (Int32 × LW) (Int32)} {r : Int32} (h : fL_law_b2141 L xs v1 v3 v4 v5 v6 w = some x)  (k23 : ∀ (v4' : Int32) (w' : LW), x = (.inl (v4', w')) → ∀ (H : Heap) (locs : List Loc) (ls : Array Slot), RepL G o w' H → Cu (gFr G) s w0 w'.2 H locs → lv_has ls 8 [(0, .ref b), (1, .ref v1), (2, .ref o), (3, .ref v3), (4, .int v4')] → W p l e room_1 s m args below meth c H locs (wC w0 - wC w'.2) (wS w0 - wS w'.2) (Q r) (F0 m 23 ls [])) (kR : ∀ q, x = (.inr q) → q = r) (hR : RepL G o w H) (hS : Cu (gFr G) s w0 w.2 H locs) (hl : lv_has ls 8 [(0, .ref b), (1, .ref v1), (2, .ref o), (3, .ref v3), (4, .int v4), (5, .int v5), (6, .int v6)]) : W p l e room_1 s m args below meth c H locs (wC w0 - wC w.2) (wS w0 - wS w.2) (Q r) (F0 m 2141 ls []) := by
  have B0 := B
  obtain ⟨⟨hx, hb, hml, hown, hts, hr, hlk, hK⟩, hX, hbl, hbA, hRc, hRs⟩ := B0
  unfold fL_law_b2141 at h
  refine lv_iload hx hb dL_law_2141 (lv_at hl 5 rfl) ?_
  refine lv_if_ne (tgt := 2158) hx hb dL_law_2143 (by decide) (fun c1 => ?_) (fun c1 => ?_)
  · replace h := if_o c1 h
    exact bL_law_2158 (w := w) B hE hl0 h k23 kR hR hS (lv_sub hl [0, 1, 2, 3, 4] rfl)
  · replace h := it_o c1 h
    refine lv_aload_n hx hb dL_law_2146 rfl (lv_at hl 3 rfl) ?_
    refine lv_iconst (v := 0) hx hb dL_law_2147 (by decide) ?_
    replace h := bo_o h
    obtain ⟨x2, e3, h⟩ := h
    refine h_lald hx hb hK hR.2.weak e3 dL_law_2148 ?_
    refine lv_iload hx hb dL_law_2149 (lv_at hl 6 rfl) ?_
    refine lv_i2l hx hb dL_law_2151 rfl ?_
    refine W.lcmp hx hb dL_law_2152 ?_
    refine lv_if_eq (tgt := 2158) hx hb dL_law_2153 (by decide) (fun c4 => ?_) (fun c4 => ?_)
    · replace h := it_o c4 h
      exact bL_law_2158 (w := w) B hE hl0 h k23 kR hR hS (lv_sub hl [0, 1, 2, 3, 4] rfl)
    · replace h := if_o c4 h
      refine lv_iconst (v := 0) hx hb dL_law_2156 (by decide) ?_
      have eR := kR _ (Option.some.inj h).symm
      subst eR
      exact hE _ ls H locs w.2 _ dL_law_2157 hS
noncomputable def fL_law_b2093 (L : Nat) (xs : Nat → Int32) (v1 : Nat) (v3 : Nat) (v4 : Int32) (w : LW) : Option (Sum (Int32 × LW) (Int32)) :=
  (sld L xs (v4 + 1)).bind fun x1 =>
  (sld L xs (v4 + 2)).bind fun x3 =>
  b2_ (fX0_detour v1 x1 x3 v3 w.2) fun x5 w7 =>
  (sld L xs (v4 + 1)).bind fun x8 =>
  (sld L xs (v4 + 2)).bind fun x10 =>
  b2_ (fX5_detour x8 x10 w.1) fun x12 t14 =>
  b2_ (fX5_thrown  t14) fun x15 t17 =>
  if x15 = x5 then (
    fL_law_b2141 L xs v1 v3 v4 x5 x12 (t17, w7)
  ) else (
    some (.inr 0)
  )
theorem bL_law_2093 {p : Program} {l : Launch} {e : Env} {s : State} {m : MethodId} {args : Array Value} {below : List Frame} {meth : Method} {c : Code} {H : Heap} {locs : List Loc} {ls : Array Slot} {G : gE} {w0 : WH} {o b L : Nat} {xs : Nat → Int32} {Q : Int32 → State → Prop} (B : lB G b L xs w0 p s m args meth c) (hE : lE l G w0 p e s m args below meth c Q) (hl0 : l.stackTraces = false) {v1 : Nat} {v3 : Nat} {v4 : Int32} {w : LW} {x : Sum (Int32 × LW) (Int32)} {r : Int32} (h : fL_law_b2093 L xs v1 v3 v4 w = some x)  (k23 : ∀ (v4' : Int32) (w' : LW), x = (.inl (v4', w')) → ∀ (H : Heap) (locs : List Loc) (ls : Array Slot), RepL G o w' H → Cu (gFr G) s w0 w'.2 H locs → lv_has ls 8 [(0, .ref b), (1, .ref v1), (2, .ref o), (3, .ref v3), (4, .int v4')] → W p l e room_1 s m args below meth c H locs (wC w0 - wC w'.2) (wS w0 - wS w'.2) (Q r) (F0 m 23 ls [])) (kR : ∀ q, x = (.inr q) → q = r) (hR : RepL G o w H) (hS : Cu (gFr G) s w0 w.2 H locs) (hl : lv_has ls 8 [(0, .ref b), (1, .ref v1), (2, .ref o), (3, .ref v3), (4, .int v4)]) : W p l e room_1 s m args below meth c H locs (wC w0 - wC w.2) (wS w0 - wS w.2) (Q r) (F0 m 2093 ls []) := by
  have B0 := B
  obtain ⟨⟨hx, hb, hml, hown, hts, hr, hlk, hK⟩, hX, hbl, hbA, hRc, hRs⟩ := B0
  unfold fL_law_b2093 at h
  refine lv_aload_n hx hb dL_law_2093 rfl (lv_at hl 1 rfl) ?_
  refine lv_aload_n hx hb dL_law_2094 rfl (lv_at hl 0 rfl) ?_
  refine lv_iload hx hb dL_law_2095 (lv_at hl 4 rfl) ?_
  refine lv_iconst (v := 1) hx hb dL_law_2097 (by decide) ?_
  refine lv_iadd hx hb dL_law_2098 ?_
  replace h := bo_o h
  obtain ⟨x1, e2, h⟩ := h
  refine l_sld (w := w) hx hb hX hbl hbA hS e2 dL_law_2099 ?_
  refine lv_aload_n hx hb dL_law_2100 rfl (lv_at hl 0 rfl) ?_
  refine lv_iload hx hb dL_law_2101 (lv_at hl 4 rfl) ?_
  refine lv_iconst (v := 2) hx hb dL_law_2103 (by decide) ?_
  refine lv_iadd hx hb dL_law_2104 ?_
  replace h := bo_o h
  obtain ⟨x3, e4, h⟩ := h
  refine l_sld (w := w) hx hb hX hbl hbA hS e4 dL_law_2105 ?_
  refine lv_aload_n hx hb dL_law_2106 rfl (lv_at hl 3 rfl) ?_
  replace h := b2_o h
  obtain ⟨x5, w7, e6, h⟩ := h
  refine l_callSW 4 (As := [.ref v1, .int x1, .int x3, .ref v3]) (rest := []) (v := (some (.int x5))) (w' := w7) (st1 := [.int x5]) hx hb hml hown hts hK hR hS hRc hRs (mX0_detour hl0 e6) (lw_SW q2215 q2216 q111 q2217) (by decide +kernel) (Nat.le_of_ble_eq_true rfl) (Nat.le_of_ble_eq_true rfl) rfl hl.1 (Nat.le_of_ble_eq_true rfl) dL_law_2107 rfl rfl (fun H locs hR hS => ?_)
  refine lv_istore (lv' := [(5, .int x5), (0, .ref b), (1, .ref v1), (2, .ref o), (3, .ref v3), (4, .int v4)]) hx hb dL_law_2110 hl (by decide) rfl (fun ls hl => ?_)
  refine lv_aload_n hx hb dL_law_2112 rfl (lv_at hl 3 rfl) ?_
  refine lv_aload_n hx hb dL_law_2113 rfl (lv_at hl 1 rfl) ?_
  refine lv_iload hx hb dL_law_2114 (lv_at hl 5 rfl) ?_
  refine lv_iconst (v := 1) hx hb dL_law_2116 (by decide) ?_
  refine lv_iadd hx hb dL_law_2117 ?_
  replace h := bo_o h
  obtain ⟨x8, e9, h⟩ := h
  refine l_sld (w := (w.1, w7)) hx hb hX hbl hbA hS e9 dL_law_2118 ?_
  refine lv_aload_n hx hb dL_law_2119 rfl (lv_at hl 1 rfl) ?_
  refine lv_iload hx hb dL_law_2120 (lv_at hl 5 rfl) ?_
  refine lv_iconst (v := 2) hx hb dL_law_2122 (by decide) ?_
  refine lv_iadd hx hb dL_law_2123 ?_
  replace h := bo_o h
  obtain ⟨x10, e11, h⟩ := h
  refine l_sld (w := (w.1, w7)) hx hb hX hbl hbA hS e11 dL_law_2124 ?_
  replace h := b2_o h
  obtain ⟨x12, t14, e13, h⟩ := h
  refine l_callT 2 (As := [.int x8, .int x10]) (rest := []) (v := (some (.int x12))) (T' := t14) (st1 := [.int x12]) hx hb hml hown hts hK hR hS hRc hRs (mX5_detour e13) (lw_V q2968 q2969 q2970 q137 q2971) (by decide +kernel) (Nat.le_of_ble_eq_true rfl) (Nat.le_of_ble_eq_true rfl) rfl hl.1 (Nat.le_of_ble_eq_true rfl) dL_law_2125 rfl rfl (fun H locs hR hS => ?_)
  refine lv_istore (lv' := [(6, .int x12), (5, .int x5), (0, .ref b), (1, .ref v1), (2, .ref o), (3, .ref v3), (4, .int v4)]) hx hb dL_law_2128 hl (by decide) rfl (fun ls hl => ?_)
  refine lv_aload_n hx hb dL_law_2130 rfl (lv_at hl 4 rfl) ?_
  replace h := b2_o h
  obtain ⟨x15, t17, e16, h⟩ := h
  refine l_callT 0 (As := []) (rest := []) (v := (some (.int x15))) (T' := t17) (st1 := [.int x15]) hx hb hml hown hts hK hR hS hRc hRs (mX5_thrown e16) (lw_V q2534 q2535 q2536 q137 q2537) (by decide +kernel) (Nat.le_of_ble_eq_true rfl) (Nat.le_of_ble_eq_true rfl) rfl hl.1 (Nat.le_of_ble_eq_true rfl) dL_law_2131 rfl rfl (fun H locs hR hS => ?_)
  refine lv_iload hx hb dL_law_2134 (lv_at hl 1 rfl) ?_
  refine lv_icmp_eq (tgt := 2141) hx hb dL_law_2136 (by decide) (fun c18 => ?_) (fun c18 => ?_)
  · replace h := it_o c18 h
    exact bL_law_2141 (w := (t17, w7)) B hE hl0 h k23 kR hR hS (lv_sub hl [2, 3, 4, 5, 6, 1, 0] rfl)
  · replace h := if_o c18 h
    refine lv_iconst (v := 0) hx hb dL_law_2139 (by decide) ?_
    have eR := kR _ (Option.some.inj h).symm
    subst eR
    exact hE _ ls H locs w7 _ dL_law_2140 hS
noncomputable def fL_law_b2214 (L : Nat) (xs : Nat → Int32) (v1 : Nat) (v3 : Nat) (v4 : Int32) (w : LW) : Option (Sum (Int32 × LW) (Int32)) :=
  fL_law_b3008 L xs v1 v3 v4 w
theorem bL_law_2214 {p : Program} {l : Launch} {e : Env} {s : State} {m : MethodId} {args : Array Value} {below : List Frame} {meth : Method} {c : Code} {H : Heap} {locs : List Loc} {ls : Array Slot} {G : gE} {w0 : WH} {o b L : Nat} {xs : Nat → Int32} {Q : Int32 → State → Prop} (B : lB G b L xs w0 p s m args meth c) (hE : lE l G w0 p e s m args below meth c Q) (hl0 : l.stackTraces = false) {v1 : Nat} {v3 : Nat} {v4 : Int32} {w : LW} {x : Sum (Int32 × LW) (Int32)} {r : Int32} (h : fL_law_b2214 L xs v1 v3 v4 w = some x)  (k23 : ∀ (v4' : Int32) (w' : LW), x = (.inl (v4', w')) → ∀ (H : Heap) (locs : List Loc) (ls : Array Slot), RepL G o w' H → Cu (gFr G) s w0 w'.2 H locs → lv_has ls 8 [(0, .ref b), (1, .ref v1), (2, .ref o), (3, .ref v3), (4, .int v4')] → W p l e room_1 s m args below meth c H locs (wC w0 - wC w'.2) (wS w0 - wS w'.2) (Q r) (F0 m 23 ls [])) (kR : ∀ q, x = (.inr q) → q = r) (hR : RepL G o w H) (hS : Cu (gFr G) s w0 w.2 H locs) (hl : lv_has ls 8 [(0, .ref b), (1, .ref v1), (2, .ref o), (3, .ref v3), (4, .int v4)]) : W p l e room_1 s m args below meth c H locs (wC w0 - wC w.2) (wS w0 - wS w.2) (Q r) (F0 m 2214 ls []) := by
  have B0 := B
  obtain ⟨⟨hx, hb, hml, hown, hts, hr, hlk, hK⟩, hX, hbl, hbA, hRc, hRs⟩ := B0
  unfold fL_law_b2214 at h
  refine lv_goto (tgt := 3008) hx hb dL_law_2214 (by decide) ?_
  exact bL_law_3008 (w := w) B hE hl0 h k23 kR hR hS (lv_sub hl [0, 1, 2, 3, 4] rfl)
noncomputable def fL_law_b2161 (L : Nat) (xs : Nat → Int32) (v1 : Nat) (v3 : Nat) (v4 : Int32) (w : LW) : Option (Sum (Int32 × LW) (Int32)) :=
  (sld L xs (v4 + 1)).bind fun x1 =>
  b2_ (fX0_captives v1 x1 v3 w.2) fun x3 w5 =>
  (sld L xs (v4 + 1)).bind fun x6 =>
  b2_ (fX5_captives x6 w.1) fun x8 t10 =>
  b2_ (fX5_thrown  t10) fun x11 t13 =>
  if x11 = x3 then (
    if x3 = 0 then (
      (ldJ w5 v3 0).bind fun x16 =>
      if lg_cmp x16 (x8.toInt64) = 0 then (
        fL_law_b2214 L xs v1 v3 v4 (t13, w5)
      ) else (
        some (.inr 0)
      )
    ) else (
      fL_law_b2214 L xs v1 v3 v4 (t13, w5)
    )
  ) else (
    some (.inr 0)
  )
theorem bL_law_2161 {p : Program} {l : Launch} {e : Env} {s : State} {m : MethodId} {args : Array Value} {below : List Frame} {meth : Method} {c : Code} {H : Heap} {locs : List Loc} {ls : Array Slot} {G : gE} {w0 : WH} {o b L : Nat} {xs : Nat → Int32} {Q : Int32 → State → Prop} (B : lB G b L xs w0 p s m args meth c) (hE : lE l G w0 p e s m args below meth c Q) (hl0 : l.stackTraces = false) {v1 : Nat} {v3 : Nat} {v4 : Int32} {w : LW} {x : Sum (Int32 × LW) (Int32)} {r : Int32} (h : fL_law_b2161 L xs v1 v3 v4 w = some x)  (k23 : ∀ (v4' : Int32) (w' : LW), x = (.inl (v4', w')) → ∀ (H : Heap) (locs : List Loc) (ls : Array Slot), RepL G o w' H → Cu (gFr G) s w0 w'.2 H locs → lv_has ls 8 [(0, .ref b), (1, .ref v1), (2, .ref o), (3, .ref v3), (4, .int v4')] → W p l e room_1 s m args below meth c H locs (wC w0 - wC w'.2) (wS w0 - wS w'.2) (Q r) (F0 m 23 ls [])) (kR : ∀ q, x = (.inr q) → q = r) (hR : RepL G o w H) (hS : Cu (gFr G) s w0 w.2 H locs) (hl : lv_has ls 8 [(0, .ref b), (1, .ref v1), (2, .ref o), (3, .ref v3), (4, .int v4)]) : W p l e room_1 s m args below meth c H locs (wC w0 - wC w.2) (wS w0 - wS w.2) (Q r) (F0 m 2161 ls []) := by
  have B0 := B
  obtain ⟨⟨hx, hb, hml, hown, hts, hr, hlk, hK⟩, hX, hbl, hbA, hRc, hRs⟩ := B0
  unfold fL_law_b2161 at h
  refine lv_aload_n hx hb dL_law_2161 rfl (lv_at hl 1 rfl) ?_
  refine lv_aload_n hx hb dL_law_2162 rfl (lv_at hl 0 rfl) ?_
  refine lv_iload hx hb dL_law_2163 (lv_at hl 4 rfl) ?_
  refine lv_iconst (v := 1) hx hb dL_law_2165 (by decide) ?_
  refine lv_iadd hx hb dL_law_2166 ?_
  replace h := bo_o h
  obtain ⟨x1, e2, h⟩ := h
  refine l_sld (w := w) hx hb hX hbl hbA hS e2 dL_law_2167 ?_
  refine lv_aload_n hx hb dL_law_2168 rfl (lv_at hl 3 rfl) ?_
  replace h := b2_o h
  obtain ⟨x3, w5, e4, h⟩ := h
  refine l_callSW 3 (As := [.ref v1, .int x1, .ref v3]) (rest := []) (v := (some (.int x3))) (w' := w5) (st1 := [.int x3]) hx hb hml hown hts hK hR hS hRc hRs (mX0_captives hl0 e4) (lw_SW q2227 q2228 q111 q2229) (by decide +kernel) (Nat.le_of_ble_eq_true rfl) (Nat.le_of_ble_eq_true rfl) rfl hl.1 (Nat.le_of_ble_eq_true rfl) dL_law_2169 rfl rfl (fun H locs hR hS => ?_)
  refine lv_istore (lv' := [(5, .int x3), (0, .ref b), (1, .ref v1), (2, .ref o), (3, .ref v3), (4, .int v4)]) hx hb dL_law_2172 hl (by decide) rfl (fun ls hl => ?_)
  refine lv_aload_n hx hb dL_law_2174 rfl (lv_at hl 3 rfl) ?_
  refine lv_aload_n hx hb dL_law_2175 rfl (lv_at hl 1 rfl) ?_
  refine lv_iload hx hb dL_law_2176 (lv_at hl 5 rfl) ?_
  refine lv_iconst (v := 1) hx hb dL_law_2178 (by decide) ?_
  refine lv_iadd hx hb dL_law_2179 ?_
  replace h := bo_o h
  obtain ⟨x6, e7, h⟩ := h
  refine l_sld (w := (w.1, w5)) hx hb hX hbl hbA hS e7 dL_law_2180 ?_
  replace h := b2_o h
  obtain ⟨x8, t10, e9, h⟩ := h
  refine l_callT 1 (As := [.int x6]) (rest := []) (v := (some (.int x8))) (T' := t10) (st1 := [.int x8]) hx hb hml hown hts hK hR hS hRc hRs (mX5_captives e9) (lw_V q2972 q2973 q2974 q137 q2975) (by decide +kernel) (Nat.le_of_ble_eq_true rfl) (Nat.le_of_ble_eq_true rfl) rfl hl.1 (Nat.le_of_ble_eq_true rfl) dL_law_2181 rfl rfl (fun H locs hR hS => ?_)
  refine lv_istore (lv' := [(6, .int x8), (5, .int x3), (0, .ref b), (1, .ref v1), (2, .ref o), (3, .ref v3), (4, .int v4)]) hx hb dL_law_2184 hl (by decide) rfl (fun ls hl => ?_)
  refine lv_aload_n hx hb dL_law_2186 rfl (lv_at hl 4 rfl) ?_
  replace h := b2_o h
  obtain ⟨x11, t13, e12, h⟩ := h
  refine l_callT 0 (As := []) (rest := []) (v := (some (.int x11))) (T' := t13) (st1 := [.int x11]) hx hb hml hown hts hK hR hS hRc hRs (mX5_thrown e12) (lw_V q2534 q2535 q2536 q137 q2537) (by decide +kernel) (Nat.le_of_ble_eq_true rfl) (Nat.le_of_ble_eq_true rfl) rfl hl.1 (Nat.le_of_ble_eq_true rfl) dL_law_2187 rfl rfl (fun H locs hR hS => ?_)
  refine lv_iload hx hb dL_law_2190 (lv_at hl 1 rfl) ?_
  refine lv_icmp_eq (tgt := 2197) hx hb dL_law_2192 (by decide) (fun c14 => ?_) (fun c14 => ?_)
  · replace h := it_o c14 h
    refine lv_iload hx hb dL_law_2197 (lv_at hl 1 rfl) ?_
    refine lv_if_ne (tgt := 2214) hx hb dL_law_2199 (by decide) (fun c15 => ?_) (fun c15 => ?_)
    · replace h := if_o c15 h
      exact bL_law_2214 (w := (t13, w5)) B hE hl0 h k23 kR hR hS (lv_sub hl [2, 3, 4, 5, 6] rfl)
    · replace h := it_o c15 h
      refine lv_aload_n hx hb dL_law_2202 rfl (lv_at hl 5 rfl) ?_
      refine lv_iconst (v := 0) hx hb dL_law_2203 (by decide) ?_
      replace h := bo_o h
      obtain ⟨x16, e17, h⟩ := h
      refine h_lald hx hb hK hR.2.weak e17 dL_law_2204 ?_
      refine lv_iload hx hb dL_law_2205 (lv_at hl 0 rfl) ?_
      refine lv_i2l hx hb dL_law_2207 rfl ?_
      refine W.lcmp hx hb dL_law_2208 ?_
      refine lv_if_eq (tgt := 2214) hx hb dL_law_2209 (by decide) (fun c18 => ?_) (fun c18 => ?_)
      · replace h := it_o c18 h
        exact bL_law_2214 (w := (t13, w5)) B hE hl0 h k23 kR hR hS (lv_sub hl [2, 3, 4, 5, 6] rfl)
      · replace h := if_o c18 h
        refine lv_iconst (v := 0) hx hb dL_law_2212 (by decide) ?_
        have eR := kR _ (Option.some.inj h).symm
        subst eR
        exact hE _ ls H locs w5 _ dL_law_2213 hS
  · replace h := if_o c14 h
    refine lv_iconst (v := 0) hx hb dL_law_2195 (by decide) ?_
    have eR := kR _ (Option.some.inj h).symm
    subst eR
    exact hE _ ls H locs w5 _ dL_law_2196 hS
noncomputable def fL_law_b2270 (L : Nat) (xs : Nat → Int32) (v1 : Nat) (v3 : Nat) (v4 : Int32) (w : LW) : Option (Sum (Int32 × LW) (Int32)) :=
  fL_law_b3008 L xs v1 v3 v4 w
theorem bL_law_2270 {p : Program} {l : Launch} {e : Env} {s : State} {m : MethodId} {args : Array Value} {below : List Frame} {meth : Method} {c : Code} {H : Heap} {locs : List Loc} {ls : Array Slot} {G : gE} {w0 : WH} {o b L : Nat} {xs : Nat → Int32} {Q : Int32 → State → Prop} (B : lB G b L xs w0 p s m args meth c) (hE : lE l G w0 p e s m args below meth c Q) (hl0 : l.stackTraces = false) {v1 : Nat} {v3 : Nat} {v4 : Int32} {w : LW} {x : Sum (Int32 × LW) (Int32)} {r : Int32} (h : fL_law_b2270 L xs v1 v3 v4 w = some x)  (k23 : ∀ (v4' : Int32) (w' : LW), x = (.inl (v4', w')) → ∀ (H : Heap) (locs : List Loc) (ls : Array Slot), RepL G o w' H → Cu (gFr G) s w0 w'.2 H locs → lv_has ls 8 [(0, .ref b), (1, .ref v1), (2, .ref o), (3, .ref v3), (4, .int v4')] → W p l e room_1 s m args below meth c H locs (wC w0 - wC w'.2) (wS w0 - wS w'.2) (Q r) (F0 m 23 ls [])) (kR : ∀ q, x = (.inr q) → q = r) (hR : RepL G o w H) (hS : Cu (gFr G) s w0 w.2 H locs) (hl : lv_has ls 8 [(0, .ref b), (1, .ref v1), (2, .ref o), (3, .ref v3), (4, .int v4)]) : W p l e room_1 s m args below meth c H locs (wC w0 - wC w.2) (wS w0 - wS w.2) (Q r) (F0 m 2270 ls []) := by
  have B0 := B
  obtain ⟨⟨hx, hb, hml, hown, hts, hr, hlk, hK⟩, hX, hbl, hbA, hRc, hRs⟩ := B0
  unfold fL_law_b2270 at h
  refine lv_goto (tgt := 3008) hx hb dL_law_2270 (by decide) ?_
  exact bL_law_3008 (w := w) B hE hl0 h k23 kR hR hS (lv_sub hl [0, 1, 2, 3, 4] rfl)
noncomputable def fL_law_b2217 (L : Nat) (xs : Nat → Int32) (v1 : Nat) (v3 : Nat) (v4 : Int32) (w : LW) : Option (Sum (Int32 × LW) (Int32)) :=
  (sld L xs (v4 + 1)).bind fun x1 =>
  b2_ (fX0_reachable v1 x1 v3 w.2) fun x3 w5 =>
  (sld L xs (v4 + 1)).bind fun x6 =>
  b2_ (fX5_reachable x6 w.1) fun x8 t10 =>
  b2_ (fX5_thrown  t10) fun x11 t13 =>
  if x11 = x3 then (
    if x3 = 0 then (
      (ldJ w5 v3 0).bind fun x16 =>
      if lg_cmp x16 (x8.toInt64) = 0 then (
        fL_law_b2270 L xs v1 v3 v4 (t13, w5)
      ) else (
        some (.inr 0)
      )
    ) else (
      fL_law_b2270 L xs v1 v3 v4 (t13, w5)
    )
  ) else (
    some (.inr 0)
  )
theorem bL_law_2217 {p : Program} {l : Launch} {e : Env} {s : State} {m : MethodId} {args : Array Value} {below : List Frame} {meth : Method} {c : Code} {H : Heap} {locs : List Loc} {ls : Array Slot} {G : gE} {w0 : WH} {o b L : Nat} {xs : Nat → Int32} {Q : Int32 → State → Prop} (B : lB G b L xs w0 p s m args meth c) (hE : lE l G w0 p e s m args below meth c Q) (hl0 : l.stackTraces = false) {v1 : Nat} {v3 : Nat} {v4 : Int32} {w : LW} {x : Sum (Int32 × LW) (Int32)} {r : Int32} (h : fL_law_b2217 L xs v1 v3 v4 w = some x)  (k23 : ∀ (v4' : Int32) (w' : LW), x = (.inl (v4', w')) → ∀ (H : Heap) (locs : List Loc) (ls : Array Slot), RepL G o w' H → Cu (gFr G) s w0 w'.2 H locs → lv_has ls 8 [(0, .ref b), (1, .ref v1), (2, .ref o), (3, .ref v3), (4, .int v4')] → W p l e room_1 s m args below meth c H locs (wC w0 - wC w'.2) (wS w0 - wS w'.2) (Q r) (F0 m 23 ls [])) (kR : ∀ q, x = (.inr q) → q = r) (hR : RepL G o w H) (hS : Cu (gFr G) s w0 w.2 H locs) (hl : lv_has ls 8 [(0, .ref b), (1, .ref v1), (2, .ref o), (3, .ref v3), (4, .int v4)]) : W p l e room_1 s m args below meth c H locs (wC w0 - wC w.2) (wS w0 - wS w.2) (Q r) (F0 m 2217 ls []) := by
  have B0 := B
  obtain ⟨⟨hx, hb, hml, hown, hts, hr, hlk, hK⟩, hX, hbl, hbA, hRc, hRs⟩ := B0
  unfold fL_law_b2217 at h
  refine lv_aload_n hx hb dL_law_2217 rfl (lv_at hl 1 rfl) ?_
  refine lv_aload_n hx hb dL_law_2218 rfl (lv_at hl 0 rfl) ?_
  refine lv_iload hx hb dL_law_2219 (lv_at hl 4 rfl) ?_
  refine lv_iconst (v := 1) hx hb dL_law_2221 (by decide) ?_
  refine lv_iadd hx hb dL_law_2222 ?_
  replace h := bo_o h
  obtain ⟨x1, e2, h⟩ := h
  refine l_sld (w := w) hx hb hX hbl hbA hS e2 dL_law_2223 ?_
  refine lv_aload_n hx hb dL_law_2224 rfl (lv_at hl 3 rfl) ?_
  replace h := b2_o h
  obtain ⟨x3, w5, e4, h⟩ := h
  refine l_callSW 3 (As := [.ref v1, .int x1, .ref v3]) (rest := []) (v := (some (.int x3))) (w' := w5) (st1 := [.int x3]) hx hb hml hown hts hK hR hS hRc hRs (mX0_reachable hl0 e4) (lw_SW q2234 q2235 q111 q2236) (by decide +kernel) (Nat.le_of_ble_eq_true rfl) (Nat.le_of_ble_eq_true rfl) rfl hl.1 (Nat.le_of_ble_eq_true rfl) dL_law_2225 rfl rfl (fun H locs hR hS => ?_)
  refine lv_istore (lv' := [(5, .int x3), (0, .ref b), (1, .ref v1), (2, .ref o), (3, .ref v3), (4, .int v4)]) hx hb dL_law_2228 hl (by decide) rfl (fun ls hl => ?_)
  refine lv_aload_n hx hb dL_law_2230 rfl (lv_at hl 3 rfl) ?_
  refine lv_aload_n hx hb dL_law_2231 rfl (lv_at hl 1 rfl) ?_
  refine lv_iload hx hb dL_law_2232 (lv_at hl 5 rfl) ?_
  refine lv_iconst (v := 1) hx hb dL_law_2234 (by decide) ?_
  refine lv_iadd hx hb dL_law_2235 ?_
  replace h := bo_o h
  obtain ⟨x6, e7, h⟩ := h
  refine l_sld (w := (w.1, w5)) hx hb hX hbl hbA hS e7 dL_law_2236 ?_
  replace h := b2_o h
  obtain ⟨x8, t10, e9, h⟩ := h
  refine l_callT 1 (As := [.int x6]) (rest := []) (v := (some (.int x8))) (T' := t10) (st1 := [.int x8]) hx hb hml hown hts hK hR hS hRc hRs (mX5_reachable e9) (lw_V q2980 q2981 q2982 q137 q2983) (by decide +kernel) (Nat.le_of_ble_eq_true rfl) (Nat.le_of_ble_eq_true rfl) rfl hl.1 (Nat.le_of_ble_eq_true rfl) dL_law_2237 rfl rfl (fun H locs hR hS => ?_)
  refine lv_istore (lv' := [(6, .int x8), (5, .int x3), (0, .ref b), (1, .ref v1), (2, .ref o), (3, .ref v3), (4, .int v4)]) hx hb dL_law_2240 hl (by decide) rfl (fun ls hl => ?_)
  refine lv_aload_n hx hb dL_law_2242 rfl (lv_at hl 4 rfl) ?_
  replace h := b2_o h
  obtain ⟨x11, t13, e12, h⟩ := h
  refine l_callT 0 (As := []) (rest := []) (v := (some (.int x11))) (T' := t13) (st1 := [.int x11]) hx hb hml hown hts hK hR hS hRc hRs (mX5_thrown e12) (lw_V q2534 q2535 q2536 q137 q2537) (by decide +kernel) (Nat.le_of_ble_eq_true rfl) (Nat.le_of_ble_eq_true rfl) rfl hl.1 (Nat.le_of_ble_eq_true rfl) dL_law_2243 rfl rfl (fun H locs hR hS => ?_)
  refine lv_iload hx hb dL_law_2246 (lv_at hl 1 rfl) ?_
  refine lv_icmp_eq (tgt := 2253) hx hb dL_law_2248 (by decide) (fun c14 => ?_) (fun c14 => ?_)
  · replace h := it_o c14 h
    refine lv_iload hx hb dL_law_2253 (lv_at hl 1 rfl) ?_
    refine lv_if_ne (tgt := 2270) hx hb dL_law_2255 (by decide) (fun c15 => ?_) (fun c15 => ?_)
    · replace h := if_o c15 h
      exact bL_law_2270 (w := (t13, w5)) B hE hl0 h k23 kR hR hS (lv_sub hl [2, 3, 4, 5, 6] rfl)
    · replace h := it_o c15 h
      refine lv_aload_n hx hb dL_law_2258 rfl (lv_at hl 5 rfl) ?_
      refine lv_iconst (v := 0) hx hb dL_law_2259 (by decide) ?_
      replace h := bo_o h
      obtain ⟨x16, e17, h⟩ := h
      refine h_lald hx hb hK hR.2.weak e17 dL_law_2260 ?_
      refine lv_iload hx hb dL_law_2261 (lv_at hl 0 rfl) ?_
      refine lv_i2l hx hb dL_law_2263 rfl ?_
      refine W.lcmp hx hb dL_law_2264 ?_
      refine lv_if_eq (tgt := 2270) hx hb dL_law_2265 (by decide) (fun c18 => ?_) (fun c18 => ?_)
      · replace h := it_o c18 h
        exact bL_law_2270 (w := (t13, w5)) B hE hl0 h k23 kR hR hS (lv_sub hl [2, 3, 4, 5, 6] rfl)
      · replace h := if_o c18 h
        refine lv_iconst (v := 0) hx hb dL_law_2268 (by decide) ?_
        have eR := kR _ (Option.some.inj h).symm
        subst eR
        exact hE _ ls H locs w5 _ dL_law_2269 hS
  · replace h := if_o c14 h
    refine lv_iconst (v := 0) hx hb dL_law_2251 (by decide) ?_
    have eR := kR _ (Option.some.inj h).symm
    subst eR
    exact hE _ ls H locs w5 _ dL_law_2252 hS
noncomputable def fL_law_b2326 (L : Nat) (xs : Nat → Int32) (v1 : Nat) (v3 : Nat) (v4 : Int32) (w : LW) : Option (Sum (Int32 × LW) (Int32)) :=
  fL_law_b3008 L xs v1 v3 v4 w
theorem bL_law_2326 {p : Program} {l : Launch} {e : Env} {s : State} {m : MethodId} {args : Array Value} {below : List Frame} {meth : Method} {c : Code} {H : Heap} {locs : List Loc} {ls : Array Slot} {G : gE} {w0 : WH} {o b L : Nat} {xs : Nat → Int32} {Q : Int32 → State → Prop} (B : lB G b L xs w0 p s m args meth c) (hE : lE l G w0 p e s m args below meth c Q) (hl0 : l.stackTraces = false) {v1 : Nat} {v3 : Nat} {v4 : Int32} {w : LW} {x : Sum (Int32 × LW) (Int32)} {r : Int32} (h : fL_law_b2326 L xs v1 v3 v4 w = some x)  (k23 : ∀ (v4' : Int32) (w' : LW), x = (.inl (v4', w')) → ∀ (H : Heap) (locs : List Loc) (ls : Array Slot), RepL G o w' H → Cu (gFr G) s w0 w'.2 H locs → lv_has ls 8 [(0, .ref b), (1, .ref v1), (2, .ref o), (3, .ref v3), (4, .int v4')] → W p l e room_1 s m args below meth c H locs (wC w0 - wC w'.2) (wS w0 - wS w'.2) (Q r) (F0 m 23 ls [])) (kR : ∀ q, x = (.inr q) → q = r) (hR : RepL G o w H) (hS : Cu (gFr G) s w0 w.2 H locs) (hl : lv_has ls 8 [(0, .ref b), (1, .ref v1), (2, .ref o), (3, .ref v3), (4, .int v4)]) : W p l e room_1 s m args below meth c H locs (wC w0 - wC w.2) (wS w0 - wS w.2) (Q r) (F0 m 2326 ls []) := by
  have B0 := B
  obtain ⟨⟨hx, hb, hml, hown, hts, hr, hlk, hK⟩, hX, hbl, hbA, hRc, hRs⟩ := B0
  unfold fL_law_b2326 at h
  refine lv_goto (tgt := 3008) hx hb dL_law_2326 (by decide) ?_
  exact bL_law_3008 (w := w) B hE hl0 h k23 kR hR hS (lv_sub hl [0, 1, 2, 3, 4] rfl)
noncomputable def fL_law_b2273 (L : Nat) (xs : Nat → Int32) (v1 : Nat) (v3 : Nat) (v4 : Int32) (w : LW) : Option (Sum (Int32 × LW) (Int32)) :=
  (sld L xs (v4 + 1)).bind fun x1 =>
  b2_ (fX0_judge v1 x1 v3 w.2) fun x3 w5 =>
  (sld L xs (v4 + 1)).bind fun x6 =>
  b2_ (fX5_judge x6 w.1) fun x8 t10 =>
  b2_ (fX5_thrown  t10) fun x11 t13 =>
  if x11 = x3 then (
    if x3 = 0 then (
      (ldJ w5 v3 0).bind fun x16 =>
      if lg_cmp x16 (x8.toInt64) = 0 then (
        fL_law_b2326 L xs v1 v3 v4 (t13, w5)
      ) else (
        some (.inr 0)
      )
    ) else (
      fL_law_b2326 L xs v1 v3 v4 (t13, w5)
    )
  ) else (
    some (.inr 0)
  )
theorem bL_law_2273 {p : Program} {l : Launch} {e : Env} {s : State} {m : MethodId} {args : Array Value} {below : List Frame} {meth : Method} {c : Code} {H : Heap} {locs : List Loc} {ls : Array Slot} {G : gE} {w0 : WH} {o b L : Nat} {xs : Nat → Int32} {Q : Int32 → State → Prop} (B : lB G b L xs w0 p s m args meth c) (hE : lE l G w0 p e s m args below meth c Q) (hl0 : l.stackTraces = false) {v1 : Nat} {v3 : Nat} {v4 : Int32} {w : LW} {x : Sum (Int32 × LW) (Int32)} {r : Int32} (h : fL_law_b2273 L xs v1 v3 v4 w = some x)  (k23 : ∀ (v4' : Int32) (w' : LW), x = (.inl (v4', w')) → ∀ (H : Heap) (locs : List Loc) (ls : Array Slot), RepL G o w' H → Cu (gFr G) s w0 w'.2 H locs → lv_has ls 8 [(0, .ref b), (1, .ref v1), (2, .ref o), (3, .ref v3), (4, .int v4')] → W p l e room_1 s m args below meth c H locs (wC w0 - wC w'.2) (wS w0 - wS w'.2) (Q r) (F0 m 23 ls [])) (kR : ∀ q, x = (.inr q) → q = r) (hR : RepL G o w H) (hS : Cu (gFr G) s w0 w.2 H locs) (hl : lv_has ls 8 [(0, .ref b), (1, .ref v1), (2, .ref o), (3, .ref v3), (4, .int v4)]) : W p l e room_1 s m args below meth c H locs (wC w0 - wC w.2) (wS w0 - wS w.2) (Q r) (F0 m 2273 ls []) := by
  have B0 := B
  obtain ⟨⟨hx, hb, hml, hown, hts, hr, hlk, hK⟩, hX, hbl, hbA, hRc, hRs⟩ := B0
  unfold fL_law_b2273 at h
  refine lv_aload_n hx hb dL_law_2273 rfl (lv_at hl 1 rfl) ?_
  refine lv_aload_n hx hb dL_law_2274 rfl (lv_at hl 0 rfl) ?_
  refine lv_iload hx hb dL_law_2275 (lv_at hl 4 rfl) ?_
  refine lv_iconst (v := 1) hx hb dL_law_2277 (by decide) ?_
  refine lv_iadd hx hb dL_law_2278 ?_
  replace h := bo_o h
  obtain ⟨x1, e2, h⟩ := h
  refine l_sld (w := w) hx hb hX hbl hbA hS e2 dL_law_2279 ?_
  refine lv_aload_n hx hb dL_law_2280 rfl (lv_at hl 3 rfl) ?_
  replace h := b2_o h
  obtain ⟨x3, w5, e4, h⟩ := h
  refine l_callSW 3 (As := [.ref v1, .int x1, .ref v3]) (rest := []) (v := (some (.int x3))) (w' := w5) (st1 := [.int x3]) hx hb hml hown hts hK hR hS hRc hRs (mX0_judge hl0 e4) (lw_SW q2317 q2318 q111 q2319) (by decide +kernel) (Nat.le_of_ble_eq_true rfl) (Nat.le_of_ble_eq_true rfl) rfl hl.1 (Nat.le_of_ble_eq_true rfl) dL_law_2281 rfl rfl (fun H locs hR hS => ?_)
  refine lv_istore (lv' := [(5, .int x3), (0, .ref b), (1, .ref v1), (2, .ref o), (3, .ref v3), (4, .int v4)]) hx hb dL_law_2284 hl (by decide) rfl (fun ls hl => ?_)
  refine lv_aload_n hx hb dL_law_2286 rfl (lv_at hl 3 rfl) ?_
  refine lv_aload_n hx hb dL_law_2287 rfl (lv_at hl 1 rfl) ?_
  refine lv_iload hx hb dL_law_2288 (lv_at hl 5 rfl) ?_
  refine lv_iconst (v := 1) hx hb dL_law_2290 (by decide) ?_
  refine lv_iadd hx hb dL_law_2291 ?_
  replace h := bo_o h
  obtain ⟨x6, e7, h⟩ := h
  refine l_sld (w := (w.1, w5)) hx hb hX hbl hbA hS e7 dL_law_2292 ?_
  replace h := b2_o h
  obtain ⟨x8, t10, e9, h⟩ := h
  refine l_callT 1 (As := [.int x6]) (rest := []) (v := (some (.int x8))) (T' := t10) (st1 := [.int x8]) hx hb hml hown hts hK hR hS hRc hRs (mX5_judge e9) (lw_V q2984 q2985 q2986 q137 q2987) (by decide +kernel) (Nat.le_of_ble_eq_true rfl) (Nat.le_of_ble_eq_true rfl) rfl hl.1 (Nat.le_of_ble_eq_true rfl) dL_law_2293 rfl rfl (fun H locs hR hS => ?_)
  refine lv_istore (lv' := [(6, .int x8), (5, .int x3), (0, .ref b), (1, .ref v1), (2, .ref o), (3, .ref v3), (4, .int v4)]) hx hb dL_law_2296 hl (by decide) rfl (fun ls hl => ?_)
  refine lv_aload_n hx hb dL_law_2298 rfl (lv_at hl 4 rfl) ?_
  replace h := b2_o h
  obtain ⟨x11, t13, e12, h⟩ := h
  refine l_callT 0 (As := []) (rest := []) (v := (some (.int x11))) (T' := t13) (st1 := [.int x11]) hx hb hml hown hts hK hR hS hRc hRs (mX5_thrown e12) (lw_V q2534 q2535 q2536 q137 q2537) (by decide +kernel) (Nat.le_of_ble_eq_true rfl) (Nat.le_of_ble_eq_true rfl) rfl hl.1 (Nat.le_of_ble_eq_true rfl) dL_law_2299 rfl rfl (fun H locs hR hS => ?_)
  refine lv_iload hx hb dL_law_2302 (lv_at hl 1 rfl) ?_
  refine lv_icmp_eq (tgt := 2309) hx hb dL_law_2304 (by decide) (fun c14 => ?_) (fun c14 => ?_)
  · replace h := it_o c14 h
    refine lv_iload hx hb dL_law_2309 (lv_at hl 1 rfl) ?_
    refine lv_if_ne (tgt := 2326) hx hb dL_law_2311 (by decide) (fun c15 => ?_) (fun c15 => ?_)
    · replace h := if_o c15 h
      exact bL_law_2326 (w := (t13, w5)) B hE hl0 h k23 kR hR hS (lv_sub hl [2, 3, 4, 5, 6] rfl)
    · replace h := it_o c15 h
      refine lv_aload_n hx hb dL_law_2314 rfl (lv_at hl 5 rfl) ?_
      refine lv_iconst (v := 0) hx hb dL_law_2315 (by decide) ?_
      replace h := bo_o h
      obtain ⟨x16, e17, h⟩ := h
      refine h_lald hx hb hK hR.2.weak e17 dL_law_2316 ?_
      refine lv_iload hx hb dL_law_2317 (lv_at hl 0 rfl) ?_
      refine lv_i2l hx hb dL_law_2319 rfl ?_
      refine W.lcmp hx hb dL_law_2320 ?_
      refine lv_if_eq (tgt := 2326) hx hb dL_law_2321 (by decide) (fun c18 => ?_) (fun c18 => ?_)
      · replace h := it_o c18 h
        exact bL_law_2326 (w := (t13, w5)) B hE hl0 h k23 kR hR hS (lv_sub hl [2, 3, 4, 5, 6] rfl)
      · replace h := if_o c18 h
        refine lv_iconst (v := 0) hx hb dL_law_2324 (by decide) ?_
        have eR := kR _ (Option.some.inj h).symm
        subst eR
        exact hE _ ls H locs w5 _ dL_law_2325 hS
  · replace h := if_o c14 h
    refine lv_iconst (v := 0) hx hb dL_law_2307 (by decide) ?_
    have eR := kR _ (Option.some.inj h).symm
    subst eR
    exact hE _ ls H locs w5 _ dL_law_2308 hS
noncomputable def fL_law_b2382 (L : Nat) (xs : Nat → Int32) (v1 : Nat) (v3 : Nat) (v4 : Int32) (w : LW) : Option (Sum (Int32 × LW) (Int32)) :=
  fL_law_b3008 L xs v1 v3 v4 w
theorem bL_law_2382 {p : Program} {l : Launch} {e : Env} {s : State} {m : MethodId} {args : Array Value} {below : List Frame} {meth : Method} {c : Code} {H : Heap} {locs : List Loc} {ls : Array Slot} {G : gE} {w0 : WH} {o b L : Nat} {xs : Nat → Int32} {Q : Int32 → State → Prop} (B : lB G b L xs w0 p s m args meth c) (hE : lE l G w0 p e s m args below meth c Q) (hl0 : l.stackTraces = false) {v1 : Nat} {v3 : Nat} {v4 : Int32} {w : LW} {x : Sum (Int32 × LW) (Int32)} {r : Int32} (h : fL_law_b2382 L xs v1 v3 v4 w = some x)  (k23 : ∀ (v4' : Int32) (w' : LW), x = (.inl (v4', w')) → ∀ (H : Heap) (locs : List Loc) (ls : Array Slot), RepL G o w' H → Cu (gFr G) s w0 w'.2 H locs → lv_has ls 8 [(0, .ref b), (1, .ref v1), (2, .ref o), (3, .ref v3), (4, .int v4')] → W p l e room_1 s m args below meth c H locs (wC w0 - wC w'.2) (wS w0 - wS w'.2) (Q r) (F0 m 23 ls [])) (kR : ∀ q, x = (.inr q) → q = r) (hR : RepL G o w H) (hS : Cu (gFr G) s w0 w.2 H locs) (hl : lv_has ls 8 [(0, .ref b), (1, .ref v1), (2, .ref o), (3, .ref v3), (4, .int v4)]) : W p l e room_1 s m args below meth c H locs (wC w0 - wC w.2) (wS w0 - wS w.2) (Q r) (F0 m 2382 ls []) := by
  have B0 := B
  obtain ⟨⟨hx, hb, hml, hown, hts, hr, hlk, hK⟩, hX, hbl, hbA, hRc, hRs⟩ := B0
  unfold fL_law_b2382 at h
  refine lv_goto (tgt := 3008) hx hb dL_law_2382 (by decide) ?_
  exact bL_law_3008 (w := w) B hE hl0 h k23 kR hR hS (lv_sub hl [0, 1, 2, 3, 4] rfl)
noncomputable def fL_law_b2329 (L : Nat) (xs : Nat → Int32) (v1 : Nat) (v3 : Nat) (v4 : Int32) (w : LW) : Option (Sum (Int32 × LW) (Int32)) :=
  (sld L xs (v4 + 1)).bind fun x1 =>
  b2_ (fX0_margin v1 x1 v3 w.2) fun x3 w5 =>
  (sld L xs (v4 + 1)).bind fun x6 =>
  b2_ (fX5_margin x6 w.1) fun x8 t10 =>
  b2_ (fX5_thrown  t10) fun x11 t13 =>
  if x11 = x3 then (
    if x3 = 0 then (
      (ldJ w5 v3 0).bind fun x16 =>
      if lg_cmp x16 (x8.toInt64) = 0 then (
        fL_law_b2382 L xs v1 v3 v4 (t13, w5)
      ) else (
        some (.inr 0)
      )
    ) else (
      fL_law_b2382 L xs v1 v3 v4 (t13, w5)
    )
  ) else (
    some (.inr 0)
  )
theorem bL_law_2329 {p : Program} {l : Launch} {e : Env} {s : State} {m : MethodId} {args : Array Value} {below : List Frame} {meth : Method} {c : Code} {H : Heap} {locs : List Loc} {ls : Array Slot} {G : gE} {w0 : WH} {o b L : Nat} {xs : Nat → Int32} {Q : Int32 → State → Prop} (B : lB G b L xs w0 p s m args meth c) (hE : lE l G w0 p e s m args below meth c Q) (hl0 : l.stackTraces = false) {v1 : Nat} {v3 : Nat} {v4 : Int32} {w : LW} {x : Sum (Int32 × LW) (Int32)} {r : Int32} (h : fL_law_b2329 L xs v1 v3 v4 w = some x)  (k23 : ∀ (v4' : Int32) (w' : LW), x = (.inl (v4', w')) → ∀ (H : Heap) (locs : List Loc) (ls : Array Slot), RepL G o w' H → Cu (gFr G) s w0 w'.2 H locs → lv_has ls 8 [(0, .ref b), (1, .ref v1), (2, .ref o), (3, .ref v3), (4, .int v4')] → W p l e room_1 s m args below meth c H locs (wC w0 - wC w'.2) (wS w0 - wS w'.2) (Q r) (F0 m 23 ls [])) (kR : ∀ q, x = (.inr q) → q = r) (hR : RepL G o w H) (hS : Cu (gFr G) s w0 w.2 H locs) (hl : lv_has ls 8 [(0, .ref b), (1, .ref v1), (2, .ref o), (3, .ref v3), (4, .int v4)]) : W p l e room_1 s m args below meth c H locs (wC w0 - wC w.2) (wS w0 - wS w.2) (Q r) (F0 m 2329 ls []) := by
  have B0 := B
  obtain ⟨⟨hx, hb, hml, hown, hts, hr, hlk, hK⟩, hX, hbl, hbA, hRc, hRs⟩ := B0
  unfold fL_law_b2329 at h
  refine lv_aload_n hx hb dL_law_2329 rfl (lv_at hl 1 rfl) ?_
  refine lv_aload_n hx hb dL_law_2330 rfl (lv_at hl 0 rfl) ?_
  refine lv_iload hx hb dL_law_2331 (lv_at hl 4 rfl) ?_
  refine lv_iconst (v := 1) hx hb dL_law_2333 (by decide) ?_
  refine lv_iadd hx hb dL_law_2334 ?_
  replace h := bo_o h
  obtain ⟨x1, e2, h⟩ := h
  refine l_sld (w := w) hx hb hX hbl hbA hS e2 dL_law_2335 ?_
  refine lv_aload_n hx hb dL_law_2336 rfl (lv_at hl 3 rfl) ?_
  replace h := b2_o h
  obtain ⟨x3, w5, e4, h⟩ := h
  refine l_callSW 3 (As := [.ref v1, .int x1, .ref v3]) (rest := []) (v := (some (.int x3))) (w' := w5) (st1 := [.int x3]) hx hb hml hown hts hK hR hS hRc hRs (mX0_margin hl0 e4) (lw_SW q2330 q2331 q111 q2332) (by decide +kernel) (Nat.le_of_ble_eq_true rfl) (Nat.le_of_ble_eq_true rfl) rfl hl.1 (Nat.le_of_ble_eq_true rfl) dL_law_2337 rfl rfl (fun H locs hR hS => ?_)
  refine lv_istore (lv' := [(5, .int x3), (0, .ref b), (1, .ref v1), (2, .ref o), (3, .ref v3), (4, .int v4)]) hx hb dL_law_2340 hl (by decide) rfl (fun ls hl => ?_)
  refine lv_aload_n hx hb dL_law_2342 rfl (lv_at hl 3 rfl) ?_
  refine lv_aload_n hx hb dL_law_2343 rfl (lv_at hl 1 rfl) ?_
  refine lv_iload hx hb dL_law_2344 (lv_at hl 5 rfl) ?_
  refine lv_iconst (v := 1) hx hb dL_law_2346 (by decide) ?_
  refine lv_iadd hx hb dL_law_2347 ?_
  replace h := bo_o h
  obtain ⟨x6, e7, h⟩ := h
  refine l_sld (w := (w.1, w5)) hx hb hX hbl hbA hS e7 dL_law_2348 ?_
  replace h := b2_o h
  obtain ⟨x8, t10, e9, h⟩ := h
  refine l_callT 1 (As := [.int x6]) (rest := []) (v := (some (.int x8))) (T' := t10) (st1 := [.int x8]) hx hb hml hown hts hK hR hS hRc hRs (mX5_margin e9) (lw_V q2992 q2993 q2994 q137 q2995) (by decide +kernel) (Nat.le_of_ble_eq_true rfl) (Nat.le_of_ble_eq_true rfl) rfl hl.1 (Nat.le_of_ble_eq_true rfl) dL_law_2349 rfl rfl (fun H locs hR hS => ?_)
  refine lv_istore (lv' := [(6, .int x8), (5, .int x3), (0, .ref b), (1, .ref v1), (2, .ref o), (3, .ref v3), (4, .int v4)]) hx hb dL_law_2352 hl (by decide) rfl (fun ls hl => ?_)
  refine lv_aload_n hx hb dL_law_2354 rfl (lv_at hl 4 rfl) ?_
  replace h := b2_o h
  obtain ⟨x11, t13, e12, h⟩ := h
  refine l_callT 0 (As := []) (rest := []) (v := (some (.int x11))) (T' := t13) (st1 := [.int x11]) hx hb hml hown hts hK hR hS hRc hRs (mX5_thrown e12) (lw_V q2534 q2535 q2536 q137 q2537) (by decide +kernel) (Nat.le_of_ble_eq_true rfl) (Nat.le_of_ble_eq_true rfl) rfl hl.1 (Nat.le_of_ble_eq_true rfl) dL_law_2355 rfl rfl (fun H locs hR hS => ?_)
  refine lv_iload hx hb dL_law_2358 (lv_at hl 1 rfl) ?_
  refine lv_icmp_eq (tgt := 2365) hx hb dL_law_2360 (by decide) (fun c14 => ?_) (fun c14 => ?_)
  · replace h := it_o c14 h
    refine lv_iload hx hb dL_law_2365 (lv_at hl 1 rfl) ?_
    refine lv_if_ne (tgt := 2382) hx hb dL_law_2367 (by decide) (fun c15 => ?_) (fun c15 => ?_)
    · replace h := if_o c15 h
      exact bL_law_2382 (w := (t13, w5)) B hE hl0 h k23 kR hR hS (lv_sub hl [2, 3, 4, 5, 6] rfl)
    · replace h := it_o c15 h
      refine lv_aload_n hx hb dL_law_2370 rfl (lv_at hl 5 rfl) ?_
      refine lv_iconst (v := 0) hx hb dL_law_2371 (by decide) ?_
      replace h := bo_o h
      obtain ⟨x16, e17, h⟩ := h
      refine h_lald hx hb hK hR.2.weak e17 dL_law_2372 ?_
      refine lv_iload hx hb dL_law_2373 (lv_at hl 0 rfl) ?_
      refine lv_i2l hx hb dL_law_2375 rfl ?_
      refine W.lcmp hx hb dL_law_2376 ?_
      refine lv_if_eq (tgt := 2382) hx hb dL_law_2377 (by decide) (fun c18 => ?_) (fun c18 => ?_)
      · replace h := it_o c18 h
        exact bL_law_2382 (w := (t13, w5)) B hE hl0 h k23 kR hR hS (lv_sub hl [2, 3, 4, 5, 6] rfl)
      · replace h := if_o c18 h
        refine lv_iconst (v := 0) hx hb dL_law_2380 (by decide) ?_
        have eR := kR _ (Option.some.inj h).symm
        subst eR
        exact hE _ ls H locs w5 _ dL_law_2381 hS
  · replace h := if_o c14 h
    refine lv_iconst (v := 0) hx hb dL_law_2363 (by decide) ?_
    have eR := kR _ (Option.some.inj h).symm
    subst eR
    exact hE _ ls H locs w5 _ dL_law_2364 hS
noncomputable def fL_law_b2449 (L : Nat) (xs : Nat → Int32) (v1 : Nat) (v3 : Nat) (v4 : Int32) (w : LW) : Option (Sum (Int32 × LW) (Int32)) :=
  fL_law_b3008 L xs v1 v3 v4 w
theorem bL_law_2449 {p : Program} {l : Launch} {e : Env} {s : State} {m : MethodId} {args : Array Value} {below : List Frame} {meth : Method} {c : Code} {H : Heap} {locs : List Loc} {ls : Array Slot} {G : gE} {w0 : WH} {o b L : Nat} {xs : Nat → Int32} {Q : Int32 → State → Prop} (B : lB G b L xs w0 p s m args meth c) (hE : lE l G w0 p e s m args below meth c Q) (hl0 : l.stackTraces = false) {v1 : Nat} {v3 : Nat} {v4 : Int32} {w : LW} {x : Sum (Int32 × LW) (Int32)} {r : Int32} (h : fL_law_b2449 L xs v1 v3 v4 w = some x)  (k23 : ∀ (v4' : Int32) (w' : LW), x = (.inl (v4', w')) → ∀ (H : Heap) (locs : List Loc) (ls : Array Slot), RepL G o w' H → Cu (gFr G) s w0 w'.2 H locs → lv_has ls 8 [(0, .ref b), (1, .ref v1), (2, .ref o), (3, .ref v3), (4, .int v4')] → W p l e room_1 s m args below meth c H locs (wC w0 - wC w'.2) (wS w0 - wS w'.2) (Q r) (F0 m 23 ls [])) (kR : ∀ q, x = (.inr q) → q = r) (hR : RepL G o w H) (hS : Cu (gFr G) s w0 w.2 H locs) (hl : lv_has ls 8 [(0, .ref b), (1, .ref v1), (2, .ref o), (3, .ref v3), (4, .int v4)]) : W p l e room_1 s m args below meth c H locs (wC w0 - wC w.2) (wS w0 - wS w.2) (Q r) (F0 m 2449 ls []) := by
  have B0 := B
  obtain ⟨⟨hx, hb, hml, hown, hts, hr, hlk, hK⟩, hX, hbl, hbA, hRc, hRs⟩ := B0
  unfold fL_law_b2449 at h
  refine lv_goto (tgt := 3008) hx hb dL_law_2449 (by decide) ?_
  exact bL_law_3008 (w := w) B hE hl0 h k23 kR hR hS (lv_sub hl [0, 1, 2, 3, 4] rfl)
noncomputable def fL_law_b2433 (L : Nat) (xs : Nat → Int32) (v1 : Nat) (v3 : Nat) (v4 : Int32) (v5 : Int32) (v6 : Int64) (w : LW) : Option (Sum (Int32 × LW) (Int32)) :=
  if v5 = 0 then (
    (ldJ w.2 v3 0).bind fun x2 =>
    if lg_cmp x2 v6 = 0 then (
      fL_law_b2449 L xs v1 v3 v4 w
    ) else (
      some (.inr 0)
    )
  ) else (
    fL_law_b2449 L xs v1 v3 v4 w
  )
theorem bL_law_2433 {p : Program} {l : Launch} {e : Env} {s : State} {m : MethodId} {args : Array Value} {below : List Frame} {meth : Method} {c : Code} {H : Heap} {locs : List Loc} {ls : Array Slot} {G : gE} {w0 : WH} {o b L : Nat} {xs : Nat → Int32} {Q : Int32 → State → Prop} (B : lB G b L xs w0 p s m args meth c) (hE : lE l G w0 p e s m args below meth c Q) (hl0 : l.stackTraces = false) {v1 : Nat} {v3 : Nat} {v4 : Int32} {v5 : Int32} {v6 : Int64} {w : LW} {x : Sum (Int32 × LW) (Int32)} {r : Int32} (h : fL_law_b2433 L xs v1 v3 v4 v5 v6 w = some x)  (k23 : ∀ (v4' : Int32) (w' : LW), x = (.inl (v4', w')) → ∀ (H : Heap) (locs : List Loc) (ls : Array Slot), RepL G o w' H → Cu (gFr G) s w0 w'.2 H locs → lv_has ls 8 [(0, .ref b), (1, .ref v1), (2, .ref o), (3, .ref v3), (4, .int v4')] → W p l e room_1 s m args below meth c H locs (wC w0 - wC w'.2) (wS w0 - wS w'.2) (Q r) (F0 m 23 ls [])) (kR : ∀ q, x = (.inr q) → q = r) (hR : RepL G o w H) (hS : Cu (gFr G) s w0 w.2 H locs) (hl : lv_has ls 8 [(0, .ref b), (1, .ref v1), (2, .ref o), (3, .ref v3), (4, .int v4), (5, .int v5), (6, .long v6)]) : W p l e room_1 s m args below meth c H locs (wC w0 - wC w.2) (wS w0 - wS w.2) (Q r) (F0 m 2433 ls []) := by
  have B0 := B
  obtain ⟨⟨hx, hb, hml, hown, hts, hr, hlk, hK⟩, hX, hbl, hbA, hRc, hRs⟩ := B0
  unfold fL_law_b2433 at h
  refine lv_iload hx hb dL_law_2433 (lv_at hl 5 rfl) ?_
  refine lv_if_ne (tgt := 2449) hx hb dL_law_2435 (by decide) (fun c1 => ?_) (fun c1 => ?_)
  · replace h := if_o c1 h
    exact bL_law_2449 (w := w) B hE hl0 h k23 kR hR hS (lv_sub hl [0, 1, 2, 3, 4] rfl)
  · replace h := it_o c1 h
    refine lv_aload_n hx hb dL_law_2438 rfl (lv_at hl 3 rfl) ?_
    refine lv_iconst (v := 0) hx hb dL_law_2439 (by decide) ?_
    replace h := bo_o h
    obtain ⟨x2, e3, h⟩ := h
    refine h_lald hx hb hK hR.2.weak e3 dL_law_2440 ?_
    refine lv_lload hx hb dL_law_2441 (lv_at hl 6 rfl) ?_
    refine W.lcmp hx hb dL_law_2443 ?_
    refine lv_if_eq (tgt := 2449) hx hb dL_law_2444 (by decide) (fun c4 => ?_) (fun c4 => ?_)
    · replace h := it_o c4 h
      exact bL_law_2449 (w := w) B hE hl0 h k23 kR hR hS (lv_sub hl [0, 1, 2, 3, 4] rfl)
    · replace h := if_o c4 h
      refine lv_iconst (v := 0) hx hb dL_law_2447 (by decide) ?_
      have eR := kR _ (Option.some.inj h).symm
      subst eR
      exact hE _ ls H locs w.2 _ dL_law_2448 hS
noncomputable def fL_law_b2385 (L : Nat) (xs : Nat → Int32) (v1 : Nat) (v3 : Nat) (v4 : Int32) (w : LW) : Option (Sum (Int32 × LW) (Int32)) :=
  (sld L xs (v4 + 1)).bind fun x1 =>
  (sld L xs (v4 + 2)).bind fun x3 =>
  b2_ (fX0_revenueWith v1 x1 x3 v3 w.2) fun x5 w7 =>
  (sld L xs (v4 + 1)).bind fun x8 =>
  (sld L xs (v4 + 2)).bind fun x10 =>
  b2_ (fX5_revenueWith x8 x10 w.1) fun x12 t14 =>
  b2_ (fX5_thrown  t14) fun x15 t17 =>
  if x15 = x5 then (
    fL_law_b2433 L xs v1 v3 v4 x5 x12 (t17, w7)
  ) else (
    some (.inr 0)
  )
theorem bL_law_2385 {p : Program} {l : Launch} {e : Env} {s : State} {m : MethodId} {args : Array Value} {below : List Frame} {meth : Method} {c : Code} {H : Heap} {locs : List Loc} {ls : Array Slot} {G : gE} {w0 : WH} {o b L : Nat} {xs : Nat → Int32} {Q : Int32 → State → Prop} (B : lB G b L xs w0 p s m args meth c) (hE : lE l G w0 p e s m args below meth c Q) (hl0 : l.stackTraces = false) {v1 : Nat} {v3 : Nat} {v4 : Int32} {w : LW} {x : Sum (Int32 × LW) (Int32)} {r : Int32} (h : fL_law_b2385 L xs v1 v3 v4 w = some x)  (k23 : ∀ (v4' : Int32) (w' : LW), x = (.inl (v4', w')) → ∀ (H : Heap) (locs : List Loc) (ls : Array Slot), RepL G o w' H → Cu (gFr G) s w0 w'.2 H locs → lv_has ls 8 [(0, .ref b), (1, .ref v1), (2, .ref o), (3, .ref v3), (4, .int v4')] → W p l e room_1 s m args below meth c H locs (wC w0 - wC w'.2) (wS w0 - wS w'.2) (Q r) (F0 m 23 ls [])) (kR : ∀ q, x = (.inr q) → q = r) (hR : RepL G o w H) (hS : Cu (gFr G) s w0 w.2 H locs) (hl : lv_has ls 8 [(0, .ref b), (1, .ref v1), (2, .ref o), (3, .ref v3), (4, .int v4)]) : W p l e room_1 s m args below meth c H locs (wC w0 - wC w.2) (wS w0 - wS w.2) (Q r) (F0 m 2385 ls []) := by
  have B0 := B
  obtain ⟨⟨hx, hb, hml, hown, hts, hr, hlk, hK⟩, hX, hbl, hbA, hRc, hRs⟩ := B0
  unfold fL_law_b2385 at h
  refine lv_aload_n hx hb dL_law_2385 rfl (lv_at hl 1 rfl) ?_
  refine lv_aload_n hx hb dL_law_2386 rfl (lv_at hl 0 rfl) ?_
  refine lv_iload hx hb dL_law_2387 (lv_at hl 4 rfl) ?_
  refine lv_iconst (v := 1) hx hb dL_law_2389 (by decide) ?_
  refine lv_iadd hx hb dL_law_2390 ?_
  replace h := bo_o h
  obtain ⟨x1, e2, h⟩ := h
  refine l_sld (w := w) hx hb hX hbl hbA hS e2 dL_law_2391 ?_
  refine lv_aload_n hx hb dL_law_2392 rfl (lv_at hl 0 rfl) ?_
  refine lv_iload hx hb dL_law_2393 (lv_at hl 4 rfl) ?_
  refine lv_iconst (v := 2) hx hb dL_law_2395 (by decide) ?_
  refine lv_iadd hx hb dL_law_2396 ?_
  replace h := bo_o h
  obtain ⟨x3, e4, h⟩ := h
  refine l_sld (w := w) hx hb hX hbl hbA hS e4 dL_law_2397 ?_
  refine lv_aload_n hx hb dL_law_2398 rfl (lv_at hl 3 rfl) ?_
  replace h := b2_o h
  obtain ⟨x5, w7, e6, h⟩ := h
  refine l_callSW 4 (As := [.ref v1, .int x1, .int x3, .ref v3]) (rest := []) (v := (some (.int x5))) (w' := w7) (st1 := [.int x5]) hx hb hml hown hts hK hR hS hRc hRs (mX0_revenueWith hl0 e6) (lw_SW q2340 q2341 q111 q2342) (by decide +kernel) (Nat.le_of_ble_eq_true rfl) (Nat.le_of_ble_eq_true rfl) rfl hl.1 (Nat.le_of_ble_eq_true rfl) dL_law_2399 rfl rfl (fun H locs hR hS => ?_)
  refine lv_istore (lv' := [(5, .int x5), (0, .ref b), (1, .ref v1), (2, .ref o), (3, .ref v3), (4, .int v4)]) hx hb dL_law_2402 hl (by decide) rfl (fun ls hl => ?_)
  refine lv_aload_n hx hb dL_law_2404 rfl (lv_at hl 3 rfl) ?_
  refine lv_aload_n hx hb dL_law_2405 rfl (lv_at hl 1 rfl) ?_
  refine lv_iload hx hb dL_law_2406 (lv_at hl 5 rfl) ?_
  refine lv_iconst (v := 1) hx hb dL_law_2408 (by decide) ?_
  refine lv_iadd hx hb dL_law_2409 ?_
  replace h := bo_o h
  obtain ⟨x8, e9, h⟩ := h
  refine l_sld (w := (w.1, w7)) hx hb hX hbl hbA hS e9 dL_law_2410 ?_
  refine lv_aload_n hx hb dL_law_2411 rfl (lv_at hl 1 rfl) ?_
  refine lv_iload hx hb dL_law_2412 (lv_at hl 5 rfl) ?_
  refine lv_iconst (v := 2) hx hb dL_law_2414 (by decide) ?_
  refine lv_iadd hx hb dL_law_2415 ?_
  replace h := bo_o h
  obtain ⟨x10, e11, h⟩ := h
  refine l_sld (w := (w.1, w7)) hx hb hX hbl hbA hS e11 dL_law_2416 ?_
  replace h := b2_o h
  obtain ⟨x12, t14, e13, h⟩ := h
  refine l_callT 2 (As := [.int x8, .int x10]) (rest := []) (v := (some (.long x12))) (T' := t14) (st1 := [.long x12]) hx hb hml hown hts hK hR hS hRc hRs (mX5_revenueWith e13) (lw_V q2913 q2914 q2915 q137 q2916) (by decide +kernel) (Nat.le_of_ble_eq_true rfl) (Nat.le_of_ble_eq_true rfl) rfl hl.1 (Nat.le_of_ble_eq_true rfl) dL_law_2417 rfl rfl (fun H locs hR hS => ?_)
  refine lv_lstore (lv' := [(6, .long x12), (5, .int x5), (0, .ref b), (1, .ref v1), (2, .ref o), (3, .ref v3), (4, .int v4)]) hx hb dL_law_2420 hl (by decide) rfl (fun ls hl => ?_)
  refine lv_aload_n hx hb dL_law_2422 rfl (lv_at hl 4 rfl) ?_
  replace h := b2_o h
  obtain ⟨x15, t17, e16, h⟩ := h
  refine l_callT 0 (As := []) (rest := []) (v := (some (.int x15))) (T' := t17) (st1 := [.int x15]) hx hb hml hown hts hK hR hS hRc hRs (mX5_thrown e16) (lw_V q2534 q2535 q2536 q137 q2537) (by decide +kernel) (Nat.le_of_ble_eq_true rfl) (Nat.le_of_ble_eq_true rfl) rfl hl.1 (Nat.le_of_ble_eq_true rfl) dL_law_2423 rfl rfl (fun H locs hR hS => ?_)
  refine lv_iload hx hb dL_law_2426 (lv_at hl 1 rfl) ?_
  refine lv_icmp_eq (tgt := 2433) hx hb dL_law_2428 (by decide) (fun c18 => ?_) (fun c18 => ?_)
  · replace h := it_o c18 h
    exact bL_law_2433 (w := (t17, w7)) B hE hl0 h k23 kR hR hS (lv_sub hl [2, 3, 4, 5, 6, 1, 0] rfl)
  · replace h := if_o c18 h
    refine lv_iconst (v := 0) hx hb dL_law_2431 (by decide) ?_
    have eR := kR _ (Option.some.inj h).symm
    subst eR
    exact hE _ ls H locs w7 _ dL_law_2432 hS
noncomputable def fL_law_b2505 (L : Nat) (xs : Nat → Int32) (v1 : Nat) (v3 : Nat) (v4 : Int32) (w : LW) : Option (Sum (Int32 × LW) (Int32)) :=
  fL_law_b3008 L xs v1 v3 v4 w
theorem bL_law_2505 {p : Program} {l : Launch} {e : Env} {s : State} {m : MethodId} {args : Array Value} {below : List Frame} {meth : Method} {c : Code} {H : Heap} {locs : List Loc} {ls : Array Slot} {G : gE} {w0 : WH} {o b L : Nat} {xs : Nat → Int32} {Q : Int32 → State → Prop} (B : lB G b L xs w0 p s m args meth c) (hE : lE l G w0 p e s m args below meth c Q) (hl0 : l.stackTraces = false) {v1 : Nat} {v3 : Nat} {v4 : Int32} {w : LW} {x : Sum (Int32 × LW) (Int32)} {r : Int32} (h : fL_law_b2505 L xs v1 v3 v4 w = some x)  (k23 : ∀ (v4' : Int32) (w' : LW), x = (.inl (v4', w')) → ∀ (H : Heap) (locs : List Loc) (ls : Array Slot), RepL G o w' H → Cu (gFr G) s w0 w'.2 H locs → lv_has ls 8 [(0, .ref b), (1, .ref v1), (2, .ref o), (3, .ref v3), (4, .int v4')] → W p l e room_1 s m args below meth c H locs (wC w0 - wC w'.2) (wS w0 - wS w'.2) (Q r) (F0 m 23 ls [])) (kR : ∀ q, x = (.inr q) → q = r) (hR : RepL G o w H) (hS : Cu (gFr G) s w0 w.2 H locs) (hl : lv_has ls 8 [(0, .ref b), (1, .ref v1), (2, .ref o), (3, .ref v3), (4, .int v4)]) : W p l e room_1 s m args below meth c H locs (wC w0 - wC w.2) (wS w0 - wS w.2) (Q r) (F0 m 2505 ls []) := by
  have B0 := B
  obtain ⟨⟨hx, hb, hml, hown, hts, hr, hlk, hK⟩, hX, hbl, hbA, hRc, hRs⟩ := B0
  unfold fL_law_b2505 at h
  refine lv_goto (tgt := 3008) hx hb dL_law_2505 (by decide) ?_
  exact bL_law_3008 (w := w) B hE hl0 h k23 kR hR hS (lv_sub hl [0, 1, 2, 3, 4] rfl)
noncomputable def fL_law_b2452 (L : Nat) (xs : Nat → Int32) (v1 : Nat) (v3 : Nat) (v4 : Int32) (w : LW) : Option (Sum (Int32 × LW) (Int32)) :=
  (sld L xs (v4 + 1)).bind fun x1 =>
  b2_ (fX0_stepCount v1 x1 v3 w.2) fun x3 w5 =>
  (sld L xs (v4 + 1)).bind fun x6 =>
  b2_ (fX5_stepCount x6 w.1) fun x8 t10 =>
  b2_ (fX5_thrown  t10) fun x11 t13 =>
  if x11 = x3 then (
    if x3 = 0 then (
      (ldJ w5 v3 0).bind fun x16 =>
      if lg_cmp x16 (x8.toInt64) = 0 then (
        fL_law_b2505 L xs v1 v3 v4 (t13, w5)
      ) else (
        some (.inr 0)
      )
    ) else (
      fL_law_b2505 L xs v1 v3 v4 (t13, w5)
    )
  ) else (
    some (.inr 0)
  )
theorem bL_law_2452 {p : Program} {l : Launch} {e : Env} {s : State} {m : MethodId} {args : Array Value} {below : List Frame} {meth : Method} {c : Code} {H : Heap} {locs : List Loc} {ls : Array Slot} {G : gE} {w0 : WH} {o b L : Nat} {xs : Nat → Int32} {Q : Int32 → State → Prop} (B : lB G b L xs w0 p s m args meth c) (hE : lE l G w0 p e s m args below meth c Q) (hl0 : l.stackTraces = false) {v1 : Nat} {v3 : Nat} {v4 : Int32} {w : LW} {x : Sum (Int32 × LW) (Int32)} {r : Int32} (h : fL_law_b2452 L xs v1 v3 v4 w = some x)  (k23 : ∀ (v4' : Int32) (w' : LW), x = (.inl (v4', w')) → ∀ (H : Heap) (locs : List Loc) (ls : Array Slot), RepL G o w' H → Cu (gFr G) s w0 w'.2 H locs → lv_has ls 8 [(0, .ref b), (1, .ref v1), (2, .ref o), (3, .ref v3), (4, .int v4')] → W p l e room_1 s m args below meth c H locs (wC w0 - wC w'.2) (wS w0 - wS w'.2) (Q r) (F0 m 23 ls [])) (kR : ∀ q, x = (.inr q) → q = r) (hR : RepL G o w H) (hS : Cu (gFr G) s w0 w.2 H locs) (hl : lv_has ls 8 [(0, .ref b), (1, .ref v1), (2, .ref o), (3, .ref v3), (4, .int v4)]) : W p l e room_1 s m args below meth c H locs (wC w0 - wC w.2) (wS w0 - wS w.2) (Q r) (F0 m 2452 ls []) := by
  have B0 := B
  obtain ⟨⟨hx, hb, hml, hown, hts, hr, hlk, hK⟩, hX, hbl, hbA, hRc, hRs⟩ := B0
  unfold fL_law_b2452 at h
  refine lv_aload_n hx hb dL_law_2452 rfl (lv_at hl 1 rfl) ?_
  refine lv_aload_n hx hb dL_law_2453 rfl (lv_at hl 0 rfl) ?_
  refine lv_iload hx hb dL_law_2454 (lv_at hl 4 rfl) ?_
  refine lv_iconst (v := 1) hx hb dL_law_2456 (by decide) ?_
  refine lv_iadd hx hb dL_law_2457 ?_
  replace h := bo_o h
  obtain ⟨x1, e2, h⟩ := h
  refine l_sld (w := w) hx hb hX hbl hbA hS e2 dL_law_2458 ?_
  refine lv_aload_n hx hb dL_law_2459 rfl (lv_at hl 3 rfl) ?_
  replace h := b2_o h
  obtain ⟨x3, w5, e4, h⟩ := h
  refine l_callSW 3 (As := [.ref v1, .int x1, .ref v3]) (rest := []) (v := (some (.int x3))) (w' := w5) (st1 := [.int x3]) hx hb hml hown hts hK hR hS hRc hRs (mX0_stepCount hl0 e4) (lw_SW q2347 q2348 q111 q2349) (by decide +kernel) (Nat.le_of_ble_eq_true rfl) (Nat.le_of_ble_eq_true rfl) rfl hl.1 (Nat.le_of_ble_eq_true rfl) dL_law_2460 rfl rfl (fun H locs hR hS => ?_)
  refine lv_istore (lv' := [(5, .int x3), (0, .ref b), (1, .ref v1), (2, .ref o), (3, .ref v3), (4, .int v4)]) hx hb dL_law_2463 hl (by decide) rfl (fun ls hl => ?_)
  refine lv_aload_n hx hb dL_law_2465 rfl (lv_at hl 3 rfl) ?_
  refine lv_aload_n hx hb dL_law_2466 rfl (lv_at hl 1 rfl) ?_
  refine lv_iload hx hb dL_law_2467 (lv_at hl 5 rfl) ?_
  refine lv_iconst (v := 1) hx hb dL_law_2469 (by decide) ?_
  refine lv_iadd hx hb dL_law_2470 ?_
  replace h := bo_o h
  obtain ⟨x6, e7, h⟩ := h
  refine l_sld (w := (w.1, w5)) hx hb hX hbl hbA hS e7 dL_law_2471 ?_
  replace h := b2_o h
  obtain ⟨x8, t10, e9, h⟩ := h
  refine l_callT 1 (As := [.int x6]) (rest := []) (v := (some (.int x8))) (T' := t10) (st1 := [.int x8]) hx hb hml hown hts hK hR hS hRc hRs (mX5_stepCount e9) (lw_V q2956 q2957 q2958 q137 q2959) (by decide +kernel) (Nat.le_of_ble_eq_true rfl) (Nat.le_of_ble_eq_true rfl) rfl hl.1 (Nat.le_of_ble_eq_true rfl) dL_law_2472 rfl rfl (fun H locs hR hS => ?_)
  refine lv_istore (lv' := [(6, .int x8), (5, .int x3), (0, .ref b), (1, .ref v1), (2, .ref o), (3, .ref v3), (4, .int v4)]) hx hb dL_law_2475 hl (by decide) rfl (fun ls hl => ?_)
  refine lv_aload_n hx hb dL_law_2477 rfl (lv_at hl 4 rfl) ?_
  replace h := b2_o h
  obtain ⟨x11, t13, e12, h⟩ := h
  refine l_callT 0 (As := []) (rest := []) (v := (some (.int x11))) (T' := t13) (st1 := [.int x11]) hx hb hml hown hts hK hR hS hRc hRs (mX5_thrown e12) (lw_V q2534 q2535 q2536 q137 q2537) (by decide +kernel) (Nat.le_of_ble_eq_true rfl) (Nat.le_of_ble_eq_true rfl) rfl hl.1 (Nat.le_of_ble_eq_true rfl) dL_law_2478 rfl rfl (fun H locs hR hS => ?_)
  refine lv_iload hx hb dL_law_2481 (lv_at hl 1 rfl) ?_
  refine lv_icmp_eq (tgt := 2488) hx hb dL_law_2483 (by decide) (fun c14 => ?_) (fun c14 => ?_)
  · replace h := it_o c14 h
    refine lv_iload hx hb dL_law_2488 (lv_at hl 1 rfl) ?_
    refine lv_if_ne (tgt := 2505) hx hb dL_law_2490 (by decide) (fun c15 => ?_) (fun c15 => ?_)
    · replace h := if_o c15 h
      exact bL_law_2505 (w := (t13, w5)) B hE hl0 h k23 kR hR hS (lv_sub hl [2, 3, 4, 5, 6] rfl)
    · replace h := it_o c15 h
      refine lv_aload_n hx hb dL_law_2493 rfl (lv_at hl 5 rfl) ?_
      refine lv_iconst (v := 0) hx hb dL_law_2494 (by decide) ?_
      replace h := bo_o h
      obtain ⟨x16, e17, h⟩ := h
      refine h_lald hx hb hK hR.2.weak e17 dL_law_2495 ?_
      refine lv_iload hx hb dL_law_2496 (lv_at hl 0 rfl) ?_
      refine lv_i2l hx hb dL_law_2498 rfl ?_
      refine W.lcmp hx hb dL_law_2499 ?_
      refine lv_if_eq (tgt := 2505) hx hb dL_law_2500 (by decide) (fun c18 => ?_) (fun c18 => ?_)
      · replace h := it_o c18 h
        exact bL_law_2505 (w := (t13, w5)) B hE hl0 h k23 kR hR hS (lv_sub hl [2, 3, 4, 5, 6] rfl)
      · replace h := if_o c18 h
        refine lv_iconst (v := 0) hx hb dL_law_2503 (by decide) ?_
        have eR := kR _ (Option.some.inj h).symm
        subst eR
        exact hE _ ls H locs w5 _ dL_law_2504 hS
  · replace h := if_o c14 h
    refine lv_iconst (v := 0) hx hb dL_law_2486 (by decide) ?_
    have eR := kR _ (Option.some.inj h).symm
    subst eR
    exact hE _ ls H locs w5 _ dL_law_2487 hS
noncomputable def fL_law_b2573 (L : Nat) (xs : Nat → Int32) (v1 : Nat) (v3 : Nat) (v4 : Int32) (w : LW) : Option (Sum (Int32 × LW) (Int32)) :=
  fL_law_b3008 L xs v1 v3 v4 w
theorem bL_law_2573 {p : Program} {l : Launch} {e : Env} {s : State} {m : MethodId} {args : Array Value} {below : List Frame} {meth : Method} {c : Code} {H : Heap} {locs : List Loc} {ls : Array Slot} {G : gE} {w0 : WH} {o b L : Nat} {xs : Nat → Int32} {Q : Int32 → State → Prop} (B : lB G b L xs w0 p s m args meth c) (hE : lE l G w0 p e s m args below meth c Q) (hl0 : l.stackTraces = false) {v1 : Nat} {v3 : Nat} {v4 : Int32} {w : LW} {x : Sum (Int32 × LW) (Int32)} {r : Int32} (h : fL_law_b2573 L xs v1 v3 v4 w = some x)  (k23 : ∀ (v4' : Int32) (w' : LW), x = (.inl (v4', w')) → ∀ (H : Heap) (locs : List Loc) (ls : Array Slot), RepL G o w' H → Cu (gFr G) s w0 w'.2 H locs → lv_has ls 8 [(0, .ref b), (1, .ref v1), (2, .ref o), (3, .ref v3), (4, .int v4')] → W p l e room_1 s m args below meth c H locs (wC w0 - wC w'.2) (wS w0 - wS w'.2) (Q r) (F0 m 23 ls [])) (kR : ∀ q, x = (.inr q) → q = r) (hR : RepL G o w H) (hS : Cu (gFr G) s w0 w.2 H locs) (hl : lv_has ls 8 [(0, .ref b), (1, .ref v1), (2, .ref o), (3, .ref v3), (4, .int v4)]) : W p l e room_1 s m args below meth c H locs (wC w0 - wC w.2) (wS w0 - wS w.2) (Q r) (F0 m 2573 ls []) := by
  have B0 := B
  obtain ⟨⟨hx, hb, hml, hown, hts, hr, hlk, hK⟩, hX, hbl, hbA, hRc, hRs⟩ := B0
  unfold fL_law_b2573 at h
  refine lv_goto (tgt := 3008) hx hb dL_law_2573 (by decide) ?_
  exact bL_law_3008 (w := w) B hE hl0 h k23 kR hR hS (lv_sub hl [0, 1, 2, 3, 4] rfl)
noncomputable def fL_law_b2556 (L : Nat) (xs : Nat → Int32) (v1 : Nat) (v3 : Nat) (v4 : Int32) (v5 : Int32) (v6 : Int32) (w : LW) : Option (Sum (Int32 × LW) (Int32)) :=
  if v5 = 0 then (
    (ldJ w.2 v3 0).bind fun x2 =>
    if lg_cmp x2 (v6.toInt64) = 0 then (
      fL_law_b2573 L xs v1 v3 v4 w
    ) else (
      some (.inr 0)
    )
  ) else (
    fL_law_b2573 L xs v1 v3 v4 w
  )
theorem bL_law_2556 {p : Program} {l : Launch} {e : Env} {s : State} {m : MethodId} {args : Array Value} {below : List Frame} {meth : Method} {c : Code} {H : Heap} {locs : List Loc} {ls : Array Slot} {G : gE} {w0 : WH} {o b L : Nat} {xs : Nat → Int32} {Q : Int32 → State → Prop} (B : lB G b L xs w0 p s m args meth c) (hE : lE l G w0 p e s m args below meth c Q) (hl0 : l.stackTraces = false) {v1 : Nat} {v3 : Nat} {v4 : Int32} {v5 : Int32} {v6 : Int32} {w : LW} {x : Sum (Int32 × LW) (Int32)} {r : Int32} (h : fL_law_b2556 L xs v1 v3 v4 v5 v6 w = some x)  (k23 : ∀ (v4' : Int32) (w' : LW), x = (.inl (v4', w')) → ∀ (H : Heap) (locs : List Loc) (ls : Array Slot), RepL G o w' H → Cu (gFr G) s w0 w'.2 H locs → lv_has ls 8 [(0, .ref b), (1, .ref v1), (2, .ref o), (3, .ref v3), (4, .int v4')] → W p l e room_1 s m args below meth c H locs (wC w0 - wC w'.2) (wS w0 - wS w'.2) (Q r) (F0 m 23 ls [])) (kR : ∀ q, x = (.inr q) → q = r) (hR : RepL G o w H) (hS : Cu (gFr G) s w0 w.2 H locs) (hl : lv_has ls 8 [(0, .ref b), (1, .ref v1), (2, .ref o), (3, .ref v3), (4, .int v4), (5, .int v5), (6, .int v6)]) : W p l e room_1 s m args below meth c H locs (wC w0 - wC w.2) (wS w0 - wS w.2) (Q r) (F0 m 2556 ls []) := by
  have B0 := B
  obtain ⟨⟨hx, hb, hml, hown, hts, hr, hlk, hK⟩, hX, hbl, hbA, hRc, hRs⟩ := B0
  unfold fL_law_b2556 at h
  refine lv_iload hx hb dL_law_2556 (lv_at hl 5 rfl) ?_
  refine lv_if_ne (tgt := 2573) hx hb dL_law_2558 (by decide) (fun c1 => ?_) (fun c1 => ?_)
  · replace h := if_o c1 h
    exact bL_law_2573 (w := w) B hE hl0 h k23 kR hR hS (lv_sub hl [0, 1, 2, 3, 4] rfl)
  · replace h := it_o c1 h
    refine lv_aload_n hx hb dL_law_2561 rfl (lv_at hl 3 rfl) ?_
    refine lv_iconst (v := 0) hx hb dL_law_2562 (by decide) ?_
    replace h := bo_o h
    obtain ⟨x2, e3, h⟩ := h
    refine h_lald hx hb hK hR.2.weak e3 dL_law_2563 ?_
    refine lv_iload hx hb dL_law_2564 (lv_at hl 6 rfl) ?_
    refine lv_i2l hx hb dL_law_2566 rfl ?_
    refine W.lcmp hx hb dL_law_2567 ?_
    refine lv_if_eq (tgt := 2573) hx hb dL_law_2568 (by decide) (fun c4 => ?_) (fun c4 => ?_)
    · replace h := it_o c4 h
      exact bL_law_2573 (w := w) B hE hl0 h k23 kR hR hS (lv_sub hl [0, 1, 2, 3, 4] rfl)
    · replace h := if_o c4 h
      refine lv_iconst (v := 0) hx hb dL_law_2571 (by decide) ?_
      have eR := kR _ (Option.some.inj h).symm
      subst eR
      exact hE _ ls H locs w.2 _ dL_law_2572 hS
noncomputable def fL_law_b2508 (L : Nat) (xs : Nat → Int32) (v1 : Nat) (v3 : Nat) (v4 : Int32) (w : LW) : Option (Sum (Int32 × LW) (Int32)) :=
  (sld L xs (v4 + 1)).bind fun x1 =>
  (sld L xs (v4 + 2)).bind fun x3 =>
  b2_ (fX0_step v1 x1 x3 v3 w.2) fun x5 w7 =>
  (sld L xs (v4 + 1)).bind fun x8 =>
  (sld L xs (v4 + 2)).bind fun x10 =>
  b2_ (fX5_step x8 x10 w.1) fun x12 t14 =>
  b2_ (fX5_thrown  t14) fun x15 t17 =>
  if x15 = x5 then (
    fL_law_b2556 L xs v1 v3 v4 x5 x12 (t17, w7)
  ) else (
    some (.inr 0)
  )
theorem bL_law_2508 {p : Program} {l : Launch} {e : Env} {s : State} {m : MethodId} {args : Array Value} {below : List Frame} {meth : Method} {c : Code} {H : Heap} {locs : List Loc} {ls : Array Slot} {G : gE} {w0 : WH} {o b L : Nat} {xs : Nat → Int32} {Q : Int32 → State → Prop} (B : lB G b L xs w0 p s m args meth c) (hE : lE l G w0 p e s m args below meth c Q) (hl0 : l.stackTraces = false) {v1 : Nat} {v3 : Nat} {v4 : Int32} {w : LW} {x : Sum (Int32 × LW) (Int32)} {r : Int32} (h : fL_law_b2508 L xs v1 v3 v4 w = some x)  (k23 : ∀ (v4' : Int32) (w' : LW), x = (.inl (v4', w')) → ∀ (H : Heap) (locs : List Loc) (ls : Array Slot), RepL G o w' H → Cu (gFr G) s w0 w'.2 H locs → lv_has ls 8 [(0, .ref b), (1, .ref v1), (2, .ref o), (3, .ref v3), (4, .int v4')] → W p l e room_1 s m args below meth c H locs (wC w0 - wC w'.2) (wS w0 - wS w'.2) (Q r) (F0 m 23 ls [])) (kR : ∀ q, x = (.inr q) → q = r) (hR : RepL G o w H) (hS : Cu (gFr G) s w0 w.2 H locs) (hl : lv_has ls 8 [(0, .ref b), (1, .ref v1), (2, .ref o), (3, .ref v3), (4, .int v4)]) : W p l e room_1 s m args below meth c H locs (wC w0 - wC w.2) (wS w0 - wS w.2) (Q r) (F0 m 2508 ls []) := by
  have B0 := B
  obtain ⟨⟨hx, hb, hml, hown, hts, hr, hlk, hK⟩, hX, hbl, hbA, hRc, hRs⟩ := B0
  unfold fL_law_b2508 at h
  refine lv_aload_n hx hb dL_law_2508 rfl (lv_at hl 1 rfl) ?_
  refine lv_aload_n hx hb dL_law_2509 rfl (lv_at hl 0 rfl) ?_
  refine lv_iload hx hb dL_law_2510 (lv_at hl 4 rfl) ?_
  refine lv_iconst (v := 1) hx hb dL_law_2512 (by decide) ?_
  refine lv_iadd hx hb dL_law_2513 ?_
  replace h := bo_o h
  obtain ⟨x1, e2, h⟩ := h
  refine l_sld (w := w) hx hb hX hbl hbA hS e2 dL_law_2514 ?_
  refine lv_aload_n hx hb dL_law_2515 rfl (lv_at hl 0 rfl) ?_
  refine lv_iload hx hb dL_law_2516 (lv_at hl 4 rfl) ?_
  refine lv_iconst (v := 2) hx hb dL_law_2518 (by decide) ?_
  refine lv_iadd hx hb dL_law_2519 ?_
  replace h := bo_o h
  obtain ⟨x3, e4, h⟩ := h
  refine l_sld (w := w) hx hb hX hbl hbA hS e4 dL_law_2520 ?_
  refine lv_aload_n hx hb dL_law_2521 rfl (lv_at hl 3 rfl) ?_
  replace h := b2_o h
  obtain ⟨x5, w7, e6, h⟩ := h
  refine l_callSW 4 (As := [.ref v1, .int x1, .int x3, .ref v3]) (rest := []) (v := (some (.int x5))) (w' := w7) (st1 := [.int x5]) hx hb hml hown hts hK hR hS hRc hRs (mX0_step hl0 e6) (lw_SW q2361 q2362 q111 q2363) (by decide +kernel) (Nat.le_of_ble_eq_true rfl) (Nat.le_of_ble_eq_true rfl) rfl hl.1 (Nat.le_of_ble_eq_true rfl) dL_law_2522 rfl rfl (fun H locs hR hS => ?_)
  refine lv_istore (lv' := [(5, .int x5), (0, .ref b), (1, .ref v1), (2, .ref o), (3, .ref v3), (4, .int v4)]) hx hb dL_law_2525 hl (by decide) rfl (fun ls hl => ?_)
  refine lv_aload_n hx hb dL_law_2527 rfl (lv_at hl 3 rfl) ?_
  refine lv_aload_n hx hb dL_law_2528 rfl (lv_at hl 1 rfl) ?_
  refine lv_iload hx hb dL_law_2529 (lv_at hl 5 rfl) ?_
  refine lv_iconst (v := 1) hx hb dL_law_2531 (by decide) ?_
  refine lv_iadd hx hb dL_law_2532 ?_
  replace h := bo_o h
  obtain ⟨x8, e9, h⟩ := h
  refine l_sld (w := (w.1, w7)) hx hb hX hbl hbA hS e9 dL_law_2533 ?_
  refine lv_aload_n hx hb dL_law_2534 rfl (lv_at hl 1 rfl) ?_
  refine lv_iload hx hb dL_law_2535 (lv_at hl 5 rfl) ?_
  refine lv_iconst (v := 2) hx hb dL_law_2537 (by decide) ?_
  refine lv_iadd hx hb dL_law_2538 ?_
  replace h := bo_o h
  obtain ⟨x10, e11, h⟩ := h
  refine l_sld (w := (w.1, w7)) hx hb hX hbl hbA hS e11 dL_law_2539 ?_
  replace h := b2_o h
  obtain ⟨x12, t14, e13, h⟩ := h
  refine l_callT 2 (As := [.int x8, .int x10]) (rest := []) (v := (some (.int x12))) (T' := t14) (st1 := [.int x12]) hx hb hml hown hts hK hR hS hRc hRs (mX5_step e13) (lw_V q2964 q2965 q2966 q137 q2967) (by decide +kernel) (Nat.le_of_ble_eq_true rfl) (Nat.le_of_ble_eq_true rfl) rfl hl.1 (Nat.le_of_ble_eq_true rfl) dL_law_2540 rfl rfl (fun H locs hR hS => ?_)
  refine lv_istore (lv' := [(6, .int x12), (5, .int x5), (0, .ref b), (1, .ref v1), (2, .ref o), (3, .ref v3), (4, .int v4)]) hx hb dL_law_2543 hl (by decide) rfl (fun ls hl => ?_)
  refine lv_aload_n hx hb dL_law_2545 rfl (lv_at hl 4 rfl) ?_
  replace h := b2_o h
  obtain ⟨x15, t17, e16, h⟩ := h
  refine l_callT 0 (As := []) (rest := []) (v := (some (.int x15))) (T' := t17) (st1 := [.int x15]) hx hb hml hown hts hK hR hS hRc hRs (mX5_thrown e16) (lw_V q2534 q2535 q2536 q137 q2537) (by decide +kernel) (Nat.le_of_ble_eq_true rfl) (Nat.le_of_ble_eq_true rfl) rfl hl.1 (Nat.le_of_ble_eq_true rfl) dL_law_2546 rfl rfl (fun H locs hR hS => ?_)
  refine lv_iload hx hb dL_law_2549 (lv_at hl 1 rfl) ?_
  refine lv_icmp_eq (tgt := 2556) hx hb dL_law_2551 (by decide) (fun c18 => ?_) (fun c18 => ?_)
  · replace h := it_o c18 h
    exact bL_law_2556 (w := (t17, w7)) B hE hl0 h k23 kR hR hS (lv_sub hl [2, 3, 4, 5, 6, 1, 0] rfl)
  · replace h := if_o c18 h
    refine lv_iconst (v := 0) hx hb dL_law_2554 (by decide) ?_
    have eR := kR _ (Option.some.inj h).symm
    subst eR
    exact hE _ ls H locs w7 _ dL_law_2555 hS
noncomputable def fL_law_b2576 (L : Nat) (xs : Nat → Int32) (v1 : Nat) (v3 : Nat) (v4 : Int32) (w : LW) : Option (Sum (Int32 × LW) (Int32)) :=
  (hIs w.2 v1 17).bind fun _ =>
  b2_ (fX1_burden v1 w.2) fun x1 w3 =>
  b2_ (fX5_burden  w.1) fun x5 t7 =>
  if lg_cmp x1 x5 = 0 then (
    fL_law_b3008 L xs v1 v3 v4 (t7, w3)
  ) else (
    some (.inr 0)
  )
theorem bL_law_2576 {p : Program} {l : Launch} {e : Env} {s : State} {m : MethodId} {args : Array Value} {below : List Frame} {meth : Method} {c : Code} {H : Heap} {locs : List Loc} {ls : Array Slot} {G : gE} {w0 : WH} {o b L : Nat} {xs : Nat → Int32} {Q : Int32 → State → Prop} (B : lB G b L xs w0 p s m args meth c) (hE : lE l G w0 p e s m args below meth c Q) (hl0 : l.stackTraces = false) {v1 : Nat} {v3 : Nat} {v4 : Int32} {w : LW} {x : Sum (Int32 × LW) (Int32)} {r : Int32} (h : fL_law_b2576 L xs v1 v3 v4 w = some x)  (k23 : ∀ (v4' : Int32) (w' : LW), x = (.inl (v4', w')) → ∀ (H : Heap) (locs : List Loc) (ls : Array Slot), RepL G o w' H → Cu (gFr G) s w0 w'.2 H locs → lv_has ls 8 [(0, .ref b), (1, .ref v1), (2, .ref o), (3, .ref v3), (4, .int v4')] → W p l e room_1 s m args below meth c H locs (wC w0 - wC w'.2) (wS w0 - wS w'.2) (Q r) (F0 m 23 ls [])) (kR : ∀ q, x = (.inr q) → q = r) (hR : RepL G o w H) (hS : Cu (gFr G) s w0 w.2 H locs) (hl : lv_has ls 8 [(0, .ref b), (1, .ref v1), (2, .ref o), (3, .ref v3), (4, .int v4)]) : W p l e room_1 s m args below meth c H locs (wC w0 - wC w.2) (wS w0 - wS w.2) (Q r) (F0 m 2576 ls []) := by
  have B0 := B
  obtain ⟨⟨hx, hb, hml, hown, hts, hr, hlk, hK⟩, hX, hbl, hbA, hRc, hRs⟩ := B0
  unfold fL_law_b2576 at h
  refine lv_aload_n hx hb dL_law_2576 rfl (lv_at hl 1 rfl) ?_
  replace h := bo_o h
  obtain ⟨_, e4, h⟩ := h
  replace h := b2_o h
  obtain ⟨x1, w3, e2, h⟩ := h
  refine l_callV 0 (ci := 17) (As := []) (rest := []) (v := (some (.long x1))) (w' := w3) (st1 := [.long x1]) hx hb hml hown hts hK hR hS hRc hRs rfl e4 (mX1_burden e2) (lw_V q1811 q1812 q1813 q112 q1814) (by decide +kernel) (Nat.le_of_ble_eq_true rfl) (Nat.le_of_ble_eq_true rfl) rfl hl.1 (Nat.le_of_ble_eq_true rfl) dL_law_2577 rfl rfl (fun H locs hR hS => ?_)
  refine lv_aload_n hx hb dL_law_2580 rfl (lv_at hl 2 rfl) ?_
  replace h := b2_o h
  obtain ⟨x5, t7, e6, h⟩ := h
  refine l_callT 0 (As := []) (rest := [.long x1]) (v := (some (.long x5))) (T' := t7) (st1 := [.long x5, .long x1]) hx hb hml hown hts hK hR hS hRc hRs (mX5_burden e6) (lw_V q2893 q2894 q2895 q137 q2896) (by decide +kernel) (Nat.le_of_ble_eq_true rfl) (Nat.le_of_ble_eq_true rfl) rfl hl.1 (Nat.le_of_ble_eq_true rfl) dL_law_2581 rfl rfl (fun H locs hR hS => ?_)
  refine W.lcmp hx hb dL_law_2584 ?_
  refine lv_if_eq (tgt := 3008) hx hb dL_law_2585 (by decide) (fun c8 => ?_) (fun c8 => ?_)
  · replace h := it_o c8 h
    exact bL_law_3008 (w := (t7, w3)) B hE hl0 h k23 kR hR hS (lv_sub hl [0, 1, 2, 3, 4] rfl)
  · replace h := if_o c8 h
    refine lv_iconst (v := 0) hx hb dL_law_2588 (by decide) ?_
    have eR := kR _ (Option.some.inj h).symm
    subst eR
    exact hE _ ls H locs w3 _ dL_law_2589 hS
noncomputable def fL_law_b2590 (L : Nat) (xs : Nat → Int32) (v1 : Nat) (v3 : Nat) (v4 : Int32) (w : LW) : Option (Sum (Int32 × LW) (Int32)) :=
  (hIs w.2 v1 17).bind fun _ =>
  b2_ (fX1_dearest v1 w.2) fun x1 w3 =>
  b2_ (fX5_dearest  w.1) fun x5 t7 =>
  if x1 = x5 then (
    fL_law_b3008 L xs v1 v3 v4 (t7, w3)
  ) else (
    some (.inr 0)
  )
theorem bL_law_2590 {p : Program} {l : Launch} {e : Env} {s : State} {m : MethodId} {args : Array Value} {below : List Frame} {meth : Method} {c : Code} {H : Heap} {locs : List Loc} {ls : Array Slot} {G : gE} {w0 : WH} {o b L : Nat} {xs : Nat → Int32} {Q : Int32 → State → Prop} (B : lB G b L xs w0 p s m args meth c) (hE : lE l G w0 p e s m args below meth c Q) (hl0 : l.stackTraces = false) {v1 : Nat} {v3 : Nat} {v4 : Int32} {w : LW} {x : Sum (Int32 × LW) (Int32)} {r : Int32} (h : fL_law_b2590 L xs v1 v3 v4 w = some x)  (k23 : ∀ (v4' : Int32) (w' : LW), x = (.inl (v4', w')) → ∀ (H : Heap) (locs : List Loc) (ls : Array Slot), RepL G o w' H → Cu (gFr G) s w0 w'.2 H locs → lv_has ls 8 [(0, .ref b), (1, .ref v1), (2, .ref o), (3, .ref v3), (4, .int v4')] → W p l e room_1 s m args below meth c H locs (wC w0 - wC w'.2) (wS w0 - wS w'.2) (Q r) (F0 m 23 ls [])) (kR : ∀ q, x = (.inr q) → q = r) (hR : RepL G o w H) (hS : Cu (gFr G) s w0 w.2 H locs) (hl : lv_has ls 8 [(0, .ref b), (1, .ref v1), (2, .ref o), (3, .ref v3), (4, .int v4)]) : W p l e room_1 s m args below meth c H locs (wC w0 - wC w.2) (wS w0 - wS w.2) (Q r) (F0 m 2590 ls []) := by
  have B0 := B
  obtain ⟨⟨hx, hb, hml, hown, hts, hr, hlk, hK⟩, hX, hbl, hbA, hRc, hRs⟩ := B0
  unfold fL_law_b2590 at h
  refine lv_aload_n hx hb dL_law_2590 rfl (lv_at hl 1 rfl) ?_
  replace h := bo_o h
  obtain ⟨_, e4, h⟩ := h
  replace h := b2_o h
  obtain ⟨x1, w3, e2, h⟩ := h
  refine l_callV 0 (ci := 17) (As := []) (rest := []) (v := (some (.int x1))) (w' := w3) (st1 := [.int x1]) hx hb hml hown hts hK hR hS hRc hRs rfl e4 (mX1_dearest e2) (lw_V q1815 q1816 q1817 q112 q1818) (by decide +kernel) (Nat.le_of_ble_eq_true rfl) (Nat.le_of_ble_eq_true rfl) rfl hl.1 (Nat.le_of_ble_eq_true rfl) dL_law_2591 rfl rfl (fun H locs hR hS => ?_)
  refine lv_aload_n hx hb dL_law_2594 rfl (lv_at hl 2 rfl) ?_
  replace h := b2_o h
  obtain ⟨x5, t7, e6, h⟩ := h
  refine l_callT 0 (As := []) (rest := [.int x1]) (v := (some (.int x5))) (T' := t7) (st1 := [.int x5, .int x1]) hx hb hml hown hts hK hR hS hRc hRs (mX5_dearest e6) (lw_V q2897 q2898 q2899 q137 q2900) (by decide +kernel) (Nat.le_of_ble_eq_true rfl) (Nat.le_of_ble_eq_true rfl) rfl hl.1 (Nat.le_of_ble_eq_true rfl) dL_law_2595 rfl rfl (fun H locs hR hS => ?_)
  refine lv_icmp_eq (tgt := 3008) hx hb dL_law_2598 (by decide) (fun c8 => ?_) (fun c8 => ?_)
  · replace h := it_o c8 h
    exact bL_law_3008 (w := (t7, w3)) B hE hl0 h k23 kR hR hS (lv_sub hl [0, 1, 2, 3, 4] rfl)
  · replace h := if_o c8 h
    refine lv_iconst (v := 0) hx hb dL_law_2601 (by decide) ?_
    have eR := kR _ (Option.some.inj h).symm
    subst eR
    exact hE _ ls H locs w3 _ dL_law_2602 hS
noncomputable def fL_law_b2656 (L : Nat) (xs : Nat → Int32) (v1 : Nat) (v3 : Nat) (v4 : Int32) (w : LW) : Option (Sum (Int32 × LW) (Int32)) :=
  fL_law_b3008 L xs v1 v3 v4 w
theorem bL_law_2656 {p : Program} {l : Launch} {e : Env} {s : State} {m : MethodId} {args : Array Value} {below : List Frame} {meth : Method} {c : Code} {H : Heap} {locs : List Loc} {ls : Array Slot} {G : gE} {w0 : WH} {o b L : Nat} {xs : Nat → Int32} {Q : Int32 → State → Prop} (B : lB G b L xs w0 p s m args meth c) (hE : lE l G w0 p e s m args below meth c Q) (hl0 : l.stackTraces = false) {v1 : Nat} {v3 : Nat} {v4 : Int32} {w : LW} {x : Sum (Int32 × LW) (Int32)} {r : Int32} (h : fL_law_b2656 L xs v1 v3 v4 w = some x)  (k23 : ∀ (v4' : Int32) (w' : LW), x = (.inl (v4', w')) → ∀ (H : Heap) (locs : List Loc) (ls : Array Slot), RepL G o w' H → Cu (gFr G) s w0 w'.2 H locs → lv_has ls 8 [(0, .ref b), (1, .ref v1), (2, .ref o), (3, .ref v3), (4, .int v4')] → W p l e room_1 s m args below meth c H locs (wC w0 - wC w'.2) (wS w0 - wS w'.2) (Q r) (F0 m 23 ls [])) (kR : ∀ q, x = (.inr q) → q = r) (hR : RepL G o w H) (hS : Cu (gFr G) s w0 w.2 H locs) (hl : lv_has ls 8 [(0, .ref b), (1, .ref v1), (2, .ref o), (3, .ref v3), (4, .int v4)]) : W p l e room_1 s m args below meth c H locs (wC w0 - wC w.2) (wS w0 - wS w.2) (Q r) (F0 m 2656 ls []) := by
  have B0 := B
  obtain ⟨⟨hx, hb, hml, hown, hts, hr, hlk, hK⟩, hX, hbl, hbA, hRc, hRs⟩ := B0
  unfold fL_law_b2656 at h
  refine lv_goto (tgt := 3008) hx hb dL_law_2656 (by decide) ?_
  exact bL_law_3008 (w := w) B hE hl0 h k23 kR hR hS (lv_sub hl [0, 1, 2, 3, 4] rfl)
noncomputable def fL_law_b2603 (L : Nat) (xs : Nat → Int32) (v1 : Nat) (v3 : Nat) (v4 : Int32) (w : LW) : Option (Sum (Int32 × LW) (Int32)) :=
  (sld L xs (v4 + 1)).bind fun x1 =>
  b2_ (fX0_scaleTolls v1 x1 v3 w.2) fun x3 w5 =>
  (sld L xs (v4 + 1)).bind fun x6 =>
  b2_ (fX5_scaleTolls x6 w.1) fun x8 t10 =>
  b2_ (fX5_thrown  t10) fun x11 t13 =>
  if x11 = x3 then (
    if x3 = 0 then (
      (ldJ w5 v3 0).bind fun x16 =>
      if lg_cmp x16 (x8.toInt64) = 0 then (
        fL_law_b2656 L xs v1 v3 v4 (t13, w5)
      ) else (
        some (.inr 0)
      )
    ) else (
      fL_law_b2656 L xs v1 v3 v4 (t13, w5)
    )
  ) else (
    some (.inr 0)
  )
theorem bL_law_2603 {p : Program} {l : Launch} {e : Env} {s : State} {m : MethodId} {args : Array Value} {below : List Frame} {meth : Method} {c : Code} {H : Heap} {locs : List Loc} {ls : Array Slot} {G : gE} {w0 : WH} {o b L : Nat} {xs : Nat → Int32} {Q : Int32 → State → Prop} (B : lB G b L xs w0 p s m args meth c) (hE : lE l G w0 p e s m args below meth c Q) (hl0 : l.stackTraces = false) {v1 : Nat} {v3 : Nat} {v4 : Int32} {w : LW} {x : Sum (Int32 × LW) (Int32)} {r : Int32} (h : fL_law_b2603 L xs v1 v3 v4 w = some x)  (k23 : ∀ (v4' : Int32) (w' : LW), x = (.inl (v4', w')) → ∀ (H : Heap) (locs : List Loc) (ls : Array Slot), RepL G o w' H → Cu (gFr G) s w0 w'.2 H locs → lv_has ls 8 [(0, .ref b), (1, .ref v1), (2, .ref o), (3, .ref v3), (4, .int v4')] → W p l e room_1 s m args below meth c H locs (wC w0 - wC w'.2) (wS w0 - wS w'.2) (Q r) (F0 m 23 ls [])) (kR : ∀ q, x = (.inr q) → q = r) (hR : RepL G o w H) (hS : Cu (gFr G) s w0 w.2 H locs) (hl : lv_has ls 8 [(0, .ref b), (1, .ref v1), (2, .ref o), (3, .ref v3), (4, .int v4)]) : W p l e room_1 s m args below meth c H locs (wC w0 - wC w.2) (wS w0 - wS w.2) (Q r) (F0 m 2603 ls []) := by
  have B0 := B
  obtain ⟨⟨hx, hb, hml, hown, hts, hr, hlk, hK⟩, hX, hbl, hbA, hRc, hRs⟩ := B0
  unfold fL_law_b2603 at h
  refine lv_aload_n hx hb dL_law_2603 rfl (lv_at hl 1 rfl) ?_
  refine lv_aload_n hx hb dL_law_2604 rfl (lv_at hl 0 rfl) ?_
  refine lv_iload hx hb dL_law_2605 (lv_at hl 4 rfl) ?_
  refine lv_iconst (v := 1) hx hb dL_law_2607 (by decide) ?_
  refine lv_iadd hx hb dL_law_2608 ?_
  replace h := bo_o h
  obtain ⟨x1, e2, h⟩ := h
  refine l_sld (w := w) hx hb hX hbl hbA hS e2 dL_law_2609 ?_
  refine lv_aload_n hx hb dL_law_2610 rfl (lv_at hl 3 rfl) ?_
  replace h := b2_o h
  obtain ⟨x3, w5, e4, h⟩ := h
  refine l_callSW 3 (As := [.ref v1, .int x1, .ref v3]) (rest := []) (v := (some (.int x3))) (w' := w5) (st1 := [.int x3]) hx hb hml hown hts hK hR hS hRc hRs (mX0_scaleTolls hl0 e4) (lw_SW q2368 q2369 q111 q2370) (by decide +kernel) (Nat.le_of_ble_eq_true rfl) (Nat.le_of_ble_eq_true rfl) rfl hl.1 (Nat.le_of_ble_eq_true rfl) dL_law_2611 rfl rfl (fun H locs hR hS => ?_)
  refine lv_istore (lv' := [(5, .int x3), (0, .ref b), (1, .ref v1), (2, .ref o), (3, .ref v3), (4, .int v4)]) hx hb dL_law_2614 hl (by decide) rfl (fun ls hl => ?_)
  refine lv_aload_n hx hb dL_law_2616 rfl (lv_at hl 3 rfl) ?_
  refine lv_aload_n hx hb dL_law_2617 rfl (lv_at hl 1 rfl) ?_
  refine lv_iload hx hb dL_law_2618 (lv_at hl 5 rfl) ?_
  refine lv_iconst (v := 1) hx hb dL_law_2620 (by decide) ?_
  refine lv_iadd hx hb dL_law_2621 ?_
  replace h := bo_o h
  obtain ⟨x6, e7, h⟩ := h
  refine l_sld (w := (w.1, w5)) hx hb hX hbl hbA hS e7 dL_law_2622 ?_
  replace h := b2_o h
  obtain ⟨x8, t10, e9, h⟩ := h
  refine l_callT 1 (As := [.int x6]) (rest := []) (v := (some (.int x8))) (T' := t10) (st1 := [.int x8]) hx hb hml hown hts hK hR hS hRc hRs (mX5_scaleTolls e9) (lw_V q2686 q2687 q2688 q137 q2689) (by decide +kernel) (Nat.le_of_ble_eq_true rfl) (Nat.le_of_ble_eq_true rfl) rfl hl.1 (Nat.le_of_ble_eq_true rfl) dL_law_2623 rfl rfl (fun H locs hR hS => ?_)
  refine lv_istore (lv' := [(6, .int x8), (5, .int x3), (0, .ref b), (1, .ref v1), (2, .ref o), (3, .ref v3), (4, .int v4)]) hx hb dL_law_2626 hl (by decide) rfl (fun ls hl => ?_)
  refine lv_aload_n hx hb dL_law_2628 rfl (lv_at hl 4 rfl) ?_
  replace h := b2_o h
  obtain ⟨x11, t13, e12, h⟩ := h
  refine l_callT 0 (As := []) (rest := []) (v := (some (.int x11))) (T' := t13) (st1 := [.int x11]) hx hb hml hown hts hK hR hS hRc hRs (mX5_thrown e12) (lw_V q2534 q2535 q2536 q137 q2537) (by decide +kernel) (Nat.le_of_ble_eq_true rfl) (Nat.le_of_ble_eq_true rfl) rfl hl.1 (Nat.le_of_ble_eq_true rfl) dL_law_2629 rfl rfl (fun H locs hR hS => ?_)
  refine lv_iload hx hb dL_law_2632 (lv_at hl 1 rfl) ?_
  refine lv_icmp_eq (tgt := 2639) hx hb dL_law_2634 (by decide) (fun c14 => ?_) (fun c14 => ?_)
  · replace h := it_o c14 h
    refine lv_iload hx hb dL_law_2639 (lv_at hl 1 rfl) ?_
    refine lv_if_ne (tgt := 2656) hx hb dL_law_2641 (by decide) (fun c15 => ?_) (fun c15 => ?_)
    · replace h := if_o c15 h
      exact bL_law_2656 (w := (t13, w5)) B hE hl0 h k23 kR hR hS (lv_sub hl [2, 3, 4, 5, 6] rfl)
    · replace h := it_o c15 h
      refine lv_aload_n hx hb dL_law_2644 rfl (lv_at hl 5 rfl) ?_
      refine lv_iconst (v := 0) hx hb dL_law_2645 (by decide) ?_
      replace h := bo_o h
      obtain ⟨x16, e17, h⟩ := h
      refine h_lald hx hb hK hR.2.weak e17 dL_law_2646 ?_
      refine lv_iload hx hb dL_law_2647 (lv_at hl 0 rfl) ?_
      refine lv_i2l hx hb dL_law_2649 rfl ?_
      refine W.lcmp hx hb dL_law_2650 ?_
      refine lv_if_eq (tgt := 2656) hx hb dL_law_2651 (by decide) (fun c18 => ?_) (fun c18 => ?_)
      · replace h := it_o c18 h
        exact bL_law_2656 (w := (t13, w5)) B hE hl0 h k23 kR hR hS (lv_sub hl [2, 3, 4, 5, 6] rfl)
      · replace h := if_o c18 h
        refine lv_iconst (v := 0) hx hb dL_law_2654 (by decide) ?_
        have eR := kR _ (Option.some.inj h).symm
        subst eR
        exact hE _ ls H locs w5 _ dL_law_2655 hS
  · replace h := if_o c14 h
    refine lv_iconst (v := 0) hx hb dL_law_2637 (by decide) ?_
    have eR := kR _ (Option.some.inj h).symm
    subst eR
    exact hE _ ls H locs w5 _ dL_law_2638 hS
noncomputable def fL_law_b2731 (L : Nat) (xs : Nat → Int32) (v1 : Nat) (v3 : Nat) (v4 : Int32) (w : LW) : Option (Sum (Int32 × LW) (Int32)) :=
  fL_law_b3008 L xs v1 v3 v4 w
theorem bL_law_2731 {p : Program} {l : Launch} {e : Env} {s : State} {m : MethodId} {args : Array Value} {below : List Frame} {meth : Method} {c : Code} {H : Heap} {locs : List Loc} {ls : Array Slot} {G : gE} {w0 : WH} {o b L : Nat} {xs : Nat → Int32} {Q : Int32 → State → Prop} (B : lB G b L xs w0 p s m args meth c) (hE : lE l G w0 p e s m args below meth c Q) (hl0 : l.stackTraces = false) {v1 : Nat} {v3 : Nat} {v4 : Int32} {w : LW} {x : Sum (Int32 × LW) (Int32)} {r : Int32} (h : fL_law_b2731 L xs v1 v3 v4 w = some x)  (k23 : ∀ (v4' : Int32) (w' : LW), x = (.inl (v4', w')) → ∀ (H : Heap) (locs : List Loc) (ls : Array Slot), RepL G o w' H → Cu (gFr G) s w0 w'.2 H locs → lv_has ls 8 [(0, .ref b), (1, .ref v1), (2, .ref o), (3, .ref v3), (4, .int v4')] → W p l e room_1 s m args below meth c H locs (wC w0 - wC w'.2) (wS w0 - wS w'.2) (Q r) (F0 m 23 ls [])) (kR : ∀ q, x = (.inr q) → q = r) (hR : RepL G o w H) (hS : Cu (gFr G) s w0 w.2 H locs) (hl : lv_has ls 8 [(0, .ref b), (1, .ref v1), (2, .ref o), (3, .ref v3), (4, .int v4)]) : W p l e room_1 s m args below meth c H locs (wC w0 - wC w.2) (wS w0 - wS w.2) (Q r) (F0 m 2731 ls []) := by
  have B0 := B
  obtain ⟨⟨hx, hb, hml, hown, hts, hr, hlk, hK⟩, hX, hbl, hbA, hRc, hRs⟩ := B0
  unfold fL_law_b2731 at h
  refine lv_goto (tgt := 3008) hx hb dL_law_2731 (by decide) ?_
  exact bL_law_3008 (w := w) B hE hl0 h k23 kR hR hS (lv_sub hl [0, 1, 2, 3, 4] rfl)
noncomputable def fL_law_b2725 (L : Nat) (xs : Nat → Int32) (v1 : Nat) (v3 : Nat) (v4 : Int32) (s0 : Int64) (s1 : Int64) (w : LW) : Option (Sum (Int32 × LW) (Int32)) :=
  if lg_cmp s0 s1 = 0 then (
    fL_law_b2731 L xs v1 v3 v4 w
  ) else (
    some (.inr 0)
  )
theorem bL_law_2725 {p : Program} {l : Launch} {e : Env} {s : State} {m : MethodId} {args : Array Value} {below : List Frame} {meth : Method} {c : Code} {H : Heap} {locs : List Loc} {ls : Array Slot} {G : gE} {w0 : WH} {o b L : Nat} {xs : Nat → Int32} {Q : Int32 → State → Prop} (B : lB G b L xs w0 p s m args meth c) (hE : lE l G w0 p e s m args below meth c Q) (hl0 : l.stackTraces = false) {v1 : Nat} {v3 : Nat} {v4 : Int32} {s0 : Int64} {s1 : Int64} {w : LW} {x : Sum (Int32 × LW) (Int32)} {r : Int32} (h : fL_law_b2725 L xs v1 v3 v4 s0 s1 w = some x)  (k23 : ∀ (v4' : Int32) (w' : LW), x = (.inl (v4', w')) → ∀ (H : Heap) (locs : List Loc) (ls : Array Slot), RepL G o w' H → Cu (gFr G) s w0 w'.2 H locs → lv_has ls 8 [(0, .ref b), (1, .ref v1), (2, .ref o), (3, .ref v3), (4, .int v4')] → W p l e room_1 s m args below meth c H locs (wC w0 - wC w'.2) (wS w0 - wS w'.2) (Q r) (F0 m 23 ls [])) (kR : ∀ q, x = (.inr q) → q = r) (hR : RepL G o w H) (hS : Cu (gFr G) s w0 w.2 H locs) (hl : lv_has ls 8 [(0, .ref b), (1, .ref v1), (2, .ref o), (3, .ref v3), (4, .int v4)]) : W p l e room_1 s m args below meth c H locs (wC w0 - wC w.2) (wS w0 - wS w.2) (Q r) (F0 m 2725 ls [.long s1, .long s0]) := by
  have B0 := B
  obtain ⟨⟨hx, hb, hml, hown, hts, hr, hlk, hK⟩, hX, hbl, hbA, hRc, hRs⟩ := B0
  unfold fL_law_b2725 at h
  refine W.lcmp hx hb dL_law_2725 ?_
  refine lv_if_eq (tgt := 2731) hx hb dL_law_2726 (by decide) (fun c1 => ?_) (fun c1 => ?_)
  · replace h := it_o c1 h
    exact bL_law_2731 (w := w) B hE hl0 h k23 kR hR hS (lv_sub hl [0, 1, 2, 3, 4] rfl)
  · replace h := if_o c1 h
    refine lv_iconst (v := 0) hx hb dL_law_2729 (by decide) ?_
    have eR := kR _ (Option.some.inj h).symm
    subst eR
    exact hE _ ls H locs w.2 _ dL_law_2730 hS
noncomputable def fL_law_b2707 (L : Nat) (xs : Nat → Int32) (v1 : Nat) (v3 : Nat) (v4 : Int32) (v5 : Int32) (v6 : Int32) (w : LW) : Option (Sum (Int32 × LW) (Int32)) :=
  if v5 = 0 then (
    (ldJ w.2 v3 0).bind fun x2 =>
    if v6 = 0 then (
      fL_law_b2725 L xs v1 v3 v4 x2 0 w
    ) else (
      fL_law_b2725 L xs v1 v3 v4 x2 1 w
    )
  ) else (
    fL_law_b2731 L xs v1 v3 v4 w
  )
theorem bL_law_2707 {p : Program} {l : Launch} {e : Env} {s : State} {m : MethodId} {args : Array Value} {below : List Frame} {meth : Method} {c : Code} {H : Heap} {locs : List Loc} {ls : Array Slot} {G : gE} {w0 : WH} {o b L : Nat} {xs : Nat → Int32} {Q : Int32 → State → Prop} (B : lB G b L xs w0 p s m args meth c) (hE : lE l G w0 p e s m args below meth c Q) (hl0 : l.stackTraces = false) {v1 : Nat} {v3 : Nat} {v4 : Int32} {v5 : Int32} {v6 : Int32} {w : LW} {x : Sum (Int32 × LW) (Int32)} {r : Int32} (h : fL_law_b2707 L xs v1 v3 v4 v5 v6 w = some x)  (k23 : ∀ (v4' : Int32) (w' : LW), x = (.inl (v4', w')) → ∀ (H : Heap) (locs : List Loc) (ls : Array Slot), RepL G o w' H → Cu (gFr G) s w0 w'.2 H locs → lv_has ls 8 [(0, .ref b), (1, .ref v1), (2, .ref o), (3, .ref v3), (4, .int v4')] → W p l e room_1 s m args below meth c H locs (wC w0 - wC w'.2) (wS w0 - wS w'.2) (Q r) (F0 m 23 ls [])) (kR : ∀ q, x = (.inr q) → q = r) (hR : RepL G o w H) (hS : Cu (gFr G) s w0 w.2 H locs) (hl : lv_has ls 8 [(0, .ref b), (1, .ref v1), (2, .ref o), (3, .ref v3), (4, .int v4), (5, .int v5), (6, .int v6)]) : W p l e room_1 s m args below meth c H locs (wC w0 - wC w.2) (wS w0 - wS w.2) (Q r) (F0 m 2707 ls []) := by
  have B0 := B
  obtain ⟨⟨hx, hb, hml, hown, hts, hr, hlk, hK⟩, hX, hbl, hbA, hRc, hRs⟩ := B0
  unfold fL_law_b2707 at h
  refine lv_iload hx hb dL_law_2707 (lv_at hl 5 rfl) ?_
  refine lv_if_ne (tgt := 2731) hx hb dL_law_2709 (by decide) (fun c1 => ?_) (fun c1 => ?_)
  · replace h := if_o c1 h
    exact bL_law_2731 (w := w) B hE hl0 h k23 kR hR hS (lv_sub hl [0, 1, 2, 3, 4] rfl)
  · replace h := it_o c1 h
    refine lv_aload_n hx hb dL_law_2712 rfl (lv_at hl 3 rfl) ?_
    refine lv_iconst (v := 0) hx hb dL_law_2713 (by decide) ?_
    replace h := bo_o h
    obtain ⟨x2, e3, h⟩ := h
    refine h_lald hx hb hK hR.2.weak e3 dL_law_2714 ?_
    refine lv_iload hx hb dL_law_2715 (lv_at hl 6 rfl) ?_
    refine lv_if_eq (tgt := 2724) hx hb dL_law_2717 (by decide) (fun c4 => ?_) (fun c4 => ?_)
    · replace h := it_o c4 h
      refine lv_lconst (v := 0) hx hb dL_law_2724 (by decide) ?_
      exact bL_law_2725 (w := w) B hE hl0 h k23 kR hR hS (lv_sub hl [0, 1, 2, 3, 4] rfl)
    · replace h := if_o c4 h
      refine lv_lconst (v := 1) hx hb dL_law_2720 (by decide) ?_
      refine lv_goto (tgt := 2725) hx hb dL_law_2721 (by decide) ?_
      exact bL_law_2725 (w := w) B hE hl0 h k23 kR hR hS (lv_sub hl [0, 1, 2, 3, 4] rfl)
noncomputable def fL_law_b2659 (L : Nat) (xs : Nat → Int32) (v1 : Nat) (v3 : Nat) (v4 : Int32) (w : LW) : Option (Sum (Int32 × LW) (Int32)) :=
  (sld L xs (v4 + 1)).bind fun x1 =>
  (sld L xs (v4 + 2)).bind fun x3 =>
  b2_ (fX0_swapTolls v1 x1 x3 v3 w.2) fun x5 w7 =>
  (sld L xs (v4 + 1)).bind fun x8 =>
  (sld L xs (v4 + 2)).bind fun x10 =>
  b2_ (fX5_swapTolls x8 x10 w.1) fun x12 t14 =>
  b2_ (fX5_thrown  t14) fun x15 t17 =>
  if x15 = x5 then (
    fL_law_b2707 L xs v1 v3 v4 x5 x12 (t17, w7)
  ) else (
    some (.inr 0)
  )
theorem bL_law_2659 {p : Program} {l : Launch} {e : Env} {s : State} {m : MethodId} {args : Array Value} {below : List Frame} {meth : Method} {c : Code} {H : Heap} {locs : List Loc} {ls : Array Slot} {G : gE} {w0 : WH} {o b L : Nat} {xs : Nat → Int32} {Q : Int32 → State → Prop} (B : lB G b L xs w0 p s m args meth c) (hE : lE l G w0 p e s m args below meth c Q) (hl0 : l.stackTraces = false) {v1 : Nat} {v3 : Nat} {v4 : Int32} {w : LW} {x : Sum (Int32 × LW) (Int32)} {r : Int32} (h : fL_law_b2659 L xs v1 v3 v4 w = some x)  (k23 : ∀ (v4' : Int32) (w' : LW), x = (.inl (v4', w')) → ∀ (H : Heap) (locs : List Loc) (ls : Array Slot), RepL G o w' H → Cu (gFr G) s w0 w'.2 H locs → lv_has ls 8 [(0, .ref b), (1, .ref v1), (2, .ref o), (3, .ref v3), (4, .int v4')] → W p l e room_1 s m args below meth c H locs (wC w0 - wC w'.2) (wS w0 - wS w'.2) (Q r) (F0 m 23 ls [])) (kR : ∀ q, x = (.inr q) → q = r) (hR : RepL G o w H) (hS : Cu (gFr G) s w0 w.2 H locs) (hl : lv_has ls 8 [(0, .ref b), (1, .ref v1), (2, .ref o), (3, .ref v3), (4, .int v4)]) : W p l e room_1 s m args below meth c H locs (wC w0 - wC w.2) (wS w0 - wS w.2) (Q r) (F0 m 2659 ls []) := by
  have B0 := B
  obtain ⟨⟨hx, hb, hml, hown, hts, hr, hlk, hK⟩, hX, hbl, hbA, hRc, hRs⟩ := B0
  unfold fL_law_b2659 at h
  refine lv_aload_n hx hb dL_law_2659 rfl (lv_at hl 1 rfl) ?_
  refine lv_aload_n hx hb dL_law_2660 rfl (lv_at hl 0 rfl) ?_
  refine lv_iload hx hb dL_law_2661 (lv_at hl 4 rfl) ?_
  refine lv_iconst (v := 1) hx hb dL_law_2663 (by decide) ?_
  refine lv_iadd hx hb dL_law_2664 ?_
  replace h := bo_o h
  obtain ⟨x1, e2, h⟩ := h
  refine l_sld (w := w) hx hb hX hbl hbA hS e2 dL_law_2665 ?_
  refine lv_aload_n hx hb dL_law_2666 rfl (lv_at hl 0 rfl) ?_
  refine lv_iload hx hb dL_law_2667 (lv_at hl 4 rfl) ?_
  refine lv_iconst (v := 2) hx hb dL_law_2669 (by decide) ?_
  refine lv_iadd hx hb dL_law_2670 ?_
  replace h := bo_o h
  obtain ⟨x3, e4, h⟩ := h
  refine l_sld (w := w) hx hb hX hbl hbA hS e4 dL_law_2671 ?_
  refine lv_aload_n hx hb dL_law_2672 rfl (lv_at hl 3 rfl) ?_
  replace h := b2_o h
  obtain ⟨x5, w7, e6, h⟩ := h
  refine l_callSW 4 (As := [.ref v1, .int x1, .int x3, .ref v3]) (rest := []) (v := (some (.int x5))) (w' := w7) (st1 := [.int x5]) hx hb hml hown hts hK hR hS hRc hRs (mX0_swapTolls hl0 e6) (lw_SW q2376 q2377 q111 q2378) (by decide +kernel) (Nat.le_of_ble_eq_true rfl) (Nat.le_of_ble_eq_true rfl) rfl hl.1 (Nat.le_of_ble_eq_true rfl) dL_law_2673 rfl rfl (fun H locs hR hS => ?_)
  refine lv_istore (lv' := [(5, .int x5), (0, .ref b), (1, .ref v1), (2, .ref o), (3, .ref v3), (4, .int v4)]) hx hb dL_law_2676 hl (by decide) rfl (fun ls hl => ?_)
  refine lv_aload_n hx hb dL_law_2678 rfl (lv_at hl 3 rfl) ?_
  refine lv_aload_n hx hb dL_law_2679 rfl (lv_at hl 1 rfl) ?_
  refine lv_iload hx hb dL_law_2680 (lv_at hl 5 rfl) ?_
  refine lv_iconst (v := 1) hx hb dL_law_2682 (by decide) ?_
  refine lv_iadd hx hb dL_law_2683 ?_
  replace h := bo_o h
  obtain ⟨x8, e9, h⟩ := h
  refine l_sld (w := (w.1, w7)) hx hb hX hbl hbA hS e9 dL_law_2684 ?_
  refine lv_aload_n hx hb dL_law_2685 rfl (lv_at hl 1 rfl) ?_
  refine lv_iload hx hb dL_law_2686 (lv_at hl 5 rfl) ?_
  refine lv_iconst (v := 2) hx hb dL_law_2688 (by decide) ?_
  refine lv_iadd hx hb dL_law_2689 ?_
  replace h := bo_o h
  obtain ⟨x10, e11, h⟩ := h
  refine l_sld (w := (w.1, w7)) hx hb hX hbl hbA hS e11 dL_law_2690 ?_
  replace h := b2_o h
  obtain ⟨x12, t14, e13, h⟩ := h
  refine l_callT 2 (As := [.int x8, .int x10]) (rest := []) (v := (some (.int x12))) (T' := t14) (st1 := [.int x12]) hx hb hml hown hts hK hR hS hRc hRs (mX5_swapTolls e13) (lw_V q2690 q2691 q2692 q137 q2693) (by decide +kernel) (Nat.le_of_ble_eq_true rfl) (Nat.le_of_ble_eq_true rfl) rfl hl.1 (Nat.le_of_ble_eq_true rfl) dL_law_2691 rfl rfl (fun H locs hR hS => ?_)
  refine lv_istore (lv' := [(6, .int x12), (5, .int x5), (0, .ref b), (1, .ref v1), (2, .ref o), (3, .ref v3), (4, .int v4)]) hx hb dL_law_2694 hl (by decide) rfl (fun ls hl => ?_)
  refine lv_aload_n hx hb dL_law_2696 rfl (lv_at hl 4 rfl) ?_
  replace h := b2_o h
  obtain ⟨x15, t17, e16, h⟩ := h
  refine l_callT 0 (As := []) (rest := []) (v := (some (.int x15))) (T' := t17) (st1 := [.int x15]) hx hb hml hown hts hK hR hS hRc hRs (mX5_thrown e16) (lw_V q2534 q2535 q2536 q137 q2537) (by decide +kernel) (Nat.le_of_ble_eq_true rfl) (Nat.le_of_ble_eq_true rfl) rfl hl.1 (Nat.le_of_ble_eq_true rfl) dL_law_2697 rfl rfl (fun H locs hR hS => ?_)
  refine lv_iload hx hb dL_law_2700 (lv_at hl 1 rfl) ?_
  refine lv_icmp_eq (tgt := 2707) hx hb dL_law_2702 (by decide) (fun c18 => ?_) (fun c18 => ?_)
  · replace h := it_o c18 h
    exact bL_law_2707 (w := (t17, w7)) B hE hl0 h k23 kR hR hS (lv_sub hl [2, 3, 4, 5, 6, 1, 0] rfl)
  · replace h := if_o c18 h
    refine lv_iconst (v := 0) hx hb dL_law_2705 (by decide) ?_
    have eR := kR _ (Option.some.inj h).symm
    subst eR
    exact hE _ ls H locs w7 _ dL_law_2706 hS
noncomputable def fL_law_b2734 (L : Nat) (xs : Nat → Int32) (v1 : Nat) (v3 : Nat) (v4 : Int32) (w : LW) : Option (Sum (Int32 × LW) (Int32)) :=
  (hIs w.2 v1 17).bind fun _ =>
  b2_ (fX1_improvable v1 w.2) fun x1 w3 =>
  b2_ (fX5_improvable  w.1) fun x5 t7 =>
  if x1 = x5 then (
    fL_law_b3008 L xs v1 v3 v4 (t7, w3)
  ) else (
    some (.inr 0)
  )
theorem bL_law_2734 {p : Program} {l : Launch} {e : Env} {s : State} {m : MethodId} {args : Array Value} {below : List Frame} {meth : Method} {c : Code} {H : Heap} {locs : List Loc} {ls : Array Slot} {G : gE} {w0 : WH} {o b L : Nat} {xs : Nat → Int32} {Q : Int32 → State → Prop} (B : lB G b L xs w0 p s m args meth c) (hE : lE l G w0 p e s m args below meth c Q) (hl0 : l.stackTraces = false) {v1 : Nat} {v3 : Nat} {v4 : Int32} {w : LW} {x : Sum (Int32 × LW) (Int32)} {r : Int32} (h : fL_law_b2734 L xs v1 v3 v4 w = some x)  (k23 : ∀ (v4' : Int32) (w' : LW), x = (.inl (v4', w')) → ∀ (H : Heap) (locs : List Loc) (ls : Array Slot), RepL G o w' H → Cu (gFr G) s w0 w'.2 H locs → lv_has ls 8 [(0, .ref b), (1, .ref v1), (2, .ref o), (3, .ref v3), (4, .int v4')] → W p l e room_1 s m args below meth c H locs (wC w0 - wC w'.2) (wS w0 - wS w'.2) (Q r) (F0 m 23 ls [])) (kR : ∀ q, x = (.inr q) → q = r) (hR : RepL G o w H) (hS : Cu (gFr G) s w0 w.2 H locs) (hl : lv_has ls 8 [(0, .ref b), (1, .ref v1), (2, .ref o), (3, .ref v3), (4, .int v4)]) : W p l e room_1 s m args below meth c H locs (wC w0 - wC w.2) (wS w0 - wS w.2) (Q r) (F0 m 2734 ls []) := by
  have B0 := B
  obtain ⟨⟨hx, hb, hml, hown, hts, hr, hlk, hK⟩, hX, hbl, hbA, hRc, hRs⟩ := B0
  unfold fL_law_b2734 at h
  refine lv_aload_n hx hb dL_law_2734 rfl (lv_at hl 1 rfl) ?_
  replace h := bo_o h
  obtain ⟨_, e4, h⟩ := h
  replace h := b2_o h
  obtain ⟨x1, w3, e2, h⟩ := h
  refine l_callV 0 (ci := 17) (As := []) (rest := []) (v := (some (.int x1))) (w' := w3) (st1 := [.int x1]) hx hb hml hown hts hK hR hS hRc hRs rfl e4 (mX1_improvable e2) (lw_V q1819 q1820 q1821 q112 q1822) (by decide +kernel) (Nat.le_of_ble_eq_true rfl) (Nat.le_of_ble_eq_true rfl) rfl hl.1 (Nat.le_of_ble_eq_true rfl) dL_law_2735 rfl rfl (fun H locs hR hS => ?_)
  refine lv_aload_n hx hb dL_law_2738 rfl (lv_at hl 2 rfl) ?_
  replace h := b2_o h
  obtain ⟨x5, t7, e6, h⟩ := h
  refine l_callT 0 (As := []) (rest := [.int x1]) (v := (some (.int x5))) (T' := t7) (st1 := [.int x5, .int x1]) hx hb hml hown hts hK hR hS hRc hRs (mX5_improvable e6) (lw_V q2948 q2949 q2950 q137 q2951) (by decide +kernel) (Nat.le_of_ble_eq_true rfl) (Nat.le_of_ble_eq_true rfl) rfl hl.1 (Nat.le_of_ble_eq_true rfl) dL_law_2739 rfl rfl (fun H locs hR hS => ?_)
  refine lv_icmp_eq (tgt := 3008) hx hb dL_law_2742 (by decide) (fun c8 => ?_) (fun c8 => ?_)
  · replace h := it_o c8 h
    exact bL_law_3008 (w := (t7, w3)) B hE hl0 h k23 kR hR hS (lv_sub hl [0, 1, 2, 3, 4] rfl)
  · replace h := if_o c8 h
    refine lv_iconst (v := 0) hx hb dL_law_2745 (by decide) ?_
    have eR := kR _ (Option.some.inj h).symm
    subst eR
    exact hE _ ls H locs w3 _ dL_law_2746 hS
noncomputable def fL_law_b2799 (L : Nat) (xs : Nat → Int32) (v1 : Nat) (v3 : Nat) (v4 : Int32) (w : LW) : Option (Sum (Int32 × LW) (Int32)) :=
  fL_law_b3008 L xs v1 v3 v4 w
theorem bL_law_2799 {p : Program} {l : Launch} {e : Env} {s : State} {m : MethodId} {args : Array Value} {below : List Frame} {meth : Method} {c : Code} {H : Heap} {locs : List Loc} {ls : Array Slot} {G : gE} {w0 : WH} {o b L : Nat} {xs : Nat → Int32} {Q : Int32 → State → Prop} (B : lB G b L xs w0 p s m args meth c) (hE : lE l G w0 p e s m args below meth c Q) (hl0 : l.stackTraces = false) {v1 : Nat} {v3 : Nat} {v4 : Int32} {w : LW} {x : Sum (Int32 × LW) (Int32)} {r : Int32} (h : fL_law_b2799 L xs v1 v3 v4 w = some x)  (k23 : ∀ (v4' : Int32) (w' : LW), x = (.inl (v4', w')) → ∀ (H : Heap) (locs : List Loc) (ls : Array Slot), RepL G o w' H → Cu (gFr G) s w0 w'.2 H locs → lv_has ls 8 [(0, .ref b), (1, .ref v1), (2, .ref o), (3, .ref v3), (4, .int v4')] → W p l e room_1 s m args below meth c H locs (wC w0 - wC w'.2) (wS w0 - wS w'.2) (Q r) (F0 m 23 ls [])) (kR : ∀ q, x = (.inr q) → q = r) (hR : RepL G o w H) (hS : Cu (gFr G) s w0 w.2 H locs) (hl : lv_has ls 8 [(0, .ref b), (1, .ref v1), (2, .ref o), (3, .ref v3), (4, .int v4)]) : W p l e room_1 s m args below meth c H locs (wC w0 - wC w.2) (wS w0 - wS w.2) (Q r) (F0 m 2799 ls []) := by
  have B0 := B
  obtain ⟨⟨hx, hb, hml, hown, hts, hr, hlk, hK⟩, hX, hbl, hbA, hRc, hRs⟩ := B0
  unfold fL_law_b2799 at h
  refine lv_goto (tgt := 3008) hx hb dL_law_2799 (by decide) ?_
  exact bL_law_3008 (w := w) B hE hl0 h k23 kR hR hS (lv_sub hl [0, 1, 2, 3, 4] rfl)
noncomputable def fL_law_b2747 (L : Nat) (xs : Nat → Int32) (v1 : Nat) (v3 : Nat) (v4 : Int32) (w : LW) : Option (Sum (Int32 × LW) (Int32)) :=
  (sld L xs (v4 + 1)).bind fun x1 =>
  b2_ (fX0_worth v1 x1 v3 w.2) fun x3 w5 =>
  (sld L xs (v4 + 1)).bind fun x6 =>
  b2_ (fX5_worth x6 w.1) fun x8 t10 =>
  b2_ (fX5_thrown  t10) fun x11 t13 =>
  if x11 = x3 then (
    if x3 = 0 then (
      (ldJ w5 v3 0).bind fun x16 =>
      if lg_cmp x16 x8 = 0 then (
        fL_law_b2799 L xs v1 v3 v4 (t13, w5)
      ) else (
        some (.inr 0)
      )
    ) else (
      fL_law_b2799 L xs v1 v3 v4 (t13, w5)
    )
  ) else (
    some (.inr 0)
  )
theorem bL_law_2747 {p : Program} {l : Launch} {e : Env} {s : State} {m : MethodId} {args : Array Value} {below : List Frame} {meth : Method} {c : Code} {H : Heap} {locs : List Loc} {ls : Array Slot} {G : gE} {w0 : WH} {o b L : Nat} {xs : Nat → Int32} {Q : Int32 → State → Prop} (B : lB G b L xs w0 p s m args meth c) (hE : lE l G w0 p e s m args below meth c Q) (hl0 : l.stackTraces = false) {v1 : Nat} {v3 : Nat} {v4 : Int32} {w : LW} {x : Sum (Int32 × LW) (Int32)} {r : Int32} (h : fL_law_b2747 L xs v1 v3 v4 w = some x)  (k23 : ∀ (v4' : Int32) (w' : LW), x = (.inl (v4', w')) → ∀ (H : Heap) (locs : List Loc) (ls : Array Slot), RepL G o w' H → Cu (gFr G) s w0 w'.2 H locs → lv_has ls 8 [(0, .ref b), (1, .ref v1), (2, .ref o), (3, .ref v3), (4, .int v4')] → W p l e room_1 s m args below meth c H locs (wC w0 - wC w'.2) (wS w0 - wS w'.2) (Q r) (F0 m 23 ls [])) (kR : ∀ q, x = (.inr q) → q = r) (hR : RepL G o w H) (hS : Cu (gFr G) s w0 w.2 H locs) (hl : lv_has ls 8 [(0, .ref b), (1, .ref v1), (2, .ref o), (3, .ref v3), (4, .int v4)]) : W p l e room_1 s m args below meth c H locs (wC w0 - wC w.2) (wS w0 - wS w.2) (Q r) (F0 m 2747 ls []) := by
  have B0 := B
  obtain ⟨⟨hx, hb, hml, hown, hts, hr, hlk, hK⟩, hX, hbl, hbA, hRc, hRs⟩ := B0
  unfold fL_law_b2747 at h
  refine lv_aload_n hx hb dL_law_2747 rfl (lv_at hl 1 rfl) ?_
  refine lv_aload_n hx hb dL_law_2748 rfl (lv_at hl 0 rfl) ?_
  refine lv_iload hx hb dL_law_2749 (lv_at hl 4 rfl) ?_
  refine lv_iconst (v := 1) hx hb dL_law_2751 (by decide) ?_
  refine lv_iadd hx hb dL_law_2752 ?_
  replace h := bo_o h
  obtain ⟨x1, e2, h⟩ := h
  refine l_sld (w := w) hx hb hX hbl hbA hS e2 dL_law_2753 ?_
  refine lv_aload_n hx hb dL_law_2754 rfl (lv_at hl 3 rfl) ?_
  replace h := b2_o h
  obtain ⟨x3, w5, e4, h⟩ := h
  refine l_callSW 3 (As := [.ref v1, .int x1, .ref v3]) (rest := []) (v := (some (.int x3))) (w' := w5) (st1 := [.int x3]) hx hb hml hown hts hK hR hS hRc hRs (mX0_worth hl0 e4) (lw_SW q2383 q2384 q111 q2385) (by decide +kernel) (Nat.le_of_ble_eq_true rfl) (Nat.le_of_ble_eq_true rfl) rfl hl.1 (Nat.le_of_ble_eq_true rfl) dL_law_2755 rfl rfl (fun H locs hR hS => ?_)
  refine lv_istore (lv' := [(5, .int x3), (0, .ref b), (1, .ref v1), (2, .ref o), (3, .ref v3), (4, .int v4)]) hx hb dL_law_2758 hl (by decide) rfl (fun ls hl => ?_)
  refine lv_aload_n hx hb dL_law_2760 rfl (lv_at hl 3 rfl) ?_
  refine lv_aload_n hx hb dL_law_2761 rfl (lv_at hl 1 rfl) ?_
  refine lv_iload hx hb dL_law_2762 (lv_at hl 5 rfl) ?_
  refine lv_iconst (v := 1) hx hb dL_law_2764 (by decide) ?_
  refine lv_iadd hx hb dL_law_2765 ?_
  replace h := bo_o h
  obtain ⟨x6, e7, h⟩ := h
  refine l_sld (w := (w.1, w5)) hx hb hX hbl hbA hS e7 dL_law_2766 ?_
  replace h := b2_o h
  obtain ⟨x8, t10, e9, h⟩ := h
  refine l_callT 1 (As := [.int x6]) (rest := []) (v := (some (.long x8))) (T' := t10) (st1 := [.long x8]) hx hb hml hown hts hK hR hS hRc hRs (mX5_worth e9) (lw_V q2976 q2977 q2978 q137 q2979) (by decide +kernel) (Nat.le_of_ble_eq_true rfl) (Nat.le_of_ble_eq_true rfl) rfl hl.1 (Nat.le_of_ble_eq_true rfl) dL_law_2767 rfl rfl (fun H locs hR hS => ?_)
  refine lv_lstore (lv' := [(6, .long x8), (5, .int x3), (0, .ref b), (1, .ref v1), (2, .ref o), (3, .ref v3), (4, .int v4)]) hx hb dL_law_2770 hl (by decide) rfl (fun ls hl => ?_)
  refine lv_aload_n hx hb dL_law_2772 rfl (lv_at hl 4 rfl) ?_
  replace h := b2_o h
  obtain ⟨x11, t13, e12, h⟩ := h
  refine l_callT 0 (As := []) (rest := []) (v := (some (.int x11))) (T' := t13) (st1 := [.int x11]) hx hb hml hown hts hK hR hS hRc hRs (mX5_thrown e12) (lw_V q2534 q2535 q2536 q137 q2537) (by decide +kernel) (Nat.le_of_ble_eq_true rfl) (Nat.le_of_ble_eq_true rfl) rfl hl.1 (Nat.le_of_ble_eq_true rfl) dL_law_2773 rfl rfl (fun H locs hR hS => ?_)
  refine lv_iload hx hb dL_law_2776 (lv_at hl 1 rfl) ?_
  refine lv_icmp_eq (tgt := 2783) hx hb dL_law_2778 (by decide) (fun c14 => ?_) (fun c14 => ?_)
  · replace h := it_o c14 h
    refine lv_iload hx hb dL_law_2783 (lv_at hl 1 rfl) ?_
    refine lv_if_ne (tgt := 2799) hx hb dL_law_2785 (by decide) (fun c15 => ?_) (fun c15 => ?_)
    · replace h := if_o c15 h
      exact bL_law_2799 (w := (t13, w5)) B hE hl0 h k23 kR hR hS (lv_sub hl [2, 3, 4, 5, 6] rfl)
    · replace h := it_o c15 h
      refine lv_aload_n hx hb dL_law_2788 rfl (lv_at hl 5 rfl) ?_
      refine lv_iconst (v := 0) hx hb dL_law_2789 (by decide) ?_
      replace h := bo_o h
      obtain ⟨x16, e17, h⟩ := h
      refine h_lald hx hb hK hR.2.weak e17 dL_law_2790 ?_
      refine lv_lload hx hb dL_law_2791 (lv_at hl 0 rfl) ?_
      refine W.lcmp hx hb dL_law_2793 ?_
      refine lv_if_eq (tgt := 2799) hx hb dL_law_2794 (by decide) (fun c18 => ?_) (fun c18 => ?_)
      · replace h := it_o c18 h
        exact bL_law_2799 (w := (t13, w5)) B hE hl0 h k23 kR hR hS (lv_sub hl [2, 3, 4, 5, 6] rfl)
      · replace h := if_o c18 h
        refine lv_iconst (v := 0) hx hb dL_law_2797 (by decide) ?_
        have eR := kR _ (Option.some.inj h).symm
        subst eR
        exact hE _ ls H locs w5 _ dL_law_2798 hS
  · replace h := if_o c14 h
    refine lv_iconst (v := 0) hx hb dL_law_2781 (by decide) ?_
    have eR := kR _ (Option.some.inj h).symm
    subst eR
    exact hE _ ls H locs w5 _ dL_law_2782 hS
noncomputable def fL_law_b2855 (L : Nat) (xs : Nat → Int32) (v1 : Nat) (v3 : Nat) (v4 : Int32) (w : LW) : Option (Sum (Int32 × LW) (Int32)) :=
  fL_law_b3008 L xs v1 v3 v4 w
theorem bL_law_2855 {p : Program} {l : Launch} {e : Env} {s : State} {m : MethodId} {args : Array Value} {below : List Frame} {meth : Method} {c : Code} {H : Heap} {locs : List Loc} {ls : Array Slot} {G : gE} {w0 : WH} {o b L : Nat} {xs : Nat → Int32} {Q : Int32 → State → Prop} (B : lB G b L xs w0 p s m args meth c) (hE : lE l G w0 p e s m args below meth c Q) (hl0 : l.stackTraces = false) {v1 : Nat} {v3 : Nat} {v4 : Int32} {w : LW} {x : Sum (Int32 × LW) (Int32)} {r : Int32} (h : fL_law_b2855 L xs v1 v3 v4 w = some x)  (k23 : ∀ (v4' : Int32) (w' : LW), x = (.inl (v4', w')) → ∀ (H : Heap) (locs : List Loc) (ls : Array Slot), RepL G o w' H → Cu (gFr G) s w0 w'.2 H locs → lv_has ls 8 [(0, .ref b), (1, .ref v1), (2, .ref o), (3, .ref v3), (4, .int v4')] → W p l e room_1 s m args below meth c H locs (wC w0 - wC w'.2) (wS w0 - wS w'.2) (Q r) (F0 m 23 ls [])) (kR : ∀ q, x = (.inr q) → q = r) (hR : RepL G o w H) (hS : Cu (gFr G) s w0 w.2 H locs) (hl : lv_has ls 8 [(0, .ref b), (1, .ref v1), (2, .ref o), (3, .ref v3), (4, .int v4)]) : W p l e room_1 s m args below meth c H locs (wC w0 - wC w.2) (wS w0 - wS w.2) (Q r) (F0 m 2855 ls []) := by
  have B0 := B
  obtain ⟨⟨hx, hb, hml, hown, hts, hr, hlk, hK⟩, hX, hbl, hbA, hRc, hRs⟩ := B0
  unfold fL_law_b2855 at h
  refine lv_goto (tgt := 3008) hx hb dL_law_2855 (by decide) ?_
  exact bL_law_3008 (w := w) B hE hl0 h k23 kR hR hS (lv_sub hl [0, 1, 2, 3, 4] rfl)
noncomputable def fL_law_b2802 (L : Nat) (xs : Nat → Int32) (v1 : Nat) (v3 : Nat) (v4 : Int32) (w : LW) : Option (Sum (Int32 × LW) (Int32)) :=
  (sld L xs (v4 + 1)).bind fun x1 =>
  b2_ (fX0_writePath v1 x1 v3 w.2) fun x3 w5 =>
  (sld L xs (v4 + 1)).bind fun x6 =>
  b2_ (fX5_writePath x6 w.1) fun x8 t10 =>
  b2_ (fX5_thrown  t10) fun x11 t13 =>
  if x11 = x3 then (
    if x3 = 0 then (
      (ldJ w5 v3 0).bind fun x16 =>
      if lg_cmp x16 (x8.toInt64) = 0 then (
        fL_law_b2855 L xs v1 v3 v4 (t13, w5)
      ) else (
        some (.inr 0)
      )
    ) else (
      fL_law_b2855 L xs v1 v3 v4 (t13, w5)
    )
  ) else (
    some (.inr 0)
  )
theorem bL_law_2802 {p : Program} {l : Launch} {e : Env} {s : State} {m : MethodId} {args : Array Value} {below : List Frame} {meth : Method} {c : Code} {H : Heap} {locs : List Loc} {ls : Array Slot} {G : gE} {w0 : WH} {o b L : Nat} {xs : Nat → Int32} {Q : Int32 → State → Prop} (B : lB G b L xs w0 p s m args meth c) (hE : lE l G w0 p e s m args below meth c Q) (hl0 : l.stackTraces = false) {v1 : Nat} {v3 : Nat} {v4 : Int32} {w : LW} {x : Sum (Int32 × LW) (Int32)} {r : Int32} (h : fL_law_b2802 L xs v1 v3 v4 w = some x)  (k23 : ∀ (v4' : Int32) (w' : LW), x = (.inl (v4', w')) → ∀ (H : Heap) (locs : List Loc) (ls : Array Slot), RepL G o w' H → Cu (gFr G) s w0 w'.2 H locs → lv_has ls 8 [(0, .ref b), (1, .ref v1), (2, .ref o), (3, .ref v3), (4, .int v4')] → W p l e room_1 s m args below meth c H locs (wC w0 - wC w'.2) (wS w0 - wS w'.2) (Q r) (F0 m 23 ls [])) (kR : ∀ q, x = (.inr q) → q = r) (hR : RepL G o w H) (hS : Cu (gFr G) s w0 w.2 H locs) (hl : lv_has ls 8 [(0, .ref b), (1, .ref v1), (2, .ref o), (3, .ref v3), (4, .int v4)]) : W p l e room_1 s m args below meth c H locs (wC w0 - wC w.2) (wS w0 - wS w.2) (Q r) (F0 m 2802 ls []) := by
  have B0 := B
  obtain ⟨⟨hx, hb, hml, hown, hts, hr, hlk, hK⟩, hX, hbl, hbA, hRc, hRs⟩ := B0
  unfold fL_law_b2802 at h
  refine lv_aload_n hx hb dL_law_2802 rfl (lv_at hl 1 rfl) ?_
  refine lv_aload_n hx hb dL_law_2803 rfl (lv_at hl 0 rfl) ?_
  refine lv_iload hx hb dL_law_2804 (lv_at hl 4 rfl) ?_
  refine lv_iconst (v := 1) hx hb dL_law_2806 (by decide) ?_
  refine lv_iadd hx hb dL_law_2807 ?_
  replace h := bo_o h
  obtain ⟨x1, e2, h⟩ := h
  refine l_sld (w := w) hx hb hX hbl hbA hS e2 dL_law_2808 ?_
  refine lv_aload_n hx hb dL_law_2809 rfl (lv_at hl 3 rfl) ?_
  replace h := b2_o h
  obtain ⟨x3, w5, e4, h⟩ := h
  refine l_callSW 3 (As := [.ref v1, .int x1, .ref v3]) (rest := []) (v := (some (.int x3))) (w' := w5) (st1 := [.int x3]) hx hb hml hown hts hK hR hS hRc hRs (mX0_writePath hl0 e4) (lw_SW q2390 q2391 q111 q2392) (by decide +kernel) (Nat.le_of_ble_eq_true rfl) (Nat.le_of_ble_eq_true rfl) rfl hl.1 (Nat.le_of_ble_eq_true rfl) dL_law_2810 rfl rfl (fun H locs hR hS => ?_)
  refine lv_istore (lv' := [(5, .int x3), (0, .ref b), (1, .ref v1), (2, .ref o), (3, .ref v3), (4, .int v4)]) hx hb dL_law_2813 hl (by decide) rfl (fun ls hl => ?_)
  refine lv_aload_n hx hb dL_law_2815 rfl (lv_at hl 3 rfl) ?_
  refine lv_aload_n hx hb dL_law_2816 rfl (lv_at hl 1 rfl) ?_
  refine lv_iload hx hb dL_law_2817 (lv_at hl 5 rfl) ?_
  refine lv_iconst (v := 1) hx hb dL_law_2819 (by decide) ?_
  refine lv_iadd hx hb dL_law_2820 ?_
  replace h := bo_o h
  obtain ⟨x6, e7, h⟩ := h
  refine l_sld (w := (w.1, w5)) hx hb hX hbl hbA hS e7 dL_law_2821 ?_
  replace h := b2_o h
  obtain ⟨x8, t10, e9, h⟩ := h
  refine l_callT 1 (As := [.int x6]) (rest := []) (v := (some (.int x8))) (T' := t10) (st1 := [.int x8]) hx hb hml hown hts hK hR hS hRc hRs (mX5_writePath e9) (lw_V q3000 q3001 q3002 q137 q3003) (by decide +kernel) (Nat.le_of_ble_eq_true rfl) (Nat.le_of_ble_eq_true rfl) rfl hl.1 (Nat.le_of_ble_eq_true rfl) dL_law_2822 rfl rfl (fun H locs hR hS => ?_)
  refine lv_istore (lv' := [(6, .int x8), (5, .int x3), (0, .ref b), (1, .ref v1), (2, .ref o), (3, .ref v3), (4, .int v4)]) hx hb dL_law_2825 hl (by decide) rfl (fun ls hl => ?_)
  refine lv_aload_n hx hb dL_law_2827 rfl (lv_at hl 4 rfl) ?_
  replace h := b2_o h
  obtain ⟨x11, t13, e12, h⟩ := h
  refine l_callT 0 (As := []) (rest := []) (v := (some (.int x11))) (T' := t13) (st1 := [.int x11]) hx hb hml hown hts hK hR hS hRc hRs (mX5_thrown e12) (lw_V q2534 q2535 q2536 q137 q2537) (by decide +kernel) (Nat.le_of_ble_eq_true rfl) (Nat.le_of_ble_eq_true rfl) rfl hl.1 (Nat.le_of_ble_eq_true rfl) dL_law_2828 rfl rfl (fun H locs hR hS => ?_)
  refine lv_iload hx hb dL_law_2831 (lv_at hl 1 rfl) ?_
  refine lv_icmp_eq (tgt := 2838) hx hb dL_law_2833 (by decide) (fun c14 => ?_) (fun c14 => ?_)
  · replace h := it_o c14 h
    refine lv_iload hx hb dL_law_2838 (lv_at hl 1 rfl) ?_
    refine lv_if_ne (tgt := 2855) hx hb dL_law_2840 (by decide) (fun c15 => ?_) (fun c15 => ?_)
    · replace h := if_o c15 h
      exact bL_law_2855 (w := (t13, w5)) B hE hl0 h k23 kR hR hS (lv_sub hl [2, 3, 4, 5, 6] rfl)
    · replace h := it_o c15 h
      refine lv_aload_n hx hb dL_law_2843 rfl (lv_at hl 5 rfl) ?_
      refine lv_iconst (v := 0) hx hb dL_law_2844 (by decide) ?_
      replace h := bo_o h
      obtain ⟨x16, e17, h⟩ := h
      refine h_lald hx hb hK hR.2.weak e17 dL_law_2845 ?_
      refine lv_iload hx hb dL_law_2846 (lv_at hl 0 rfl) ?_
      refine lv_i2l hx hb dL_law_2848 rfl ?_
      refine W.lcmp hx hb dL_law_2849 ?_
      refine lv_if_eq (tgt := 2855) hx hb dL_law_2850 (by decide) (fun c18 => ?_) (fun c18 => ?_)
      · replace h := it_o c18 h
        exact bL_law_2855 (w := (t13, w5)) B hE hl0 h k23 kR hR hS (lv_sub hl [2, 3, 4, 5, 6] rfl)
      · replace h := if_o c18 h
        refine lv_iconst (v := 0) hx hb dL_law_2853 (by decide) ?_
        have eR := kR _ (Option.some.inj h).symm
        subst eR
        exact hE _ ls H locs w5 _ dL_law_2854 hS
  · replace h := if_o c14 h
    refine lv_iconst (v := 0) hx hb dL_law_2836 (by decide) ?_
    have eR := kR _ (Option.some.inj h).symm
    subst eR
    exact hE _ ls H locs w5 _ dL_law_2837 hS
noncomputable def fL_law_b2858 (L : Nat) (xs : Nat → Int32) (v1 : Nat) (v3 : Nat) (v4 : Int32) (w : LW) : Option (Sum (Int32 × LW) (Int32)) :=
  (hIs w.2 v1 17).bind fun _ =>
  b2_ (fX1_writeTolls v1 w.2) fun x1 w3 =>
  b2_ (fX5_writeTolls  w.1) fun x5 t7 =>
  if x1 = x5 then (
    fL_law_b3008 L xs v1 v3 v4 (t7, w3)
  ) else (
    some (.inr 0)
  )
theorem bL_law_2858 {p : Program} {l : Launch} {e : Env} {s : State} {m : MethodId} {args : Array Value} {below : List Frame} {meth : Method} {c : Code} {H : Heap} {locs : List Loc} {ls : Array Slot} {G : gE} {w0 : WH} {o b L : Nat} {xs : Nat → Int32} {Q : Int32 → State → Prop} (B : lB G b L xs w0 p s m args meth c) (hE : lE l G w0 p e s m args below meth c Q) (hl0 : l.stackTraces = false) {v1 : Nat} {v3 : Nat} {v4 : Int32} {w : LW} {x : Sum (Int32 × LW) (Int32)} {r : Int32} (h : fL_law_b2858 L xs v1 v3 v4 w = some x)  (k23 : ∀ (v4' : Int32) (w' : LW), x = (.inl (v4', w')) → ∀ (H : Heap) (locs : List Loc) (ls : Array Slot), RepL G o w' H → Cu (gFr G) s w0 w'.2 H locs → lv_has ls 8 [(0, .ref b), (1, .ref v1), (2, .ref o), (3, .ref v3), (4, .int v4')] → W p l e room_1 s m args below meth c H locs (wC w0 - wC w'.2) (wS w0 - wS w'.2) (Q r) (F0 m 23 ls [])) (kR : ∀ q, x = (.inr q) → q = r) (hR : RepL G o w H) (hS : Cu (gFr G) s w0 w.2 H locs) (hl : lv_has ls 8 [(0, .ref b), (1, .ref v1), (2, .ref o), (3, .ref v3), (4, .int v4)]) : W p l e room_1 s m args below meth c H locs (wC w0 - wC w.2) (wS w0 - wS w.2) (Q r) (F0 m 2858 ls []) := by
  have B0 := B
  obtain ⟨⟨hx, hb, hml, hown, hts, hr, hlk, hK⟩, hX, hbl, hbA, hRc, hRs⟩ := B0
  unfold fL_law_b2858 at h
  refine lv_aload_n hx hb dL_law_2858 rfl (lv_at hl 1 rfl) ?_
  replace h := bo_o h
  obtain ⟨_, e4, h⟩ := h
  replace h := b2_o h
  obtain ⟨x1, w3, e2, h⟩ := h
  refine l_callV 0 (ci := 17) (As := []) (rest := []) (v := (some (.int x1))) (w' := w3) (st1 := [.int x1]) hx hb hml hown hts hK hR hS hRc hRs rfl e4 (mX1_writeTolls e2) (lw_V q1823 q1824 q1825 q112 q1826) (by decide +kernel) (Nat.le_of_ble_eq_true rfl) (Nat.le_of_ble_eq_true rfl) rfl hl.1 (Nat.le_of_ble_eq_true rfl) dL_law_2859 rfl rfl (fun H locs hR hS => ?_)
  refine lv_aload_n hx hb dL_law_2862 rfl (lv_at hl 2 rfl) ?_
  replace h := b2_o h
  obtain ⟨x5, t7, e6, h⟩ := h
  refine l_callT 0 (As := []) (rest := [.int x1]) (v := (some (.int x5))) (T' := t7) (st1 := [.int x5, .int x1]) hx hb hml hown hts hK hR hS hRc hRs (mX5_writeTolls e6) (lw_V q3017 q3018 q3019 q137 q3020) (by decide +kernel) (Nat.le_of_ble_eq_true rfl) (Nat.le_of_ble_eq_true rfl) rfl hl.1 (Nat.le_of_ble_eq_true rfl) dL_law_2863 rfl rfl (fun H locs hR hS => ?_)
  refine lv_icmp_eq (tgt := 3008) hx hb dL_law_2866 (by decide) (fun c8 => ?_) (fun c8 => ?_)
  · replace h := it_o c8 h
    exact bL_law_3008 (w := (t7, w3)) B hE hl0 h k23 kR hR hS (lv_sub hl [0, 1, 2, 3, 4] rfl)
  · replace h := if_o c8 h
    refine lv_iconst (v := 0) hx hb dL_law_2869 (by decide) ?_
    have eR := kR _ (Option.some.inj h).symm
    subst eR
    exact hE _ ls H locs w3 _ dL_law_2870 hS
noncomputable def fL_law_b2871 (L : Nat) (xs : Nat → Int32) (v1 : Nat) (v3 : Nat) (v4 : Int32) (w : LW) : Option (Sum (Int32 × LW) (Int32)) :=
  (sld L xs (v4 + 1)).bind fun x1 =>
  (hIs w.2 v1 17).bind fun _ =>
  b2_ (fX1_outputByte v1 x1 w.2) fun x3 w5 =>
  (sld L xs (v4 + 1)).bind fun x7 =>
  b2_ (fX5_outputByte x7 w.1) fun x9 t11 =>
  if x3 = x9 then (
    fL_law_b3008 L xs v1 v3 v4 (t11, w5)
  ) else (
    some (.inr 0)
  )
theorem bL_law_2871 {p : Program} {l : Launch} {e : Env} {s : State} {m : MethodId} {args : Array Value} {below : List Frame} {meth : Method} {c : Code} {H : Heap} {locs : List Loc} {ls : Array Slot} {G : gE} {w0 : WH} {o b L : Nat} {xs : Nat → Int32} {Q : Int32 → State → Prop} (B : lB G b L xs w0 p s m args meth c) (hE : lE l G w0 p e s m args below meth c Q) (hl0 : l.stackTraces = false) {v1 : Nat} {v3 : Nat} {v4 : Int32} {w : LW} {x : Sum (Int32 × LW) (Int32)} {r : Int32} (h : fL_law_b2871 L xs v1 v3 v4 w = some x)  (k23 : ∀ (v4' : Int32) (w' : LW), x = (.inl (v4', w')) → ∀ (H : Heap) (locs : List Loc) (ls : Array Slot), RepL G o w' H → Cu (gFr G) s w0 w'.2 H locs → lv_has ls 8 [(0, .ref b), (1, .ref v1), (2, .ref o), (3, .ref v3), (4, .int v4')] → W p l e room_1 s m args below meth c H locs (wC w0 - wC w'.2) (wS w0 - wS w'.2) (Q r) (F0 m 23 ls [])) (kR : ∀ q, x = (.inr q) → q = r) (hR : RepL G o w H) (hS : Cu (gFr G) s w0 w.2 H locs) (hl : lv_has ls 8 [(0, .ref b), (1, .ref v1), (2, .ref o), (3, .ref v3), (4, .int v4)]) : W p l e room_1 s m args below meth c H locs (wC w0 - wC w.2) (wS w0 - wS w.2) (Q r) (F0 m 2871 ls []) := by
  have B0 := B
  obtain ⟨⟨hx, hb, hml, hown, hts, hr, hlk, hK⟩, hX, hbl, hbA, hRc, hRs⟩ := B0
  unfold fL_law_b2871 at h
  refine lv_aload_n hx hb dL_law_2871 rfl (lv_at hl 1 rfl) ?_
  refine lv_aload_n hx hb dL_law_2872 rfl (lv_at hl 0 rfl) ?_
  refine lv_iload hx hb dL_law_2873 (lv_at hl 4 rfl) ?_
  refine lv_iconst (v := 1) hx hb dL_law_2875 (by decide) ?_
  refine lv_iadd hx hb dL_law_2876 ?_
  replace h := bo_o h
  obtain ⟨x1, e2, h⟩ := h
  refine l_sld (w := w) hx hb hX hbl hbA hS e2 dL_law_2877 ?_
  replace h := bo_o h
  obtain ⟨_, e6, h⟩ := h
  replace h := b2_o h
  obtain ⟨x3, w5, e4, h⟩ := h
  refine l_callV 1 (ci := 17) (As := [.int x1]) (rest := []) (v := (some (.int x3))) (w' := w5) (st1 := [.int x3]) hx hb hml hown hts hK hR hS hRc hRs rfl e6 (mX1_outputByte e4) (lw_V q1896 q1897 q1898 q112 q1899) (by decide +kernel) (Nat.le_of_ble_eq_true rfl) (Nat.le_of_ble_eq_true rfl) rfl hl.1 (Nat.le_of_ble_eq_true rfl) dL_law_2878 rfl rfl (fun H locs hR hS => ?_)
  refine lv_aload_n hx hb dL_law_2881 rfl (lv_at hl 2 rfl) ?_
  refine lv_aload_n hx hb dL_law_2882 rfl (lv_at hl 0 rfl) ?_
  refine lv_iload hx hb dL_law_2883 (lv_at hl 4 rfl) ?_
  refine lv_iconst (v := 1) hx hb dL_law_2885 (by decide) ?_
  refine lv_iadd hx hb dL_law_2886 ?_
  replace h := bo_o h
  obtain ⟨x7, e8, h⟩ := h
  refine l_sld (w := (w.1, w5)) hx hb hX hbl hbA hS e8 dL_law_2887 ?_
  replace h := b2_o h
  obtain ⟨x9, t11, e10, h⟩ := h
  refine l_callT 1 (As := [.int x7]) (rest := [.int x3]) (v := (some (.int x9))) (T' := t11) (st1 := [.int x9, .int x3]) hx hb hml hown hts hK hR hS hRc hRs (mX5_outputByte e10) (lw_V q3021 q3022 q3023 q137 q3024) (by decide +kernel) (Nat.le_of_ble_eq_true rfl) (Nat.le_of_ble_eq_true rfl) rfl hl.1 (Nat.le_of_ble_eq_true rfl) dL_law_2888 rfl rfl (fun H locs hR hS => ?_)
  refine lv_icmp_eq (tgt := 3008) hx hb dL_law_2891 (by decide) (fun c12 => ?_) (fun c12 => ?_)
  · replace h := it_o c12 h
    exact bL_law_3008 (w := (t11, w5)) B hE hl0 h k23 kR hR hS (lv_sub hl [0, 1, 2, 3, 4] rfl)
  · replace h := if_o c12 h
    refine lv_iconst (v := 0) hx hb dL_law_2894 (by decide) ?_
    have eR := kR _ (Option.some.inj h).symm
    subst eR
    exact hE _ ls H locs w5 _ dL_law_2895 hS
noncomputable def fL_law_b2949 (L : Nat) (xs : Nat → Int32) (v1 : Nat) (v3 : Nat) (v4 : Int32) (w : LW) : Option (Sum (Int32 × LW) (Int32)) :=
  fL_law_b3008 L xs v1 v3 v4 w
theorem bL_law_2949 {p : Program} {l : Launch} {e : Env} {s : State} {m : MethodId} {args : Array Value} {below : List Frame} {meth : Method} {c : Code} {H : Heap} {locs : List Loc} {ls : Array Slot} {G : gE} {w0 : WH} {o b L : Nat} {xs : Nat → Int32} {Q : Int32 → State → Prop} (B : lB G b L xs w0 p s m args meth c) (hE : lE l G w0 p e s m args below meth c Q) (hl0 : l.stackTraces = false) {v1 : Nat} {v3 : Nat} {v4 : Int32} {w : LW} {x : Sum (Int32 × LW) (Int32)} {r : Int32} (h : fL_law_b2949 L xs v1 v3 v4 w = some x)  (k23 : ∀ (v4' : Int32) (w' : LW), x = (.inl (v4', w')) → ∀ (H : Heap) (locs : List Loc) (ls : Array Slot), RepL G o w' H → Cu (gFr G) s w0 w'.2 H locs → lv_has ls 8 [(0, .ref b), (1, .ref v1), (2, .ref o), (3, .ref v3), (4, .int v4')] → W p l e room_1 s m args below meth c H locs (wC w0 - wC w'.2) (wS w0 - wS w'.2) (Q r) (F0 m 23 ls [])) (kR : ∀ q, x = (.inr q) → q = r) (hR : RepL G o w H) (hS : Cu (gFr G) s w0 w.2 H locs) (hl : lv_has ls 8 [(0, .ref b), (1, .ref v1), (2, .ref o), (3, .ref v3), (4, .int v4)]) : W p l e room_1 s m args below meth c H locs (wC w0 - wC w.2) (wS w0 - wS w.2) (Q r) (F0 m 2949 ls []) := by
  have B0 := B
  obtain ⟨⟨hx, hb, hml, hown, hts, hr, hlk, hK⟩, hX, hbl, hbA, hRc, hRs⟩ := B0
  unfold fL_law_b2949 at h
  refine lv_goto (tgt := 3008) hx hb dL_law_2949 (by decide) ?_
  exact bL_law_3008 (w := w) B hE hl0 h k23 kR hR hS (lv_sub hl [0, 1, 2, 3, 4] rfl)
noncomputable def fL_law_b2896 (L : Nat) (xs : Nat → Int32) (v1 : Nat) (v3 : Nat) (v4 : Int32) (w : LW) : Option (Sum (Int32 × LW) (Int32)) :=
  (sld L xs (v4 + 1)).bind fun x1 =>
  b2_ (fX0_saveSnapshot v1 x1 v3 w.2) fun x3 w5 =>
  (sld L xs (v4 + 1)).bind fun x6 =>
  b2_ (fX5_saveSnapshot x6 w.1) fun x8 t10 =>
  b2_ (fX5_thrown  t10) fun x11 t13 =>
  if x11 = x3 then (
    if x3 = 0 then (
      (ldJ w5 v3 0).bind fun x16 =>
      if lg_cmp x16 (x8.toInt64) = 0 then (
        fL_law_b2949 L xs v1 v3 v4 (t13, w5)
      ) else (
        some (.inr 0)
      )
    ) else (
      fL_law_b2949 L xs v1 v3 v4 (t13, w5)
    )
  ) else (
    some (.inr 0)
  )
theorem bL_law_2896 {p : Program} {l : Launch} {e : Env} {s : State} {m : MethodId} {args : Array Value} {below : List Frame} {meth : Method} {c : Code} {H : Heap} {locs : List Loc} {ls : Array Slot} {G : gE} {w0 : WH} {o b L : Nat} {xs : Nat → Int32} {Q : Int32 → State → Prop} (B : lB G b L xs w0 p s m args meth c) (hE : lE l G w0 p e s m args below meth c Q) (hl0 : l.stackTraces = false) {v1 : Nat} {v3 : Nat} {v4 : Int32} {w : LW} {x : Sum (Int32 × LW) (Int32)} {r : Int32} (h : fL_law_b2896 L xs v1 v3 v4 w = some x)  (k23 : ∀ (v4' : Int32) (w' : LW), x = (.inl (v4', w')) → ∀ (H : Heap) (locs : List Loc) (ls : Array Slot), RepL G o w' H → Cu (gFr G) s w0 w'.2 H locs → lv_has ls 8 [(0, .ref b), (1, .ref v1), (2, .ref o), (3, .ref v3), (4, .int v4')] → W p l e room_1 s m args below meth c H locs (wC w0 - wC w'.2) (wS w0 - wS w'.2) (Q r) (F0 m 23 ls [])) (kR : ∀ q, x = (.inr q) → q = r) (hR : RepL G o w H) (hS : Cu (gFr G) s w0 w.2 H locs) (hl : lv_has ls 8 [(0, .ref b), (1, .ref v1), (2, .ref o), (3, .ref v3), (4, .int v4)]) : W p l e room_1 s m args below meth c H locs (wC w0 - wC w.2) (wS w0 - wS w.2) (Q r) (F0 m 2896 ls []) := by
  have B0 := B
  obtain ⟨⟨hx, hb, hml, hown, hts, hr, hlk, hK⟩, hX, hbl, hbA, hRc, hRs⟩ := B0
  unfold fL_law_b2896 at h
  refine lv_aload_n hx hb dL_law_2896 rfl (lv_at hl 1 rfl) ?_
  refine lv_aload_n hx hb dL_law_2897 rfl (lv_at hl 0 rfl) ?_
  refine lv_iload hx hb dL_law_2898 (lv_at hl 4 rfl) ?_
  refine lv_iconst (v := 1) hx hb dL_law_2900 (by decide) ?_
  refine lv_iadd hx hb dL_law_2901 ?_
  replace h := bo_o h
  obtain ⟨x1, e2, h⟩ := h
  refine l_sld (w := w) hx hb hX hbl hbA hS e2 dL_law_2902 ?_
  refine lv_aload_n hx hb dL_law_2903 rfl (lv_at hl 3 rfl) ?_
  replace h := b2_o h
  obtain ⟨x3, w5, e4, h⟩ := h
  refine l_callSW 3 (As := [.ref v1, .int x1, .ref v3]) (rest := []) (v := (some (.int x3))) (w' := w5) (st1 := [.int x3]) hx hb hml hown hts hK hR hS hRc hRs (mX0_saveSnapshot hl0 e4) (lw_SW q2407 q2408 q111 q2409) (by decide +kernel) (Nat.le_of_ble_eq_true rfl) (Nat.le_of_ble_eq_true rfl) rfl hl.1 (Nat.le_of_ble_eq_true rfl) dL_law_2904 rfl rfl (fun H locs hR hS => ?_)
  refine lv_istore (lv' := [(5, .int x3), (0, .ref b), (1, .ref v1), (2, .ref o), (3, .ref v3), (4, .int v4)]) hx hb dL_law_2907 hl (by decide) rfl (fun ls hl => ?_)
  refine lv_aload_n hx hb dL_law_2909 rfl (lv_at hl 3 rfl) ?_
  refine lv_aload_n hx hb dL_law_2910 rfl (lv_at hl 1 rfl) ?_
  refine lv_iload hx hb dL_law_2911 (lv_at hl 5 rfl) ?_
  refine lv_iconst (v := 1) hx hb dL_law_2913 (by decide) ?_
  refine lv_iadd hx hb dL_law_2914 ?_
  replace h := bo_o h
  obtain ⟨x6, e7, h⟩ := h
  refine l_sld (w := (w.1, w5)) hx hb hX hbl hbA hS e7 dL_law_2915 ?_
  replace h := b2_o h
  obtain ⟨x8, t10, e9, h⟩ := h
  refine l_callT 1 (As := [.int x6]) (rest := []) (v := (some (.int x8))) (T' := t10) (st1 := [.int x8]) hx hb hml hown hts hK hR hS hRc hRs (mX5_saveSnapshot e9) (lw_V q3025 q3026 q3027 q137 q3028) (by decide +kernel) (Nat.le_of_ble_eq_true rfl) (Nat.le_of_ble_eq_true rfl) rfl hl.1 (Nat.le_of_ble_eq_true rfl) dL_law_2916 rfl rfl (fun H locs hR hS => ?_)
  refine lv_istore (lv' := [(6, .int x8), (5, .int x3), (0, .ref b), (1, .ref v1), (2, .ref o), (3, .ref v3), (4, .int v4)]) hx hb dL_law_2919 hl (by decide) rfl (fun ls hl => ?_)
  refine lv_aload_n hx hb dL_law_2921 rfl (lv_at hl 4 rfl) ?_
  replace h := b2_o h
  obtain ⟨x11, t13, e12, h⟩ := h
  refine l_callT 0 (As := []) (rest := []) (v := (some (.int x11))) (T' := t13) (st1 := [.int x11]) hx hb hml hown hts hK hR hS hRc hRs (mX5_thrown e12) (lw_V q2534 q2535 q2536 q137 q2537) (by decide +kernel) (Nat.le_of_ble_eq_true rfl) (Nat.le_of_ble_eq_true rfl) rfl hl.1 (Nat.le_of_ble_eq_true rfl) dL_law_2922 rfl rfl (fun H locs hR hS => ?_)
  refine lv_iload hx hb dL_law_2925 (lv_at hl 1 rfl) ?_
  refine lv_icmp_eq (tgt := 2932) hx hb dL_law_2927 (by decide) (fun c14 => ?_) (fun c14 => ?_)
  · replace h := it_o c14 h
    refine lv_iload hx hb dL_law_2932 (lv_at hl 1 rfl) ?_
    refine lv_if_ne (tgt := 2949) hx hb dL_law_2934 (by decide) (fun c15 => ?_) (fun c15 => ?_)
    · replace h := if_o c15 h
      exact bL_law_2949 (w := (t13, w5)) B hE hl0 h k23 kR hR hS (lv_sub hl [2, 3, 4, 5, 6] rfl)
    · replace h := it_o c15 h
      refine lv_aload_n hx hb dL_law_2937 rfl (lv_at hl 5 rfl) ?_
      refine lv_iconst (v := 0) hx hb dL_law_2938 (by decide) ?_
      replace h := bo_o h
      obtain ⟨x16, e17, h⟩ := h
      refine h_lald hx hb hK hR.2.weak e17 dL_law_2939 ?_
      refine lv_iload hx hb dL_law_2940 (lv_at hl 0 rfl) ?_
      refine lv_i2l hx hb dL_law_2942 rfl ?_
      refine W.lcmp hx hb dL_law_2943 ?_
      refine lv_if_eq (tgt := 2949) hx hb dL_law_2944 (by decide) (fun c18 => ?_) (fun c18 => ?_)
      · replace h := it_o c18 h
        exact bL_law_2949 (w := (t13, w5)) B hE hl0 h k23 kR hR hS (lv_sub hl [2, 3, 4, 5, 6] rfl)
      · replace h := if_o c18 h
        refine lv_iconst (v := 0) hx hb dL_law_2947 (by decide) ?_
        have eR := kR _ (Option.some.inj h).symm
        subst eR
        exact hE _ ls H locs w5 _ dL_law_2948 hS
  · replace h := if_o c14 h
    refine lv_iconst (v := 0) hx hb dL_law_2930 (by decide) ?_
    have eR := kR _ (Option.some.inj h).symm
    subst eR
    exact hE _ ls H locs w5 _ dL_law_2931 hS
noncomputable def fL_law_b3005 (L : Nat) (xs : Nat → Int32) (v1 : Nat) (v3 : Nat) (v4 : Int32) (w : LW) : Option (Sum (Int32 × LW) (Int32)) :=
  fL_law_b3008 L xs v1 v3 v4 w
theorem bL_law_3005 {p : Program} {l : Launch} {e : Env} {s : State} {m : MethodId} {args : Array Value} {below : List Frame} {meth : Method} {c : Code} {H : Heap} {locs : List Loc} {ls : Array Slot} {G : gE} {w0 : WH} {o b L : Nat} {xs : Nat → Int32} {Q : Int32 → State → Prop} (B : lB G b L xs w0 p s m args meth c) (hE : lE l G w0 p e s m args below meth c Q) (hl0 : l.stackTraces = false) {v1 : Nat} {v3 : Nat} {v4 : Int32} {w : LW} {x : Sum (Int32 × LW) (Int32)} {r : Int32} (h : fL_law_b3005 L xs v1 v3 v4 w = some x)  (k23 : ∀ (v4' : Int32) (w' : LW), x = (.inl (v4', w')) → ∀ (H : Heap) (locs : List Loc) (ls : Array Slot), RepL G o w' H → Cu (gFr G) s w0 w'.2 H locs → lv_has ls 8 [(0, .ref b), (1, .ref v1), (2, .ref o), (3, .ref v3), (4, .int v4')] → W p l e room_1 s m args below meth c H locs (wC w0 - wC w'.2) (wS w0 - wS w'.2) (Q r) (F0 m 23 ls [])) (kR : ∀ q, x = (.inr q) → q = r) (hR : RepL G o w H) (hS : Cu (gFr G) s w0 w.2 H locs) (hl : lv_has ls 8 [(0, .ref b), (1, .ref v1), (2, .ref o), (3, .ref v3), (4, .int v4)]) : W p l e room_1 s m args below meth c H locs (wC w0 - wC w.2) (wS w0 - wS w.2) (Q r) (F0 m 3005 ls []) := by
  have B0 := B
  obtain ⟨⟨hx, hb, hml, hown, hts, hr, hlk, hK⟩, hX, hbl, hbA, hRc, hRs⟩ := B0
  unfold fL_law_b3005 at h
  refine lv_goto (tgt := 3008) hx hb dL_law_3005 (by decide) ?_
  exact bL_law_3008 (w := w) B hE hl0 h k23 kR hR hS (lv_sub hl [0, 1, 2, 3, 4] rfl)
noncomputable def fL_law_b2952 (L : Nat) (xs : Nat → Int32) (v1 : Nat) (v3 : Nat) (v4 : Int32) (w : LW) : Option (Sum (Int32 × LW) (Int32)) :=
  (sld L xs (v4 + 1)).bind fun x1 =>
  b2_ (fX0_restoreSnapshot v1 x1 v3 w.2) fun x3 w5 =>
  (sld L xs (v4 + 1)).bind fun x6 =>
  b2_ (fX5_restoreSnapshot x6 w.1) fun x8 t10 =>
  b2_ (fX5_thrown  t10) fun x11 t13 =>
  if x11 = x3 then (
    if x3 = 0 then (
      (ldJ w5 v3 0).bind fun x16 =>
      if lg_cmp x16 (x8.toInt64) = 0 then (
        fL_law_b3005 L xs v1 v3 v4 (t13, w5)
      ) else (
        some (.inr 0)
      )
    ) else (
      fL_law_b3005 L xs v1 v3 v4 (t13, w5)
    )
  ) else (
    some (.inr 0)
  )
theorem bL_law_2952 {p : Program} {l : Launch} {e : Env} {s : State} {m : MethodId} {args : Array Value} {below : List Frame} {meth : Method} {c : Code} {H : Heap} {locs : List Loc} {ls : Array Slot} {G : gE} {w0 : WH} {o b L : Nat} {xs : Nat → Int32} {Q : Int32 → State → Prop} (B : lB G b L xs w0 p s m args meth c) (hE : lE l G w0 p e s m args below meth c Q) (hl0 : l.stackTraces = false) {v1 : Nat} {v3 : Nat} {v4 : Int32} {w : LW} {x : Sum (Int32 × LW) (Int32)} {r : Int32} (h : fL_law_b2952 L xs v1 v3 v4 w = some x)  (k23 : ∀ (v4' : Int32) (w' : LW), x = (.inl (v4', w')) → ∀ (H : Heap) (locs : List Loc) (ls : Array Slot), RepL G o w' H → Cu (gFr G) s w0 w'.2 H locs → lv_has ls 8 [(0, .ref b), (1, .ref v1), (2, .ref o), (3, .ref v3), (4, .int v4')] → W p l e room_1 s m args below meth c H locs (wC w0 - wC w'.2) (wS w0 - wS w'.2) (Q r) (F0 m 23 ls [])) (kR : ∀ q, x = (.inr q) → q = r) (hR : RepL G o w H) (hS : Cu (gFr G) s w0 w.2 H locs) (hl : lv_has ls 8 [(0, .ref b), (1, .ref v1), (2, .ref o), (3, .ref v3), (4, .int v4)]) : W p l e room_1 s m args below meth c H locs (wC w0 - wC w.2) (wS w0 - wS w.2) (Q r) (F0 m 2952 ls []) := by
  have B0 := B
  obtain ⟨⟨hx, hb, hml, hown, hts, hr, hlk, hK⟩, hX, hbl, hbA, hRc, hRs⟩ := B0
  unfold fL_law_b2952 at h
  refine lv_aload_n hx hb dL_law_2952 rfl (lv_at hl 1 rfl) ?_
  refine lv_aload_n hx hb dL_law_2953 rfl (lv_at hl 0 rfl) ?_
  refine lv_iload hx hb dL_law_2954 (lv_at hl 4 rfl) ?_
  refine lv_iconst (v := 1) hx hb dL_law_2956 (by decide) ?_
  refine lv_iadd hx hb dL_law_2957 ?_
  replace h := bo_o h
  obtain ⟨x1, e2, h⟩ := h
  refine l_sld (w := w) hx hb hX hbl hbA hS e2 dL_law_2958 ?_
  refine lv_aload_n hx hb dL_law_2959 rfl (lv_at hl 3 rfl) ?_
  replace h := b2_o h
  obtain ⟨x3, w5, e4, h⟩ := h
  refine l_callSW 3 (As := [.ref v1, .int x1, .ref v3]) (rest := []) (v := (some (.int x3))) (w' := w5) (st1 := [.int x3]) hx hb hml hown hts hK hR hS hRc hRs (mX0_restoreSnapshot hl0 e4) (lw_SW q2417 q2418 q111 q2419) (by decide +kernel) (Nat.le_of_ble_eq_true rfl) (Nat.le_of_ble_eq_true rfl) rfl hl.1 (Nat.le_of_ble_eq_true rfl) dL_law_2960 rfl rfl (fun H locs hR hS => ?_)
  refine lv_istore (lv' := [(5, .int x3), (0, .ref b), (1, .ref v1), (2, .ref o), (3, .ref v3), (4, .int v4)]) hx hb dL_law_2963 hl (by decide) rfl (fun ls hl => ?_)
  refine lv_aload_n hx hb dL_law_2965 rfl (lv_at hl 3 rfl) ?_
  refine lv_aload_n hx hb dL_law_2966 rfl (lv_at hl 1 rfl) ?_
  refine lv_iload hx hb dL_law_2967 (lv_at hl 5 rfl) ?_
  refine lv_iconst (v := 1) hx hb dL_law_2969 (by decide) ?_
  refine lv_iadd hx hb dL_law_2970 ?_
  replace h := bo_o h
  obtain ⟨x6, e7, h⟩ := h
  refine l_sld (w := (w.1, w5)) hx hb hX hbl hbA hS e7 dL_law_2971 ?_
  replace h := b2_o h
  obtain ⟨x8, t10, e9, h⟩ := h
  refine l_callT 1 (As := [.int x6]) (rest := []) (v := (some (.int x8))) (T' := t10) (st1 := [.int x8]) hx hb hml hown hts hK hR hS hRc hRs (mX5_restoreSnapshot e9) (lw_V q3029 q3030 q3031 q137 q3032) (by decide +kernel) (Nat.le_of_ble_eq_true rfl) (Nat.le_of_ble_eq_true rfl) rfl hl.1 (Nat.le_of_ble_eq_true rfl) dL_law_2972 rfl rfl (fun H locs hR hS => ?_)
  refine lv_istore (lv' := [(6, .int x8), (5, .int x3), (0, .ref b), (1, .ref v1), (2, .ref o), (3, .ref v3), (4, .int v4)]) hx hb dL_law_2975 hl (by decide) rfl (fun ls hl => ?_)
  refine lv_aload_n hx hb dL_law_2977 rfl (lv_at hl 4 rfl) ?_
  replace h := b2_o h
  obtain ⟨x11, t13, e12, h⟩ := h
  refine l_callT 0 (As := []) (rest := []) (v := (some (.int x11))) (T' := t13) (st1 := [.int x11]) hx hb hml hown hts hK hR hS hRc hRs (mX5_thrown e12) (lw_V q2534 q2535 q2536 q137 q2537) (by decide +kernel) (Nat.le_of_ble_eq_true rfl) (Nat.le_of_ble_eq_true rfl) rfl hl.1 (Nat.le_of_ble_eq_true rfl) dL_law_2978 rfl rfl (fun H locs hR hS => ?_)
  refine lv_iload hx hb dL_law_2981 (lv_at hl 1 rfl) ?_
  refine lv_icmp_eq (tgt := 2988) hx hb dL_law_2983 (by decide) (fun c14 => ?_) (fun c14 => ?_)
  · replace h := it_o c14 h
    refine lv_iload hx hb dL_law_2988 (lv_at hl 1 rfl) ?_
    refine lv_if_ne (tgt := 3005) hx hb dL_law_2990 (by decide) (fun c15 => ?_) (fun c15 => ?_)
    · replace h := if_o c15 h
      exact bL_law_3005 (w := (t13, w5)) B hE hl0 h k23 kR hR hS (lv_sub hl [2, 3, 4, 5, 6] rfl)
    · replace h := it_o c15 h
      refine lv_aload_n hx hb dL_law_2993 rfl (lv_at hl 5 rfl) ?_
      refine lv_iconst (v := 0) hx hb dL_law_2994 (by decide) ?_
      replace h := bo_o h
      obtain ⟨x16, e17, h⟩ := h
      refine h_lald hx hb hK hR.2.weak e17 dL_law_2995 ?_
      refine lv_iload hx hb dL_law_2996 (lv_at hl 0 rfl) ?_
      refine lv_i2l hx hb dL_law_2998 rfl ?_
      refine W.lcmp hx hb dL_law_2999 ?_
      refine lv_if_eq (tgt := 3005) hx hb dL_law_3000 (by decide) (fun c18 => ?_) (fun c18 => ?_)
      · replace h := it_o c18 h
        exact bL_law_3005 (w := (t13, w5)) B hE hl0 h k23 kR hR hS (lv_sub hl [2, 3, 4, 5, 6] rfl)
      · replace h := if_o c18 h
        refine lv_iconst (v := 0) hx hb dL_law_3003 (by decide) ?_
        have eR := kR _ (Option.some.inj h).symm
        subst eR
        exact hE _ ls H locs w5 _ dL_law_3004 hS
  · replace h := if_o c14 h
    refine lv_iconst (v := 0) hx hb dL_law_2986 (by decide) ?_
    have eR := kR _ (Option.some.inj h).symm
    subst eR
    exact hE _ ls H locs w5 _ dL_law_2987 hS
noncomputable def fL_law_b23 (L : Nat) (xs : Nat → Int32) (v1 : Nat) (v3 : Nat) (v4 : Int32) (w : LW) : Option (Sum (Int32 × LW) (Int32)) :=
  if (Int32.ofNat L) - 4 < v4 then (
    some (.inr 1)
  ) else (
    (sld L xs v4).bind fun x2 =>
    nm_ (x2 &&& 63) fun x4 =>
    if x4 = 0 then (
      (sld L xs (v4 + 1)).bind fun x7 =>
      (sld L xs (v4 + 2)).bind fun x9 =>
      (hIs w.2 v1 17).bind fun _ =>
      b2_ (fX1_append v1 (((x7.toInt64) <<< ((32 : Int32).toInt64 &&& 63)) ||| ((x9.toInt64) &&& 4294967295)) w.2) fun x11 w13 =>
      (sld L xs (v4 + 1)).bind fun x15 =>
      (sld L xs (v4 + 2)).bind fun x17 =>
      fL_law_b333 L xs v1 v3 v4 x11 (((x15.toInt64) <<< ((32 : Int32).toInt64 &&& 63)) ||| ((x17.toInt64) &&& 4294967295)) (w.1, w13)
    ) else (
      if x4 = 1 then (
        fL_law_b341 L xs v1 v3 v4 w
      ) else (
        if x4 = 2 then (
          fL_law_b354 L xs v1 v3 v4 w
        ) else (
          if x4 = 3 then (
            fL_law_b367 L xs v1 v3 v4 w
          ) else (
            if x4 = 4 then (
              fL_law_b380 L xs v1 v3 v4 w
            ) else (
              if x4 = 5 then (
                fL_law_b436 L xs v1 v3 v4 w
              ) else (
                if x4 = 6 then (
                  fL_law_b504 L xs v1 v3 v4 w
                ) else (
                  if x4 = 7 then (
                    fL_law_b572 L xs v1 v3 v4 w
                  ) else (
                    if x4 = 8 then (
                      fL_law_b640 L xs v1 v3 v4 w
                    ) else (
                      if x4 = 9 then (
                        fL_law_b696 L xs v1 v3 v4 w
                      ) else (
                        if x4 = 10 then (
                          fL_law_b709 L xs v1 v3 v4 w
                        ) else (
                          if x4 = 11 then (
                            fL_law_b777 L xs v1 v3 v4 w
                          ) else (
                            if x4 = 12 then (
                              fL_law_b868 L xs v1 v3 v4 w
                            ) else (
                              if x4 = 13 then (
                                fL_law_b909 L xs v1 v3 v4 w
                              ) else (
                                if x4 = 14 then (
                                  fL_law_b922 L xs v1 v3 v4 w
                                ) else (
                                  if x4 = 15 then (
                                    fL_law_b935 L xs v1 v3 v4 w
                                  ) else (
                                    if x4 = 16 then (
                                      fL_law_b948 L xs v1 v3 v4 w
                                    ) else (
                                      if x4 = 17 then (
                                        fL_law_b1011 L xs v1 v3 v4 w
                                      ) else (
                                        if x4 = 18 then (
                                          fL_law_b1067 L xs v1 v3 v4 w
                                        ) else (
                                          if x4 = 19 then (
                                            fL_law_b1135 L xs v1 v3 v4 w
                                          ) else (
                                            if x4 = 20 then (
                                              fL_law_b1191 L xs v1 v3 v4 w
                                            ) else (
                                              if x4 = 21 then (
                                                fL_law_b1247 L xs v1 v3 v4 w
                                              ) else (
                                                if x4 = 22 then (
                                                  fL_law_b1303 L xs v1 v3 v4 w
                                                ) else (
                                                  if x4 = 23 then (
                                                    fL_law_b1378 L xs v1 v3 v4 w
                                                  ) else (
                                                    if x4 = 24 then (
                                                      fL_law_b1434 L xs v1 v3 v4 w
                                                    ) else (
                                                      if x4 = 25 then (
                                                        fL_law_b1490 L xs v1 v3 v4 w
                                                      ) else (
                                                        if x4 = 26 then (
                                                          fL_law_b1503 L xs v1 v3 v4 w
                                                        ) else (
                                                          if x4 = 27 then (
                                                            fL_law_b1516 L xs v1 v3 v4 w
                                                          ) else (
                                                            if x4 = 28 then (
                                                              fL_law_b1571 L xs v1 v3 v4 w
                                                            ) else (
                                                              if x4 = 29 then (
                                                                fL_law_b1627 L xs v1 v3 v4 w
                                                              ) else (
                                                                if x4 = 30 then (
                                                                  fL_law_b1641 L xs v1 v3 v4 w
                                                                ) else (
                                                                  if x4 = 31 then (
                                                                    fL_law_b1696 L xs v1 v3 v4 w
                                                                  ) else (
                                                                    if x4 = 32 then (
                                                                      fL_law_b1751 L xs v1 v3 v4 w
                                                                    ) else (
                                                                      if x4 = 33 then (
                                                                        fL_law_b1806 L xs v1 v3 v4 w
                                                                      ) else (
                                                                        if x4 = 34 then (
                                                                          fL_law_b1820 L xs v1 v3 v4 w
                                                                        ) else (
                                                                          if x4 = 35 then (
                                                                            fL_law_b1888 L xs v1 v3 v4 w
                                                                          ) else (
                                                                            if x4 = 36 then (
                                                                              fL_law_b1944 L xs v1 v3 v4 w
                                                                            ) else (
                                                                              if x4 = 37 then (
                                                                                fL_law_b1957 L xs v1 v3 v4 w
                                                                              ) else (
                                                                                if x4 = 38 then (
                                                                                  fL_law_b2013 L xs v1 v3 v4 w
                                                                                ) else (
                                                                                  if x4 = 39 then (
                                                                                    fL_law_b2093 L xs v1 v3 v4 w
                                                                                  ) else (
                                                                                    if x4 = 40 then (
                                                                                      fL_law_b2161 L xs v1 v3 v4 w
                                                                                    ) else (
                                                                                      if x4 = 41 then (
                                                                                        fL_law_b2217 L xs v1 v3 v4 w
                                                                                      ) else (
                                                                                        if x4 = 42 then (
                                                                                          fL_law_b2273 L xs v1 v3 v4 w
                                                                                        ) else (
                                                                                          if x4 = 43 then (
                                                                                            fL_law_b2329 L xs v1 v3 v4 w
                                                                                          ) else (
                                                                                            if x4 = 44 then (
                                                                                              fL_law_b2385 L xs v1 v3 v4 w
                                                                                            ) else (
                                                                                              if x4 = 45 then (
                                                                                                fL_law_b2452 L xs v1 v3 v4 w
                                                                                              ) else (
                                                                                                if x4 = 46 then (
                                                                                                  fL_law_b2508 L xs v1 v3 v4 w
                                                                                                ) else (
                                                                                                  if x4 = 47 then (
                                                                                                    fL_law_b2576 L xs v1 v3 v4 w
                                                                                                  ) else (
                                                                                                    if x4 = 48 then (
                                                                                                      fL_law_b2590 L xs v1 v3 v4 w
                                                                                                    ) else (
                                                                                                      if x4 = 49 then (
                                                                                                        fL_law_b2603 L xs v1 v3 v4 w
                                                                                                      ) else (
                                                                                                        if x4 = 50 then (
                                                                                                          fL_law_b2659 L xs v1 v3 v4 w
                                                                                                        ) else (
                                                                                                          if x4 = 51 then (
                                                                                                            fL_law_b2734 L xs v1 v3 v4 w
                                                                                                          ) else (
                                                                                                            if x4 = 52 then (
                                                                                                              fL_law_b2747 L xs v1 v3 v4 w
                                                                                                            ) else (
                                                                                                              if x4 = 53 then (
                                                                                                                fL_law_b2802 L xs v1 v3 v4 w
                                                                                                              ) else (
                                                                                                                if x4 = 54 then (
                                                                                                                  fL_law_b2858 L xs v1 v3 v4 w
                                                                                                                ) else (
                                                                                                                  if x4 = 55 then (
                                                                                                                    fL_law_b2871 L xs v1 v3 v4 w
                                                                                                                  ) else (
                                                                                                                    if x4 = 56 then (
                                                                                                                      fL_law_b2896 L xs v1 v3 v4 w
                                                                                                                    ) else (
                                                                                                                      if x4 = 57 then (
                                                                                                                        fL_law_b2952 L xs v1 v3 v4 w
                                                                                                                      ) else (
                                                                                                                        fL_law_b3008 L xs v1 v3 v4 w
                                                                                                                      )
                                                                                                                    )
                                                                                                                  )
                                                                                                                )
                                                                                                              )
                                                                                                            )
                                                                                                          )
                                                                                                        )
                                                                                                      )
                                                                                                    )
                                                                                                  )
                                                                                                )
                                                                                              )
                                                                                            )
                                                                                          )
                                                                                        )
                                                                                      )
                                                                                    )
                                                                                  )
                                                                                )
                                                                              )
                                                                            )
                                                                          )
                                                                        )
                                                                      )
                                                                    )
                                                                  )
                                                                )
                                                              )
                                                            )
                                                          )
                                                        )
                                                      )
                                                    )
                                                  )
                                                )
                                              )
                                            )
                                          )
                                        )
                                      )
                                    )
                                  )
                                )
                              )
                            )
                          )
                        )
                      )
                    )
                  )
                )
              )
            )
          )
        )
      )
    )
  )
theorem bL_law_23 {p : Program} {l : Launch} {e : Env} {s : State} {m : MethodId} {args : Array Value} {below : List Frame} {meth : Method} {c : Code} {H : Heap} {locs : List Loc} {ls : Array Slot} {G : gE} {w0 : WH} {o b L : Nat} {xs : Nat → Int32} {Q : Int32 → State → Prop} (B : lB G b L xs w0 p s m args meth c) (hE : lE l G w0 p e s m args below meth c Q) (hl0 : l.stackTraces = false) {v1 : Nat} {v3 : Nat} {v4 : Int32} {w : LW} {x : Sum (Int32 × LW) (Int32)} {r : Int32} (h : fL_law_b23 L xs v1 v3 v4 w = some x)  (k23 : ∀ (v4' : Int32) (w' : LW), x = (.inl (v4', w')) → ∀ (H : Heap) (locs : List Loc) (ls : Array Slot), RepL G o w' H → Cu (gFr G) s w0 w'.2 H locs → lv_has ls 8 [(0, .ref b), (1, .ref v1), (2, .ref o), (3, .ref v3), (4, .int v4')] → W p l e room_1 s m args below meth c H locs (wC w0 - wC w'.2) (wS w0 - wS w'.2) (Q r) (F0 m 23 ls [])) (kR : ∀ q, x = (.inr q) → q = r) (hR : RepL G o w H) (hS : Cu (gFr G) s w0 w.2 H locs) (hl : lv_has ls 8 [(0, .ref b), (1, .ref v1), (2, .ref o), (3, .ref v3), (4, .int v4)]) : W p l e room_1 s m args below meth c H locs (wC w0 - wC w.2) (wS w0 - wS w.2) (Q r) (F0 m 23 ls []) := by
  have B0 := B
  obtain ⟨⟨hx, hb, hml, hown, hts, hr, hlk, hK⟩, hX, hbl, hbA, hRc, hRs⟩ := B0
  unfold fL_law_b23 at h
  refine lv_iload hx hb dL_law_23 (lv_at hl 4 rfl) ?_
  refine lv_aload_n hx hb dL_law_25 rfl (lv_at hl 0 rfl) ?_
  refine l_slen (w := w) hx hb hX hbl hbA hS dL_law_26 ?_
  refine lv_iconst (v := 4) hx hb dL_law_27 (by decide) ?_
  refine lv_isub hx hb dL_law_28 ?_
  refine lv_icmp_gt (tgt := 3014) hx hb dL_law_29 (by decide) (fun c1 => ?_) (fun c1 => ?_)
  · replace h := it_o c1 h
    refine lv_iconst (v := 1) hx hb dL_law_3014 (by decide) ?_
    have eR := kR _ (Option.some.inj h).symm
    subst eR
    exact hE _ ls H locs w.2 _ dL_law_3015 hS
  · replace h := if_o c1 h
    refine lv_aload_n hx hb dL_law_32 rfl (lv_at hl 0 rfl) ?_
    refine lv_iload hx hb dL_law_33 (lv_at hl 4 rfl) ?_
    replace h := bo_o h
    obtain ⟨x2, e3, h⟩ := h
    refine l_sld (w := w) hx hb hX hbl hbA hS e3 dL_law_35 ?_
    refine lv_bipush (v := 63) hx hb dL_law_36 (by decide) ?_
    refine lv_iand hx hb dL_law_38 ?_
    replace h := nm_o h
    obtain ⟨x4, e5, h⟩ := h
    refine W.eq (g2 := F0 m 39 ls [.int x4]) (by rw [e5]) ?_
    by_cases c6 : x4 = 0
    · replace h := it_o c6 h
      rw [c6]
      refine lv_tableIn (off := 245) (tgt := 284) hx hb dL_law_39 (by decide) (by decide) rfl (by decide) ?_
      refine lv_aload_n hx hb dL_law_284 rfl (lv_at hl 1 rfl) ?_
      refine lv_aload_n hx hb dL_law_285 rfl (lv_at hl 0 rfl) ?_
      refine lv_iload hx hb dL_law_286 (lv_at hl 4 rfl) ?_
      refine lv_iconst (v := 1) hx hb dL_law_288 (by decide) ?_
      refine lv_iadd hx hb dL_law_289 ?_
      replace h := bo_o h
      obtain ⟨x7, e8, h⟩ := h
      refine l_sld (w := w) hx hb hX hbl hbA hS e8 dL_law_290 ?_
      refine lv_i2l hx hb dL_law_291 rfl ?_
      refine lv_bipush (v := 32) hx hb dL_law_292 (by decide) ?_
      refine lv_lshl hx hb dL_law_294 rfl ?_
      refine lv_aload_n hx hb dL_law_295 rfl (lv_at hl 0 rfl) ?_
      refine lv_iload hx hb dL_law_296 (lv_at hl 4 rfl) ?_
      refine lv_iconst (v := 2) hx hb dL_law_298 (by decide) ?_
      refine lv_iadd hx hb dL_law_299 ?_
      replace h := bo_o h
      obtain ⟨x9, e10, h⟩ := h
      refine l_sld (w := w) hx hb hX hbl hbA hS e10 dL_law_300 ?_
      refine lv_i2l hx hb dL_law_301 rfl ?_
      refine lv_ldc2 (v := 4294967295) hx hb hown (hts _ q3033) dL_law_302 ?_
      refine lv_land hx hb dL_law_305 ?_
      refine lv_lor hx hb dL_law_306 ?_
      replace h := bo_o h
      obtain ⟨_, e14, h⟩ := h
      replace h := b2_o h
      obtain ⟨x11, w13, e12, h⟩ := h
      refine l_callV 1 (ci := 17) (As := [.long (((x7.toInt64) <<< ((32 : Int32).toInt64 &&& 63)) ||| ((x9.toInt64) &&& 4294967295))]) (rest := []) (v := (some (.int x11))) (w' := w13) (st1 := [.int x11]) hx hb hml hown hts hK hR hS hRc hRs rfl e14 (mX1_append e12) (lw_V q693 q694 q695 q112 q696) (by decide +kernel) (Nat.le_of_ble_eq_true rfl) (Nat.le_of_ble_eq_true rfl) rfl hl.1 (Nat.le_of_ble_eq_true rfl) dL_law_307 rfl rfl (fun H locs hR hS => ?_)
      refine lv_aload_n hx hb dL_law_310 rfl (lv_at hl 2 rfl) ?_
      refine lv_aload_n hx hb dL_law_311 rfl (lv_at hl 0 rfl) ?_
      refine lv_iload hx hb dL_law_312 (lv_at hl 4 rfl) ?_
      refine lv_iconst (v := 1) hx hb dL_law_314 (by decide) ?_
      refine lv_iadd hx hb dL_law_315 ?_
      replace h := bo_o h
      obtain ⟨x15, e16, h⟩ := h
      refine l_sld (w := (w.1, w13)) hx hb hX hbl hbA hS e16 dL_law_316 ?_
      refine lv_i2l hx hb dL_law_317 rfl ?_
      refine lv_bipush (v := 32) hx hb dL_law_318 (by decide) ?_
      refine lv_lshl hx hb dL_law_320 rfl ?_
      refine lv_aload_n hx hb dL_law_321 rfl (lv_at hl 0 rfl) ?_
      refine lv_iload hx hb dL_law_322 (lv_at hl 4 rfl) ?_
      refine lv_iconst (v := 2) hx hb dL_law_324 (by decide) ?_
      refine lv_iadd hx hb dL_law_325 ?_
      replace h := bo_o h
      obtain ⟨x17, e18, h⟩ := h
      refine l_sld (w := (w.1, w13)) hx hb hX hbl hbA hS e18 dL_law_326 ?_
      refine lv_i2l hx hb dL_law_327 rfl ?_
      refine lv_ldc2 (v := 4294967295) hx hb hown (hts _ q3033) dL_law_328 ?_
      refine lv_land hx hb dL_law_331 ?_
      refine lv_lor hx hb dL_law_332 ?_
      exact bL_law_333 (w := (w.1, w13)) B hE hl0 h k23 kR hR hS (lv_sub hl [0, 1, 2, 3, 4] rfl)
    · replace h := if_o c6 h
      by_cases c19 : x4 = 1
      · replace h := it_o c19 h
        rw [c19]
        refine lv_tableIn (off := 302) (tgt := 341) hx hb dL_law_39 (by decide) (by decide) rfl (by decide) ?_
        exact bL_law_341 (w := w) B hE hl0 h k23 kR hR hS (lv_sub hl [0, 1, 2, 3, 4] rfl)
      · replace h := if_o c19 h
        by_cases c20 : x4 = 2
        · replace h := it_o c20 h
          rw [c20]
          refine lv_tableIn (off := 315) (tgt := 354) hx hb dL_law_39 (by decide) (by decide) rfl (by decide) ?_
          exact bL_law_354 (w := w) B hE hl0 h k23 kR hR hS (lv_sub hl [0, 1, 2, 3, 4] rfl)
        · replace h := if_o c20 h
          by_cases c21 : x4 = 3
          · replace h := it_o c21 h
            rw [c21]
            refine lv_tableIn (off := 328) (tgt := 367) hx hb dL_law_39 (by decide) (by decide) rfl (by decide) ?_
            exact bL_law_367 (w := w) B hE hl0 h k23 kR hR hS (lv_sub hl [0, 1, 2, 3, 4] rfl)
          · replace h := if_o c21 h
            by_cases c22 : x4 = 4
            · replace h := it_o c22 h
              rw [c22]
              refine lv_tableIn (off := 341) (tgt := 380) hx hb dL_law_39 (by decide) (by decide) rfl (by decide) ?_
              exact bL_law_380 (w := w) B hE hl0 h k23 kR hR hS (lv_sub hl [0, 1, 2, 3, 4] rfl)
            · replace h := if_o c22 h
              by_cases c23 : x4 = 5
              · replace h := it_o c23 h
                rw [c23]
                refine lv_tableIn (off := 397) (tgt := 436) hx hb dL_law_39 (by decide) (by decide) rfl (by decide) ?_
                exact bL_law_436 (w := w) B hE hl0 h k23 kR hR hS (lv_sub hl [0, 1, 2, 3, 4] rfl)
              · replace h := if_o c23 h
                by_cases c24 : x4 = 6
                · replace h := it_o c24 h
                  rw [c24]
                  refine lv_tableIn (off := 465) (tgt := 504) hx hb dL_law_39 (by decide) (by decide) rfl (by decide) ?_
                  exact bL_law_504 (w := w) B hE hl0 h k23 kR hR hS (lv_sub hl [0, 1, 2, 3, 4] rfl)
                · replace h := if_o c24 h
                  by_cases c25 : x4 = 7
                  · replace h := it_o c25 h
                    rw [c25]
                    refine lv_tableIn (off := 533) (tgt := 572) hx hb dL_law_39 (by decide) (by decide) rfl (by decide) ?_
                    exact bL_law_572 (w := w) B hE hl0 h k23 kR hR hS (lv_sub hl [0, 1, 2, 3, 4] rfl)
                  · replace h := if_o c25 h
                    by_cases c26 : x4 = 8
                    · replace h := it_o c26 h
                      rw [c26]
                      refine lv_tableIn (off := 601) (tgt := 640) hx hb dL_law_39 (by decide) (by decide) rfl (by decide) ?_
                      exact bL_law_640 (w := w) B hE hl0 h k23 kR hR hS (lv_sub hl [0, 1, 2, 3, 4] rfl)
                    · replace h := if_o c26 h
                      by_cases c27 : x4 = 9
                      · replace h := it_o c27 h
                        rw [c27]
                        refine lv_tableIn (off := 657) (tgt := 696) hx hb dL_law_39 (by decide) (by decide) rfl (by decide) ?_
                        exact bL_law_696 (w := w) B hE hl0 h k23 kR hR hS (lv_sub hl [0, 1, 2, 3, 4] rfl)
                      · replace h := if_o c27 h
                        by_cases c28 : x4 = 10
                        · replace h := it_o c28 h
                          rw [c28]
                          refine lv_tableIn (off := 670) (tgt := 709) hx hb dL_law_39 (by decide) (by decide) rfl (by decide) ?_
                          exact bL_law_709 (w := w) B hE hl0 h k23 kR hR hS (lv_sub hl [0, 1, 2, 3, 4] rfl)
                        · replace h := if_o c28 h
                          by_cases c29 : x4 = 11
                          · replace h := it_o c29 h
                            rw [c29]
                            refine lv_tableIn (off := 738) (tgt := 777) hx hb dL_law_39 (by decide) (by decide) rfl (by decide) ?_
                            exact bL_law_777 (w := w) B hE hl0 h k23 kR hR hS (lv_sub hl [0, 1, 2, 3, 4] rfl)
                          · replace h := if_o c29 h
                            by_cases c30 : x4 = 12
                            · replace h := it_o c30 h
                              rw [c30]
                              refine lv_tableIn (off := 829) (tgt := 868) hx hb dL_law_39 (by decide) (by decide) rfl (by decide) ?_
                              exact bL_law_868 (w := w) B hE hl0 h k23 kR hR hS (lv_sub hl [0, 1, 2, 3, 4] rfl)
                            · replace h := if_o c30 h
                              by_cases c31 : x4 = 13
                              · replace h := it_o c31 h
                                rw [c31]
                                refine lv_tableIn (off := 870) (tgt := 909) hx hb dL_law_39 (by decide) (by decide) rfl (by decide) ?_
                                exact bL_law_909 (w := w) B hE hl0 h k23 kR hR hS (lv_sub hl [0, 1, 2, 3, 4] rfl)
                              · replace h := if_o c31 h
                                by_cases c32 : x4 = 14
                                · replace h := it_o c32 h
                                  rw [c32]
                                  refine lv_tableIn (off := 883) (tgt := 922) hx hb dL_law_39 (by decide) (by decide) rfl (by decide) ?_
                                  exact bL_law_922 (w := w) B hE hl0 h k23 kR hR hS (lv_sub hl [0, 1, 2, 3, 4] rfl)
                                · replace h := if_o c32 h
                                  by_cases c33 : x4 = 15
                                  · replace h := it_o c33 h
                                    rw [c33]
                                    refine lv_tableIn (off := 896) (tgt := 935) hx hb dL_law_39 (by decide) (by decide) rfl (by decide) ?_
                                    exact bL_law_935 (w := w) B hE hl0 h k23 kR hR hS (lv_sub hl [0, 1, 2, 3, 4] rfl)
                                  · replace h := if_o c33 h
                                    by_cases c34 : x4 = 16
                                    · replace h := it_o c34 h
                                      rw [c34]
                                      refine lv_tableIn (off := 909) (tgt := 948) hx hb dL_law_39 (by decide) (by decide) rfl (by decide) ?_
                                      exact bL_law_948 (w := w) B hE hl0 h k23 kR hR hS (lv_sub hl [0, 1, 2, 3, 4] rfl)
                                    · replace h := if_o c34 h
                                      by_cases c35 : x4 = 17
                                      · replace h := it_o c35 h
                                        rw [c35]
                                        refine lv_tableIn (off := 972) (tgt := 1011) hx hb dL_law_39 (by decide) (by decide) rfl (by decide) ?_
                                        exact bL_law_1011 (w := w) B hE hl0 h k23 kR hR hS (lv_sub hl [0, 1, 2, 3, 4] rfl)
                                      · replace h := if_o c35 h
                                        by_cases c36 : x4 = 18
                                        · replace h := it_o c36 h
                                          rw [c36]
                                          refine lv_tableIn (off := 1028) (tgt := 1067) hx hb dL_law_39 (by decide) (by decide) rfl (by decide) ?_
                                          exact bL_law_1067 (w := w) B hE hl0 h k23 kR hR hS (lv_sub hl [0, 1, 2, 3, 4] rfl)
                                        · replace h := if_o c36 h
                                          by_cases c37 : x4 = 19
                                          · replace h := it_o c37 h
                                            rw [c37]
                                            refine lv_tableIn (off := 1096) (tgt := 1135) hx hb dL_law_39 (by decide) (by decide) rfl (by decide) ?_
                                            exact bL_law_1135 (w := w) B hE hl0 h k23 kR hR hS (lv_sub hl [0, 1, 2, 3, 4] rfl)
                                          · replace h := if_o c37 h
                                            by_cases c38 : x4 = 20
                                            · replace h := it_o c38 h
                                              rw [c38]
                                              refine lv_tableIn (off := 1152) (tgt := 1191) hx hb dL_law_39 (by decide) (by decide) rfl (by decide) ?_
                                              exact bL_law_1191 (w := w) B hE hl0 h k23 kR hR hS (lv_sub hl [0, 1, 2, 3, 4] rfl)
                                            · replace h := if_o c38 h
                                              by_cases c39 : x4 = 21
                                              · replace h := it_o c39 h
                                                rw [c39]
                                                refine lv_tableIn (off := 1208) (tgt := 1247) hx hb dL_law_39 (by decide) (by decide) rfl (by decide) ?_
                                                exact bL_law_1247 (w := w) B hE hl0 h k23 kR hR hS (lv_sub hl [0, 1, 2, 3, 4] rfl)
                                              · replace h := if_o c39 h
                                                by_cases c40 : x4 = 22
                                                · replace h := it_o c40 h
                                                  rw [c40]
                                                  refine lv_tableIn (off := 1264) (tgt := 1303) hx hb dL_law_39 (by decide) (by decide) rfl (by decide) ?_
                                                  exact bL_law_1303 (w := w) B hE hl0 h k23 kR hR hS (lv_sub hl [0, 1, 2, 3, 4] rfl)
                                                · replace h := if_o c40 h
                                                  by_cases c41 : x4 = 23
                                                  · replace h := it_o c41 h
                                                    rw [c41]
                                                    refine lv_tableIn (off := 1339) (tgt := 1378) hx hb dL_law_39 (by decide) (by decide) rfl (by decide) ?_
                                                    exact bL_law_1378 (w := w) B hE hl0 h k23 kR hR hS (lv_sub hl [0, 1, 2, 3, 4] rfl)
                                                  · replace h := if_o c41 h
                                                    by_cases c42 : x4 = 24
                                                    · replace h := it_o c42 h
                                                      rw [c42]
                                                      refine lv_tableIn (off := 1395) (tgt := 1434) hx hb dL_law_39 (by decide) (by decide) rfl (by decide) ?_
                                                      exact bL_law_1434 (w := w) B hE hl0 h k23 kR hR hS (lv_sub hl [0, 1, 2, 3, 4] rfl)
                                                    · replace h := if_o c42 h
                                                      by_cases c43 : x4 = 25
                                                      · replace h := it_o c43 h
                                                        rw [c43]
                                                        refine lv_tableIn (off := 1451) (tgt := 1490) hx hb dL_law_39 (by decide) (by decide) rfl (by decide) ?_
                                                        exact bL_law_1490 (w := w) B hE hl0 h k23 kR hR hS (lv_sub hl [0, 1, 2, 3, 4] rfl)
                                                      · replace h := if_o c43 h
                                                        by_cases c44 : x4 = 26
                                                        · replace h := it_o c44 h
                                                          rw [c44]
                                                          refine lv_tableIn (off := 1464) (tgt := 1503) hx hb dL_law_39 (by decide) (by decide) rfl (by decide) ?_
                                                          exact bL_law_1503 (w := w) B hE hl0 h k23 kR hR hS (lv_sub hl [0, 1, 2, 3, 4] rfl)
                                                        · replace h := if_o c44 h
                                                          by_cases c45 : x4 = 27
                                                          · replace h := it_o c45 h
                                                            rw [c45]
                                                            refine lv_tableIn (off := 1477) (tgt := 1516) hx hb dL_law_39 (by decide) (by decide) rfl (by decide) ?_
                                                            exact bL_law_1516 (w := w) B hE hl0 h k23 kR hR hS (lv_sub hl [0, 1, 2, 3, 4] rfl)
                                                          · replace h := if_o c45 h
                                                            by_cases c46 : x4 = 28
                                                            · replace h := it_o c46 h
                                                              rw [c46]
                                                              refine lv_tableIn (off := 1532) (tgt := 1571) hx hb dL_law_39 (by decide) (by decide) rfl (by decide) ?_
                                                              exact bL_law_1571 (w := w) B hE hl0 h k23 kR hR hS (lv_sub hl [0, 1, 2, 3, 4] rfl)
                                                            · replace h := if_o c46 h
                                                              by_cases c47 : x4 = 29
                                                              · replace h := it_o c47 h
                                                                rw [c47]
                                                                refine lv_tableIn (off := 1588) (tgt := 1627) hx hb dL_law_39 (by decide) (by decide) rfl (by decide) ?_
                                                                exact bL_law_1627 (w := w) B hE hl0 h k23 kR hR hS (lv_sub hl [0, 1, 2, 3, 4] rfl)
                                                              · replace h := if_o c47 h
                                                                by_cases c48 : x4 = 30
                                                                · replace h := it_o c48 h
                                                                  rw [c48]
                                                                  refine lv_tableIn (off := 1602) (tgt := 1641) hx hb dL_law_39 (by decide) (by decide) rfl (by decide) ?_
                                                                  exact bL_law_1641 (w := w) B hE hl0 h k23 kR hR hS (lv_sub hl [0, 1, 2, 3, 4] rfl)
                                                                · replace h := if_o c48 h
                                                                  by_cases c49 : x4 = 31
                                                                  · replace h := it_o c49 h
                                                                    rw [c49]
                                                                    refine lv_tableIn (off := 1657) (tgt := 1696) hx hb dL_law_39 (by decide) (by decide) rfl (by decide) ?_
                                                                    exact bL_law_1696 (w := w) B hE hl0 h k23 kR hR hS (lv_sub hl [0, 1, 2, 3, 4] rfl)
                                                                  · replace h := if_o c49 h
                                                                    by_cases c50 : x4 = 32
                                                                    · replace h := it_o c50 h
                                                                      rw [c50]
                                                                      refine lv_tableIn (off := 1712) (tgt := 1751) hx hb dL_law_39 (by decide) (by decide) rfl (by decide) ?_
                                                                      exact bL_law_1751 (w := w) B hE hl0 h k23 kR hR hS (lv_sub hl [0, 1, 2, 3, 4] rfl)
                                                                    · replace h := if_o c50 h
                                                                      by_cases c51 : x4 = 33
                                                                      · replace h := it_o c51 h
                                                                        rw [c51]
                                                                        refine lv_tableIn (off := 1767) (tgt := 1806) hx hb dL_law_39 (by decide) (by decide) rfl (by decide) ?_
                                                                        exact bL_law_1806 (w := w) B hE hl0 h k23 kR hR hS (lv_sub hl [0, 1, 2, 3, 4] rfl)
                                                                      · replace h := if_o c51 h
                                                                        by_cases c52 : x4 = 34
                                                                        · replace h := it_o c52 h
                                                                          rw [c52]
                                                                          refine lv_tableIn (off := 1781) (tgt := 1820) hx hb dL_law_39 (by decide) (by decide) rfl (by decide) ?_
                                                                          exact bL_law_1820 (w := w) B hE hl0 h k23 kR hR hS (lv_sub hl [0, 1, 2, 3, 4] rfl)
                                                                        · replace h := if_o c52 h
                                                                          by_cases c53 : x4 = 35
                                                                          · replace h := it_o c53 h
                                                                            rw [c53]
                                                                            refine lv_tableIn (off := 1849) (tgt := 1888) hx hb dL_law_39 (by decide) (by decide) rfl (by decide) ?_
                                                                            exact bL_law_1888 (w := w) B hE hl0 h k23 kR hR hS (lv_sub hl [0, 1, 2, 3, 4] rfl)
                                                                          · replace h := if_o c53 h
                                                                            by_cases c54 : x4 = 36
                                                                            · replace h := it_o c54 h
                                                                              rw [c54]
                                                                              refine lv_tableIn (off := 1905) (tgt := 1944) hx hb dL_law_39 (by decide) (by decide) rfl (by decide) ?_
                                                                              exact bL_law_1944 (w := w) B hE hl0 h k23 kR hR hS (lv_sub hl [0, 1, 2, 3, 4] rfl)
                                                                            · replace h := if_o c54 h
                                                                              by_cases c55 : x4 = 37
                                                                              · replace h := it_o c55 h
                                                                                rw [c55]
                                                                                refine lv_tableIn (off := 1918) (tgt := 1957) hx hb dL_law_39 (by decide) (by decide) rfl (by decide) ?_
                                                                                exact bL_law_1957 (w := w) B hE hl0 h k23 kR hR hS (lv_sub hl [0, 1, 2, 3, 4] rfl)
                                                                              · replace h := if_o c55 h
                                                                                by_cases c56 : x4 = 38
                                                                                · replace h := it_o c56 h
                                                                                  rw [c56]
                                                                                  refine lv_tableIn (off := 1974) (tgt := 2013) hx hb dL_law_39 (by decide) (by decide) rfl (by decide) ?_
                                                                                  exact bL_law_2013 (w := w) B hE hl0 h k23 kR hR hS (lv_sub hl [0, 1, 2, 3, 4] rfl)
                                                                                · replace h := if_o c56 h
                                                                                  by_cases c57 : x4 = 39
                                                                                  · replace h := it_o c57 h
                                                                                    rw [c57]
                                                                                    refine lv_tableIn (off := 2054) (tgt := 2093) hx hb dL_law_39 (by decide) (by decide) rfl (by decide) ?_
                                                                                    exact bL_law_2093 (w := w) B hE hl0 h k23 kR hR hS (lv_sub hl [0, 1, 2, 3, 4] rfl)
                                                                                  · replace h := if_o c57 h
                                                                                    by_cases c58 : x4 = 40
                                                                                    · replace h := it_o c58 h
                                                                                      rw [c58]
                                                                                      refine lv_tableIn (off := 2122) (tgt := 2161) hx hb dL_law_39 (by decide) (by decide) rfl (by decide) ?_
                                                                                      exact bL_law_2161 (w := w) B hE hl0 h k23 kR hR hS (lv_sub hl [0, 1, 2, 3, 4] rfl)
                                                                                    · replace h := if_o c58 h
                                                                                      by_cases c59 : x4 = 41
                                                                                      · replace h := it_o c59 h
                                                                                        rw [c59]
                                                                                        refine lv_tableIn (off := 2178) (tgt := 2217) hx hb dL_law_39 (by decide) (by decide) rfl (by decide) ?_
                                                                                        exact bL_law_2217 (w := w) B hE hl0 h k23 kR hR hS (lv_sub hl [0, 1, 2, 3, 4] rfl)
                                                                                      · replace h := if_o c59 h
                                                                                        by_cases c60 : x4 = 42
                                                                                        · replace h := it_o c60 h
                                                                                          rw [c60]
                                                                                          refine lv_tableIn (off := 2234) (tgt := 2273) hx hb dL_law_39 (by decide) (by decide) rfl (by decide) ?_
                                                                                          exact bL_law_2273 (w := w) B hE hl0 h k23 kR hR hS (lv_sub hl [0, 1, 2, 3, 4] rfl)
                                                                                        · replace h := if_o c60 h
                                                                                          by_cases c61 : x4 = 43
                                                                                          · replace h := it_o c61 h
                                                                                            rw [c61]
                                                                                            refine lv_tableIn (off := 2290) (tgt := 2329) hx hb dL_law_39 (by decide) (by decide) rfl (by decide) ?_
                                                                                            exact bL_law_2329 (w := w) B hE hl0 h k23 kR hR hS (lv_sub hl [0, 1, 2, 3, 4] rfl)
                                                                                          · replace h := if_o c61 h
                                                                                            by_cases c62 : x4 = 44
                                                                                            · replace h := it_o c62 h
                                                                                              rw [c62]
                                                                                              refine lv_tableIn (off := 2346) (tgt := 2385) hx hb dL_law_39 (by decide) (by decide) rfl (by decide) ?_
                                                                                              exact bL_law_2385 (w := w) B hE hl0 h k23 kR hR hS (lv_sub hl [0, 1, 2, 3, 4] rfl)
                                                                                            · replace h := if_o c62 h
                                                                                              by_cases c63 : x4 = 45
                                                                                              · replace h := it_o c63 h
                                                                                                rw [c63]
                                                                                                refine lv_tableIn (off := 2413) (tgt := 2452) hx hb dL_law_39 (by decide) (by decide) rfl (by decide) ?_
                                                                                                exact bL_law_2452 (w := w) B hE hl0 h k23 kR hR hS (lv_sub hl [0, 1, 2, 3, 4] rfl)
                                                                                              · replace h := if_o c63 h
                                                                                                by_cases c64 : x4 = 46
                                                                                                · replace h := it_o c64 h
                                                                                                  rw [c64]
                                                                                                  refine lv_tableIn (off := 2469) (tgt := 2508) hx hb dL_law_39 (by decide) (by decide) rfl (by decide) ?_
                                                                                                  exact bL_law_2508 (w := w) B hE hl0 h k23 kR hR hS (lv_sub hl [0, 1, 2, 3, 4] rfl)
                                                                                                · replace h := if_o c64 h
                                                                                                  by_cases c65 : x4 = 47
                                                                                                  · replace h := it_o c65 h
                                                                                                    rw [c65]
                                                                                                    refine lv_tableIn (off := 2537) (tgt := 2576) hx hb dL_law_39 (by decide) (by decide) rfl (by decide) ?_
                                                                                                    exact bL_law_2576 (w := w) B hE hl0 h k23 kR hR hS (lv_sub hl [0, 1, 2, 3, 4] rfl)
                                                                                                  · replace h := if_o c65 h
                                                                                                    by_cases c66 : x4 = 48
                                                                                                    · replace h := it_o c66 h
                                                                                                      rw [c66]
                                                                                                      refine lv_tableIn (off := 2551) (tgt := 2590) hx hb dL_law_39 (by decide) (by decide) rfl (by decide) ?_
                                                                                                      exact bL_law_2590 (w := w) B hE hl0 h k23 kR hR hS (lv_sub hl [0, 1, 2, 3, 4] rfl)
                                                                                                    · replace h := if_o c66 h
                                                                                                      by_cases c67 : x4 = 49
                                                                                                      · replace h := it_o c67 h
                                                                                                        rw [c67]
                                                                                                        refine lv_tableIn (off := 2564) (tgt := 2603) hx hb dL_law_39 (by decide) (by decide) rfl (by decide) ?_
                                                                                                        exact bL_law_2603 (w := w) B hE hl0 h k23 kR hR hS (lv_sub hl [0, 1, 2, 3, 4] rfl)
                                                                                                      · replace h := if_o c67 h
                                                                                                        by_cases c68 : x4 = 50
                                                                                                        · replace h := it_o c68 h
                                                                                                          rw [c68]
                                                                                                          refine lv_tableIn (off := 2620) (tgt := 2659) hx hb dL_law_39 (by decide) (by decide) rfl (by decide) ?_
                                                                                                          exact bL_law_2659 (w := w) B hE hl0 h k23 kR hR hS (lv_sub hl [0, 1, 2, 3, 4] rfl)
                                                                                                        · replace h := if_o c68 h
                                                                                                          by_cases c69 : x4 = 51
                                                                                                          · replace h := it_o c69 h
                                                                                                            rw [c69]
                                                                                                            refine lv_tableIn (off := 2695) (tgt := 2734) hx hb dL_law_39 (by decide) (by decide) rfl (by decide) ?_
                                                                                                            exact bL_law_2734 (w := w) B hE hl0 h k23 kR hR hS (lv_sub hl [0, 1, 2, 3, 4] rfl)
                                                                                                          · replace h := if_o c69 h
                                                                                                            by_cases c70 : x4 = 52
                                                                                                            · replace h := it_o c70 h
                                                                                                              rw [c70]
                                                                                                              refine lv_tableIn (off := 2708) (tgt := 2747) hx hb dL_law_39 (by decide) (by decide) rfl (by decide) ?_
                                                                                                              exact bL_law_2747 (w := w) B hE hl0 h k23 kR hR hS (lv_sub hl [0, 1, 2, 3, 4] rfl)
                                                                                                            · replace h := if_o c70 h
                                                                                                              by_cases c71 : x4 = 53
                                                                                                              · replace h := it_o c71 h
                                                                                                                rw [c71]
                                                                                                                refine lv_tableIn (off := 2763) (tgt := 2802) hx hb dL_law_39 (by decide) (by decide) rfl (by decide) ?_
                                                                                                                exact bL_law_2802 (w := w) B hE hl0 h k23 kR hR hS (lv_sub hl [0, 1, 2, 3, 4] rfl)
                                                                                                              · replace h := if_o c71 h
                                                                                                                by_cases c72 : x4 = 54
                                                                                                                · replace h := it_o c72 h
                                                                                                                  rw [c72]
                                                                                                                  refine lv_tableIn (off := 2819) (tgt := 2858) hx hb dL_law_39 (by decide) (by decide) rfl (by decide) ?_
                                                                                                                  exact bL_law_2858 (w := w) B hE hl0 h k23 kR hR hS (lv_sub hl [0, 1, 2, 3, 4] rfl)
                                                                                                                · replace h := if_o c72 h
                                                                                                                  by_cases c73 : x4 = 55
                                                                                                                  · replace h := it_o c73 h
                                                                                                                    rw [c73]
                                                                                                                    refine lv_tableIn (off := 2832) (tgt := 2871) hx hb dL_law_39 (by decide) (by decide) rfl (by decide) ?_
                                                                                                                    exact bL_law_2871 (w := w) B hE hl0 h k23 kR hR hS (lv_sub hl [0, 1, 2, 3, 4] rfl)
                                                                                                                  · replace h := if_o c73 h
                                                                                                                    by_cases c74 : x4 = 56
                                                                                                                    · replace h := it_o c74 h
                                                                                                                      rw [c74]
                                                                                                                      refine lv_tableIn (off := 2857) (tgt := 2896) hx hb dL_law_39 (by decide) (by decide) rfl (by decide) ?_
                                                                                                                      exact bL_law_2896 (w := w) B hE hl0 h k23 kR hR hS (lv_sub hl [0, 1, 2, 3, 4] rfl)
                                                                                                                    · replace h := if_o c74 h
                                                                                                                      by_cases c75 : x4 = 57
                                                                                                                      · replace h := it_o c75 h
                                                                                                                        rw [c75]
                                                                                                                        refine lv_tableIn (off := 2913) (tgt := 2952) hx hb dL_law_39 (by decide) (by decide) rfl (by decide) ?_
                                                                                                                        exact bL_law_2952 (w := w) B hE hl0 h k23 kR hR hS (lv_sub hl [0, 1, 2, 3, 4] rfl)
                                                                                                                      · replace h := if_o c75 h
                                                                                                                        refine lv_tableOut (tgt := 3008) hx hb dL_law_39 (sw_out (n := 58) (by decide) (lt_s (lt_s (lt_s (lt_s (lt_s (lt_s (lt_s (lt_s (lt_s (lt_s (lt_s (lt_s (lt_s (lt_s (lt_s (lt_s (lt_s (lt_s (lt_s (lt_s (lt_s (lt_s (lt_s (lt_s (lt_s (lt_s (lt_s (lt_s (lt_s (lt_s (lt_s (lt_s (lt_s (lt_s (lt_s (lt_s (lt_s (lt_s (lt_s (lt_s (lt_s (lt_s (lt_s (lt_s (lt_s (lt_s (lt_s (lt_s (lt_s (lt_s (lt_s (lt_s (lt_s (lt_s (lt_s (lt_s (lt_s (lt_s lt_0 c6) c19) c20) c21) c22) c23) c24) c25) c26) c27) c28) c29) c30) c31) c32) c33) c34) c35) c36) c37) c38) c39) c40) c41) c42) c43) c44) c45) c46) c47) c48) c49) c50) c51) c52) c53) c54) c55) c56) c57) c58) c59) c60) c61) c62) c63) c64) c65) c66) c67) c68) c69) c70) c71) c72) c73) c74) c75)) (by decide) ?_
                                                                                                                        exact bL_law_3008 (w := w) B hE hl0 h k23 kR hR hS (lv_sub hl [0, 1, 2, 3, 4] rfl)
noncomputable def fL_law_l23 (L : Nat) (xs : Nat → Int32) (v1 : Nat) (v3 : Nat) (v4 : Int32) (w : LW) : Option (Int32) := whileO (fun q => fL_law_b23 L xs v1 v3 q.1 q.2) (v4, w)
theorem lL_law_23 {p : Program} {l : Launch} {e : Env} {s : State} {m : MethodId} {args : Array Value} {below : List Frame} {meth : Method} {c : Code} {G : gE} {w0 : WH} {o b L : Nat} {xs : Nat → Int32} {Q : Int32 → State → Prop} (B : lB G b L xs w0 p s m args meth c) (hE : lE l G w0 p e s m args below meth c Q) (hl0 : l.stackTraces = false) {v1 : Nat} {v3 : Nat} {r : Int32}   : ∀ (v4 : Int32) (w : LW), fL_law_l23 L xs v1 v3 v4 w = some r → ∀ (H : Heap) (locs : List Loc) (ls : Array Slot), RepL G o w H → Cu (gFr G) s w0 w.2 H locs → lv_has ls 8 [(0, .ref b), (1, .ref v1), (2, .ref o), (3, .ref v3), (4, .int v4)] → W p l e room_1 s m args below meth c H locs (wC w0 - wC w.2) (wS w0 - wS w.2) (Q r) (F0 m 23 ls []) := by
  intro v4 w h
  refine wh_walk (body := (fun q => fL_law_b23 L xs v1 v3 q.1 q.2)) (P := (fun q : (Int32 × LW) => ∀ (H : Heap) (locs : List Loc) (ls : Array Slot), RepL G o (q.2) H → Cu (gFr G) s w0 q.2.2 H locs → lv_has ls 8 [(0, .ref b), (1, .ref v1), (2, .ref o), (3, .ref v3), (4, .int (q.1))] → W p l e room_1 s m args below meth c H locs (wC w0 - wC q.2.2) (wS w0 - wS q.2.2) (Q r) (F0 m 23 ls []))) (r := r) ?_ (v4, w) h
  intro q y hy hL hr H locs ls hR hS hl
  exact bL_law_23 (r := r) B hE hl0 hy (fun a0 a1 e => hL (a0, a1) e) (fun q e => hr q e) hR hS hl

