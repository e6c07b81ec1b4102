set_option maxRecDepth 100000
set_option maxHeartbeats 4000000

noncomputable def fJ17_set_3 (v0 : Nat) (v1 : Int32) (w : WH) : Option (WH) :=
  if 0 ≤ v1 then (
    b2_ (fJ17_wordIndex v1 w) fun x4 w2 =>
    (hIs w2 v0 0).bind fun _ =>
    (fJ17_expandTo v0 x4 w2).bind fun w5 =>
    (gR w5 v0 0 0).bind fun x8 =>
    x8.bind fun a10 =>
    (ldJ w5 a10 x4).bind fun x12 =>
    (stJ w5 a10 x4 (x12 ||| ((1 : Int64) <<< (v1.toInt64 &&& 63)))).bind fun w14 =>
    (hIs w14 v0 0).bind fun _ =>
    (fJ17_checkInvariants v0 w14).bind fun w16 =>
    some w16
  ) else (
    none
  )
theorem bJ17_set_3_0 {p : Program} {l : Launch} {e : Env} {s : State} {m : MethodId} {args : Array Value} {below : List Frame} {meth : Method} {c : Code} {H : Heap} {locs : List Loc} {ls : Array Slot} {G : gE} {A : Nat → Prop} {w0 : WH} (B : gB G RJ17 cJ17_set_3 3 none p s m args meth c) {v0 : Nat} {v1 : Int32} {w : WH} {r : WH} (h : fJ17_set_3 v0 v1 w = some r)   (hR : RepH G A w H) (hS : Cu A s w0 w H locs) (hl : lv_has ls 3 [(0, .ref v0), (1, .int v1)]) : W p l e (hRm 12 269 w0) s m args below meth c H locs (wC w0 - wC w) (wS w0 - wS w) (hZ below args s G A w0 none r) (F0 m 0 ls []) := by
  have B0 := B
  obtain ⟨hx, hb, hml, hown, hts, hr, hlk, hK⟩ := B0
  unfold fJ17_set_3 at h
  refine lv_iload_n hx hb dJ17_set_3_0 rfl (lv_at hl 1 rfl) ?_
  refine lv_if_ge (tgt := 31) hx hb dJ17_set_3_1 (by decide) (fun c1 => ?_) (fun c1 => ?_)
  · replace h := it_o c1 h
    refine lv_iload_n hx hb dJ17_set_3_31 rfl (lv_at hl 1 rfl) ?_
    replace h := b2_o h
    obtain ⟨x4, w2, e3, h⟩ := h
    refine h_callS 1  (As := [.int v1]) (rest := []) (v := (some (.int x4))) (w' := w2) (st1 := [.int x4]) hx hb hml hown hts hK hR hS (Nat.le_refl _) (Nat.le_refl _) (mJ17_wordIndex e3) (lw_S q571 q572 q134 q573) (by decide +kernel) (Nat.le_of_ble_eq_true rfl) (Nat.le_of_ble_eq_true rfl) rfl hl.1 (Nat.le_of_ble_eq_true rfl) dJ17_set_3_32 rfl rfl (fun H locs hR hS => ?_)
    refine lv_istore_n (lv' := [(2, .int x4), (0, .ref v0), (1, .int v1)]) hx hb dJ17_set_3_35 rfl hl (by decide) rfl (fun ls hl => ?_)
    refine lv_aload_n hx hb dJ17_set_3_36 rfl (lv_at hl 1 rfl) ?_
    refine lv_iload_n hx hb dJ17_set_3_37 rfl (lv_at hl 0 rfl) ?_
    replace h := bo_o h
    obtain ⟨_, e6, h⟩ := h
    replace h := bo_o h
    obtain ⟨w5, e7, h⟩ := h
    refine h_callV 1 (ci := 0) (As := [.int x4]) (rest := []) (v := none) (w' := w5) (st1 := []) hx hb hml hown hts hK hR hS (Nat.le_refl _) (Nat.le_refl _) rfl e6 (mJ17_expandTo e7) (lw_V q1426 q1428 qs30 q134 q1429) (by decide +kernel) (Nat.le_of_ble_eq_true rfl) (Nat.le_of_ble_eq_true rfl) rfl hl.1 (Nat.le_of_ble_eq_true rfl) dJ17_set_3_38 rfl rfl (fun H locs hR hS => ?_)
    refine lv_aload_n hx hb dJ17_set_3_41 rfl (lv_at hl 1 rfl) ?_
    replace h := bo_o h
    obtain ⟨x8, e9, h⟩ := h
    refine h_get (ci := 0) (k := 0) (v := va_rf x8) hx hb hts hown hK hR in_J17 rfl (by decide) (fun _ _ => rfl) q574 (fun _ h9 => h9) (gR_o e9) dJ17_set_3_42 ?_
    refine lv_iload_n hx hb dJ17_set_3_45 rfl (lv_at hl 0 rfl) ?_
    refine lv_dup2_11 hx hb dJ17_set_3_46 (by first | rfl | exact rf_cat _) (by first | rfl | exact rf_cat _) ?_
    replace h := bo_o h
    obtain ⟨a10, e11, h⟩ := h
    subst e11
    replace h := bo_o h
    obtain ⟨x12, e13, h⟩ := h
    refine h_lald hx hb hK hR e13 dJ17_set_3_47 ?_
    refine lv_lconst (v := 1) hx hb dJ17_set_3_48 (by decide) ?_
    refine lv_iload_n hx hb dJ17_set_3_49 rfl (lv_at hl 2 rfl) ?_
    refine lv_lshl hx hb dJ17_set_3_50 rfl ?_
    refine lv_lor hx hb dJ17_set_3_51 ?_
    replace h := bo_o h
    obtain ⟨w14, e15, h⟩ := h
    refine h_last hx hb hK hR hS e15 dJ17_set_3_52 (fun H locs hR hS => ?_)
    refine lv_aload_n hx hb dJ17_set_3_53 rfl (lv_at hl 1 rfl) ?_
    replace h := bo_o h
    obtain ⟨_, e17, h⟩ := h
    replace h := bo_o h
    obtain ⟨w16, e18, h⟩ := h
    refine h_callV 0 (ci := 0) (As := []) (rest := []) (v := none) (w' := w16) (st1 := []) hx hb hml hown hts hK hR hS (Nat.le_refl _) (Nat.le_refl _) rfl e17 (mJ17_checkInvariants e18) (lw_V q1136 q1138 qs18 q134 q1139) (by decide +kernel) (Nat.le_of_ble_eq_true rfl) (Nat.le_of_ble_eq_true rfl) rfl hl.1 (Nat.le_of_ble_eq_true rfl) dJ17_set_3_54 rfl rfl (fun H locs hR hS => ?_)
    have eR := Option.some.inj h
    subst eR
    exact h_vfin hx hb hr hlk hR hS dJ17_set_3_57
  · replace h := if_o c1 h
    exact (nomatch h)
theorem mJ17_set_3 {l : Launch} {G : gE} {A : Nat → Prop} {v0 : Nat} {v1 : Int32} {w : WH} {r : WH} (h : fJ17_set_3 v0 v1 w = some r) : hM l G A yJ17_set_3 cJ17_set_3 3 none 12 269 [.ref v0, .int v1] w none r :=
  h_of (by decide +kernel) (Nat.le_of_ble_eq_true rfl) (fun p e s m args below meth c ls B hnm hR hS hl => bJ17_set_3_0 B h hR hS hl)
noncomputable def fJ17_set_2 (v0 : Nat) (v1 : Int32) (v2 : Int32) (w : WH) : Option (WH) :=
  if v2 = 0 then (
    (hIs w v0 0).bind fun _ =>
    (fJ17_clear v0 v1 w).bind fun w2 =>
    some w2
  ) else (
    (hIs w v0 0).bind fun _ =>
    (fJ17_set_3 v0 v1 w).bind fun w5 =>
    some w5
  )
theorem bJ17_set_2_0 {p : Program} {l : Launch} {e : Env} {s : State} {m : MethodId} {args : Array Value} {below : List Frame} {meth : Method} {c : Code} {H : Heap} {locs : List Loc} {ls : Array Slot} {G : gE} {A : Nat → Prop} {w0 : WH} (B : gB G RJ17 cJ17_set_2 3 none p s m args meth c) {v0 : Nat} {v1 : Int32} {v2 : Int32} {w : WH} {r : WH} (h : fJ17_set_2 v0 v1 v2 w = some r)   (hR : RepH G A w H) (hS : Cu A s w0 w H locs) (hl : lv_has ls 3 [(0, .ref v0), (1, .int v1), (2, .int v2)]) : W p l e (hRm 13 291 w0) s m args below meth c H locs (wC w0 - wC w) (wS w0 - wS w) (hZ below args s G A w0 none r) (F0 m 0 ls []) := by
  have B0 := B
  obtain ⟨hx, hb, hml, hown, hts, hr, hlk, hK⟩ := B0
  unfold fJ17_set_2 at h
  refine lv_iload_n hx hb dJ17_set_2_0 rfl (lv_at hl 2 rfl) ?_
  refine lv_if_eq (tgt := 12) hx hb dJ17_set_2_1 (by decide) (fun c1 => ?_) (fun c1 => ?_)
  · replace h := it_o c1 h
    refine lv_aload_n hx hb dJ17_set_2_12 rfl (lv_at hl 0 rfl) ?_
    refine lv_iload_n hx hb dJ17_set_2_13 rfl (lv_at hl 1 rfl) ?_
    replace h := bo_o h
    obtain ⟨_, e3, h⟩ := h
    replace h := bo_o h
    obtain ⟨w2, e4, h⟩ := h
    refine h_callV 1 (ci := 0) (As := [.int v1]) (rest := []) (v := none) (w' := w2) (st1 := []) hx hb hml hown hts hK hR hS (Nat.le_refl _) (Nat.le_refl _) rfl e3 (mJ17_clear e4) (lw_V q2030 q1705 q1706 q134 q1707) (by decide +kernel) (Nat.le_of_ble_eq_true rfl) (Nat.le_of_ble_eq_true rfl) rfl hl.1 (Nat.le_of_ble_eq_true rfl) dJ17_set_2_14 rfl rfl (fun H locs hR hS => ?_)
    have eR := Option.some.inj h
    subst eR
    exact h_vfin hx hb hr hlk hR hS dJ17_set_2_17
  · replace h := if_o c1 h
    refine lv_aload_n hx hb dJ17_set_2_4 rfl (lv_at hl 0 rfl) ?_
    refine lv_iload_n hx hb dJ17_set_2_5 rfl (lv_at hl 1 rfl) ?_
    replace h := bo_o h
    obtain ⟨_, e6, h⟩ := h
    replace h := bo_o h
    obtain ⟨w5, e7, h⟩ := h
    refine h_callV 1 (ci := 0) (As := [.int v1]) (rest := []) (v := none) (w' := w5) (st1 := []) hx hb hml hown hts hK hR hS (Nat.le_refl _) (Nat.le_refl _) rfl e6 (mJ17_set_3 e7) (lw_V q2026 q2027 q2028 q134 q2029) (by decide +kernel) (Nat.le_of_ble_eq_true rfl) (Nat.le_of_ble_eq_true rfl) rfl hl.1 (Nat.le_of_ble_eq_true rfl) dJ17_set_2_6 rfl rfl (fun H locs hR hS => ?_)
    refine lv_goto (tgt := 17) hx hb dJ17_set_2_9 (by decide) ?_
    have eR := Option.some.inj h
    subst eR
    exact h_vfin hx hb hr hlk hR hS dJ17_set_2_17
theorem mJ17_set_2 {l : Launch} {G : gE} {A : Nat → Prop} {v0 : Nat} {v1 : Int32} {v2 : Int32} {w : WH} {r : WH} (h : fJ17_set_2 v0 v1 v2 w = some r) : hM l G A yJ17_set_2 cJ17_set_2 3 none 13 291 [.ref v0, .int v1, .int v2] w none r :=
  h_of (by decide +kernel) (Nat.le_of_ble_eq_true rfl) (fun p e s m args below meth c ls B hnm hR hS hl => bJ17_set_2_0 B h hR hS hl)
noncomputable def fX1_close (v0 : Nat) (v1 : Int32) (v2 : Int32) (w : WH) : Option (((Sum (Int32) (Nat × Nat)) × WH)) :=
  (hIs w v0 17).bind fun _ =>
  b2_ (fX1_isArc v0 v1 w) fun x4 w1 =>
  b2_ (fX1_requireIndex x4 w1) fun o6 w5 => ex_ o6 (fun _ =>
    (hIs w5 v0 17).bind fun _ =>
    (fX1_act v0 w5).bind fun w10 =>
    (gR w10 v0 17 0).bind fun x13 =>
    x13.bind fun a15 =>
    (gR w10 a15 21 3).bind fun x17 =>
    x17.bind fun a19 =>
    (hIs w10 a19 0).bind fun _ =>
    b2_ (fJ17_get a19 v1 w10) fun x24 w21 =>
    (gR w21 v0 17 0).bind fun x25 =>
    x25.bind fun a27 =>
    (gR w21 a27 21 3).bind fun x29 =>
    x29.bind fun a31 =>
    (hIs w21 a31 0).bind fun _ =>
    (fJ17_set_2 a31 v1 v2 w21).bind fun w33 =>
    (fz_ .boolean x24).bind fun _ =>
    some (.inl x24, w33)) (fun q9 =>
    some (.inr q9, w5))
theorem bX1_close_0 {p : Program} {l : Launch} {e : Env} {s : State} {m : MethodId} {args : Array Value} {below : List Frame} {meth : Method} {c : Code} {H : Heap} {locs : List Loc} {ls : Array Slot} {G : gE} {A : Nat → Prop} {w0 : WH} (B : gB G RX1 cX1_close 4 (some .boolean) p s m args meth c) (hT : ∀ x ∈ c.exceptionTable.toList, False) (hl0 : l.stackTraces = false) {v0 : Nat} {v1 : Int32} {v2 : Int32} {w : WH} {r : ((Sum (Int32) (Nat × Nat)) × WH)} (h : fX1_close v0 v1 v2 w = some r)   (hR : RepH G A w H) (hS : Cu A s w0 w H locs) (hl : lv_has ls 4 [(0, .ref v0), (1, .int v1), (2, .int v2)]) : W p l e (hRm 15 332 w0) s m args below meth c H locs (wC w0 - wC w) (wS w0 - wS w) (hZX below args s G A w0 (oI r.1) r.2) (F0 m 0 ls []) := by
  have B0 := B
  obtain ⟨hx, hb, hml, hown, hts, hr, hlk, hK⟩ := B0
  unfold fX1_close at h
  refine lv_aload_n hx hb dX1_close_0 rfl (lv_at hl 0 rfl) ?_
  refine lv_iload_n hx hb dX1_close_1 rfl (lv_at hl 1 rfl) ?_
  replace h := bo_o h
  obtain ⟨_, e2, h⟩ := h
  replace h := b2_o h
  obtain ⟨x4, w1, e3, h⟩ := h
  refine h_callV 1 (ci := 17) (As := [.int v1]) (rest := []) (v := (some (.int x4))) (w' := w1) (st1 := [.int x4]) hx hb hml hown hts hK hR hS (Nat.le_refl _) (Nat.le_refl _) rfl e2 (mX1_isArc e3) (lw_V q1952 q1954 qs47 q112 q1955) (by decide +kernel) (Nat.le_of_ble_eq_true rfl) (Nat.le_of_ble_eq_true rfl) rfl hl.1 (Nat.le_of_ble_eq_true rfl) dX1_close_2 rfl rfl (fun H locs hR hS => ?_)
  replace h := b2_o h
  obtain ⟨o6, w5, e7, h⟩ := h
  refine h_callSX 1 (As := [.int x4]) (rest := []) (o := oV o6) (w' := w5)  hx hb hml hown hts hK hR hS (Nat.le_refl _) (Nat.le_refl _) (mX1_requireIndex hl0 e7) (lw_S q1956 q1957 q112 q1958) (by decide +kernel) (Nat.le_of_ble_eq_true rfl) (Nat.le_of_ble_eq_true rfl) rfl hl.1 (Nat.le_of_ble_eq_true rfl) dX1_close_5 rfl (fun v9 hv9 H locs hR hS => ?_) (fun E9 q9 hq9 H locs hR hS hce => ?_)
  · cases o6 with
    | inr q => cases hv9
    | inl x8 =>
      cases hv9
      replace h := exl_o h
      refine W.eq (g2 := F0 m 8 ls []) rfl ?_
      refine lv_aload_n hx hb dX1_close_8 rfl (lv_at hl 0 rfl) ?_
      replace h := bo_o h
      obtain ⟨_, e11, h⟩ := h
      replace h := bo_o h
      obtain ⟨w10, e12, h⟩ := h
      refine h_callV 0 (ci := 17) (As := []) (rest := []) (v := none) (w' := w10) (st1 := []) hx hb hml hown hts hK hR hS (Nat.le_refl _) (Nat.le_refl _) rfl e11 (mX1_act e12) (lw_V q1089 q1091 qs16 q112 q1092) (by decide +kernel) (Nat.le_of_ble_eq_true rfl) (Nat.le_of_ble_eq_true rfl) rfl hl.1 (Nat.le_of_ble_eq_true rfl) dX1_close_9 rfl rfl (fun H locs hR hS => ?_)
      refine lv_aload_n hx hb dX1_close_12 rfl (lv_at hl 0 rfl) ?_
      replace h := bo_o h
      obtain ⟨x13, e14, h⟩ := h
      refine h_get (ci := 17) (k := 0) (v := va_rf x13) hx hb hts hown hK hR in_X1 rfl (by decide) (fun _ _ => rfl) q662 (fun _ h9 => h9) (gR_o e14) dX1_close_13 ?_
      replace h := bo_o h
      obtain ⟨a15, e16, h⟩ := h
      subst e16
      replace h := bo_o h
      obtain ⟨x17, e18, h⟩ := h
      refine h_getN (ci := 21) (k := 3) (v := va_rf x17) hx hb hts hown hK hR in_X2 rfl (by decide) (fun _ _ => rfl) (hK.fn 20 rfl) (fun _ h9 => h9) (gR_o e18) dX1_close_16 ?_
      refine lv_iload_n hx hb dX1_close_19 rfl (lv_at hl 1 rfl) ?_
      replace h := bo_o h
      obtain ⟨a19, e20, h⟩ := h
      subst e20
      replace h := bo_o h
      obtain ⟨_, e22, h⟩ := h
      replace h := b2_o h
      obtain ⟨x24, w21, e23, h⟩ := h
      refine h_callV 1 (ci := 0) (As := [.int v1]) (rest := []) (v := (some (.int x24))) (w' := w21) (st1 := [.int x24]) hx hb hml hown hts hK hR hS (Nat.le_refl _) (Nat.le_refl _) rfl e22 (mJ17_get e23) (lw_V q2021 q1309 q1310 q134 q1311) (by decide +kernel) (Nat.le_of_ble_eq_true rfl) (Nat.le_of_ble_eq_true rfl) rfl hl.1 (Nat.le_of_ble_eq_true rfl) dX1_close_20 rfl rfl (fun H locs hR hS => ?_)
      refine lv_istore_n (lv' := [(3, .int x24), (0, .ref v0), (1, .int v1), (2, .int v2)]) hx hb dX1_close_23 rfl hl (by decide) rfl (fun ls hl => ?_)
      refine lv_aload_n hx hb dX1_close_24 rfl (lv_at hl 1 rfl) ?_
      replace h := bo_o h
      obtain ⟨x25, e26, h⟩ := h
      refine h_get (ci := 17) (k := 0) (v := va_rf x25) hx hb hts hown hK hR in_X1 rfl (by decide) (fun _ _ => rfl) q662 (fun _ h9 => h9) (gR_o e26) dX1_close_25 ?_
      replace h := bo_o h
      obtain ⟨a27, e28, h⟩ := h
      subst e28
      replace h := bo_o h
      obtain ⟨x29, e30, h⟩ := h
      refine h_getN (ci := 21) (k := 3) (v := va_rf x29) hx hb hts hown hK hR in_X2 rfl (by decide) (fun _ _ => rfl) (hK.fn 20 rfl) (fun _ h9 => h9) (gR_o e30) dX1_close_28 ?_
      refine lv_iload_n hx hb dX1_close_31 rfl (lv_at hl 2 rfl) ?_
      refine lv_iload_n hx hb dX1_close_32 rfl (lv_at hl 3 rfl) ?_
      replace h := bo_o h
      obtain ⟨a31, e32, h⟩ := h
      subst e32
      replace h := bo_o h
      obtain ⟨_, e34, h⟩ := h
      replace h := bo_o h
      obtain ⟨w33, e35, h⟩ := h
      refine h_callV 2 (ci := 0) (As := [.int v1, .int v2]) (rest := []) (v := none) (w' := w33) (st1 := []) hx hb hml hown hts hK hR hS (Nat.le_refl _) (Nat.le_refl _) rfl e34 (mJ17_set_2 e35) (lw_V q2022 q2023 q2024 q134 q2025) (by decide +kernel) (Nat.le_of_ble_eq_true rfl) (Nat.le_of_ble_eq_true rfl) rfl hl.1 (Nat.le_of_ble_eq_true rfl) dX1_close_33 rfl rfl (fun H locs hR hS => ?_)
      refine lv_iload_n hx hb dX1_close_36 rfl (lv_at hl 0 rfl) ?_
      replace h := bo_o h
      obtain ⟨_, e36, h⟩ := h
      have eR := Option.some.inj h
      subst eR
      exact h_zfinX hx hb hr hlk (fz_n (fun _ => ⟨_, rfl⟩) e36) hR hS dX1_close_37
  · cases o6 with
    | inl q => cases hq9
    | inr q9 =>
      cases hq9
      replace h := exr_o h
      have eR := Option.some.inj h
      subst eR
      exact h_out hT hlk hR hS hce
theorem mX1_close {l : Launch} {G : gE} {A : Nat → Prop} {v0 : Nat} {v1 : Int32} {v2 : Int32} {w : WH} {r : ((Sum (Int32) (Nat × Nat)) × WH)} (hl0 : l.stackTraces = false) (h : fX1_close v0 v1 v2 w = some r) : hMX l G A yX1_close cX1_close 4 (some .boolean) 15 332 [.ref v0, .int v1, .int v2] w (oI r.1) r.2 :=
  h_ofX (by decide +kernel) (Nat.le_of_ble_eq_true rfl) (fun p e s m args below meth c ls B hnm hT hR hS hl => bX1_close_0 B hT hl0 h hR hS hl)
noncomputable def fX1_hasPath (v0 : Nat) (v1 : Int32) (w : WH) : Option (((Sum (Int32) (Nat × Nat)) × WH)) :=
  (gR w v0 17 1).bind fun x1 =>
  (gR w v0 17 0).bind fun x3 =>
  (hIs w v0 17).bind fun _ =>
  b2_ (fX1_tripAt v0 v1 w) fun o7 w5 => ex_ o7 (fun x9 =>
    x1.bind fun a11 =>
    x3.bind fun a13 =>
    x9.bind fun a15 =>
    (hIs w5 a11 23).bind fun _ =>
    b2_ (fX4_walk a11 a13 a15 w5) fun x20 w17 =>
    (fz_ .boolean x20).bind fun _ =>
    some (.inl x20, w17)) (fun q10 =>
    some (.inr q10, w5))
theorem bX1_hasPath_0 {p : Program} {l : Launch} {e : Env} {s : State} {m : MethodId} {args : Array Value} {below : List Frame} {meth : Method} {c : Code} {H : Heap} {locs : List Loc} {ls : Array Slot} {G : gE} {A : Nat → Prop} {w0 : WH} (B : gB G RX1 cX1_hasPath 2 (some .boolean) p s m args meth c) (hT : ∀ x ∈ c.exceptionTable.toList, False) (hl0 : l.stackTraces = false) {v0 : Nat} {v1 : Int32} {w : WH} {r : ((Sum (Int32) (Nat × Nat)) × WH)} (h : fX1_hasPath v0 v1 w = some r)   (hR : RepH G A w H) (hS : Cu A s w0 w H locs) (hl : lv_has ls 2 [(0, .ref v0), (1, .int v1)]) : W p l e (hRm 18 410 w0) s m args below meth c H locs (wC w0 - wC w) (wS w0 - wS w) (hZX below args s G A w0 (oI r.1) r.2) (F0 m 0 ls []) := by
  have B0 := B
  obtain ⟨hx, hb, hml, hown, hts, hr, hlk, hK⟩ := B0
  unfold fX1_hasPath at h
  refine lv_aload_n hx hb dX1_hasPath_0 rfl (lv_at hl 0 rfl) ?_
  replace h := bo_o h
  obtain ⟨x1, e2, h⟩ := h
  refine h_get (ci := 17) (k := 1) (v := va_rf x1) hx hb hts hown hK hR in_X1 rfl (by decide) (fun _ _ => rfl) q664 (fun _ h9 => h9) (gR_o e2) dX1_hasPath_1 ?_
  refine lv_aload_n hx hb dX1_hasPath_4 rfl (lv_at hl 0 rfl) ?_
  replace h := bo_o h
  obtain ⟨x3, e4, h⟩ := h
  refine h_get (ci := 17) (k := 0) (v := va_rf x3) hx hb hts hown hK hR in_X1 rfl (by decide) (fun _ _ => rfl) q662 (fun _ h9 => h9) (gR_o e4) dX1_hasPath_5 ?_
  refine lv_aload_n hx hb dX1_hasPath_8 rfl (lv_at hl 0 rfl) ?_
  refine lv_iload_n hx hb dX1_hasPath_9 rfl (lv_at hl 1 rfl) ?_
  replace h := bo_o h
  obtain ⟨_, e6, h⟩ := h
  replace h := b2_o h
  obtain ⟨o7, w5, e8, h⟩ := h
  refine h_callVX 1 (ci := 17) (As := [.int v1]) (rest := [va_rf x3, va_rf x1]) (o := oR o7) (w' := w5) hx hb hml hown hts hK hR hS (Nat.le_refl _) (Nat.le_refl _) rfl e6 (mX1_tripAt hl0 e8) (lw_V q1975 q1977 qs48 q112 q1978) (by decide +kernel) (Nat.le_of_ble_eq_true rfl) (Nat.le_of_ble_eq_true rfl) rfl hl.1 (cat_le (Nat.le_of_ble_eq_true rfl)) dX1_hasPath_10 rfl (fun v9 hv9 H locs hR hS => ?_) (fun E9 q9 hq9 H locs hR hS hce => ?_)
  · cases o7 with
    | inr q => cases hv9
    | inl x9 =>
      cases hv9
      replace h := exl_o h
      refine W.eq (g2 := F0 m 13 ls [va_rf x9, va_rf x3, va_rf x1]) rfl ?_
      replace h := bo_o h
      obtain ⟨a11, e12, h⟩ := h
      subst e12
      replace h := bo_o h
      obtain ⟨a13, e14, h⟩ := h
      subst e14
      replace h := bo_o h
      obtain ⟨a15, e16, h⟩ := h
      subst e16
      replace h := bo_o h
      obtain ⟨_, e18, h⟩ := h
      replace h := b2_o h
      obtain ⟨x20, w17, e19, h⟩ := h
      refine h_callV 2 (ci := 23) (As := [.ref a13, .ref a15]) (rest := []) (v := (some (.int x20))) (w' := w17) (st1 := [.int x20]) hx hb hml hown hts hK hR hS (Nat.le_refl _) (Nat.le_refl _) rfl e18 (mX4_walk e19) (lw_V q1266 q1267 q1268 q135 q1269) (by decide +kernel) (Nat.le_of_ble_eq_true rfl) (Nat.le_of_ble_eq_true rfl) rfl hl.1 (Nat.le_of_ble_eq_true rfl) dX1_hasPath_13 rfl rfl (fun H locs hR hS => ?_)
      replace h := bo_o h
      obtain ⟨_, e21, h⟩ := h
      have eR := Option.some.inj h
      subst eR
      exact h_zfinX hx hb hr hlk (fz_n (fun _ => ⟨_, rfl⟩) e21) hR hS dX1_hasPath_16
  · cases o7 with
    | inl q => cases hq9
    | inr q10 =>
      cases hq9
      replace h := exr_o h
      have eR := Option.some.inj h
      subst eR
      exact h_out hT hlk hR hS hce
theorem mX1_hasPath {l : Launch} {G : gE} {A : Nat → Prop} {v0 : Nat} {v1 : Int32} {w : WH} {r : ((Sum (Int32) (Nat × Nat)) × WH)} (hl0 : l.stackTraces = false) (h : fX1_hasPath v0 v1 w = some r) : hMX l G A yX1_hasPath cX1_hasPath 2 (some .boolean) 18 410 [.ref v0, .int v1] w (oI r.1) r.2 :=
  h_ofX (by decide +kernel) (Nat.le_of_ble_eq_true rfl) (fun p e s m args below meth c ls B hnm hT hR hS hl => bX1_hasPath_0 B hT hl0 h hR hS hl)
noncomputable def fJ1_init__11 (v0 : Nat) (w : WH) : Option (WH) :=
  (fJ0_init v0 w).bind fun w1 =>
  (hPut w1 v0 11 0 (.int 0)).bind fun w3 =>
  some w3
theorem bJ1_init__11_0 {p : Program} {l : Launch} {e : Env} {s : State} {m : MethodId} {args : Array Value} {below : List Frame} {meth : Method} {c : Code} {H : Heap} {locs : List Loc} {ls : Array Slot} {G : gE} {A : Nat → Prop} {w0 : WH} (B : gB G RJ1 cJ1_init 1 none p s m args meth c) (hnm : meth.name = "<init>") {v0 : Nat} {w : WH} {r : WH} (h : fJ1_init__11 v0 w = some r)   (hR : RepH G A w H) (hS : Cu A s w0 w H locs) (hl : lv_has ls 1 [(0, .ref v0)]) : W p l e (hRm 2 40 w0) s m args below meth c H locs (wC w0 - wC w) (wS w0 - wS w) (hZ below args s G A w0 none r) (F0 m 0 ls []) := by
  have B0 := B
  obtain ⟨hx, hb, hml, hown, hts, hr, hlk, hK⟩ := B0
  unfold fJ1_init__11 at h
  refine lv_aload_n hx hb dJ1_init_0 rfl (lv_at hl 0 rfl) ?_
  replace h := bo_o h
  obtain ⟨w1, e2, h⟩ := h
  refine h_callI 0  (As := []) (rest := []) (w' := w1) hx hb hml hown hts hK hR hS (Nat.le_refl _) (Nat.le_refl _) (mJ0_init e2) (lw_meth q188) q115 q186 q187 rfl (by decide +kernel) (Nat.le_of_ble_eq_true rfl) (Nat.le_of_ble_eq_true rfl) rfl hl.1 (Nat.le_of_ble_eq_true rfl) dJ1_init_1 rfl (fun H locs hR hS => ?_)
  refine lv_aload_n hx hb dJ1_init_4 rfl (lv_at hl 0 rfl) ?_
  refine lv_iconst (v := 0) hx hb dJ1_init_5 (by decide) ?_
  replace h := bo_o h
  obtain ⟨w3, e4, h⟩ := h
  refine h_put (ci := 11) (k := 0) (ty := tyJ31 0) hx hb hts hown hK hR hS in_J31 tyJ31 tyJ31_ok nmJ31 rfl (by decide) q516 (fun _ h9 => h9) rfl (tyJ31_ok 0 (by decide)) rfl rfl e4 dJ1_init_6 (fun H locs hR hS => ?_)
  have eR := Option.some.inj h
  subst eR
  exact h_vfin hx hb hr hlk hR hS dJ1_init_9
theorem mJ1_init__11 {l : Launch} {G : gE} {A : Nat → Prop} {v0 : Nat} {w : WH} {r : WH} (h : fJ1_init__11 v0 w = some r) : hM l G A yJ1_init cJ1_init 1 none 2 40 [.ref v0] w none r :=
  h_of (by decide +kernel) (Nat.le_of_ble_eq_true rfl) (fun p e s m args below meth c ls B hnm hR hS hl => bJ1_init__11_0 B hnm h hR hS hl)
noncomputable def fJ30_init__11 (v0 : Nat) (w : WH) : Option (WH) :=
  (fJ1_init__11 v0 w).bind fun w1 =>
  some w1
theorem bJ30_init__11_0 {p : Program} {l : Launch} {e : Env} {s : State} {m : MethodId} {args : Array Value} {below : List Frame} {meth : Method} {c : Code} {H : Heap} {locs : List Loc} {ls : Array Slot} {G : gE} {A : Nat → Prop} {w0 : WH} (B : gB G RJ30 cJ30_init 1 none p s m args meth c) (hnm : meth.name = "<init>") {v0 : Nat} {w : WH} {r : WH} (h : fJ30_init__11 v0 w = some r)   (hR : RepH G A w H) (hS : Cu A s w0 w H locs) (hl : lv_has ls 1 [(0, .ref v0)]) : W p l e (hRm 3 60 w0) s m args below meth c H locs (wC w0 - wC w) (wS w0 - wS w) (hZ below args s G A w0 none r) (F0 m 0 ls []) := by
  have B0 := B
  obtain ⟨hx, hb, hml, hown, hts, hr, hlk, hK⟩ := B0
  unfold fJ30_init__11 at h
  refine lv_aload_n hx hb dJ30_init_0 rfl (lv_at hl 0 rfl) ?_
  replace h := bo_o h
  obtain ⟨w1, e2, h⟩ := h
  refine h_callI 0  (As := []) (rest := []) (w' := w1) hx hb hml hown hts hK hR hS (Nat.le_refl _) (Nat.le_refl _) (mJ1_init__11 e2) (lw_meth q185) q116 q2056 q184 rfl (by decide +kernel) (Nat.le_of_ble_eq_true rfl) (Nat.le_of_ble_eq_true rfl) rfl hl.1 (Nat.le_of_ble_eq_true rfl) dJ30_init_1 rfl (fun H locs hR hS => ?_)
  have eR := Option.some.inj h
  subst eR
  exact h_vfin hx hb hr hlk hR hS dJ30_init_4
theorem mJ30_init__11 {l : Launch} {G : gE} {A : Nat → Prop} {v0 : Nat} {w : WH} {r : WH} (h : fJ30_init__11 v0 w = some r) : hM l G A yJ30_init cJ30_init 1 none 3 60 [.ref v0] w none r :=
  h_of (by decide +kernel) (Nat.le_of_ble_eq_true rfl) (fun p e s m args below meth c ls B hnm hR hS hl => bJ30_init__11_0 B hnm h hR hS hl)
noncomputable def fJ31_init (v0 : Nat) (w : WH) : Option (WH) :=
  (fJ30_init__11 v0 w).bind fun w1 =>
  (hPut w1 v0 11 1 (.int 0)).bind fun w3 =>
  some w3
theorem bJ31_init_0 {p : Program} {l : Launch} {e : Env} {s : State} {m : MethodId} {args : Array Value} {below : List Frame} {meth : Method} {c : Code} {H : Heap} {locs : List Loc} {ls : Array Slot} {G : gE} {A : Nat → Prop} {w0 : WH} (B : gB G RJ31 cJ31_init 1 none p s m args meth c) (hnm : meth.name = "<init>") {v0 : Nat} {w : WH} {r : WH} (h : fJ31_init v0 w = some r)   (hR : RepH G A w H) (hS : Cu A s w0 w H locs) (hl : lv_has ls 1 [(0, .ref v0)]) : W p l e (hRm 4 80 w0) s m args below meth c H locs (wC w0 - wC w) (wS w0 - wS w) (hZ below args s G A w0 none r) (F0 m 0 ls []) := by
  have B0 := B
  obtain ⟨hx, hb, hml, hown, hts, hr, hlk, hK⟩ := B0
  unfold fJ31_init at h
  refine lv_aload_n hx hb dJ31_init_0 rfl (lv_at hl 0 rfl) ?_
  replace h := bo_o h
  obtain ⟨w1, e2, h⟩ := h
  refine h_callI 0  (As := []) (rest := []) (w' := w1) hx hb hml hown hts hK hR hS (Nat.le_refl _) (Nat.le_refl _) (mJ30_init__11 e2) (lw_meth q2055) q155 q2053 q2054 rfl (by decide +kernel) (Nat.le_of_ble_eq_true rfl) (Nat.le_of_ble_eq_true rfl) rfl hl.1 (Nat.le_of_ble_eq_true rfl) dJ31_init_1 rfl (fun H locs hR hS => ?_)
  refine lv_aload_n hx hb dJ31_init_4 rfl (lv_at hl 0 rfl) ?_
  refine lv_iconst (v := 0) hx hb dJ31_init_5 (by decide) ?_
  replace h := bo_o h
  obtain ⟨w3, e4, h⟩ := h
  refine h_put (ci := 11) (k := 1) (ty := tyJ31 1) hx hb hts hown hK hR hS in_J31 tyJ31 tyJ31_ok nmJ31 rfl (by decide) q2057 (fun _ h9 => h9) rfl (tyJ31_ok 1 (by decide)) rfl rfl e4 dJ31_init_6 (fun H locs hR hS => ?_)
  have eR := Option.some.inj h
  subst eR
  exact h_vfin hx hb hr hlk hR hS dJ31_init_9
theorem mJ31_init {l : Launch} {G : gE} {A : Nat → Prop} {v0 : Nat} {w : WH} {r : WH} (h : fJ31_init v0 w = some r) : hM l G A yJ31_init cJ31_init 1 none 4 80 [.ref v0] w none r :=
  h_of (by decide +kernel) (Nat.le_of_ble_eq_true rfl) (fun p e s m args below meth c ls B hnm hR hS hl => bJ31_init_0 B hnm h hR hS hl)
noncomputable def fJ20_init (v0 : Nat) (v1 : Option Nat) (v2 : Nat) (v3 : Option Nat) (w : WH) : Option (WH) :=
  (hPut w v0 3 0 (.ref v2)).bind fun w1 =>
  (hPut w1 v0 3 1 (va_rf v3)).bind fun w3 =>
  (hPut w3 v0 3 2 (va_rf v1)).bind fun w5 =>
  some w5
theorem bJ20_init_0 {p : Program} {l : Launch} {e : Env} {s : State} {m : MethodId} {args : Array Value} {below : List Frame} {meth : Method} {c : Code} {H : Heap} {locs : List Loc} {ls : Array Slot} {G : gE} {A : Nat → Prop} {w0 : WH} (B : gB G RJ20 cJ20_init 4 none p s m args meth c) (hnm : meth.name = "<init>") {v0 : Nat} {v1 : Option Nat} {v2 : Nat} {v3 : Option Nat} {w : WH} {r : WH} (h : fJ20_init v0 v1 v2 v3 w = some r)   (hR : RepH G A w H) (hS : Cu A s w0 w H locs) (hl : lv_has ls 4 [(0, .ref v0), (1, va_rf v1), (2, .ref v2), (3, va_rf v3)]) : W p l e (hRm 1 20 w0) s m args below meth c H locs (wC w0 - wC w) (wS w0 - wS w) (hZ below args s G A w0 none r) (F0 m 0 ls []) := by
  have B0 := B
  obtain ⟨hx, hb, hml, hown, hts, hr, hlk, hK⟩ := B0
  unfold fJ20_init at h
  refine lv_aload_n hx hb dJ20_init_0 rfl (lv_at hl 0 rfl) ?_
  refine W.objInit hx hb hown (hts _ q1032) (hts _ q168) (hts _ q169) rfl (by rw [hml]; exact hl.1) rfl dJ20_init_1 (Nat.le_of_ble_eq_true rfl) (Nat.le_of_ble_eq_true rfl) ?_
  refine W.eq (g2 := F0 m 4 ls []) rfl ?_
  refine lv_aload_n hx hb dJ20_init_4 rfl (lv_at hl 0 rfl) ?_
  refine lv_aload_n hx hb dJ20_init_5 rfl (lv_at hl 2 rfl) ?_
  replace h := bo_o h
  obtain ⟨w1, e2, h⟩ := h
  refine h_put (ci := 3) (k := 0) (ty := tyJ20 0) hx hb hts hown hK hR hS in_J20 tyJ20 tyJ20_ok nmJ20 rfl (by decide) q1033 (fun _ h9 => h9) rfl (tyJ20_ok 0 (by decide)) rfl rfl e2 dJ20_init_6 (fun H locs hR hS => ?_)
  refine lv_aload_n hx hb dJ20_init_9 rfl (lv_at hl 0 rfl) ?_
  refine lv_aload_nq hx hb dJ20_init_10 rfl (lv_at hl 3 rfl) ?_
  replace h := bo_o h
  obtain ⟨w3, e4, h⟩ := h
  refine h_put (ci := 3) (k := 1) (ty := tyJ20 1) hx hb hts hown hK hR hS in_J20 tyJ20 tyJ20_ok nmJ20 rfl (by decide) q1036 (fun _ h9 => h9) rfl (tyJ20_ok 1 (by decide)) (by cases v3 <;> rfl) (by cases v3 <;> rfl) e4 dJ20_init_11 (fun H locs hR hS => ?_)
  refine lv_aload_n hx hb dJ20_init_14 rfl (lv_at hl 0 rfl) ?_
  refine lv_aload_nq hx hb dJ20_init_15 rfl (lv_at hl 1 rfl) ?_
  replace h := bo_o h
  obtain ⟨w5, e6, h⟩ := h
  refine h_put (ci := 3) (k := 2) (ty := tyJ20 2) hx hb hts hown hK hR hS in_J20 tyJ20 tyJ20_ok nmJ20 rfl (by decide) q1039 (fun _ h9 => h9) rfl (tyJ20_ok 2 (by decide)) (by cases v1 <;> rfl) (by cases v1 <;> rfl) e6 dJ20_init_16 (fun H locs hR hS => ?_)
  have eR := Option.some.inj h
  subst eR
  exact h_vfin hx hb hr hlk hR hS dJ20_init_19
theorem mJ20_init {l : Launch} {G : gE} {A : Nat → Prop} {v0 : Nat} {v1 : Option Nat} {v2 : Nat} {v3 : Option Nat} {w : WH} {r : WH} (h : fJ20_init v0 v1 v2 v3 w = some r) : hM l G A yJ20_init cJ20_init 4 none 1 20 [.ref v0, va_rf v1, .ref v2, va_rf v3] w none r :=
  h_of (by decide +kernel) (by cases v1 <;> cases v3 <;> exact Nat.le_of_ble_eq_true rfl) (fun p e s m args below meth c ls B hnm hR hS hl => bJ20_init_0 B hnm h hR hS (Eq.mp (congrArg (lv_has ls 4) (by cases v1 <;> cases v3 <;> rfl)) hl))
noncomputable def fJ31_linkFirst_b38 (v0 : Nat) (w : WH) : Option (WH) :=
  (gI w v0 11 1).bind fun x1 =>
  (hPut w v0 11 1 (.int (x1 + 1))).bind fun w3 =>
  (gI w3 v0 11 0).bind fun x5 =>
  (hPut w3 v0 11 0 (.int (x5 + 1))).bind fun w7 =>
  some w7
theorem bJ31_linkFirst_38 {p : Program} {l : Launch} {e : Env} {s : State} {m : MethodId} {args : Array Value} {below : List Frame} {meth : Method} {c : Code} {H : Heap} {locs : List Loc} {ls : Array Slot} {G : gE} {A : Nat → Prop} {w0 : WH} (B : gB G RJ31 cJ31_linkFirst 4 none p s m args meth c) {v0 : Nat} {w : WH} {r : WH} (h : fJ31_linkFirst_b38 v0 w = some r)   (hR : RepH G A w H) (hS : Cu A s w0 w H locs) (hl : lv_has ls 4 [(0, .ref v0)]) : W p l e (hRm 2 43 w0) s m args below meth c H locs (wC w0 - wC w) (wS w0 - wS w) (hZ below args s G A w0 none r) (F0 m 38 ls []) := by
  have B0 := B
  obtain ⟨hx, hb, hml, hown, hts, hr, hlk, hK⟩ := B0
  unfold fJ31_linkFirst_b38 at h
  refine lv_aload_n hx hb dJ31_linkFirst_38 rfl (lv_at hl 0 rfl) ?_
  refine lv_dup hx hb dJ31_linkFirst_39 rfl ?_
  replace h := bo_o h
  obtain ⟨x1, e2, h⟩ := h
  refine h_get (ci := 11) (k := 1) (v := .int x1) hx hb hts hown hK hR in_J31 rfl (by decide) (fun _ _ => rfl) q2057 (fun _ h9 => h9) (gI_o e2) dJ31_linkFirst_40 ?_
  refine lv_iconst (v := 1) hx hb dJ31_linkFirst_43 (by decide) ?_
  refine lv_iadd hx hb dJ31_linkFirst_44 ?_
  replace h := bo_o h
  obtain ⟨w3, e4, h⟩ := h
  refine h_put (ci := 11) (k := 1) (ty := tyJ31 1) hx hb hts hown hK hR hS in_J31 tyJ31 tyJ31_ok nmJ31 rfl (by decide) q2057 (fun _ h9 => h9) rfl (tyJ31_ok 1 (by decide)) rfl rfl e4 dJ31_linkFirst_45 (fun H locs hR hS => ?_)
  refine lv_aload_n hx hb dJ31_linkFirst_48 rfl (lv_at hl 0 rfl) ?_
  refine lv_dup hx hb dJ31_linkFirst_49 rfl ?_
  replace h := bo_o h
  obtain ⟨x5, e6, h⟩ := h
  refine h_get (ci := 11) (k := 0) (v := .int x5) hx hb hts hown hK hR in_J31 rfl (by decide) (fun _ _ => rfl) q522 (fun x9 h9 => u_same (hts _ q518) x9 h9) (gI_o e6) dJ31_linkFirst_50 ?_
  refine lv_iconst (v := 1) hx hb dJ31_linkFirst_53 (by decide) ?_
  refine lv_iadd hx hb dJ31_linkFirst_54 ?_
  replace h := bo_o h
  obtain ⟨w7, e8, h⟩ := h
  refine h_put (ci := 11) (k := 0) (ty := tyJ31 0) hx hb hts hown hK hR hS in_J31 tyJ31 tyJ31_ok nmJ31 rfl (by decide) q522 (fun x9 h9 => u_same (hts _ q518) x9 h9) rfl (tyJ31_ok 0 (by decide)) rfl rfl e8 dJ31_linkFirst_55 (fun H locs hR hS => ?_)
  have eR := Option.some.inj h
  subst eR
  exact h_vfin hx hb hr hlk hR hS dJ31_linkFirst_58
noncomputable def fJ31_linkFirst (v0 : Nat) (v1 : Nat) (w : WH) : Option (WH) :=
  (gR w v0 11 2).bind fun x1 =>
  b2_ (hNw w 3 3 [.null, .null, .null]) fun a3 w4 =>
  (fJ20_init a3 none v1 x1 w4).bind fun w6 =>
  (hPut w6 v0 11 2 (.ref a3)).bind fun w8 =>
  if x1 = none then (
    (hPut w8 v0 11 3 (.ref a3)).bind fun w11 =>
    fJ31_linkFirst_b38 v0 w11
  ) else (
    x1.bind fun a13 =>
    (hPut w8 a13 3 2 (.ref a3)).bind fun w15 =>
    fJ31_linkFirst_b38 v0 w15
  )
theorem bJ31_linkFirst_0 {p : Program} {l : Launch} {e : Env} {s : State} {m : MethodId} {args : Array Value} {below : List Frame} {meth : Method} {c : Code} {H : Heap} {locs : List Loc} {ls : Array Slot} {G : gE} {A : Nat → Prop} {w0 : WH} (B : gB G RJ31 cJ31_linkFirst 4 none p s m args meth c) {v0 : Nat} {v1 : Nat} {w : WH} {r : WH} (h : fJ31_linkFirst v0 v1 w = some r)   (hR : RepH G A w H) (hS : Cu A s w0 w H locs) (hl : lv_has ls 4 [(0, .ref v0), (1, .ref v1)]) : W p l e (hRm 2 43 w0) s m args below meth c H locs (wC w0 - wC w) (wS w0 - wS w) (hZ below args s G A w0 none r) (F0 m 0 ls []) := by
  have B0 := B
  obtain ⟨hx, hb, hml, hown, hts, hr, hlk, hK⟩ := B0
  unfold fJ31_linkFirst at h
  refine lv_aload_n hx hb dJ31_linkFirst_0 rfl (lv_at hl 0 rfl) ?_
  replace h := bo_o h
  obtain ⟨x1, e2, h⟩ := h
  refine h_get (ci := 11) (k := 2) (v := va_rf x1) hx hb hts hown hK hR in_J31 rfl (by decide) (fun _ _ => rfl) q2059 (fun _ h9 => h9) (gR_o e2) dJ31_linkFirst_1 ?_
  refine lv_astore_nq (lv' := [(2, va_rf x1), (0, .ref v0), (1, .ref v1)]) hx hb dJ31_linkFirst_4 rfl hl (by decide) rfl (fun ls hl => ?_)
  replace h := b2_o h
  obtain ⟨a3, w4, e5, h⟩ := h
  refine h_new (ci := 3) (fs := [.null, .null, .null]) hx hb hts hown hK hR hS (Nat.le_refl _) (Nat.le_refl _) in_J20 tyJ20 tyJ20_ok rfl (by decide +kernel) q1027 q1028 q142 e5 dJ31_linkFirst_5 (fun H locs hR hS => ?_)
  refine lv_dup hx hb dJ31_linkFirst_8 rfl ?_
  refine lv_null hx hb dJ31_linkFirst_9 ?_
  refine lv_aload_n hx hb dJ31_linkFirst_10 rfl (lv_at hl 2 rfl) ?_
  refine lv_aload_nq hx hb dJ31_linkFirst_11 rfl (lv_at hl 0 rfl) ?_
  replace h := bo_o h
  obtain ⟨w6, e7, h⟩ := h
  refine h_callI 3  (As := [.null, .ref v1, va_rf x1]) (rest := [.ref a3]) (w' := w6) hx hb hml hown hts hK hR hS (Nat.le_refl _) (Nat.le_refl _) (mJ20_init e7) (lw_meth q1031) q142 q1029 q1030 rfl (by decide +kernel) (Nat.le_of_ble_eq_true rfl) (Nat.le_of_ble_eq_true rfl) rfl hl.1 (Nat.le_of_ble_eq_true rfl) dJ31_linkFirst_12 rfl (fun H locs hR hS => ?_)
  refine lv_astore_n (lv' := [(3, .ref a3), (2, va_rf x1), (0, .ref v0), (1, .ref v1)]) hx hb dJ31_linkFirst_15 rfl hl (by decide) (by cases x1 <;> rfl) (fun ls hl => ?_)
  refine lv_aload_n hx hb dJ31_linkFirst_16 rfl (lv_at hl 2 rfl) ?_
  refine lv_aload_n hx hb dJ31_linkFirst_17 rfl (lv_at hl 0 rfl) ?_
  replace h := bo_o h
  obtain ⟨w8, e9, h⟩ := h
  refine h_put (ci := 11) (k := 2) (ty := tyJ31 2) hx hb hts hown hK hR hS in_J31 tyJ31 tyJ31_ok nmJ31 rfl (by decide) q2059 (fun _ h9 => h9) rfl (tyJ31_ok 2 (by decide)) rfl rfl e9 dJ31_linkFirst_18 (fun H locs hR hS => ?_)
  refine lv_aload_nq hx hb dJ31_linkFirst_21 rfl (lv_at hl 1 rfl) ?_
  refine lv_ifnonnullq (tgt := 33) hx hb dJ31_linkFirst_22 (by decide) (fun c10 => ?_) (fun c10 => ?_)
  · replace h := if_o c10 h
    refine lv_aload_nq hx hb dJ31_linkFirst_33 rfl (lv_at hl 1 rfl) ?_
    refine lv_aload_n hx hb dJ31_linkFirst_34 rfl (lv_at hl 0 rfl) ?_
    replace h := bo_o h
    obtain ⟨a13, e14, h⟩ := h
    subst e14
    replace h := bo_o h
    obtain ⟨w15, e16, h⟩ := h
    refine h_put (ci := 3) (k := 2) (ty := tyJ20 2) hx hb hts hown hK hR hS in_J20 tyJ20 tyJ20_ok nmJ20 rfl (by decide) q1040 (fun _ h9 => h9) rfl (tyJ20_ok 2 (by decide)) rfl rfl e16 dJ31_linkFirst_35 (fun H locs hR hS => ?_)
    exact bJ31_linkFirst_38 B h  hR hS (lv_sub hl [2] rfl)
  · replace h := it_o c10 h
    refine lv_aload_n hx hb dJ31_linkFirst_25 rfl (lv_at hl 2 rfl) ?_
    refine lv_aload_n hx hb dJ31_linkFirst_26 rfl (lv_at hl 0 rfl) ?_
    replace h := bo_o h
    obtain ⟨w11, e12, h⟩ := h
    refine h_put (ci := 11) (k := 3) (ty := tyJ31 3) hx hb hts hown hK hR hS in_J31 tyJ31 tyJ31_ok nmJ31 rfl (by decide) q2060 (fun _ h9 => h9) rfl (tyJ31_ok 3 (by decide)) rfl rfl e12 dJ31_linkFirst_27 (fun H locs hR hS => ?_)
    refine lv_goto (tgt := 38) hx hb dJ31_linkFirst_30 (by decide) ?_
    exact bJ31_linkFirst_38 B h  hR hS (lv_sub hl [2] rfl)
theorem mJ31_linkFirst {l : Launch} {G : gE} {A : Nat → Prop} {v0 : Nat} {v1 : Nat} {w : WH} {r : WH} (h : fJ31_linkFirst v0 v1 w = some r) : hM l G A yJ31_linkFirst cJ31_linkFirst 4 none 2 43 [.ref v0, .ref v1] w none r :=
  h_of (by decide +kernel) (Nat.le_of_ble_eq_true rfl) (fun p e s m args below meth c ls B hnm hR hS hl => bJ31_linkFirst_0 B h hR hS hl)
noncomputable def fJ31_addFirst (v0 : Nat) (v1 : Nat) (w : WH) : Option (WH) :=
  (hIs w v0 11).bind fun _ =>
  (fJ31_linkFirst v0 v1 w).bind fun w1 =>
  some w1
theorem bJ31_addFirst_0 {p : Program} {l : Launch} {e : Env} {s : State} {m : MethodId} {args : Array Value} {below : List Frame} {meth : Method} {c : Code} {H : Heap} {locs : List Loc} {ls : Array Slot} {G : gE} {A : Nat → Prop} {w0 : WH} (B : gB G RJ31 cJ31_addFirst 2 none p s m args meth c) {v0 : Nat} {v1 : Nat} {w : WH} {r : WH} (h : fJ31_addFirst v0 v1 w = some r)   (hR : RepH G A w H) (hS : Cu A s w0 w H locs) (hl : lv_has ls 2 [(0, .ref v0), (1, .ref v1)]) : W p l e (hRm 3 66 w0) s m args below meth c H locs (wC w0 - wC w) (wS w0 - wS w) (hZ below args s G A w0 none r) (F0 m 0 ls []) := by
  have B0 := B
  obtain ⟨hx, hb, hml, hown, hts, hr, hlk, hK⟩ := B0
  unfold fJ31_addFirst at h
  refine lv_aload_n hx hb dJ31_addFirst_0 rfl (lv_at hl 0 rfl) ?_
  refine lv_aload_n hx hb dJ31_addFirst_1 rfl (lv_at hl 1 rfl) ?_
  replace h := bo_o h
  obtain ⟨_, e2, h⟩ := h
  replace h := bo_o h
  obtain ⟨w1, e3, h⟩ := h
  refine h_callV 1 (ci := 11) (As := [.ref v1]) (rest := []) (v := none) (w' := w1) (st1 := []) hx hb hml hown hts hK hR hS (Nat.le_refl _) (Nat.le_refl _) rfl e2 (mJ31_linkFirst e3) (lw_V q2073 q2075 qs51 q156 q2076) (by decide +kernel) (Nat.le_of_ble_eq_true rfl) (Nat.le_of_ble_eq_true rfl) rfl hl.1 (Nat.le_of_ble_eq_true rfl) dJ31_addFirst_2 rfl rfl (fun H locs hR hS => ?_)
  have eR := Option.some.inj h
  subst eR
  exact h_vfin hx hb hr hlk hR hS dJ31_addFirst_5
theorem mJ31_addFirst {l : Launch} {G : gE} {A : Nat → Prop} {v0 : Nat} {v1 : Nat} {w : WH} {r : WH} (h : fJ31_addFirst v0 v1 w = some r) : hM l G A yJ31_addFirst cJ31_addFirst 2 none 3 66 [.ref v0, .ref v1] w none r :=
  h_of (by decide +kernel) (Nat.le_of_ble_eq_true rfl) (fun p e s m args below meth c ls B hnm hR hS hl => bJ31_addFirst_0 B h hR hS hl)
noncomputable def fX1_pathOf_b39 (v0 : Nat) (v2 : Nat) (v3 : Int32) (w : WH) : Option (Sum (Int32 × WH) (((Sum (Option Nat) (Nat × Nat)) × WH))) :=
  if v3 < 0 then (
    some (.inr (.inl (some v2), w))
  ) else (
    (gR w v0 17 0).bind fun x2 =>
    x2.bind fun a4 =>
    (gR w a4 21 0).bind fun x6 =>
    x6.bind fun a8 =>
    (gR w a8 22 1).bind fun x10 =>
    (gR w v0 17 1).bind fun x12 =>
    x12.bind fun a14 =>
    (gR w a14 23 2).bind fun x16 =>
    x16.bind fun a18 =>
    (ldI w a18 0 v3).bind fun x20 =>
    x10.bind fun a22 =>
    (hIs w a22 2).bind fun _ =>
    b2_ (fJ2_get a22 x20 w) fun x27 w24 =>
    x27.bind fun a28 =>
    (hIs w24 a28 27).bind fun _ =>
    (hIs w24 v2 11).bind fun _ =>
    (fJ31_addFirst v2 a28 w24).bind fun w31 =>
    some (.inl (v3 + (-1), w31))
  )
theorem bX1_pathOf_39 {p : Program} {l : Launch} {e : Env} {s : State} {m : MethodId} {args : Array Value} {below : List Frame} {meth : Method} {c : Code} {H : Heap} {locs : List Loc} {ls : Array Slot} {G : gE} {A : Nat → Prop} {w0 : WH} (B : gB G RX1 cX1_pathOf 4 (some (.object "java/util/LinkedList")) p s m args meth c) (hT : ∀ x ∈ c.exceptionTable.toList, False) (hl0 : l.stackTraces = false) {v0 : Nat} {v2 : Nat} {v3 : Int32} {w : WH} {x : Sum (Int32 × WH) (((Sum (Option Nat) (Nat × Nat)) × WH))} {r : ((Sum (Option Nat) (Nat × Nat)) × WH)} (h : fX1_pathOf_b39 v0 v2 v3 w = some x)  (k39 : ∀ (v3' : Int32) (w' : WH), x = (.inl (v3', w')) → ∀ (H : Heap) (locs : List Loc) (ls : Array Slot), RepH G A w' H → Cu A s w0 w' H locs → lv_has ls 4 [(0, .ref v0), (2, .ref v2), (3, .int v3')] → W p l e (hRm 18 410 w0) s m args below meth c H locs (wC w0 - wC w') (wS w0 - wS w') (hZX below args s G A w0 (oR r.1) r.2) (F0 m 39 ls [])) (kR : ∀ q, x = (.inr q) → q = r) (hR : RepH G A w H) (hS : Cu A s w0 w H locs) (hl : lv_has ls 4 [(0, .ref v0), (2, .ref v2), (3, .int v3)]) : W p l e (hRm 18 410 w0) s m args below meth c H locs (wC w0 - wC w) (wS w0 - wS w) (hZX below args s G A w0 (oR r.1) r.2) (F0 m 39 ls []) := by
  have B0 := B
  obtain ⟨hx, hb, hml, hown, hts, hr, hlk, hK⟩ := B0
  unfold fX1_pathOf_b39 at h
  refine lv_iload_n hx hb dX1_pathOf_39 rfl (lv_at hl 2 rfl) ?_
  refine lv_if_lt (tgt := 80) hx hb dX1_pathOf_40 (by decide) (fun c1 => ?_) (fun c1 => ?_)
  · replace h := it_o c1 h
    refine lv_aload_n hx hb dX1_pathOf_80 rfl (lv_at hl 1 rfl) ?_
    have eR := kR _ (Option.some.inj h).symm
    subst eR
    exact h_afinX (x := some v2) hx hb hr hlk (by first | exact Or.inl ⟨_, rfl⟩ | exact Or.inr ⟨_, rfl⟩) hR hS dX1_pathOf_81
  · replace h := if_o c1 h
    refine lv_aload_n hx hb dX1_pathOf_43 rfl (lv_at hl 1 rfl) ?_
    refine lv_aload_n hx hb dX1_pathOf_44 rfl (lv_at hl 0 rfl) ?_
    replace h := bo_o h
    obtain ⟨x2, e3, h⟩ := h
    refine h_get (ci := 17) (k := 0) (v := va_rf x2) hx hb hts hown hK hR in_X1 rfl (by decide) (fun _ _ => rfl) q662 (fun _ h9 => h9) (gR_o e3) dX1_pathOf_45 ?_
    replace h := bo_o h
    obtain ⟨a4, e5, h⟩ := h
    subst e5
    replace h := bo_o h
    obtain ⟨x6, e7, h⟩ := h
    refine h_getN (ci := 21) (k := 0) (v := va_rf x6) hx hb hts hown hK hR in_X2 rfl (by decide) (fun _ _ => rfl) (hK.fn 15 rfl) (fun _ h9 => h9) (gR_o e7) dX1_pathOf_48 ?_
    replace h := bo_o h
    obtain ⟨a8, e9, h⟩ := h
    subst e9
    replace h := bo_o h
    obtain ⟨x10, e11, h⟩ := h
    refine h_getN (ci := 22) (k := 1) (v := va_rf x10) hx hb hts hown hK hR in_X3 rfl (by decide) (fun _ _ => rfl) (hK.fn 6 rfl) (fun _ h9 => h9) (gR_o e11) dX1_pathOf_51 ?_
    refine lv_aload_n hx hb dX1_pathOf_54 rfl (lv_at hl 0 rfl) ?_
    replace h := bo_o h
    obtain ⟨x12, e13, h⟩ := h
    refine h_get (ci := 17) (k := 1) (v := va_rf x12) hx hb hts hown hK hR in_X1 rfl (by decide) (fun _ _ => rfl) q664 (fun _ h9 => h9) (gR_o e13) dX1_pathOf_55 ?_
    replace h := bo_o h
    obtain ⟨a14, e15, h⟩ := h
    subst e15
    replace h := bo_o h
    obtain ⟨x16, e17, h⟩ := h
    refine h_getN (ci := 23) (k := 2) (v := va_rf x16) hx hb hts hown hK hR in_X4 rfl (by decide) (fun _ _ => rfl) (hK.fn 23 rfl) (fun _ h9 => h9) (gR_o e17) dX1_pathOf_58 ?_
    refine lv_iload_n hx hb dX1_pathOf_61 rfl (lv_at hl 2 rfl) ?_
    replace h := bo_o h
    obtain ⟨a18, e19, h⟩ := h
    subst e19
    replace h := bo_o h
    obtain ⟨x20, e21, h⟩ := h
    refine h_iald hx hb hK hR e21 dX1_pathOf_62 ?_
    replace h := bo_o h
    obtain ⟨a22, e23, h⟩ := h
    subst e23
    replace h := bo_o h
    obtain ⟨_, e25, h⟩ := h
    replace h := b2_o h
    obtain ⟨x27, w24, e26, h⟩ := h
    refine h_callF 1  (As := [.int x20]) (rest := [.ref v2]) (v := (some (va_rf x27))) (w' := w24) (st1 := [va_rf x27, .ref v2]) hx hb hml hown hts hK hR hS (Nat.le_refl _) (Nat.le_refl _) (h_recv (ci := 2) hK hR hS rfl e25) (mJ2_get e26) (lw_app (a := [.methodLink _ _ _, .selects _ _ _, .instanceMethod _, .initialized _]) (lw_4 q1205 q1208 q1210 q117) (lw_meth q1212)) (hK.fw 1 rfl) (by decide +kernel) (Nat.le_of_ble_eq_true rfl) (Nat.le_of_ble_eq_true rfl) rfl hl.1 (Nat.le_of_ble_eq_true rfl) dX1_pathOf_63 rfl rfl (fun H locs hR hS => ?_)
    replace h := bo_o h
    obtain ⟨a28, e29, h⟩ := h
    subst e29
    replace h := bo_o h
    obtain ⟨_, e30, h⟩ := h
    refine h_castS (ci := 27) hx hb hts hown hK hR hS rfl e30 q1768 dX1_pathOf_68 ?_
    replace h := bo_o h
    obtain ⟨_, e32, h⟩ := h
    replace h := bo_o h
    obtain ⟨w31, e33, h⟩ := h
    refine h_callV 1 (ci := 11) (As := [.ref a28]) (rest := []) (v := none) (w' := w31) (st1 := []) hx hb hml hown hts hK hR hS (Nat.le_refl _) (Nat.le_refl _) rfl e32 (mJ31_addFirst e33) (lw_V q2069 q2070 q2071 q156 q2072) (by decide +kernel) (Nat.le_of_ble_eq_true rfl) (Nat.le_of_ble_eq_true rfl) rfl hl.1 (Nat.le_of_ble_eq_true rfl) dX1_pathOf_71 rfl rfl (fun H locs hR hS => ?_)
    refine lv_iinc (v := v3 + (-1)) (lv' := [(3, .int (v3 + (-1))), (0, .ref v0), (2, .ref v2)]) hx hb dX1_pathOf_74 hl (k := 2) rfl rfl (by decide) rfl (fun ls hl => ?_)
    refine lv_goto (tgt := 39) hx hb dX1_pathOf_77 (by decide) ?_
    exact k39 _ _ (Option.some.inj h).symm H locs ls hR hS (lv_sub hl [1, 2, 0] rfl)
noncomputable def fX1_pathOf_l39 (v0 : Nat) (v2 : Nat) (v3 : Int32) (w : WH) : Option (((Sum (Option Nat) (Nat × Nat)) × WH)) := whileO (fun q => fX1_pathOf_b39 v0 v2 q.1 q.2) (v3, w)
theorem lX1_pathOf_39 {p : Program} {l : Launch} {e : Env} {s : State} {m : MethodId} {args : Array Value} {below : List Frame} {meth : Method} {c : Code} {G : gE} {A : Nat → Prop} {w0 : WH} (B : gB G RX1 cX1_pathOf 4 (some (.object "java/util/LinkedList")) p s m args meth c) (hT : ∀ x ∈ c.exceptionTable.toList, False) (hl0 : l.stackTraces = false) {v0 : Nat} {v2 : Nat} {r : ((Sum (Option Nat) (Nat × Nat)) × WH)}   : ∀ (v3 : Int32) (w : WH), fX1_pathOf_l39 v0 v2 v3 w = some r → ∀ (H : Heap) (locs : List Loc) (ls : Array Slot), RepH G A w H → Cu A s w0 w H locs → lv_has ls 4 [(0, .ref v0), (2, .ref v2), (3, .int v3)] → W p l e (hRm 18 410 w0) s m args below meth c H locs (wC w0 - wC w) (wS w0 - wS w) (hZX below args s G A w0 (oR r.1) r.2) (F0 m 39 ls []) := by
  intro v3 w h
  refine wh_walk (body := (fun q => fX1_pathOf_b39 v0 v2 q.1 q.2)) (P := (fun q : (Int32 × WH) => ∀ (H : Heap) (locs : List Loc) (ls : Array Slot), RepH G A (q.2) H → Cu A s w0 (q.2) H locs → lv_has ls 4 [(0, .ref v0), (2, .ref v2), (3, .int (q.1))] → W p l e (hRm 18 410 w0) s m args below meth c H locs (wC w0 - wC (q.2)) (wS w0 - wS (q.2)) (hZX below args s G A w0 (oR r.1) r.2) (F0 m 39 ls []))) (r := r) ?_ (v3, w) h
  intro q y hy hL hr H locs ls hR hS hl
  exact bX1_pathOf_39 (r := r) B hT hl0 hy (fun a0 a1 e => hL (a0, a1) e) (fun q e => hr q e) hR hS hl
noncomputable def fX1_pathOf (v0 : Nat) (v1 : Int32) (w : WH) : Option (((Sum (Option Nat) (Nat × Nat)) × WH)) :=
  (gR w v0 17 1).bind fun x1 =>
  (gR w v0 17 0).bind fun x3 =>
  (hIs w v0 17).bind fun _ =>
  b2_ (fX1_tripAt v0 v1 w) fun o7 w5 => ex_ o7 (fun x9 =>
    x1.bind fun a11 =>
    x3.bind fun a13 =>
    x9.bind fun a15 =>
    (hIs w5 a11 23).bind fun _ =>
    b2_ (fX4_walk a11 a13 a15 w5) fun x20 w17 =>
    if x20 = 0 then (
      some (.inl none, w17)
    ) else (
      b2_ (hNw w17 4 11 [.int 0, .int 0, .null, .null]) fun a22 w23 =>
      (fJ31_init a22 w23).bind fun w25 =>
      (gR w25 v0 17 1).bind fun x27 =>
      x27.bind fun a29 =>
      (gI w25 a29 23 5).bind fun x31 =>
      nm_ (x31 - 1) fun x33 =>
      fX1_pathOf_l39 v0 a22 x33 w25
    )) (fun q10 =>
    some (.inr q10, w5))
theorem bX1_pathOf_0 {p : Program} {l : Launch} {e : Env} {s : State} {m : MethodId} {args : Array Value} {below : List Frame} {meth : Method} {c : Code} {H : Heap} {locs : List Loc} {ls : Array Slot} {G : gE} {A : Nat → Prop} {w0 : WH} (B : gB G RX1 cX1_pathOf 4 (some (.object "java/util/LinkedList")) p s m args meth c) (hT : ∀ x ∈ c.exceptionTable.toList, False) (hl0 : l.stackTraces = false) {v0 : Nat} {v1 : Int32} {w : WH} {r : ((Sum (Option Nat) (Nat × Nat)) × WH)} (h : fX1_pathOf v0 v1 w = some r)   (hR : RepH G A w H) (hS : Cu A s w0 w H locs) (hl : lv_has ls 4 [(0, .ref v0), (1, .int v1)]) : W p l e (hRm 18 410 w0) s m args below meth c H locs (wC w0 - wC w) (wS w0 - wS w) (hZX below args s G A w0 (oR r.1) r.2) (F0 m 0 ls []) := by
  have B0 := B
  obtain ⟨hx, hb, hml, hown, hts, hr, hlk, hK⟩ := B0
  unfold fX1_pathOf at h
  refine lv_aload_n hx hb dX1_pathOf_0 rfl (lv_at hl 0 rfl) ?_
  replace h := bo_o h
  obtain ⟨x1, e2, h⟩ := h
  refine h_get (ci := 17) (k := 1) (v := va_rf x1) hx hb hts hown hK hR in_X1 rfl (by decide) (fun _ _ => rfl) q664 (fun _ h9 => h9) (gR_o e2) dX1_pathOf_1 ?_
  refine lv_aload_n hx hb dX1_pathOf_4 rfl (lv_at hl 0 rfl) ?_
  replace h := bo_o h
  obtain ⟨x3, e4, h⟩ := h
  refine h_get (ci := 17) (k := 0) (v := va_rf x3) hx hb hts hown hK hR in_X1 rfl (by decide) (fun _ _ => rfl) q662 (fun _ h9 => h9) (gR_o e4) dX1_pathOf_5 ?_
  refine lv_aload_n hx hb dX1_pathOf_8 rfl (lv_at hl 0 rfl) ?_
  refine lv_iload_n hx hb dX1_pathOf_9 rfl (lv_at hl 1 rfl) ?_
  replace h := bo_o h
  obtain ⟨_, e6, h⟩ := h
  replace h := b2_o h
  obtain ⟨o7, w5, e8, h⟩ := h
  refine h_callVX 1 (ci := 17) (As := [.int v1]) (rest := [va_rf x3, va_rf x1]) (o := oR o7) (w' := w5) hx hb hml hown hts hK hR hS (Nat.le_refl _) (Nat.le_refl _) rfl e6 (mX1_tripAt hl0 e8) (lw_V q1975 q1977 qs48 q112 q1978) (by decide +kernel) (Nat.le_of_ble_eq_true rfl) (Nat.le_of_ble_eq_true rfl) rfl hl.1 (cat_le (Nat.le_of_ble_eq_true rfl)) dX1_pathOf_10 rfl (fun v9 hv9 H locs hR hS => ?_) (fun E9 q9 hq9 H locs hR hS hce => ?_)
  · cases o7 with
    | inr q => cases hv9
    | inl x9 =>
      cases hv9
      replace h := exl_o h
      refine W.eq (g2 := F0 m 13 ls [va_rf x9, va_rf x3, va_rf x1]) rfl ?_
      replace h := bo_o h
      obtain ⟨a11, e12, h⟩ := h
      subst e12
      replace h := bo_o h
      obtain ⟨a13, e14, h⟩ := h
      subst e14
      replace h := bo_o h
      obtain ⟨a15, e16, h⟩ := h
      subst e16
      replace h := bo_o h
      obtain ⟨_, e18, h⟩ := h
      replace h := b2_o h
      obtain ⟨x20, w17, e19, h⟩ := h
      refine h_callV 2 (ci := 23) (As := [.ref a13, .ref a15]) (rest := []) (v := (some (.int x20))) (w' := w17) (st1 := [.int x20]) hx hb hml hown hts hK hR hS (Nat.le_refl _) (Nat.le_refl _) rfl e18 (mX4_walk e19) (lw_V q1266 q1267 q1268 q135 q1269) (by decide +kernel) (Nat.le_of_ble_eq_true rfl) (Nat.le_of_ble_eq_true rfl) rfl hl.1 (Nat.le_of_ble_eq_true rfl) dX1_pathOf_13 rfl rfl (fun H locs hR hS => ?_)
      refine lv_if_ne (tgt := 21) hx hb dX1_pathOf_16 (by decide) (fun c21 => ?_) (fun c21 => ?_)
      · replace h := if_o c21 h
        replace h := b2_o h
        obtain ⟨a22, w23, e24, h⟩ := h
        refine h_new (ci := 11) (fs := [.int 0, .int 0, .null, .null]) hx hb hts hown hK hR hS (Nat.le_refl _) (Nat.le_refl _) in_J31 tyJ31 tyJ31_ok rfl (by decide +kernel) q2049 q1229 q156 e24 dX1_pathOf_21 (fun H locs hR hS => ?_)
        refine lv_dup hx hb dX1_pathOf_24 rfl ?_
        replace h := bo_o h
        obtain ⟨w25, e26, h⟩ := h
        refine h_callI 0  (As := []) (rest := [.ref a22]) (w' := w25) hx hb hml hown hts hK hR hS (Nat.le_refl _) (Nat.le_refl _) (mJ31_init e26) (lw_meth q2052) q156 q2050 q2051 rfl (by decide +kernel) (Nat.le_of_ble_eq_true rfl) (Nat.le_of_ble_eq_true rfl) rfl hl.1 (Nat.le_of_ble_eq_true rfl) dX1_pathOf_25 rfl (fun H locs hR hS => ?_)
        refine lv_astore_n (lv' := [(2, .ref a22), (0, .ref v0), (1, .int v1)]) hx hb dX1_pathOf_28 rfl hl (by decide) rfl (fun ls hl => ?_)
        refine lv_aload_n hx hb dX1_pathOf_29 rfl (lv_at hl 1 rfl) ?_
        replace h := bo_o h
        obtain ⟨x27, e28, h⟩ := h
        refine h_get (ci := 17) (k := 1) (v := va_rf x27) hx hb hts hown hK hR in_X1 rfl (by decide) (fun _ _ => rfl) q664 (fun _ h9 => h9) (gR_o e28) dX1_pathOf_30 ?_
        replace h := bo_o h
        obtain ⟨a29, e30, h⟩ := h
        subst e30
        replace h := bo_o h
        obtain ⟨x31, e32, h⟩ := h
        refine h_getN (ci := 23) (k := 5) (v := .int x31) hx hb hts hown hK hR in_X4 rfl (by decide) (fun _ _ => rfl) (hK.fn 24 rfl) (fun _ h9 => h9) (gI_o e32) dX1_pathOf_33 ?_
        refine lv_iconst (v := 1) hx hb dX1_pathOf_36 (by decide) ?_
        refine lv_isub hx hb dX1_pathOf_37 ?_
        replace h := nm_o h
        obtain ⟨x33, e34, h⟩ := h
        refine lv_istore_n (lv' := [(3, .int x33), (2, .ref a22), (0, .ref v0), (1, .int v1)]) hx hb dX1_pathOf_38 rfl hl (by decide) (by subst e34; rfl) (fun ls hl => ?_)
        exact lX1_pathOf_39 B hT hl0 _ _ h H locs ls hR hS (lv_sub hl [2, 1, 0] rfl)
      · replace h := it_o c21 h
        refine lv_null hx hb dX1_pathOf_19 ?_
        have eR := Option.some.inj h
        subst eR
        exact h_afinX (x := none) hx hb hr hlk (by first | exact Or.inl ⟨_, rfl⟩ | exact Or.inr ⟨_, rfl⟩) hR hS dX1_pathOf_20
  · cases o7 with
    | inl q => cases hq9
    | inr q10 =>
      cases hq9
      replace h := exr_o h
      have eR := Option.some.inj h
      subst eR
      exact h_out hT hlk hR hS hce
theorem mX1_pathOf {l : Launch} {G : gE} {A : Nat → Prop} {v0 : Nat} {v1 : Int32} {w : WH} {r : ((Sum (Option Nat) (Nat × Nat)) × WH)} (hl0 : l.stackTraces = false) (h : fX1_pathOf v0 v1 w = some r) : hMX l G A yX1_pathOf cX1_pathOf 4 (some (.object "java/util/LinkedList")) 18 410 [.ref v0, .int v1] w (oR r.1) r.2 :=
  h_ofX (by decide +kernel) (Nat.le_of_ble_eq_true rfl) (fun p e s m args below meth c ls B hnm hT hR hS hl => bX1_pathOf_0 B hT hl0 h hR hS hl)
noncomputable def fJ31_size (v0 : Nat) (w : WH) : Option ((Int32 × WH)) :=
  (gI w v0 11 1).bind fun x1 =>
  some (x1, w)
theorem bJ31_size_0 {p : Program} {l : Launch} {e : Env} {s : State} {m : MethodId} {args : Array Value} {below : List Frame} {meth : Method} {c : Code} {H : Heap} {locs : List Loc} {ls : Array Slot} {G : gE} {A : Nat → Prop} {w0 : WH} (B : gB G RJ31 cJ31_size 1 (some .int) p s m args meth c) {v0 : Nat} {w : WH} {r : (Int32 × WH)} (h : fJ31_size v0 w = some r)   (hR : RepH G A w H) (hS : Cu A s w0 w H locs) (hl : lv_has ls 1 [(0, .ref v0)]) : W p l e (hRm 0 0 w0) s m args below meth c H locs (wC w0 - wC w) (wS w0 - wS w) (hZ below args s G A w0 (some (.int r.1)) r.2) (F0 m 0 ls []) := by
  have B0 := B
  obtain ⟨hx, hb, hml, hown, hts, hr, hlk, hK⟩ := B0
  unfold fJ31_size at h
  refine lv_aload_n hx hb dJ31_size_0 rfl (lv_at hl 0 rfl) ?_
  replace h := bo_o h
  obtain ⟨x1, e2, h⟩ := h
  refine h_get (ci := 11) (k := 1) (v := .int x1) hx hb hts hown hK hR in_J31 rfl (by decide) (fun _ _ => rfl) q2057 (fun _ h9 => h9) (gI_o e2) dJ31_size_1 ?_
  have eR := Option.some.inj h
  subst eR
  exact h_ifin hx hb hr hlk hR hS dJ31_size_4
theorem mJ31_size {l : Launch} {G : gE} {A : Nat → Prop} {v0 : Nat} {w : WH} {r : (Int32 × WH)} (h : fJ31_size v0 w = some r) : hM l G A yJ31_size cJ31_size 1 (some .int) 0 0 [.ref v0] w (some (.int r.1)) r.2 :=
  h_of (by decide +kernel) (Nat.le_of_ble_eq_true rfl) (fun p e s m args below meth c ls B hnm hR hS hl => bJ31_size_0 B h hR hS hl)
noncomputable def fX1_pathLength (v0 : Nat) (v1 : Int32) (w : WH) : Option (((Sum (Int32) (Nat × Nat)) × WH)) :=
  (hIs w v0 17).bind fun _ =>
  b2_ (fX1_pathOf v0 v1 w) fun o3 w1 => ex_ o3 (fun x5 =>
    if x5 = none then (
      some (.inl (-1), w1)
    ) else (
      x5.bind fun a8 =>
      (hIs w1 a8 11).bind fun _ =>
      b2_ (fJ31_size a8 w1) fun x13 w10 =>
      some (.inl x13, w10)
    )) (fun q6 =>
    some (.inr q6, w1))
theorem bX1_pathLength_0 {p : Program} {l : Launch} {e : Env} {s : State} {m : MethodId} {args : Array Value} {below : List Frame} {meth : Method} {c : Code} {H : Heap} {locs : List Loc} {ls : Array Slot} {G : gE} {A : Nat → Prop} {w0 : WH} (B : gB G RX1 cX1_pathLength 3 (some .int) p s m args meth c) (hT : ∀ x ∈ c.exceptionTable.toList, False) (hl0 : l.stackTraces = false) {v0 : Nat} {v1 : Int32} {w : WH} {r : ((Sum (Int32) (Nat × Nat)) × WH)} (h : fX1_pathLength v0 v1 w = some r)   (hR : RepH G A w H) (hS : Cu A s w0 w H locs) (hl : lv_has ls 3 [(0, .ref v0), (1, .int v1)]) : W p l e (hRm 19 433 w0) s m args below meth c H locs (wC w0 - wC w) (wS w0 - wS w) (hZX below args s G A w0 (oI r.1) r.2) (F0 m 0 ls []) := by
  have B0 := B
  obtain ⟨hx, hb, hml, hown, hts, hr, hlk, hK⟩ := B0
  unfold fX1_pathLength at h
  refine lv_aload_n hx hb dX1_pathLength_0 rfl (lv_at hl 0 rfl) ?_
  refine lv_iload_n hx hb dX1_pathLength_1 rfl (lv_at hl 1 rfl) ?_
  replace h := bo_o h
  obtain ⟨_, e2, h⟩ := h
  replace h := b2_o h
  obtain ⟨o3, w1, e4, h⟩ := h
  refine h_callVX 1 (ci := 17) (As := [.int v1]) (rest := []) (o := oR o3) (w' := w1) hx hb hml hown hts hK hR hS (Nat.le_refl _) (Nat.le_refl _) rfl e2 (mX1_pathOf hl0 e4) (lw_V q2045 q2047 qs50 q112 q2048) (by decide +kernel) (Nat.le_of_ble_eq_true rfl) (Nat.le_of_ble_eq_true rfl) rfl hl.1 (Nat.le_of_ble_eq_true rfl) dX1_pathLength_2 rfl (fun v9 hv9 H locs hR hS => ?_) (fun E9 q9 hq9 H locs hR hS hce => ?_)
  · cases o3 with
    | inr q => cases hv9
    | inl x5 =>
      cases hv9
      replace h := exl_o h
      refine W.eq (g2 := F0 m 5 ls [va_rf x5]) rfl ?_
      refine lv_astore_nq (lv' := [(2, va_rf x5), (0, .ref v0), (1, .int v1)]) hx hb dX1_pathLength_5 rfl hl (by decide) rfl (fun ls hl => ?_)
      refine lv_aload_nq hx hb dX1_pathLength_6 rfl (lv_at hl 0 rfl) ?_
      refine lv_ifnonnullq (tgt := 14) hx hb dX1_pathLength_7 (by decide) (fun c7 => ?_) (fun c7 => ?_)
      · replace h := if_o c7 h
        refine lv_aload_nq hx hb dX1_pathLength_14 rfl (lv_at hl 0 rfl) ?_
        replace h := bo_o h
        obtain ⟨a8, e9, h⟩ := h
        subst e9
        replace h := bo_o h
        obtain ⟨_, e11, h⟩ := h
        replace h := b2_o h
        obtain ⟨x13, w10, e12, h⟩ := h
        refine h_callV 0 (ci := 11) (As := []) (rest := []) (v := (some (.int x13))) (w' := w10) (st1 := [.int x13]) hx hb hml hown hts hK hR hS (Nat.le_refl _) (Nat.le_refl _) rfl e11 (mJ31_size e12) (lw_V q2077 q911 q3048 q156 q913) (by decide +kernel) (Nat.le_of_ble_eq_true rfl) (Nat.le_of_ble_eq_true rfl) rfl hl.1 (Nat.le_of_ble_eq_true rfl) dX1_pathLength_15 rfl rfl (fun H locs hR hS => ?_)
        have eR := Option.some.inj h
        subst eR
        exact h_ifinX hx hb hr hlk hR hS dX1_pathLength_18
      · replace h := it_o c7 h
        refine lv_iconst (v := (-1)) hx hb dX1_pathLength_10 (by decide) ?_
        refine lv_goto (tgt := 18) hx hb dX1_pathLength_11 (by decide) ?_
        have eR := Option.some.inj h
        subst eR
        exact h_ifinX hx hb hr hlk hR hS dX1_pathLength_18
  · cases o3 with
    | inl q => cases hq9
    | inr q6 =>
      cases hq9
      replace h := exr_o h
      have eR := Option.some.inj h
      subst eR
      exact h_out hT hlk hR hS hce
theorem mX1_pathLength {l : Launch} {G : gE} {A : Nat → Prop} {v0 : Nat} {v1 : Int32} {w : WH} {r : ((Sum (Int32) (Nat × Nat)) × WH)} (hl0 : l.stackTraces = false) (h : fX1_pathLength v0 v1 w = some r) : hMX l G A yX1_pathLength cX1_pathLength 3 (some .int) 19 433 [.ref v0, .int v1] w (oI r.1) r.2 :=
  h_ofX (by decide +kernel) (Nat.le_of_ble_eq_true rfl) (fun p e s m args below meth c ls B hnm hT hR hS hl => bX1_pathLength_0 B hT hl0 h hR hS hl)
noncomputable def fJ31_isElementIndex (v0 : Nat) (v1 : Int32) (w : WH) : Option ((Int32 × WH)) :=
  if v1 < 0 then (
    some (0, w)
  ) else (
    (gI w v0 11 1).bind fun x2 =>
    if x2 ≤ v1 then (
      some (0, w)
    ) else (
      some (1, w)
    )
  )
theorem bJ31_isElementIndex_0 {p : Program} {l : Launch} {e : Env} {s : State} {m : MethodId} {args : Array Value} {below : List Frame} {meth : Method} {c : Code} {H : Heap} {locs : List Loc} {ls : Array Slot} {G : gE} {A : Nat → Prop} {w0 : WH} (B : gB G RJ31 cJ31_isElementIndex 2 (some .boolean) p s m args meth c) {v0 : Nat} {v1 : Int32} {w : WH} {r : (Int32 × WH)} (h : fJ31_isElementIndex v0 v1 w = some r)   (hR : RepH G A w H) (hS : Cu A s w0 w H locs) (hl : lv_has ls 2 [(0, .ref v0), (1, .int v1)]) : W p l e (hRm 0 0 w0) s m args below meth c H locs (wC w0 - wC w) (wS w0 - wS w) (hZ below args s G A w0 (some (.int r.1)) r.2) (F0 m 0 ls []) := by
  have B0 := B
  obtain ⟨hx, hb, hml, hown, hts, hr, hlk, hK⟩ := B0
  unfold fJ31_isElementIndex at h
  refine lv_iload_n hx hb dJ31_isElementIndex_0 rfl (lv_at hl 1 rfl) ?_
  refine lv_if_lt (tgt := 16) hx hb dJ31_isElementIndex_1 (by decide) (fun c1 => ?_) (fun c1 => ?_)
  · replace h := it_o c1 h
    refine lv_iconst (v := 0) hx hb dJ31_isElementIndex_16 (by decide) ?_
    have eR := Option.some.inj h
    subst eR
    exact h_zfin hx hb hr hlk (by show narrow .boolean (.int 0) = .int 0; decide) hR hS dJ31_isElementIndex_17
  · replace h := if_o c1 h
    refine lv_iload_n hx hb dJ31_isElementIndex_4 rfl (lv_at hl 1 rfl) ?_
    refine lv_aload_n hx hb dJ31_isElementIndex_5 rfl (lv_at hl 0 rfl) ?_
    replace h := bo_o h
    obtain ⟨x2, e3, h⟩ := h
    refine h_get (ci := 11) (k := 1) (v := .int x2) hx hb hts hown hK hR in_J31 rfl (by decide) (fun _ _ => rfl) q2057 (fun _ h9 => h9) (gI_o e3) dJ31_isElementIndex_6 ?_
    refine lv_icmp_ge (tgt := 16) hx hb dJ31_isElementIndex_9 (by decide) (fun c4 => ?_) (fun c4 => ?_)
    · replace h := it_o c4 h
      refine lv_iconst (v := 0) hx hb dJ31_isElementIndex_16 (by decide) ?_
      have eR := Option.some.inj h
      subst eR
      exact h_zfin hx hb hr hlk (by show narrow .boolean (.int 0) = .int 0; decide) hR hS dJ31_isElementIndex_17
    · replace h := if_o c4 h
      refine lv_iconst (v := 1) hx hb dJ31_isElementIndex_12 (by decide) ?_
      refine lv_goto (tgt := 17) hx hb dJ31_isElementIndex_13 (by decide) ?_
      have eR := Option.some.inj h
      subst eR
      exact h_zfin hx hb hr hlk (by show narrow .boolean (.int 1) = .int 1; decide) hR hS dJ31_isElementIndex_17
theorem mJ31_isElementIndex {l : Launch} {G : gE} {A : Nat → Prop} {v0 : Nat} {v1 : Int32} {w : WH} {r : (Int32 × WH)} (h : fJ31_isElementIndex v0 v1 w = some r) : hM l G A yJ31_isElementIndex cJ31_isElementIndex 2 (some .boolean) 0 0 [.ref v0, .int v1] w (some (.int r.1)) r.2 :=
  h_of (by decide +kernel) (Nat.le_of_ble_eq_true rfl) (fun p e s m args below meth c ls B hnm hR hS hl => bJ31_isElementIndex_0 B h hR hS hl)
noncomputable def fJ31_checkElementIndex (v0 : Nat) (v1 : Int32) (w : WH) : Option (WH) :=
  (hIs w v0 11).bind fun _ =>
  b2_ (fJ31_isElementIndex v0 v1 w) fun x4 w1 =>
  if x4 = 0 then (
    none
  ) else (
    some w1
  )
theorem bJ31_checkElementIndex_0 {p : Program} {l : Launch} {e : Env} {s : State} {m : MethodId} {args : Array Value} {below : List Frame} {meth : Method} {c : Code} {H : Heap} {locs : List Loc} {ls : Array Slot} {G : gE} {A : Nat → Prop} {w0 : WH} (B : gB G RJ31 cJ31_checkElementIndex 2 none p s m args meth c) {v0 : Nat} {v1 : Int32} {w : WH} {r : WH} (h : fJ31_checkElementIndex v0 v1 w = some r)   (hR : RepH G A w H) (hS : Cu A s w0 w H locs) (hl : lv_has ls 2 [(0, .ref v0), (1, .int v1)]) : W p l e (hRm 6 104 w0) s m args below meth c H locs (wC w0 - wC w) (wS w0 - wS w) (hZ below args s G A w0 none r) (F0 m 0 ls []) := by
  have B0 := B
  obtain ⟨hx, hb, hml, hown, hts, hr, hlk, hK⟩ := B0
  unfold fJ31_checkElementIndex at h
  refine lv_aload_n hx hb dJ31_checkElementIndex_0 rfl (lv_at hl 0 rfl) ?_
  refine lv_iload_n hx hb dJ31_checkElementIndex_1 rfl (lv_at hl 1 rfl) ?_
  replace h := bo_o h
  obtain ⟨_, e2, h⟩ := h
  replace h := b2_o h
  obtain ⟨x4, w1, e3, h⟩ := h
  refine h_callV 1 (ci := 11) (As := [.int v1]) (rest := []) (v := (some (.int x4))) (w' := w1) (st1 := [.int x4]) hx hb hml hown hts hK hR hS (Nat.le_refl _) (Nat.le_refl _) rfl e2 (mJ31_isElementIndex e3) (lw_V q1231 q1233 qs25 q156 q1234) (by decide +kernel) (Nat.le_of_ble_eq_true rfl) (Nat.le_of_ble_eq_true rfl) rfl hl.1 (Nat.le_of_ble_eq_true rfl) dJ31_checkElementIndex_2 rfl rfl (fun H locs hR hS => ?_)
  refine lv_if_ne (tgt := 21) hx hb dJ31_checkElementIndex_5 (by decide) (fun c5 => ?_) (fun c5 => ?_)
  · replace h := if_o c5 h
    have eR := Option.some.inj h
    subst eR
    exact h_vfin hx hb hr hlk hR hS dJ31_checkElementIndex_21
  · replace h := it_o c5 h
    exact (nomatch h)
theorem mJ31_checkElementIndex {l : Launch} {G : gE} {A : Nat → Prop} {v0 : Nat} {v1 : Int32} {w : WH} {r : WH} (h : fJ31_checkElementIndex v0 v1 w = some r) : hM l G A yJ31_checkElementIndex cJ31_checkElementIndex 2 none 6 104 [.ref v0, .int v1] w none r :=
  h_of (by decide +kernel) (Nat.le_of_ble_eq_true rfl) (fun p e s m args below meth c ls B hnm hR hS hl => bJ31_checkElementIndex_0 B h hR hS hl)
