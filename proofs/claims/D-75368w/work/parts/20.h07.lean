set_option maxRecDepth 100000
set_option maxHeartbeats 4000000

noncomputable def fX2_toll (v0 : Nat) (v1 : Nat) (w : WH) : Option ((Int32 × WH)) :=
  (gR w v0 21 1).bind fun x1 =>
  (hIs w v1 27).bind fun _ =>
  b2_ (fX8_number v1 w) fun x6 w3 =>
  x1.bind fun a7 =>
  (ldI w3 a7 0 x6).bind fun x9 =>
  some (x9, w3)
theorem bX2_toll_0 {p : Program} {l : Launch} {e : Env} {s : State} {m : MethodId} {args : Array Value} {below : List Frame} {meth : Method} {c : Code} {H : Heap} {locs : List Loc} {ls : Array Slot} {G : gE} {A : Nat → Prop} {w0 : WH} (B : gB G RX2 cX2_toll 2 (some .int) p s m args meth c) {v0 : Nat} {v1 : Nat} {w : WH} {r : (Int32 × WH)} (h : fX2_toll v0 v1 w = some r)   (hR : RepH G A w H) (hS : Cu A s w0 w H locs) (hl : lv_has ls 2 [(0, .ref v0), (1, .ref v1)]) : W p l e (hRm 1 20 w0) s m args below meth c H locs (wC w0 - wC w) (wS w0 - wS w) (hZ below args s G A w0 (some (.int r.1)) r.2) (F0 m 0 ls []) := by
  have B0 := B
  obtain ⟨hx, hb, hml, hown, hts, hr, hlk, hK⟩ := B0
  unfold fX2_toll at h
  refine lv_aload_n hx hb dX2_toll_0 rfl (lv_at hl 0 rfl) ?_
  replace h := bo_o h
  obtain ⟨x1, e2, h⟩ := h
  refine h_get (ci := 21) (k := 1) (v := va_rf x1) hx hb hts hown hK hR in_X2 rfl (by decide) (fun _ _ => rfl) q590 (fun _ h9 => h9) (gR_o e2) dX2_toll_1 ?_
  refine lv_aload_n hx hb dX2_toll_4 rfl (lv_at hl 1 rfl) ?_
  replace h := bo_o h
  obtain ⟨_, e4, h⟩ := h
  replace h := b2_o h
  obtain ⟨x6, w3, e5, h⟩ := h
  refine h_callV 0 (ci := 27) (As := []) (rest := [va_rf x1]) (v := (some (.int x6))) (w' := w3) (st1 := [.int x6, va_rf x1]) hx hb hml hown hts hK hR hS (Nat.le_refl _) (Nat.le_refl _) rfl e4 (mX8_number e5) (lw_V q1304 q1305 q1306 q141 q1307) (by decide +kernel) (Nat.le_of_ble_eq_true rfl) (Nat.le_of_ble_eq_true rfl) rfl hl.1 (cat_le (Nat.le_of_ble_eq_true rfl)) dX2_toll_5 rfl rfl (fun H locs hR hS => ?_)
  replace h := bo_o h
  obtain ⟨a7, e8, h⟩ := h
  subst e8
  replace h := bo_o h
  obtain ⟨x9, e10, h⟩ := h
  refine h_iald hx hb hK hR e10 dX2_toll_8 ?_
  have eR := Option.some.inj h
  subst eR
  exact h_ifin hx hb hr hlk hR hS dX2_toll_9
theorem mX2_toll {l : Launch} {G : gE} {A : Nat → Prop} {v0 : Nat} {v1 : Nat} {w : WH} {r : (Int32 × WH)} (h : fX2_toll v0 v1 w = some r) : hM l G A yX2_toll cX2_toll 2 (some .int) 1 20 [.ref v0, .ref v1] w (some (.int r.1)) r.2 :=
  h_of (by decide +kernel) (Nat.le_of_ble_eq_true rfl) (fun p e s m args below meth c ls B hnm hR hS hl => bX2_toll_0 B h hR hS hl)
noncomputable def fX10_felt (v0 : Nat) (v1 : Nat) (v2 : Nat) (w : WH) : Option ((Int64 × WH)) :=
  (hIs w v2 28).bind fun _ =>
  b2_ (fX9_value v2 w) fun x4 w1 =>
  (hIs w1 v1 27).bind fun _ =>
  b2_ (fX8_cost v1 w1) fun x8 w5 =>
  (hIs w5 v0 21).bind fun _ =>
  b2_ (fX2_toll v0 v1 w5) fun x12 w9 =>
  some (((x4.toInt64) * (x8.toInt64)) + (x12.toInt64), w9)
theorem bX10_felt_0 {p : Program} {l : Launch} {e : Env} {s : State} {m : MethodId} {args : Array Value} {below : List Frame} {meth : Method} {c : Code} {H : Heap} {locs : List Loc} {ls : Array Slot} {G : gE} {A : Nat → Prop} {w0 : WH} (B : gB G RX10 cX10_felt 3 (some .long) p s m args meth c) {v0 : Nat} {v1 : Nat} {v2 : Nat} {w : WH} {r : (Int64 × WH)} (h : fX10_felt v0 v1 v2 w = some r)   (hR : RepH G A w H) (hS : Cu A s w0 w H locs) (hl : lv_has ls 3 [(0, .ref v0), (1, .ref v1), (2, .ref v2)]) : W p l e (hRm 2 41 w0) s m args below meth c H locs (wC w0 - wC w) (wS w0 - wS w) (hZ below args s G A w0 (some (.long r.1)) r.2) (F0 m 0 ls []) := by
  have B0 := B
  obtain ⟨hx, hb, hml, hown, hts, hr, hlk, hK⟩ := B0
  unfold fX10_felt at h
  refine lv_aload_n hx hb dX10_felt_0 rfl (lv_at hl 2 rfl) ?_
  replace h := bo_o h
  obtain ⟨_, e2, h⟩ := h
  replace h := b2_o h
  obtain ⟨x4, w1, e3, h⟩ := h
  refine h_callV 0 (ci := 28) (As := []) (rest := []) (v := (some (.int x4))) (w' := w1) (st1 := [.int x4]) hx hb hml hown hts hK hR hS (Nat.le_refl _) (Nat.le_refl _) rfl e2 (mX9_value e3) (lw_V q1323 q1324 q1325 q143 q1326) (by decide +kernel) (Nat.le_of_ble_eq_true rfl) (Nat.le_of_ble_eq_true rfl) rfl hl.1 (Nat.le_of_ble_eq_true rfl) dX10_felt_1 rfl rfl (fun H locs hR hS => ?_)
  refine lv_i2l hx hb dX10_felt_4 rfl ?_
  refine lv_aload_n hx hb dX10_felt_5 rfl (lv_at hl 1 rfl) ?_
  replace h := bo_o h
  obtain ⟨_, e6, h⟩ := h
  replace h := b2_o h
  obtain ⟨x8, w5, e7, h⟩ := h
  refine h_callV 0 (ci := 27) (As := []) (rest := [.long (x4.toInt64)]) (v := (some (.int x8))) (w' := w5) (st1 := [.int x8, .long (x4.toInt64)]) hx hb hml hown hts hK hR hS (Nat.le_refl _) (Nat.le_refl _) rfl e6 (mX8_cost e7) (lw_V q1327 q1328 q1329 q141 q1330) (by decide +kernel) (Nat.le_of_ble_eq_true rfl) (Nat.le_of_ble_eq_true rfl) rfl hl.1 (Nat.le_of_ble_eq_true rfl) dX10_felt_6 rfl rfl (fun H locs hR hS => ?_)
  refine lv_i2l hx hb dX10_felt_9 rfl ?_
  refine lv_lmul hx hb dX10_felt_10 ?_
  refine lv_aload_n hx hb dX10_felt_11 rfl (lv_at hl 0 rfl) ?_
  refine lv_aload_n hx hb dX10_felt_12 rfl (lv_at hl 1 rfl) ?_
  replace h := bo_o h
  obtain ⟨_, e10, h⟩ := h
  replace h := b2_o h
  obtain ⟨x12, w9, e11, h⟩ := h
  refine h_callV 1 (ci := 21) (As := [.ref v1]) (rest := [.long ((x4.toInt64) * (x8.toInt64))]) (v := (some (.int x12))) (w' := w9) (st1 := [.int x12, .long ((x4.toInt64) * (x8.toInt64))]) hx hb hml hown hts hK hR hS (Nat.le_refl _) (Nat.le_refl _) rfl e10 (mX2_toll e11) (lw_V q1331 q1332 q1333 q113 q1334) (by decide +kernel) (Nat.le_of_ble_eq_true rfl) (Nat.le_of_ble_eq_true rfl) rfl hl.1 (Nat.le_of_ble_eq_true rfl) dX10_felt_13 rfl rfl (fun H locs hR hS => ?_)
  refine lv_i2l hx hb dX10_felt_16 rfl ?_
  refine lv_ladd hx hb dX10_felt_17 ?_
  have eR := Option.some.inj h
  subst eR
  exact h_lfin hx hb hr hlk hR hS dX10_felt_18
theorem mX10_felt {l : Launch} {G : gE} {A : Nat → Prop} {v0 : Nat} {v1 : Nat} {v2 : Nat} {w : WH} {r : (Int64 × WH)} (h : fX10_felt v0 v1 v2 w = some r) : hM l G A yX10_felt cX10_felt 3 (some .long) 2 41 [.ref v0, .ref v1, .ref v2] w (some (.long r.1)) r.2 :=
  h_of (by decide +kernel) (Nat.le_of_ble_eq_true rfl) (fun p e s m args below meth c ls B hnm hR hS hl => bX10_felt_0 B h hR hS hl)
noncomputable def fX15_of (v0 : Nat) (v1 : Nat) (v2 : Nat) (v3 : Nat) (w : WH) : Option ((Int64 × WH)) :=
  (hIs w v1 21).bind fun _ =>
  b2_ (fX2_isOpen v1 v2 w) fun x4 w1 =>
  if x4 = 0 then (
    some ((-1), w1)
  ) else (
    b2_ (fX10_felt v1 v2 v3 w1) fun x8 w6 =>
    some (x8, w6)
  )
theorem bX15_of_0 {p : Program} {l : Launch} {e : Env} {s : State} {m : MethodId} {args : Array Value} {below : List Frame} {meth : Method} {c : Code} {H : Heap} {locs : List Loc} {ls : Array Slot} {G : gE} {A : Nat → Prop} {w0 : WH} (B : gB G RX15 cX15_of 4 (some .long) p s m args meth c) {v0 : Nat} {v1 : Nat} {v2 : Nat} {v3 : Nat} {w : WH} {r : (Int64 × WH)} (h : fX15_of v0 v1 v2 v3 w = some r)   (hR : RepH G A w H) (hS : Cu A s w0 w H locs) (hl : lv_has ls 4 [(0, .ref v0), (1, .ref v1), (2, .ref v2), (3, .ref v3)]) : W p l e (hRm 14 312 w0) s m args below meth c H locs (wC w0 - wC w) (wS w0 - wS w) (hZ below args s G A w0 (some (.long r.1)) r.2) (F0 m 0 ls []) := by
  have B0 := B
  obtain ⟨hx, hb, hml, hown, hts, hr, hlk, hK⟩ := B0
  unfold fX15_of at h
  refine lv_aload_n hx hb dX15_of_0 rfl (lv_at hl 1 rfl) ?_
  refine lv_aload_n hx hb dX15_of_1 rfl (lv_at hl 2 rfl) ?_
  replace h := bo_o h
  obtain ⟨_, e2, h⟩ := h
  replace h := b2_o h
  obtain ⟨x4, w1, e3, h⟩ := h
  refine h_callV 1 (ci := 21) (As := [.ref v2]) (rest := []) (v := (some (.int x4))) (w' := w1) (st1 := [.int x4]) hx hb hml hown hts hK hR hS (Nat.le_refl _) (Nat.le_refl _) rfl e2 (mX2_isOpen e3) (lw_V q1300 q1301 q1302 q113 q1303) (by decide +kernel) (Nat.le_of_ble_eq_true rfl) (Nat.le_of_ble_eq_true rfl) rfl hl.1 (Nat.le_of_ble_eq_true rfl) dX15_of_2 rfl rfl (fun H locs hR hS => ?_)
  refine lv_if_eq (tgt := 17) hx hb dX15_of_5 (by decide) (fun c5 => ?_) (fun c5 => ?_)
  · replace h := it_o c5 h
    refine lv_ldc2 (v := (-1)) hx hb hown (hts _ q1335) dX15_of_17 ?_
    have eR := Option.some.inj h
    subst eR
    exact h_lfin hx hb hr hlk hR hS dX15_of_20
  · replace h := if_o c5 h
    refine lv_aload_n hx hb dX15_of_8 rfl (lv_at hl 1 rfl) ?_
    refine lv_aload_n hx hb dX15_of_9 rfl (lv_at hl 2 rfl) ?_
    refine lv_aload_n hx hb dX15_of_10 rfl (lv_at hl 3 rfl) ?_
    replace h := b2_o h
    obtain ⟨x8, w6, e7, h⟩ := h
    refine h_callS 3  (As := [.ref v1, .ref v2, .ref v3]) (rest := []) (v := (some (.long x8))) (w' := w6) (st1 := [.long x8]) hx hb hml hown hts hK hR hS (Nat.le_refl _) (Nat.le_refl _) (mX10_felt e7) (lw_S q1320 q1321 q154 q1322) (by decide +kernel) (Nat.le_of_ble_eq_true rfl) (Nat.le_of_ble_eq_true rfl) rfl hl.1 (Nat.le_of_ble_eq_true rfl) dX15_of_11 rfl rfl (fun H locs hR hS => ?_)
    refine lv_goto (tgt := 20) hx hb dX15_of_14 (by decide) ?_
    have eR := Option.some.inj h
    subst eR
    exact h_lfin hx hb hr hlk hR hS dX15_of_20
theorem mX15_of {l : Launch} {G : gE} {A : Nat → Prop} {v0 : Nat} {v1 : Nat} {v2 : Nat} {v3 : Nat} {w : WH} {r : (Int64 × WH)} (h : fX15_of v0 v1 v2 v3 w = some r) : hM l G A yX15_of cX15_of 4 (some .long) 14 312 [.ref v0, .ref v1, .ref v2, .ref v3] w (some (.long r.1)) r.2 :=
  h_of (by decide +kernel) (Nat.le_of_ble_eq_true rfl) (fun p e s m args below meth c ls B hnm hR hS hl => bX15_of_0 B h hR hS hl)
noncomputable def fX14_of_b46 (s0 : Int64) (s1 : Int64) (s2 : Int32) (w : WH) : Option ((Int64 × WH)) :=
  some ((s0 + (s1 * (s2.toInt64))) + 1, w)
theorem bX14_of_46 {p : Program} {l : Launch} {e : Env} {s : State} {m : MethodId} {args : Array Value} {below : List Frame} {meth : Method} {c : Code} {H : Heap} {locs : List Loc} {ls : Array Slot} {G : gE} {A : Nat → Prop} {w0 : WH} (B : gB G RX14 cX14_of 4 (some .long) p s m args meth c) {s0 : Int64} {s1 : Int64} {s2 : Int32} {w : WH} {r : (Int64 × WH)} (h : fX14_of_b46 s0 s1 s2 w = some r)   (hR : RepH G A w H) (hS : Cu A s w0 w H locs) (hl : lv_has ls 4 []) : W p l e (hRm 14 312 w0) s m args below meth c H locs (wC w0 - wC w) (wS w0 - wS w) (hZ below args s G A w0 (some (.long r.1)) r.2) (F0 m 46 ls [.int s2, .long s1, .long s0]) := by
  have B0 := B
  obtain ⟨hx, hb, hml, hown, hts, hr, hlk, hK⟩ := B0
  unfold fX14_of_b46 at h
  refine lv_i2l hx hb dX14_of_46 rfl ?_
  refine lv_lmul hx hb dX14_of_47 ?_
  refine lv_ladd hx hb dX14_of_48 ?_
  refine lv_lconst (v := 1) hx hb dX14_of_49 (by decide) ?_
  refine lv_ladd hx hb dX14_of_50 ?_
  have eR := Option.some.inj h
  subst eR
  exact h_lfin hx hb hr hlk hR hS dX14_of_51
noncomputable def fX14_of (v0 : Nat) (v1 : Nat) (v2 : Nat) (v3 : Nat) (w : WH) : Option ((Int64 × WH)) :=
  (hIs w v1 21).bind fun _ =>
  b2_ (fX2_isOpen v1 v2 w) fun x4 w1 =>
  if x4 = 0 then (
    some ((-1), w1)
  ) else (
    b2_ (fX10_felt v1 v2 v3 w1) fun x8 w6 =>
    (gI w6 v1 21 4).bind fun x9 =>
    if x9 = 0 then (
      (hIs w6 v1 21).bind fun _ =>
      b2_ (fX2_toll v1 v2 w6) fun x15 w12 =>
      fX14_of_b46 (10000000 * x8) 16 x15 w12
    ) else (
      (hIs w6 v1 21).bind fun _ =>
      b2_ (fX2_toll v1 v2 w6) fun x19 w16 =>
      fX14_of_b46 (10000000 * x8) 16 (-x19) w16
    )
  )
theorem bX14_of_0 {p : Program} {l : Launch} {e : Env} {s : State} {m : MethodId} {args : Array Value} {below : List Frame} {meth : Method} {c : Code} {H : Heap} {locs : List Loc} {ls : Array Slot} {G : gE} {A : Nat → Prop} {w0 : WH} (B : gB G RX14 cX14_of 4 (some .long) p s m args meth c) {v0 : Nat} {v1 : Nat} {v2 : Nat} {v3 : Nat} {w : WH} {r : (Int64 × WH)} (h : fX14_of v0 v1 v2 v3 w = some r)   (hR : RepH G A w H) (hS : Cu A s w0 w H locs) (hl : lv_has ls 4 [(0, .ref v0), (1, .ref v1), (2, .ref v2), (3, .ref v3)]) : W p l e (hRm 14 312 w0) s m args below meth c H locs (wC w0 - wC w) (wS w0 - wS w) (hZ below args s G A w0 (some (.long r.1)) r.2) (F0 m 0 ls []) := by
  have B0 := B
  obtain ⟨hx, hb, hml, hown, hts, hr, hlk, hK⟩ := B0
  unfold fX14_of at h
  refine lv_aload_n hx hb dX14_of_0 rfl (lv_at hl 1 rfl) ?_
  refine lv_aload_n hx hb dX14_of_1 rfl (lv_at hl 2 rfl) ?_
  replace h := bo_o h
  obtain ⟨_, e2, h⟩ := h
  replace h := b2_o h
  obtain ⟨x4, w1, e3, h⟩ := h
  refine h_callV 1 (ci := 21) (As := [.ref v2]) (rest := []) (v := (some (.int x4))) (w' := w1) (st1 := [.int x4]) hx hb hml hown hts hK hR hS (Nat.le_refl _) (Nat.le_refl _) rfl e2 (mX2_isOpen e3) (lw_V q1342 q1301 q1302 q113 q1303) (by decide +kernel) (Nat.le_of_ble_eq_true rfl) (Nat.le_of_ble_eq_true rfl) rfl hl.1 (Nat.le_of_ble_eq_true rfl) dX14_of_2 rfl rfl (fun H locs hR hS => ?_)
  refine lv_if_ne (tgt := 12) hx hb dX14_of_5 (by decide) (fun c5 => ?_) (fun c5 => ?_)
  · replace h := if_o c5 h
    refine lv_ldc2 (v := 10000000) hx hb hown (hts _ q1344) dX14_of_12 ?_
    refine lv_aload_n hx hb dX14_of_15 rfl (lv_at hl 1 rfl) ?_
    refine lv_aload_n hx hb dX14_of_16 rfl (lv_at hl 2 rfl) ?_
    refine lv_aload_n hx hb dX14_of_17 rfl (lv_at hl 3 rfl) ?_
    replace h := b2_o h
    obtain ⟨x8, w6, e7, h⟩ := h
    refine h_callS 3  (As := [.ref v1, .ref v2, .ref v3]) (rest := [.long 10000000]) (v := (some (.long x8))) (w' := w6) (st1 := [.long x8, .long 10000000]) hx hb hml hown hts hK hR hS (Nat.le_refl _) (Nat.le_refl _) (mX10_felt e7) (lw_S q1345 q1321 q154 q1322) (by decide +kernel) (Nat.le_of_ble_eq_true rfl) (Nat.le_of_ble_eq_true rfl) rfl hl.1 (Nat.le_of_ble_eq_true rfl) dX14_of_18 rfl rfl (fun H locs hR hS => ?_)
    refine lv_lmul hx hb dX14_of_21 ?_
    refine lv_ldc2 (v := 16) hx hb hown (hts _ q1346) dX14_of_22 ?_
    refine lv_aload_n hx hb dX14_of_25 rfl (lv_at hl 1 rfl) ?_
    replace h := bo_o h
    obtain ⟨x9, e10, h⟩ := h
    refine h_getN (ci := 21) (k := 4) (v := .int x9) hx hb hts hown hK hR in_X2 rfl (by decide) (fun _ _ => rfl) (hK.fn 21 rfl) (fun _ h9 => h9) (gI_o e10) dX14_of_26 ?_
    refine lv_if_eq (tgt := 41) hx hb dX14_of_29 (by decide) (fun c11 => ?_) (fun c11 => ?_)
    · replace h := it_o c11 h
      refine lv_aload_n hx hb dX14_of_41 rfl (lv_at hl 1 rfl) ?_
      refine lv_aload_n hx hb dX14_of_42 rfl (lv_at hl 2 rfl) ?_
      replace h := bo_o h
      obtain ⟨_, e13, h⟩ := h
      replace h := b2_o h
      obtain ⟨x15, w12, e14, h⟩ := h
      refine h_callV 1 (ci := 21) (As := [.ref v2]) (rest := [.long 16, .long (10000000 * x8)]) (v := (some (.int x15))) (w' := w12) (st1 := [.int x15, .long 16, .long (10000000 * x8)]) hx hb hml hown hts hK hR hS (Nat.le_refl _) (Nat.le_refl _) rfl e13 (mX2_toll e14) (lw_V q1347 q1332 q1333 q113 q1334) (by decide +kernel) (Nat.le_of_ble_eq_true rfl) (Nat.le_of_ble_eq_true rfl) rfl hl.1 (Nat.le_of_ble_eq_true rfl) dX14_of_43 rfl rfl (fun H locs hR hS => ?_)
      exact bX14_of_46 B h  hR hS (lv_sub hl [] rfl)
    · replace h := if_o c11 h
      refine lv_aload_n hx hb dX14_of_32 rfl (lv_at hl 1 rfl) ?_
      refine lv_aload_n hx hb dX14_of_33 rfl (lv_at hl 2 rfl) ?_
      replace h := bo_o h
      obtain ⟨_, e17, h⟩ := h
      replace h := b2_o h
      obtain ⟨x19, w16, e18, h⟩ := h
      refine h_callV 1 (ci := 21) (As := [.ref v2]) (rest := [.long 16, .long (10000000 * x8)]) (v := (some (.int x19))) (w' := w16) (st1 := [.int x19, .long 16, .long (10000000 * x8)]) hx hb hml hown hts hK hR hS (Nat.le_refl _) (Nat.le_refl _) rfl e17 (mX2_toll e18) (lw_V q1347 q1332 q1333 q113 q1334) (by decide +kernel) (Nat.le_of_ble_eq_true rfl) (Nat.le_of_ble_eq_true rfl) rfl hl.1 (Nat.le_of_ble_eq_true rfl) dX14_of_34 rfl rfl (fun H locs hR hS => ?_)
      refine lv_ineg hx hb dX14_of_37 ?_
      refine lv_goto (tgt := 46) hx hb dX14_of_38 (by decide) ?_
      exact bX14_of_46 B h  hR hS (lv_sub hl [] rfl)
  · replace h := it_o c5 h
    refine lv_ldc2 (v := (-1)) hx hb hown (hts _ q1343) dX14_of_8 ?_
    have eR := Option.some.inj h
    subst eR
    exact h_lfin hx hb hr hlk hR hS dX14_of_11
theorem mX14_of {l : Launch} {G : gE} {A : Nat → Prop} {v0 : Nat} {v1 : Nat} {v2 : Nat} {v3 : Nat} {w : WH} {r : (Int64 × WH)} (h : fX14_of v0 v1 v2 v3 w = some r) : hM l G A yX14_of cX14_of 4 (some .long) 14 312 [.ref v0, .ref v1, .ref v2, .ref v3] w (some (.long r.1)) r.2 :=
  h_of (by decide +kernel) (Nat.le_of_ble_eq_true rfl) (fun p e s m args below meth c ls B hnm hR hS hl => bX14_of_0 B h hR hS hl)
noncomputable def fX8_most (v0 : Nat) (w : WH) : Option ((Int32 × WH)) :=
  (gI w v0 27 4).bind fun x1 =>
  some (x1, w)
theorem bX8_most_0 {p : Program} {l : Launch} {e : Env} {s : State} {m : MethodId} {args : Array Value} {below : List Frame} {meth : Method} {c : Code} {H : Heap} {locs : List Loc} {ls : Array Slot} {G : gE} {A : Nat → Prop} {w0 : WH} (B : gB G RX8 cX8_most 1 (some .int) p s m args meth c) {v0 : Nat} {w : WH} {r : (Int32 × WH)} (h : fX8_most v0 w = some r)   (hR : RepH G A w H) (hS : Cu A s w0 w H locs) (hl : lv_has ls 1 [(0, .ref v0)]) : W p l e (hRm 0 0 w0) s m args below meth c H locs (wC w0 - wC w) (wS w0 - wS w) (hZ below args s G A w0 (some (.int r.1)) r.2) (F0 m 0 ls []) := by
  have B0 := B
  obtain ⟨hx, hb, hml, hown, hts, hr, hlk, hK⟩ := B0
  unfold fX8_most at h
  refine lv_aload_n hx hb dX8_most_0 rfl (lv_at hl 0 rfl) ?_
  replace h := bo_o h
  obtain ⟨x1, e2, h⟩ := h
  refine h_get (ci := 27) (k := 4) (v := .int x1) hx hb hts hown hK hR in_X8 rfl (by decide) (fun _ _ => rfl) q936 (fun _ h9 => h9) (gI_o e2) dX8_most_1 ?_
  have eR := Option.some.inj h
  subst eR
  exact h_ifin hx hb hr hlk hR hS dX8_most_4
theorem mX8_most {l : Launch} {G : gE} {A : Nat → Prop} {v0 : Nat} {w : WH} {r : (Int32 × WH)} (h : fX8_most v0 w = some r) : hM l G A yX8_most cX8_most 1 (some .int) 0 0 [.ref v0] w (some (.int r.1)) r.2 :=
  h_of (by decide +kernel) (Nat.le_of_ble_eq_true rfl) (fun p e s m args below meth c ls B hnm hR hS hl => bX8_most_0 B h hR hS hl)
noncomputable def fX16_of_b22  (w : WH) : Option ((Int64 × WH)) :=
  some ((-1), w)
theorem bX16_of_22 {p : Program} {l : Launch} {e : Env} {s : State} {m : MethodId} {args : Array Value} {below : List Frame} {meth : Method} {c : Code} {H : Heap} {locs : List Loc} {ls : Array Slot} {G : gE} {A : Nat → Prop} {w0 : WH} (B : gB G RX16 cX16_of 4 (some .long) p s m args meth c)  {w : WH} {r : (Int64 × WH)} (h : fX16_of_b22 w = some r)   (hR : RepH G A w H) (hS : Cu A s w0 w H locs) (hl : lv_has ls 4 []) : W p l e (hRm 14 312 w0) s m args below meth c H locs (wC w0 - wC w) (wS w0 - wS w) (hZ below args s G A w0 (some (.long r.1)) r.2) (F0 m 22 ls []) := by
  have B0 := B
  obtain ⟨hx, hb, hml, hown, hts, hr, hlk, hK⟩ := B0
  unfold fX16_of_b22 at h
  refine lv_ldc2 (v := (-1)) hx hb hown (hts _ q1359) dX16_of_22 ?_
  have eR := Option.some.inj h
  subst eR
  exact h_lfin hx hb hr hlk hR hS dX16_of_25
noncomputable def fX16_of_b26 (v2 : Nat) (v3 : Nat) (w : WH) : Option ((Int64 × WH)) :=
  (hIs w v3 28).bind fun _ =>
  b2_ (fX9_value v3 w) fun x4 w1 =>
  (hIs w1 v2 27).bind fun _ =>
  b2_ (fX8_cost v2 w1) fun x8 w5 =>
  some ((x4.toInt64) * (x8.toInt64), w5)
theorem bX16_of_26 {p : Program} {l : Launch} {e : Env} {s : State} {m : MethodId} {args : Array Value} {below : List Frame} {meth : Method} {c : Code} {H : Heap} {locs : List Loc} {ls : Array Slot} {G : gE} {A : Nat → Prop} {w0 : WH} (B : gB G RX16 cX16_of 4 (some .long) p s m args meth c) {v2 : Nat} {v3 : Nat} {w : WH} {r : (Int64 × WH)} (h : fX16_of_b26 v2 v3 w = some r)   (hR : RepH G A w H) (hS : Cu A s w0 w H locs) (hl : lv_has ls 4 [(2, .ref v2), (3, .ref v3)]) : W p l e (hRm 14 312 w0) s m args below meth c H locs (wC w0 - wC w) (wS w0 - wS w) (hZ below args s G A w0 (some (.long r.1)) r.2) (F0 m 26 ls []) := by
  have B0 := B
  obtain ⟨hx, hb, hml, hown, hts, hr, hlk, hK⟩ := B0
  unfold fX16_of_b26 at h
  refine lv_aload_n hx hb dX16_of_26 rfl (lv_at hl 1 rfl) ?_
  replace h := bo_o h
  obtain ⟨_, e2, h⟩ := h
  replace h := b2_o h
  obtain ⟨x4, w1, e3, h⟩ := h
  refine h_callV 0 (ci := 28) (As := []) (rest := []) (v := (some (.int x4))) (w' := w1) (st1 := [.int x4]) hx hb hml hown hts hK hR hS (Nat.le_refl _) (Nat.le_refl _) rfl e2 (mX9_value e3) (lw_V q1360 q1324 q1325 q143 q1326) (by decide +kernel) (Nat.le_of_ble_eq_true rfl) (Nat.le_of_ble_eq_true rfl) rfl hl.1 (Nat.le_of_ble_eq_true rfl) dX16_of_27 rfl rfl (fun H locs hR hS => ?_)
  refine lv_i2l hx hb dX16_of_30 rfl ?_
  refine lv_aload_n hx hb dX16_of_31 rfl (lv_at hl 0 rfl) ?_
  replace h := bo_o h
  obtain ⟨_, e6, h⟩ := h
  replace h := b2_o h
  obtain ⟨x8, w5, e7, h⟩ := h
  refine h_callV 0 (ci := 27) (As := []) (rest := [.long (x4.toInt64)]) (v := (some (.int x8))) (w' := w5) (st1 := [.int x8, .long (x4.toInt64)]) hx hb hml hown hts hK hR hS (Nat.le_refl _) (Nat.le_refl _) rfl e6 (mX8_cost e7) (lw_V q1361 q1328 q1329 q141 q1330) (by decide +kernel) (Nat.le_of_ble_eq_true rfl) (Nat.le_of_ble_eq_true rfl) rfl hl.1 (Nat.le_of_ble_eq_true rfl) dX16_of_32 rfl rfl (fun H locs hR hS => ?_)
  refine lv_i2l hx hb dX16_of_35 rfl ?_
  refine lv_lmul hx hb dX16_of_36 ?_
  have eR := Option.some.inj h
  subst eR
  exact h_lfin hx hb hr hlk hR hS dX16_of_37
noncomputable def fX16_of (v0 : Nat) (v1 : Nat) (v2 : Nat) (v3 : Nat) (w : WH) : Option ((Int64 × WH)) :=
  (hIs w v1 21).bind fun _ =>
  b2_ (fX2_isOpen v1 v2 w) fun x4 w1 =>
  if x4 = 0 then (
    fX16_of_b22 w1
  ) else (
    (wTo (wK w1) v0).bind fun x6 =>
    if x6 = 0 then (
      (hIs w1 v2 27).bind fun _ =>
      b2_ (fX8_most v2 w1) fun x12 w9 =>
      if x12 ≤ 0 then (
        fX16_of_b26 v2 v3 w9
      ) else (
        fX16_of_b22 w9
      )
    ) else (
      fX16_of_b26 v2 v3 w1
    )
  )
theorem bX16_of_0 {p : Program} {l : Launch} {e : Env} {s : State} {m : MethodId} {args : Array Value} {below : List Frame} {meth : Method} {c : Code} {H : Heap} {locs : List Loc} {ls : Array Slot} {G : gE} {A : Nat → Prop} {w0 : WH} (B : gB G RX16 cX16_of 4 (some .long) p s m args meth c) {v0 : Nat} {v1 : Nat} {v2 : Nat} {v3 : Nat} {w : WH} {r : (Int64 × WH)} (h : fX16_of v0 v1 v2 v3 w = some r)   (hR : RepH G A w H) (hS : Cu A s w0 w H locs) (hl : lv_has ls 4 [(0, .ref v0), (1, .ref v1), (2, .ref v2), (3, .ref v3)]) : W p l e (hRm 14 312 w0) s m args below meth c H locs (wC w0 - wC w) (wS w0 - wS w) (hZ below args s G A w0 (some (.long r.1)) r.2) (F0 m 0 ls []) := by
  have B0 := B
  obtain ⟨hx, hb, hml, hown, hts, hr, hlk, hK⟩ := B0
  unfold fX16_of at h
  refine lv_aload_n hx hb dX16_of_0 rfl (lv_at hl 1 rfl) ?_
  refine lv_aload_n hx hb dX16_of_1 rfl (lv_at hl 2 rfl) ?_
  replace h := bo_o h
  obtain ⟨_, e2, h⟩ := h
  replace h := b2_o h
  obtain ⟨x4, w1, e3, h⟩ := h
  refine h_callV 1 (ci := 21) (As := [.ref v2]) (rest := []) (v := (some (.int x4))) (w' := w1) (st1 := [.int x4]) hx hb hml hown hts hK hR hS (Nat.le_refl _) (Nat.le_refl _) rfl e2 (mX2_isOpen e3) (lw_V q1354 q1301 q1302 q113 q1303) (by decide +kernel) (Nat.le_of_ble_eq_true rfl) (Nat.le_of_ble_eq_true rfl) rfl hl.1 (Nat.le_of_ble_eq_true rfl) dX16_of_2 rfl rfl (fun H locs hR hS => ?_)
  refine lv_if_eq (tgt := 22) hx hb dX16_of_5 (by decide) (fun c5 => ?_) (fun c5 => ?_)
  · replace h := it_o c5 h
    exact bX16_of_22 B h  hR hS (lv_sub hl [] rfl)
  · replace h := if_o c5 h
    refine lv_aload_n hx hb dX16_of_8 rfl (lv_at hl 0 rfl) ?_
    replace h := bo_o h
    obtain ⟨x6, e7, h⟩ := h
    refine h_getW hx hb hts hown hK hR hS q3108 e7 dX16_of_9 ?_
    refine lv_if_ne (tgt := 26) hx hb dX16_of_12 (by decide) (fun c8 => ?_) (fun c8 => ?_)
    · replace h := if_o c8 h
      exact bX16_of_26 B h  hR hS (lv_sub hl [2, 3] rfl)
    · replace h := it_o c8 h
      refine lv_aload_n hx hb dX16_of_15 rfl (lv_at hl 2 rfl) ?_
      replace h := bo_o h
      obtain ⟨_, e10, h⟩ := h
      replace h := b2_o h
      obtain ⟨x12, w9, e11, h⟩ := h
      refine h_callV 0 (ci := 27) (As := []) (rest := []) (v := (some (.int x12))) (w' := w9) (st1 := [.int x12]) hx hb hml hown hts hK hR hS (Nat.le_refl _) (Nat.le_refl _) rfl e10 (mX8_most e11) (lw_V q1355 q1356 q1357 q141 q1358) (by decide +kernel) (Nat.le_of_ble_eq_true rfl) (Nat.le_of_ble_eq_true rfl) rfl hl.1 (Nat.le_of_ble_eq_true rfl) dX16_of_16 rfl rfl (fun H locs hR hS => ?_)
      refine lv_if_le (tgt := 26) hx hb dX16_of_19 (by decide) (fun c13 => ?_) (fun c13 => ?_)
      · replace h := it_o c13 h
        exact bX16_of_26 B h  hR hS (lv_sub hl [2, 3] rfl)
      · replace h := if_o c13 h
        exact bX16_of_22 B h  hR hS (lv_sub hl [] rfl)
theorem mX16_of {l : Launch} {G : gE} {A : Nat → Prop} {v0 : Nat} {v1 : Nat} {v2 : Nat} {v3 : Nat} {w : WH} {r : (Int64 × WH)} (h : fX16_of v0 v1 v2 v3 w = some r) : hM l G A yX16_of cX16_of 4 (some .long) 14 312 [.ref v0, .ref v1, .ref v2, .ref v3] w (some (.long r.1)) r.2 :=
  h_of (by decide +kernel) (Nat.le_of_ble_eq_true rfl) (fun p e s m args below meth c ls B hnm hR hS hl => bX16_of_0 B h hR hS hl)
noncomputable def fX8_to (v0 : Nat) (w : WH) : Option ((Int32 × WH)) :=
  (gI w v0 27 2).bind fun x1 =>
  some (x1, w)
theorem bX8_to_0 {p : Program} {l : Launch} {e : Env} {s : State} {m : MethodId} {args : Array Value} {below : List Frame} {meth : Method} {c : Code} {H : Heap} {locs : List Loc} {ls : Array Slot} {G : gE} {A : Nat → Prop} {w0 : WH} (B : gB G RX8 cX8_to 1 (some .int) p s m args meth c) {v0 : Nat} {w : WH} {r : (Int32 × WH)} (h : fX8_to v0 w = some r)   (hR : RepH G A w H) (hS : Cu A s w0 w H locs) (hl : lv_has ls 1 [(0, .ref v0)]) : W p l e (hRm 0 0 w0) s m args below meth c H locs (wC w0 - wC w) (wS w0 - wS w) (hZ below args s G A w0 (some (.int r.1)) r.2) (F0 m 0 ls []) := by
  have B0 := B
  obtain ⟨hx, hb, hml, hown, hts, hr, hlk, hK⟩ := B0
  unfold fX8_to at h
  refine lv_aload_n hx hb dX8_to_0 rfl (lv_at hl 0 rfl) ?_
  replace h := bo_o h
  obtain ⟨x1, e2, h⟩ := h
  refine h_get (ci := 27) (k := 2) (v := .int x1) hx hb hts hown hK hR in_X8 rfl (by decide) (fun _ _ => rfl) q934 (fun _ h9 => h9) (gI_o e2) dX8_to_1 ?_
  have eR := Option.some.inj h
  subst eR
  exact h_ifin hx hb hr hlk hR hS dX8_to_4
theorem mX8_to {l : Launch} {G : gE} {A : Nat → Prop} {v0 : Nat} {w : WH} {r : (Int32 × WH)} (h : fX8_to v0 w = some r) : hM l G A yX8_to cX8_to 1 (some .int) 0 0 [.ref v0] w (some (.int r.1)) r.2 :=
  h_of (by decide +kernel) (Nat.le_of_ble_eq_true rfl) (fun p e s m args below meth c ls B hnm hR hS hl => bX8_to_0 B h hR hS hl)
noncomputable def fX8_from (v0 : Nat) (w : WH) : Option ((Int32 × WH)) :=
  (gI w v0 27 1).bind fun x1 =>
  some (x1, w)
theorem bX8_from_0 {p : Program} {l : Launch} {e : Env} {s : State} {m : MethodId} {args : Array Value} {below : List Frame} {meth : Method} {c : Code} {H : Heap} {locs : List Loc} {ls : Array Slot} {G : gE} {A : Nat → Prop} {w0 : WH} (B : gB G RX8 cX8_from 1 (some .int) p s m args meth c) {v0 : Nat} {w : WH} {r : (Int32 × WH)} (h : fX8_from v0 w = some r)   (hR : RepH G A w H) (hS : Cu A s w0 w H locs) (hl : lv_has ls 1 [(0, .ref v0)]) : W p l e (hRm 0 0 w0) s m args below meth c H locs (wC w0 - wC w) (wS w0 - wS w) (hZ below args s G A w0 (some (.int r.1)) r.2) (F0 m 0 ls []) := by
  have B0 := B
  obtain ⟨hx, hb, hml, hown, hts, hr, hlk, hK⟩ := B0
  unfold fX8_from at h
  refine lv_aload_n hx hb dX8_from_0 rfl (lv_at hl 0 rfl) ?_
  replace h := bo_o h
  obtain ⟨x1, e2, h⟩ := h
  refine h_get (ci := 27) (k := 1) (v := .int x1) hx hb hts hown hK hR in_X8 rfl (by decide) (fun _ _ => rfl) q933 (fun _ h9 => h9) (gI_o e2) dX8_from_1 ?_
  have eR := Option.some.inj h
  subst eR
  exact h_ifin hx hb hr hlk hR hS dX8_from_4
theorem mX8_from {l : Launch} {G : gE} {A : Nat → Prop} {v0 : Nat} {w : WH} {r : (Int32 × WH)} (h : fX8_from v0 w = some r) : hM l G A yX8_from cX8_from 1 (some .int) 0 0 [.ref v0] w (some (.int r.1)) r.2 :=
  h_of (by decide +kernel) (Nat.le_of_ble_eq_true rfl) (fun p e s m args below meth c ls B hnm hR hS hl => bX8_from_0 B h hR hS hl)
noncomputable def fWt (b a1 a2 a3 : Nat) (w : WH) : Option (Int64 × WH) :=
  if b = wK w 5 then fX14_of b a1 a2 a3 w else if b = wK w 6 then fX15_of b a1 a2 a3 w else if b = wK w 7 then fX16_of b a1 a2 a3 w else if b = wK w 8 then fX16_of b a1 a2 a3 w else none
theorem h_weight {p : Program} {l : Launch} {e : Env} {R : Room} {s : State} {m : MethodId} {args : Array Value} {below : List Frame} {meth : Method} {c : Code} {H : Heap} {locs : List Loc} {Q : State → Prop} {cc : ByteArray} {pc : Nat} {ls : Array Slot} {rest : List Value} {A : Nat → Prop} {G : gE} {w w0 w' : WH} {own : String} {index count nL b a1 a2 a3 : Nat} {v : Int64} (hx : p.tables.exec = Jvm.exec) (hb : c.code = cc) (hml : c.maxLocals = nL) (hown : s.vm.findClass own = some m.cls) (hts : ∀ w ∈ lw_all, w.before args s = true) (hK : KG G s) (hR : RepH G A w H) (hS : Cu A s w0 w H locs) (hRc : wC w0 ≤ R.cells) (hRs : wS w0 ≤ R.slots) (hlink : (Cond.methodLink own index ⟨"TollLeader$Weight", "of", "(LTollLeader$State;LTollLeader$Arc;LTollLeader$Trip;)J"⟩) ∈ lw_all) (he : fWt b a1 a2 a3 w = some (v, w')) (hF : 15 ≤ R.frames) (hL : 335 ≤ R.locals) (hsz : ls.size = nL) (hroom : (rest.map fun v => v.category).sum ≤ 8) (hdg : decode cc pc = .ok (.invokeinterface index count, 5))
    (kk : ∀ (H : Heap) (locs : List Loc), RepH G A w' H → Cu A s w0 w' H locs → W p l e R s m args below meth c H locs (wC w0 - wC w') (wS w0 - wS w') Q (F0 m (pc + 5) ls (.long v :: rest))) : W p l e R s m args below meth c H locs (wC w0 - wC w) (wS w0 - wS w) Q (F0 m pc ls (.ref a3 :: .ref a2 :: .ref a1 :: .ref b :: rest)) := by
  unfold fWt at he
  by_cases c5 : b = wK w 5
  · have he := it_o c5 he
    exact h_callF 3 (C := "TollLeader$Weight$2") (As := [.ref a1, .ref a2, .ref a3]) (rest := rest) (v := some (.long v)) hx hb hml hown hts hK hR hS hRc hRs (by rw [c5]; exact h_recvK hK hR hS (by decide)) (mX14_of he) (lw_app (a := [.methodLink _ _ _, .selects _ _ _, .instanceMethod _, .initialized _]) (lw_4 hlink q1337 q1339 q3052) (lw_meth q1341)) (hK.fw 12 rfl) (by decide +kernel) (Nat.le_trans (by decide) hF) (Nat.le_trans (by decide) hL) rfl hsz hroom hdg rfl rfl kk
  have he := if_o c5 he
  by_cases c6 : b = wK w 6
  · have he := it_o c6 he
    exact h_callF 3 (C := "TollLeader$Weight$1") (As := [.ref a1, .ref a2, .ref a3]) (rest := rest) (v := some (.long v)) hx hb hml hown hts hK hR hS hRc hRs (by rw [c6]; exact h_recvK hK hR hS (by decide)) (mX15_of he) (lw_app (a := [.methodLink _ _ _, .selects _ _ _, .instanceMethod _, .initialized _]) (lw_4 hlink q1295 q1297 q3051) (lw_meth q1299)) (hK.fw 11 rfl) (by decide +kernel) (Nat.le_trans (by decide) hF) (Nat.le_trans (by decide) hL) rfl hsz hroom hdg rfl rfl kk
  have he := if_o c6 he
  by_cases c7 : b = wK w 7
  · have he := it_o c7 he
    exact h_callF 3 (C := "TollLeader$Weight$3") (As := [.ref a1, .ref a2, .ref a3]) (rest := rest) (v := some (.long v)) hx hb hml hown hts hK hR hS hRc hRs (by rw [c7]; exact h_recvK hK hR hS (by decide)) (mX16_of he) (lw_app (a := [.methodLink _ _ _, .selects _ _ _, .instanceMethod _, .initialized _]) (lw_4 hlink q1349 q1351 q3053) (lw_meth q1353)) (hK.fw 13 rfl) (by decide +kernel) (Nat.le_trans (by decide) hF) (Nat.le_trans (by decide) hL) rfl hsz hroom hdg rfl rfl kk
  have he := if_o c7 he
  by_cases c8 : b = wK w 8
  · have he := it_o c8 he
    exact h_callF 3 (C := "TollLeader$Weight$3") (As := [.ref a1, .ref a2, .ref a3]) (rest := rest) (v := some (.long v)) hx hb hml hown hts hK hR hS hRc hRs (by rw [c8]; exact h_recvK hK hR hS (by decide)) (mX16_of he) (lw_app (a := [.methodLink _ _ _, .selects _ _ _, .instanceMethod _, .initialized _]) (lw_4 hlink q1349 q1351 q3053) (lw_meth q1353)) (hK.fw 13 rfl) (by decide +kernel) (Nat.le_trans (by decide) hF) (Nat.le_trans (by decide) hL) rfl hsz hroom hdg rfl rfl kk
  have he := if_o c8 he
  cases he
noncomputable def fX4_shorten_b62 (v0 : Nat) (v2 : Nat) (v5 : Int64) (w : WH) : Option ((Int32 × WH)) :=
  (gR w v0 23 0).bind fun x1 =>
  (hIs w v2 27).bind fun _ =>
  b2_ (fX8_from v2 w) fun x6 w3 =>
  (gR w3 v0 23 0).bind fun x7 =>
  (hIs w3 v2 27).bind fun _ =>
  b2_ (fX8_to v2 w3) fun x12 w9 =>
  x7.bind fun a13 =>
  (ldJ w9 a13 x12).bind fun x15 =>
  x1.bind fun a17 =>
  (stJ w9 a17 x6 (x15 + v5)).bind fun w19 =>
  some (1, w19)
theorem bX4_shorten_62 {p : Program} {l : Launch} {e : Env} {s : State} {m : MethodId} {args : Array Value} {below : List Frame} {meth : Method} {c : Code} {H : Heap} {locs : List Loc} {ls : Array Slot} {G : gE} {A : Nat → Prop} {w0 : WH} (B : gB G RX4 cX4_shorten 7 (some .boolean) p s m args meth c) {v0 : Nat} {v2 : Nat} {v5 : Int64} {w : WH} {r : (Int32 × WH)} (h : fX4_shorten_b62 v0 v2 v5 w = some r)   (hR : RepH G A w H) (hS : Cu A s w0 w H locs) (hl : lv_has ls 7 [(0, .ref v0), (2, .ref v2), (5, .long v5)]) : W p l e (hRm 15 335 w0) s m args below meth c H locs (wC w0 - wC w) (wS w0 - wS w) (hZ below args s G A w0 (some (.int r.1)) r.2) (F0 m 62 ls []) := by
  have B0 := B
  obtain ⟨hx, hb, hml, hown, hts, hr, hlk, hK⟩ := B0
  unfold fX4_shorten_b62 at h
  refine lv_aload_n hx hb dX4_shorten_62 rfl (lv_at hl 0 rfl) ?_
  replace h := bo_o h
  obtain ⟨x1, e2, h⟩ := h
  refine h_get (ci := 23) (k := 0) (v := va_rf x1) hx hb hts hown hK hR in_X4 rfl (by decide) (fun _ _ => rfl) q618 (fun _ h9 => h9) (gR_o e2) dX4_shorten_63 ?_
  refine lv_aload_n hx hb dX4_shorten_66 rfl (lv_at hl 1 rfl) ?_
  replace h := bo_o h
  obtain ⟨_, e4, h⟩ := h
  replace h := b2_o h
  obtain ⟨x6, w3, e5, h⟩ := h
  refine h_callV 0 (ci := 27) (As := []) (rest := [va_rf x1]) (v := (some (.int x6))) (w' := w3) (st1 := [.int x6, va_rf x1]) hx hb hml hown hts hK hR hS (Nat.le_refl _) (Nat.le_refl _) rfl e4 (mX8_from e5) (lw_V q1366 q1367 q1368 q141 q1369) (by decide +kernel) (Nat.le_of_ble_eq_true rfl) (Nat.le_of_ble_eq_true rfl) rfl hl.1 (cat_le (Nat.le_of_ble_eq_true rfl)) dX4_shorten_67 rfl rfl (fun H locs hR hS => ?_)
  refine lv_aload_n hx hb dX4_shorten_70 rfl (lv_at hl 0 rfl) ?_
  replace h := bo_o h
  obtain ⟨x7, e8, h⟩ := h
  refine h_get (ci := 23) (k := 0) (v := va_rf x7) hx hb hts hown hK hR in_X4 rfl (by decide) (fun _ _ => rfl) q618 (fun _ h9 => h9) (gR_o e8) dX4_shorten_71 ?_
  refine lv_aload_n hx hb dX4_shorten_74 rfl (lv_at hl 1 rfl) ?_
  replace h := bo_o h
  obtain ⟨_, e10, h⟩ := h
  replace h := b2_o h
  obtain ⟨x12, w9, e11, h⟩ := h
  refine h_callV 0 (ci := 27) (As := []) (rest := [va_rf x7, .int x6, va_rf x1]) (v := (some (.int x12))) (w' := w9) (st1 := [.int x12, va_rf x7, .int x6, va_rf x1]) hx hb hml hown hts hK hR hS (Nat.le_refl _) (Nat.le_refl _) rfl e10 (mX8_to e11) (lw_V q1362 q1363 q1364 q141 q1365) (by decide +kernel) (Nat.le_of_ble_eq_true rfl) (Nat.le_of_ble_eq_true rfl) rfl hl.1 (cat_le (Nat.le_of_ble_eq_true rfl)) dX4_shorten_75 rfl rfl (fun H locs hR hS => ?_)
  replace h := bo_o h
  obtain ⟨a13, e14, h⟩ := h
  subst e14
  replace h := bo_o h
  obtain ⟨x15, e16, h⟩ := h
  refine h_lald hx hb hK hR e16 dX4_shorten_78 ?_
  refine lv_lload hx hb dX4_shorten_79 (lv_at hl 2 rfl) ?_
  refine lv_ladd hx hb dX4_shorten_81 ?_
  replace h := bo_o h
  obtain ⟨a17, e18, h⟩ := h
  subst e18
  replace h := bo_o h
  obtain ⟨w19, e20, h⟩ := h
  refine h_last hx hb hK hR hS e20 dX4_shorten_82 (fun H locs hR hS => ?_)
  refine lv_iconst (v := 1) hx hb dX4_shorten_83 (by decide) ?_
  have eR := Option.some.inj h
  subst eR
  exact h_zfin hx hb hr hlk (by show narrow .boolean (.int 1) = .int 1; decide) hR hS dX4_shorten_84
noncomputable def fX4_shorten_b60  (w : WH) : Option ((Int32 × WH)) :=
  some (0, w)
theorem bX4_shorten_60 {p : Program} {l : Launch} {e : Env} {s : State} {m : MethodId} {args : Array Value} {below : List Frame} {meth : Method} {c : Code} {H : Heap} {locs : List Loc} {ls : Array Slot} {G : gE} {A : Nat → Prop} {w0 : WH} (B : gB G RX4 cX4_shorten 7 (some .boolean) p s m args meth c)  {w : WH} {r : (Int32 × WH)} (h : fX4_shorten_b60 w = some r)   (hR : RepH G A w H) (hS : Cu A s w0 w H locs) (hl : lv_has ls 7 []) : W p l e (hRm 15 335 w0) s m args below meth c H locs (wC w0 - wC w) (wS w0 - wS w) (hZ below args s G A w0 (some (.int r.1)) r.2) (F0 m 60 ls []) := by
  have B0 := B
  obtain ⟨hx, hb, hml, hown, hts, hr, hlk, hK⟩ := B0
  unfold fX4_shorten_b60 at h
  refine lv_iconst (v := 0) hx hb dX4_shorten_60 (by decide) ?_
  have eR := Option.some.inj h
  subst eR
  exact h_zfin hx hb hr hlk (by show narrow .boolean (.int 0) = .int 0; decide) hR hS dX4_shorten_61
noncomputable def fX4_shorten (v0 : Nat) (v1 : Nat) (v2 : Nat) (v3 : Nat) (v4 : Nat) (w : WH) : Option ((Int32 × WH)) :=
  b2_ (fWt v4 v1 v2 v3 w) fun x1 w2 =>
  if lg_cmp x1 0 < 0 then (
    some (0, w2)
  ) else (
    (gR w2 v0 23 0).bind fun x5 =>
    (hIs w2 v2 27).bind fun _ =>
    b2_ (fX8_to v2 w2) fun x10 w7 =>
    x5.bind fun a11 =>
    (ldJ w7 a11 x10).bind fun x13 =>
    if lg_cmp x13 2305843009213693951 = 0 then (
      some (0, w7)
    ) else (
      (gR w7 v0 23 0).bind fun x16 =>
      (hIs w7 v2 27).bind fun _ =>
      b2_ (fX8_to v2 w7) fun x21 w18 =>
      x16.bind fun a22 =>
      (ldJ w18 a22 x21).bind fun x24 =>
      (gR w18 v0 23 0).bind fun x26 =>
      (hIs w18 v2 27).bind fun _ =>
      b2_ (fX8_from v2 w18) fun x31 w28 =>
      x26.bind fun a32 =>
      (ldJ w28 a32 x31).bind fun x34 =>
      if lg_cmp (x24 + x1) x34 < 0 then (
        fX4_shorten_b62 v0 v2 x1 w28
      ) else (
        fX4_shorten_b60 w28
      )
    )
  )
theorem bX4_shorten_0 {p : Program} {l : Launch} {e : Env} {s : State} {m : MethodId} {args : Array Value} {below : List Frame} {meth : Method} {c : Code} {H : Heap} {locs : List Loc} {ls : Array Slot} {G : gE} {A : Nat → Prop} {w0 : WH} (B : gB G RX4 cX4_shorten 7 (some .boolean) p s m args meth c) {v0 : Nat} {v1 : Nat} {v2 : Nat} {v3 : Nat} {v4 : Nat} {w : WH} {r : (Int32 × WH)} (h : fX4_shorten v0 v1 v2 v3 v4 w = some r)   (hR : RepH G A w H) (hS : Cu A s w0 w H locs) (hl : lv_has ls 7 [(0, .ref v0), (1, .ref v1), (2, .ref v2), (3, .ref v3), (4, .ref v4)]) : W p l e (hRm 15 335 w0) s m args below meth c H locs (wC w0 - wC w) (wS w0 - wS w) (hZ below args s G A w0 (some (.int r.1)) r.2) (F0 m 0 ls []) := by
  have B0 := B
  obtain ⟨hx, hb, hml, hown, hts, hr, hlk, hK⟩ := B0
  unfold fX4_shorten at h
  refine lv_aload hx hb dX4_shorten_0 (lv_at hl 4 rfl) ?_
  refine lv_aload_n hx hb dX4_shorten_2 rfl (lv_at hl 1 rfl) ?_
  refine lv_aload_n hx hb dX4_shorten_3 rfl (lv_at hl 2 rfl) ?_
  refine lv_aload_n hx hb dX4_shorten_4 rfl (lv_at hl 3 rfl) ?_
  replace h := b2_o h
  obtain ⟨x1, w2, e3, h⟩ := h
  refine h_weight (v := x1) (w' := w2) (rest := []) hx hb hml hown hts hK hR hS (Nat.le_refl _) (Nat.le_refl _) q1291 e3 (Nat.le_of_ble_eq_true rfl) (Nat.le_of_ble_eq_true rfl) hl.1 (Nat.le_of_ble_eq_true rfl) dX4_shorten_5 (fun H locs hR hS => ?_)
  refine lv_lstore (lv' := [(5, .long x1), (0, .ref v0), (1, .ref v1), (2, .ref v2), (3, .ref v3), (4, .ref v4)]) hx hb dX4_shorten_10 hl (by decide) rfl (fun ls hl => ?_)
  refine lv_lload hx hb dX4_shorten_12 (lv_at hl 0 rfl) ?_
  refine lv_lconst (v := 0) hx hb dX4_shorten_14 (by decide) ?_
  refine W.lcmp hx hb dX4_shorten_15 ?_
  refine lv_if_lt (tgt := 60) hx hb dX4_shorten_16 (by decide) (fun c4 => ?_) (fun c4 => ?_)
  · replace h := it_o c4 h
    refine lv_iconst (v := 0) hx hb dX4_shorten_60 (by decide) ?_
    have eR := Option.some.inj h
    subst eR
    exact h_zfin hx hb hr hlk (by show narrow .boolean (.int 0) = .int 0; decide) hR hS dX4_shorten_61
  · replace h := if_o c4 h
    refine lv_aload_n hx hb dX4_shorten_19 rfl (lv_at hl 1 rfl) ?_
    replace h := bo_o h
    obtain ⟨x5, e6, h⟩ := h
    refine h_get (ci := 23) (k := 0) (v := va_rf x5) hx hb hts hown hK hR in_X4 rfl (by decide) (fun _ _ => rfl) q618 (fun _ h9 => h9) (gR_o e6) dX4_shorten_20 ?_
    refine lv_aload_n hx hb dX4_shorten_23 rfl (lv_at hl 3 rfl) ?_
    replace h := bo_o h
    obtain ⟨_, e8, h⟩ := h
    replace h := b2_o h
    obtain ⟨x10, w7, e9, h⟩ := h
    refine h_callV 0 (ci := 27) (As := []) (rest := [va_rf x5]) (v := (some (.int x10))) (w' := w7) (st1 := [.int x10, va_rf x5]) hx hb hml hown hts hK hR hS (Nat.le_refl _) (Nat.le_refl _) rfl e8 (mX8_to e9) (lw_V q1362 q1363 q1364 q141 q1365) (by decide +kernel) (Nat.le_of_ble_eq_true rfl) (Nat.le_of_ble_eq_true rfl) rfl hl.1 (cat_le (Nat.le_of_ble_eq_true rfl)) dX4_shorten_24 rfl rfl (fun H locs hR hS => ?_)
    replace h := bo_o h
    obtain ⟨a11, e12, h⟩ := h
    subst e12
    replace h := bo_o h
    obtain ⟨x13, e14, h⟩ := h
    refine h_lald hx hb hK hR e14 dX4_shorten_27 ?_
    refine lv_ldc2 (v := 2305843009213693951) hx hb hown (hts _ q1276) dX4_shorten_28 ?_
    refine W.lcmp hx hb dX4_shorten_31 ?_
    refine lv_if_eq (tgt := 60) hx hb dX4_shorten_32 (by decide) (fun c15 => ?_) (fun c15 => ?_)
    · replace h := it_o c15 h
      refine lv_iconst (v := 0) hx hb dX4_shorten_60 (by decide) ?_
      have eR := Option.some.inj h
      subst eR
      exact h_zfin hx hb hr hlk (by show narrow .boolean (.int 0) = .int 0; decide) hR hS dX4_shorten_61
    · replace h := if_o c15 h
      refine lv_aload_n hx hb dX4_shorten_35 rfl (lv_at hl 1 rfl) ?_
      replace h := bo_o h
      obtain ⟨x16, e17, h⟩ := h
      refine h_get (ci := 23) (k := 0) (v := va_rf x16) hx hb hts hown hK hR in_X4 rfl (by decide) (fun _ _ => rfl) q618 (fun _ h9 => h9) (gR_o e17) dX4_shorten_36 ?_
      refine lv_aload_n hx hb dX4_shorten_39 rfl (lv_at hl 3 rfl) ?_
      replace h := bo_o h
      obtain ⟨_, e19, h⟩ := h
      replace h := b2_o h
      obtain ⟨x21, w18, e20, h⟩ := h
      refine h_callV 0 (ci := 27) (As := []) (rest := [va_rf x16]) (v := (some (.int x21))) (w' := w18) (st1 := [.int x21, va_rf x16]) hx hb hml hown hts hK hR hS (Nat.le_refl _) (Nat.le_refl _) rfl e19 (mX8_to e20) (lw_V q1362 q1363 q1364 q141 q1365) (by decide +kernel) (Nat.le_of_ble_eq_true rfl) (Nat.le_of_ble_eq_true rfl) rfl hl.1 (cat_le (Nat.le_of_ble_eq_true rfl)) dX4_shorten_40 rfl rfl (fun H locs hR hS => ?_)
      replace h := bo_o h
      obtain ⟨a22, e23, h⟩ := h
      subst e23
      replace h := bo_o h
      obtain ⟨x24, e25, h⟩ := h
      refine h_lald hx hb hK hR e25 dX4_shorten_43 ?_
      refine lv_lload hx hb dX4_shorten_44 (lv_at hl 0 rfl) ?_
      refine lv_ladd hx hb dX4_shorten_46 ?_
      refine lv_aload_n hx hb dX4_shorten_47 rfl (lv_at hl 1 rfl) ?_
      replace h := bo_o h
      obtain ⟨x26, e27, h⟩ := h
      refine h_get (ci := 23) (k := 0) (v := va_rf x26) hx hb hts hown hK hR in_X4 rfl (by decide) (fun _ _ => rfl) q618 (fun _ h9 => h9) (gR_o e27) dX4_shorten_48 ?_
      refine lv_aload_n hx hb dX4_shorten_51 rfl (lv_at hl 3 rfl) ?_
      replace h := bo_o h
      obtain ⟨_, e29, h⟩ := h
      replace h := b2_o h
      obtain ⟨x31, w28, e30, h⟩ := h
      refine h_callV 0 (ci := 27) (As := []) (rest := [va_rf x26, .long (x24 + x1)]) (v := (some (.int x31))) (w' := w28) (st1 := [.int x31, va_rf x26, .long (x24 + x1)]) hx hb hml hown hts hK hR hS (Nat.le_refl _) (Nat.le_refl _) rfl e29 (mX8_from e30) (lw_V q1366 q1367 q1368 q141 q1369) (by decide +kernel) (Nat.le_of_ble_eq_true rfl) (Nat.le_of_ble_eq_true rfl) rfl hl.1 (cat_le (Nat.le_of_ble_eq_true rfl)) dX4_shorten_52 rfl rfl (fun H locs hR hS => ?_)
      replace h := bo_o h
      obtain ⟨a32, e33, h⟩ := h
      subst e33
      replace h := bo_o h
      obtain ⟨x34, e35, h⟩ := h
      refine h_lald hx hb hK hR e35 dX4_shorten_55 ?_
      refine W.lcmp hx hb dX4_shorten_56 ?_
      refine lv_if_lt (tgt := 62) hx hb dX4_shorten_57 (by decide) (fun c36 => ?_) (fun c36 => ?_)
      · replace h := it_o c36 h
        exact bX4_shorten_62 B h  hR hS (lv_sub hl [1, 3, 0] rfl)
      · replace h := if_o c36 h
        exact bX4_shorten_60 B h  hR hS (lv_sub hl [] rfl)
theorem mX4_shorten {l : Launch} {G : gE} {A : Nat → Prop} {v0 : Nat} {v1 : Nat} {v2 : Nat} {v3 : Nat} {v4 : Nat} {w : WH} {r : (Int32 × WH)} (h : fX4_shorten v0 v1 v2 v3 v4 w = some r) : hM l G A yX4_shorten cX4_shorten 7 (some .boolean) 15 335 [.ref v0, .ref v1, .ref v2, .ref v3, .ref v4] w (some (.int r.1)) r.2 :=
  h_of (by decide +kernel) (Nat.le_of_ble_eq_true rfl) (fun p e s m args below meth c ls B hnm hR hS hl => bX4_shorten_0 B h hR hS hl)
noncomputable def fX4_measure_b120 (v0 : Nat) (v2 : Nat) (w : WH) : Option ((Int64 × WH)) :=
  (gR w v0 23 0).bind fun x1 =>
  (hIs w v2 28).bind fun _ =>
  b2_ (fX9_from v2 w) fun x6 w3 =>
  x1.bind fun a7 =>
  (ldJ w3 a7 x6).bind fun x9 =>
  some (x9, w3)
theorem bX4_measure_120 {p : Program} {l : Launch} {e : Env} {s : State} {m : MethodId} {args : Array Value} {below : List Frame} {meth : Method} {c : Code} {H : Heap} {locs : List Loc} {ls : Array Slot} {G : gE} {A : Nat → Prop} {w0 : WH} (B : gB G RX4 cX4_measure 6 (some .long) p s m args meth c) {v0 : Nat} {v2 : Nat} {w : WH} {r : (Int64 × WH)} (h : fX4_measure_b120 v0 v2 w = some r)   (hR : RepH G A w H) (hS : Cu A s w0 w H locs) (hl : lv_has ls 6 [(0, .ref v0), (2, .ref v2)]) : W p l e (hRm 16 361 w0) s m args below meth c H locs (wC w0 - wC w) (wS w0 - wS w) (hZ below args s G A w0 (some (.long r.1)) r.2) (F0 m 120 ls []) := by
  have B0 := B
  obtain ⟨hx, hb, hml, hown, hts, hr, hlk, hK⟩ := B0
  unfold fX4_measure_b120 at h
  refine lv_aload_n hx hb dX4_measure_120 rfl (lv_at hl 0 rfl) ?_
  replace h := bo_o h
  obtain ⟨x1, e2, h⟩ := h
  refine h_get (ci := 23) (k := 0) (v := va_rf x1) hx hb hts hown hK hR in_X4 rfl (by decide) (fun _ _ => rfl) q618 (fun _ h9 => h9) (gR_o e2) dX4_measure_121 ?_
  refine lv_aload_n hx hb dX4_measure_124 rfl (lv_at hl 1 rfl) ?_
  replace h := bo_o h
  obtain ⟨_, e4, h⟩ := h
  replace h := b2_o h
  obtain ⟨x6, w3, e5, h⟩ := h
  refine h_callV 0 (ci := 28) (As := []) (rest := [va_rf x1]) (v := (some (.int x6))) (w' := w3) (st1 := [.int x6, va_rf x1]) hx hb hml hown hts hK hR hS (Nat.le_refl _) (Nat.le_refl _) rfl e4 (mX9_from e5) (lw_V q1370 q1371 q1372 q143 q1373) (by decide +kernel) (Nat.le_of_ble_eq_true rfl) (Nat.le_of_ble_eq_true rfl) rfl hl.1 (cat_le (Nat.le_of_ble_eq_true rfl)) dX4_measure_125 rfl rfl (fun H locs hR hS => ?_)
  replace h := bo_o h
  obtain ⟨a7, e8, h⟩ := h
  subst e8
  replace h := bo_o h
  obtain ⟨x9, e10, h⟩ := h
  refine h_lald hx hb hK hR e10 dX4_measure_128 ?_
  have eR := Option.some.inj h
  subst eR
  exact h_lfin hx hb hr hlk hR hS dX4_measure_129
noncomputable def fX4_measure_b117 (v0 : Nat) (v1 : Nat) (v2 : Nat) (v3 : Nat) (v4 : Int32) (w : WH) : Option (Sum (Int32 × WH) ((Int64 × WH))) :=
  some (.inl (v4, w))
theorem bX4_measure_117 {p : Program} {l : Launch} {e : Env} {s : State} {m : MethodId} {args : Array Value} {below : List Frame} {meth : Method} {c : Code} {H : Heap} {locs : List Loc} {ls : Array Slot} {G : gE} {A : Nat → Prop} {w0 : WH} (B : gB G RX4 cX4_measure 6 (some .long) p s m args meth c) {v0 : Nat} {v1 : Nat} {v2 : Nat} {v3 : Nat} {v4 : Int32} {w : WH} {x : Sum (Int32 × WH) ((Int64 × WH))} {r : (Int64 × WH)} (h : fX4_measure_b117 v0 v1 v2 v3 v4 w = some x)  (k44 : ∀ (v4' : Int32) (w' : WH), x = (.inl (v4', w')) → ∀ (H : Heap) (locs : List Loc) (ls : Array Slot), RepH G A w' H → Cu A s w0 w' H locs → lv_has ls 6 [(0, .ref v0), (1, .ref v1), (2, .ref v2), (3, .ref v3), (4, .int v4')] → W p l e (hRm 16 361 w0) s m args below meth c H locs (wC w0 - wC w') (wS w0 - wS w') (hZ below args s G A w0 (some (.long r.1)) r.2) (F0 m 44 ls [])) (kR : ∀ q, x = (.inr q) → q = r) (hR : RepH G A w H) (hS : Cu A s w0 w H locs) (hl : lv_has ls 6 [(0, .ref v0), (1, .ref v1), (2, .ref v2), (3, .ref v3), (4, .int v4)]) : W p l e (hRm 16 361 w0) s m args below meth c H locs (wC w0 - wC w) (wS w0 - wS w) (hZ below args s G A w0 (some (.long r.1)) r.2) (F0 m 117 ls []) := by
  have B0 := B
  obtain ⟨hx, hb, hml, hown, hts, hr, hlk, hK⟩ := B0
  unfold fX4_measure_b117 at h
  refine lv_goto (tgt := 44) hx hb dX4_measure_117 (by decide) ?_
  exact k44 _ _ (Option.some.inj h).symm H locs ls hR hS (lv_sub hl [0, 1, 2, 3, 4] rfl)
noncomputable def fX4_measure_b109 (v0 : Nat) (v1 : Nat) (v2 : Nat) (v3 : Nat) (v5 : Int32) (s0 : Int32) (w : WH) : Option (Sum (Int32 × Int32 × WH) (Sum (Int32 × WH) ((Int64 × WH)))) :=
  some (.inl (s0, v5 + 1, w))
theorem bX4_measure_109 {p : Program} {l : Launch} {e : Env} {s : State} {m : MethodId} {args : Array Value} {below : List Frame} {meth : Method} {c : Code} {H : Heap} {locs : List Loc} {ls : Array Slot} {G : gE} {A : Nat → Prop} {w0 : WH} (B : gB G RX4 cX4_measure 6 (some .long) p s m args meth c) {v0 : Nat} {v1 : Nat} {v2 : Nat} {v3 : Nat} {v5 : Int32} {s0 : Int32} {w : WH} {x : Sum (Int32 × Int32 × WH) (Sum (Int32 × WH) ((Int64 × WH)))} {r : (Int64 × WH)} (h : fX4_measure_b109 v0 v1 v2 v3 v5 s0 w = some x)  (k55 : ∀ (v4' : Int32) (v5' : Int32) (w' : WH), x = (.inl (v4', v5', w')) → ∀ (H : Heap) (locs : List Loc) (ls : Array Slot), RepH G A w' H → Cu A s w0 w' H locs → lv_has ls 6 [(0, .ref v0), (1, .ref v1), (2, .ref v2), (3, .ref v3), (4, .int v4'), (5, .int v5')] → W p l e (hRm 16 361 w0) s m args below meth c H locs (wC w0 - wC w') (wS w0 - wS w') (hZ below args s G A w0 (some (.long r.1)) r.2) (F0 m 55 ls [])) (k44 : ∀ (v4' : Int32) (w' : WH), x = (.inr (.inl (v4', w'))) → ∀ (H : Heap) (locs : List Loc) (ls : Array Slot), RepH G A w' H → Cu A s w0 w' H locs → lv_has ls 6 [(0, .ref v0), (1, .ref v1), (2, .ref v2), (3, .ref v3), (4, .int v4')] → W p l e (hRm 16 361 w0) s m args below meth c H locs (wC w0 - wC w') (wS w0 - wS w') (hZ below args s G A w0 (some (.long r.1)) r.2) (F0 m 44 ls [])) (kR : ∀ q, x = (.inr (.inr q)) → q = r) (hR : RepH G A w H) (hS : Cu A s w0 w H locs) (hl : lv_has ls 6 [(0, .ref v0), (1, .ref v1), (2, .ref v2), (3, .ref v3), (5, .int v5)]) : W p l e (hRm 16 361 w0) s m args below meth c H locs (wC w0 - wC w) (wS w0 - wS w) (hZ below args s G A w0 (some (.long r.1)) r.2) (F0 m 109 ls [.int s0]) := by
  have B0 := B
  obtain ⟨hx, hb, hml, hown, hts, hr, hlk, hK⟩ := B0
  unfold fX4_measure_b109 at h
  refine lv_istore (lv' := [(4, .int s0), (0, .ref v0), (1, .ref v1), (2, .ref v2), (3, .ref v3), (5, .int v5)]) hx hb dX4_measure_109 hl (by decide) rfl (fun ls hl => ?_)
  refine lv_iinc (v := v5 + 1) (lv' := [(5, .int (v5 + 1)), (4, .int s0), (0, .ref v0), (1, .ref v1), (2, .ref v2), (3, .ref v3)]) hx hb dX4_measure_111 hl (k := 5) rfl rfl (by decide) rfl (fun ls hl => ?_)
  refine lv_goto (tgt := 55) hx hb dX4_measure_114 (by decide) ?_
  exact k55 _ _ _ (Option.some.inj h).symm H locs ls hR hS (lv_sub hl [2, 3, 4, 5, 1, 0] rfl)
noncomputable def fX4_measure_b104 (v0 : Nat) (v1 : Nat) (v2 : Nat) (v3 : Nat) (v5 : Int32) (w : WH) : Option (Sum (Int32 × Int32 × WH) (Sum (Int32 × WH) ((Int64 × WH)))) :=
  fX4_measure_b109 v0 v1 v2 v3 v5 1 w
theorem bX4_measure_104 {p : Program} {l : Launch} {e : Env} {s : State} {m : MethodId} {args : Array Value} {below : List Frame} {meth : Method} {c : Code} {H : Heap} {locs : List Loc} {ls : Array Slot} {G : gE} {A : Nat → Prop} {w0 : WH} (B : gB G RX4 cX4_measure 6 (some .long) p s m args meth c) {v0 : Nat} {v1 : Nat} {v2 : Nat} {v3 : Nat} {v5 : Int32} {w : WH} {x : Sum (Int32 × Int32 × WH) (Sum (Int32 × WH) ((Int64 × WH)))} {r : (Int64 × WH)} (h : fX4_measure_b104 v0 v1 v2 v3 v5 w = some x)  (k55 : ∀ (v4' : Int32) (v5' : Int32) (w' : WH), x = (.inl (v4', v5', w')) → ∀ (H : Heap) (locs : List Loc) (ls : Array Slot), RepH G A w' H → Cu A s w0 w' H locs → lv_has ls 6 [(0, .ref v0), (1, .ref v1), (2, .ref v2), (3, .ref v3), (4, .int v4'), (5, .int v5')] → W p l e (hRm 16 361 w0) s m args below meth c H locs (wC w0 - wC w') (wS w0 - wS w') (hZ below args s G A w0 (some (.long r.1)) r.2) (F0 m 55 ls [])) (k44 : ∀ (v4' : Int32) (w' : WH), x = (.inr (.inl (v4', w'))) → ∀ (H : Heap) (locs : List Loc) (ls : Array Slot), RepH G A w' H → Cu A s w0 w' H locs → lv_has ls 6 [(0, .ref v0), (1, .ref v1), (2, .ref v2), (3, .ref v3), (4, .int v4')] → W p l e (hRm 16 361 w0) s m args below meth c H locs (wC w0 - wC w') (wS w0 - wS w') (hZ below args s G A w0 (some (.long r.1)) r.2) (F0 m 44 ls [])) (kR : ∀ q, x = (.inr (.inr q)) → q = r) (hR : RepH G A w H) (hS : Cu A s w0 w H locs) (hl : lv_has ls 6 [(0, .ref v0), (1, .ref v1), (2, .ref v2), (3, .ref v3), (5, .int v5)]) : W p l e (hRm 16 361 w0) s m args below meth c H locs (wC w0 - wC w) (wS w0 - wS w) (hZ below args s G A w0 (some (.long r.1)) r.2) (F0 m 104 ls []) := by
  have B0 := B
  obtain ⟨hx, hb, hml, hown, hts, hr, hlk, hK⟩ := B0
  unfold fX4_measure_b104 at h
  refine lv_iconst (v := 1) hx hb dX4_measure_104 (by decide) ?_
  refine lv_goto (tgt := 109) hx hb dX4_measure_105 (by decide) ?_
  exact bX4_measure_109 B h k55 k44 kR hR hS (lv_sub hl [0, 1, 2, 3, 4] rfl)
noncomputable def fX4_measure_b55 (v0 : Nat) (v1 : Nat) (v2 : Nat) (v3 : Nat) (v4 : Int32) (v5 : Int32) (w : WH) : Option (Sum (Int32 × Int32 × WH) (Sum (Int32 × WH) ((Int64 × WH)))) :=
  (gR w v1 21 0).bind fun x1 =>
  x1.bind fun a3 =>
  (gR w a3 22 1).bind fun x5 =>
  x5.bind fun a7 =>
  (hIs w a7 2).bind fun _ =>
  b2_ (fJ2_size a7 w) fun x12 w9 =>
  if x12 ≤ v5 then (
    (fX4_measure_b117 v0 v1 v2 v3 v4 w9).map (fun y => (.inr y))
  ) else (
    (gR w9 v1 21 0).bind fun x14 =>
    x14.bind fun a16 =>
    (gR w9 a16 22 1).bind fun x18 =>
    x18.bind fun a20 =>
    (hIs w9 a20 2).bind fun _ =>
    b2_ (fJ2_get a20 v5 w9) fun x25 w22 =>
    x25.bind fun a26 =>
    (hIs w22 a26 27).bind fun _ =>
    (hIs w22 v0 23).bind fun _ =>
    b2_ (fX4_shorten v0 v1 a26 v2 v3 w22) fun x32 w29 =>
    if x32 = 0 then (
      if v4 = 0 then (
        fX4_measure_b109 v0 v1 v2 v3 v5 0 w29
      ) else (
        fX4_measure_b104 v0 v1 v2 v3 v5 w29
      )
    ) else (
      fX4_measure_b104 v0 v1 v2 v3 v5 w29
    )
  )
theorem bX4_measure_55 {p : Program} {l : Launch} {e : Env} {s : State} {m : MethodId} {args : Array Value} {below : List Frame} {meth : Method} {c : Code} {H : Heap} {locs : List Loc} {ls : Array Slot} {G : gE} {A : Nat → Prop} {w0 : WH} (B : gB G RX4 cX4_measure 6 (some .long) p s m args meth c) {v0 : Nat} {v1 : Nat} {v2 : Nat} {v3 : Nat} {v4 : Int32} {v5 : Int32} {w : WH} {x : Sum (Int32 × Int32 × WH) (Sum (Int32 × WH) ((Int64 × WH)))} {r : (Int64 × WH)} (h : fX4_measure_b55 v0 v1 v2 v3 v4 v5 w = some x)  (k55 : ∀ (v4' : Int32) (v5' : Int32) (w' : WH), x = (.inl (v4', v5', w')) → ∀ (H : Heap) (locs : List Loc) (ls : Array Slot), RepH G A w' H → Cu A s w0 w' H locs → lv_has ls 6 [(0, .ref v0), (1, .ref v1), (2, .ref v2), (3, .ref v3), (4, .int v4'), (5, .int v5')] → W p l e (hRm 16 361 w0) s m args below meth c H locs (wC w0 - wC w') (wS w0 - wS w') (hZ below args s G A w0 (some (.long r.1)) r.2) (F0 m 55 ls [])) (k44 : ∀ (v4' : Int32) (w' : WH), x = (.inr (.inl (v4', w'))) → ∀ (H : Heap) (locs : List Loc) (ls : Array Slot), RepH G A w' H → Cu A s w0 w' H locs → lv_has ls 6 [(0, .ref v0), (1, .ref v1), (2, .ref v2), (3, .ref v3), (4, .int v4')] → W p l e (hRm 16 361 w0) s m args below meth c H locs (wC w0 - wC w') (wS w0 - wS w') (hZ below args s G A w0 (some (.long r.1)) r.2) (F0 m 44 ls [])) (kR : ∀ q, x = (.inr (.inr q)) → q = r) (hR : RepH G A w H) (hS : Cu A s w0 w H locs) (hl : lv_has ls 6 [(0, .ref v0), (1, .ref v1), (2, .ref v2), (3, .ref v3), (4, .int v4), (5, .int v5)]) : W p l e (hRm 16 361 w0) s m args below meth c H locs (wC w0 - wC w) (wS w0 - wS w) (hZ below args s G A w0 (some (.long r.1)) r.2) (F0 m 55 ls []) := by
  have B0 := B
  obtain ⟨hx, hb, hml, hown, hts, hr, hlk, hK⟩ := B0
  unfold fX4_measure_b55 at h
  refine lv_iload hx hb dX4_measure_55 (lv_at hl 5 rfl) ?_
  refine lv_aload_n hx hb dX4_measure_57 rfl (lv_at hl 1 rfl) ?_
  replace h := bo_o h
  obtain ⟨x1, e2, h⟩ := h
  refine h_getN (ci := 21) (k := 0) (v := va_rf x1) hx hb hts hown hK hR in_X2 rfl (by decide) (fun _ _ => rfl) (hK.fn 14 rfl) (fun _ h9 => h9) (gR_o e2) dX4_measure_58 ?_
  replace h := bo_o h
  obtain ⟨a3, e4, h⟩ := h
  subst e4
  replace h := bo_o h
  obtain ⟨x5, e6, h⟩ := h
  refine h_getN (ci := 22) (k := 1) (v := va_rf x5) hx hb hts hown hK hR in_X3 rfl (by decide) (fun _ _ => rfl) (hK.fn 5 rfl) (fun _ h9 => h9) (gR_o e6) dX4_measure_61 ?_
  replace h := bo_o h
  obtain ⟨a7, e8, h⟩ := h
  subst e8
  replace h := bo_o h
  obtain ⟨_, e10, h⟩ := h
  replace h := b2_o h
  obtain ⟨x12, w9, e11, h⟩ := h
  refine h_callF 0  (As := []) (rest := [.int v5]) (v := (some (.int x12))) (w' := w9) (st1 := [.int x12, .int v5]) hx hb hml hown hts hK hR hS (Nat.le_refl _) (Nat.le_refl _) (h_recv (ci := 2) hK hR hS rfl e10) (mJ2_size e11) (lw_app (a := [.methodLink _ _ _, .selects _ _ _, .instanceMethod _, .initialized _]) (lw_4 q1282 q903 q905 q117) (lw_meth q907)) (hK.fw 0 rfl) (by decide +kernel) (Nat.le_of_ble_eq_true rfl) (Nat.le_of_ble_eq_true rfl) rfl hl.1 (Nat.le_of_ble_eq_true rfl) dX4_measure_64 rfl rfl (fun H locs hR hS => ?_)
  refine lv_icmp_ge (tgt := 117) hx hb dX4_measure_69 (by decide) (fun c13 => ?_) (fun c13 => ?_)
  · replace h := it_o c13 h
    obtain ⟨y, h, ey⟩ := mp_o h
    exact bX4_measure_117 B h (fun _ _ e => k44 _ _ (by rw [← ey, e])) (fun q e => kR q (by rw [← ey, e])) hR hS (lv_sub hl [0, 1, 2, 3, 4] rfl)
  · replace h := if_o c13 h
    refine lv_aload_n hx hb dX4_measure_72 rfl (lv_at hl 0 rfl) ?_
    refine lv_aload_n hx hb dX4_measure_73 rfl (lv_at hl 1 rfl) ?_
    refine lv_aload_n hx hb dX4_measure_74 rfl (lv_at hl 1 rfl) ?_
    replace h := bo_o h
    obtain ⟨x14, e15, h⟩ := h
    refine h_getN (ci := 21) (k := 0) (v := va_rf x14) hx hb hts hown hK hR in_X2 rfl (by decide) (fun _ _ => rfl) (hK.fn 14 rfl) (fun _ h9 => h9) (gR_o e15) dX4_measure_75 ?_
    replace h := bo_o h
    obtain ⟨a16, e17, h⟩ := h
    subst e17
    replace h := bo_o h
    obtain ⟨x18, e19, h⟩ := h
    refine h_getN (ci := 22) (k := 1) (v := va_rf x18) hx hb hts hown hK hR in_X3 rfl (by decide) (fun _ _ => rfl) (hK.fn 5 rfl) (fun _ h9 => h9) (gR_o e19) dX4_measure_78 ?_
    refine lv_iload hx hb dX4_measure_81 (lv_at hl 5 rfl) ?_
    replace h := bo_o h
    obtain ⟨a20, e21, h⟩ := h
    subst e21
    replace h := bo_o h
    obtain ⟨_, e23, h⟩ := h
    replace h := b2_o h
    obtain ⟨x25, w22, e24, h⟩ := h
    refine h_callF 1  (As := [.int v5]) (rest := [.ref v1, .ref v0]) (v := (some (va_rf x25))) (w' := w22) (st1 := [va_rf x25, .ref v1, .ref v0]) hx hb hml hown hts hK hR hS (Nat.le_refl _) (Nat.le_refl _) (h_recv (ci := 2) hK hR hS rfl e23) (mJ2_get e24) (lw_app (a := [.methodLink _ _ _, .selects _ _ _, .instanceMethod _, .initialized _]) (lw_4 q1284 q1208 q1210 q117) (lw_meth q1212)) (hK.fw 1 rfl) (by decide +kernel) (Nat.le_of_ble_eq_true rfl) (Nat.le_of_ble_eq_true rfl) rfl hl.1 (Nat.le_of_ble_eq_true rfl) dX4_measure_83 rfl rfl (fun H locs hR hS => ?_)
    replace h := bo_o h
    obtain ⟨a26, e27, h⟩ := h
    subst e27
    replace h := bo_o h
    obtain ⟨_, e28, h⟩ := h
    refine h_castS (ci := 27) hx hb hts hown hK hR hS rfl e28 q1285 dX4_measure_88 ?_
    refine lv_aload_n hx hb dX4_measure_91 rfl (lv_at hl 2 rfl) ?_
    refine lv_aload_n hx hb dX4_measure_92 rfl (lv_at hl 3 rfl) ?_
    replace h := bo_o h
    obtain ⟨_, e30, h⟩ := h
    replace h := b2_o h
    obtain ⟨x32, w29, e31, h⟩ := h
    refine h_callV 4 (ci := 23) (As := [.ref v1, .ref a26, .ref v2, .ref v3]) (rest := []) (v := (some (.int x32))) (w' := w29) (st1 := [.int x32]) hx hb hml hown hts hK hR hS (Nat.le_refl _) (Nat.le_refl _) rfl e30 (mX4_shorten e31) (lw_V q1286 q1288 qs27 q135 q1289) (by decide +kernel) (Nat.le_of_ble_eq_true rfl) (Nat.le_of_ble_eq_true rfl) rfl hl.1 (Nat.le_of_ble_eq_true rfl) dX4_measure_93 rfl rfl (fun H locs hR hS => ?_)
    refine lv_if_ne (tgt := 104) hx hb dX4_measure_96 (by decide) (fun c33 => ?_) (fun c33 => ?_)
    · replace h := if_o c33 h
      exact bX4_measure_104 B h k55 k44 kR hR hS (lv_sub hl [0, 1, 2, 3, 5] rfl)
    · replace h := it_o c33 h
      refine lv_iload hx hb dX4_measure_99 (lv_at hl 4 rfl) ?_
      refine lv_if_eq (tgt := 108) hx hb dX4_measure_101 (by decide) (fun c34 => ?_) (fun c34 => ?_)
      · replace h := it_o c34 h
        refine lv_iconst (v := 0) hx hb dX4_measure_108 (by decide) ?_
        exact bX4_measure_109 B h k55 k44 kR hR hS (lv_sub hl [0, 1, 2, 3, 5] rfl)
      · replace h := if_o c34 h
        exact bX4_measure_104 B h k55 k44 kR hR hS (lv_sub hl [0, 1, 2, 3, 5] rfl)
noncomputable def fX4_measure_l55 (v0 : Nat) (v1 : Nat) (v2 : Nat) (v3 : Nat) (v4 : Int32) (v5 : Int32) (w : WH) : Option (Sum (Int32 × WH) ((Int64 × WH))) := whileO (fun q => fX4_measure_b55 v0 v1 v2 v3 q.1 q.2.1 q.2.2) (v4, v5, w)
theorem lX4_measure_55 {p : Program} {l : Launch} {e : Env} {s : State} {m : MethodId} {args : Array Value} {below : List Frame} {meth : Method} {c : Code} {G : gE} {A : Nat → Prop} {w0 : WH} (B : gB G RX4 cX4_measure 6 (some .long) p s m args meth c) {v0 : Nat} {v1 : Nat} {v2 : Nat} {v3 : Nat} {x : Sum (Int32 × WH) ((Int64 × WH))} {r : (Int64 × WH)}  (k44 : ∀ (v4' : Int32) (w' : WH), x = (.inl (v4', w')) → ∀ (H : Heap) (locs : List Loc) (ls : Array Slot), RepH G A w' H → Cu A s w0 w' H locs → lv_has ls 6 [(0, .ref v0), (1, .ref v1), (2, .ref v2), (3, .ref v3), (4, .int v4')] → W p l e (hRm 16 361 w0) s m args below meth c H locs (wC w0 - wC w') (wS w0 - wS w') (hZ below args s G A w0 (some (.long r.1)) r.2) (F0 m 44 ls [])) (kR : ∀ q, x = (.inr q) → q = r) : ∀ (v4 : Int32) (v5 : Int32) (w : WH), fX4_measure_l55 v0 v1 v2 v3 v4 v5 w = some x → ∀ (H : Heap) (locs : List Loc) (ls : Array Slot), RepH G A w H → Cu A s w0 w H locs → lv_has ls 6 [(0, .ref v0), (1, .ref v1), (2, .ref v2), (3, .ref v3), (4, .int v4), (5, .int v5)] → W p l e (hRm 16 361 w0) s m args below meth c H locs (wC w0 - wC w) (wS w0 - wS w) (hZ below args s G A w0 (some (.long r.1)) r.2) (F0 m 55 ls []) := by
  intro v4 v5 w h
  refine wh_walk (body := (fun q => fX4_measure_b55 v0 v1 v2 v3 q.1 q.2.1 q.2.2)) (P := (fun q : (Int32 × Int32 × WH) => ∀ (H : Heap) (locs : List Loc) (ls : Array Slot), RepH G A (q.2.2) H → Cu A s w0 (q.2.2) H locs → lv_has ls 6 [(0, .ref v0), (1, .ref v1), (2, .ref v2), (3, .ref v3), (4, .int (q.1)), (5, .int (q.2.1))] → W p l e (hRm 16 361 w0) s m args below meth c H locs (wC w0 - wC (q.2.2)) (wS w0 - wS (q.2.2)) (hZ below args s G A w0 (some (.long r.1)) r.2) (F0 m 55 ls []))) (r := x) ?_ (v4, v5, w) h
  intro q y hy hL hr H locs ls hR hS hl
  exact bX4_measure_55 (r := r) B hy (fun a0 a1 a2 e => hL (a0, a1, a2) e) (fun a0 a1 e H locs ls hR hS hl => k44 _ _ ((hr _ e).symm) H locs ls hR hS hl) (fun q e => kR q ((hr _ e).symm)) hR hS hl
noncomputable def fX4_measure_b44 (v0 : Nat) (v1 : Nat) (v2 : Nat) (v3 : Nat) (v4 : Int32) (w : WH) : Option (Sum (Int32 × WH) ((Int64 × WH))) :=
  if v4 = 0 then (
    (fX4_measure_b120 v0 v2 w).map (fun y => (.inr y))
  ) else (
    fX4_measure_l55 v0 v1 v2 v3 0 0 w
  )
theorem bX4_measure_44 {p : Program} {l : Launch} {e : Env} {s : State} {m : MethodId} {args : Array Value} {below : List Frame} {meth : Method} {c : Code} {H : Heap} {locs : List Loc} {ls : Array Slot} {G : gE} {A : Nat → Prop} {w0 : WH} (B : gB G RX4 cX4_measure 6 (some .long) p s m args meth c) {v0 : Nat} {v1 : Nat} {v2 : Nat} {v3 : Nat} {v4 : Int32} {w : WH} {x : Sum (Int32 × WH) ((Int64 × WH))} {r : (Int64 × WH)} (h : fX4_measure_b44 v0 v1 v2 v3 v4 w = some x)  (k44 : ∀ (v4' : Int32) (w' : WH), x = (.inl (v4', w')) → ∀ (H : Heap) (locs : List Loc) (ls : Array Slot), RepH G A w' H → Cu A s w0 w' H locs → lv_has ls 6 [(0, .ref v0), (1, .ref v1), (2, .ref v2), (3, .ref v3), (4, .int v4')] → W p l e (hRm 16 361 w0) s m args below meth c H locs (wC w0 - wC w') (wS w0 - wS w') (hZ below args s G A w0 (some (.long r.1)) r.2) (F0 m 44 ls [])) (kR : ∀ q, x = (.inr q) → q = r) (hR : RepH G A w H) (hS : Cu A s w0 w H locs) (hl : lv_has ls 6 [(0, .ref v0), (1, .ref v1), (2, .ref v2), (3, .ref v3), (4, .int v4)]) : W p l e (hRm 16 361 w0) s m args below meth c H locs (wC w0 - wC w) (wS w0 - wS w) (hZ below args s G A w0 (some (.long r.1)) r.2) (F0 m 44 ls []) := by
  have B0 := B
  obtain ⟨hx, hb, hml, hown, hts, hr, hlk, hK⟩ := B0
  unfold fX4_measure_b44 at h
  refine lv_iload hx hb dX4_measure_44 (lv_at hl 4 rfl) ?_
  refine lv_if_eq (tgt := 120) hx hb dX4_measure_46 (by decide) (fun c1 => ?_) (fun c1 => ?_)
  · replace h := it_o c1 h
    obtain ⟨y, h, ey⟩ := mp_o h
    have ey := kR _ ey.symm
    subst ey
    exact bX4_measure_120 B h  hR hS (lv_sub hl [0, 2] rfl)
  · replace h := if_o c1 h
    refine lv_iconst (v := 0) hx hb dX4_measure_49 (by decide) ?_
    refine lv_istore (lv' := [(4, .int 0), (0, .ref v0), (1, .ref v1), (2, .ref v2), (3, .ref v3)]) hx hb dX4_measure_50 hl (by decide) rfl (fun ls hl => ?_)
    refine lv_iconst (v := 0) hx hb dX4_measure_52 (by decide) ?_
    refine lv_istore (lv' := [(5, .int 0), (4, .int 0), (0, .ref v0), (1, .ref v1), (2, .ref v2), (3, .ref v3)]) hx hb dX4_measure_53 hl (by decide) rfl (fun ls hl => ?_)
    exact lX4_measure_55 (x := x) (r := r) B k44 kR _ _ _ h H locs ls hR hS (lv_sub hl [2, 3, 4, 5, 1, 0] rfl)
noncomputable def fX4_measure_l44 (v0 : Nat) (v1 : Nat) (v2 : Nat) (v3 : Nat) (v4 : Int32) (w : WH) : Option ((Int64 × WH)) := whileO (fun q => fX4_measure_b44 v0 v1 v2 v3 q.1 q.2) (v4, w)
theorem lX4_measure_44 {p : Program} {l : Launch} {e : Env} {s : State} {m : MethodId} {args : Array Value} {below : List Frame} {meth : Method} {c : Code} {G : gE} {A : Nat → Prop} {w0 : WH} (B : gB G RX4 cX4_measure 6 (some .long) p s m args meth c) {v0 : Nat} {v1 : Nat} {v2 : Nat} {v3 : Nat} {r : (Int64 × WH)}   : ∀ (v4 : Int32) (w : WH), fX4_measure_l44 v0 v1 v2 v3 v4 w = some r → ∀ (H : Heap) (locs : List Loc) (ls : Array Slot), RepH G A w H → Cu A s w0 w H locs → lv_has ls 6 [(0, .ref v0), (1, .ref v1), (2, .ref v2), (3, .ref v3), (4, .int v4)] → W p l e (hRm 16 361 w0) s m args below meth c H locs (wC w0 - wC w) (wS w0 - wS w) (hZ below args s G A w0 (some (.long r.1)) r.2) (F0 m 44 ls []) := by
  intro v4 w h
  refine wh_walk (body := (fun q => fX4_measure_b44 v0 v1 v2 v3 q.1 q.2)) (P := (fun q : (Int32 × WH) => ∀ (H : Heap) (locs : List Loc) (ls : Array Slot), RepH G A (q.2) H → Cu A s w0 (q.2) H locs → lv_has ls 6 [(0, .ref v0), (1, .ref v1), (2, .ref v2), (3, .ref v3), (4, .int (q.1))] → W p l e (hRm 16 361 w0) s m args below meth c H locs (wC w0 - wC (q.2)) (wS w0 - wS (q.2)) (hZ below args s G A w0 (some (.long r.1)) r.2) (F0 m 44 ls []))) (r := r) ?_ (v4, w) h
  intro q y hy hL hr H locs ls hR hS hl
  exact bX4_measure_44 (r := r) B hy (fun a0 a1 e => hL (a0, a1) e) (fun q e => hr q e) hR hS hl
noncomputable def fX4_measure_b31 (v0 : Nat) (v1 : Nat) (v2 : Nat) (v3 : Nat) (w : WH) : Option ((Int64 × WH)) :=
  (gR w v0 23 0).bind fun x1 =>
  (hIs w v2 28).bind fun _ =>
  b2_ (fX9_to v2 w) fun x6 w3 =>
  x1.bind fun a7 =>
  (stJ w3 a7 x6 0).bind fun w9 =>
  fX4_measure_l44 v0 v1 v2 v3 1 w9
theorem bX4_measure_31 {p : Program} {l : Launch} {e : Env} {s : State} {m : MethodId} {args : Array Value} {below : List Frame} {meth : Method} {c : Code} {H : Heap} {locs : List Loc} {ls : Array Slot} {G : gE} {A : Nat → Prop} {w0 : WH} (B : gB G RX4 cX4_measure 6 (some .long) p s m args meth c) {v0 : Nat} {v1 : Nat} {v2 : Nat} {v3 : Nat} {w : WH} {r : (Int64 × WH)} (h : fX4_measure_b31 v0 v1 v2 v3 w = some r)   (hR : RepH G A w H) (hS : Cu A s w0 w H locs) (hl : lv_has ls 6 [(0, .ref v0), (1, .ref v1), (2, .ref v2), (3, .ref v3)]) : W p l e (hRm 16 361 w0) s m args below meth c H locs (wC w0 - wC w) (wS w0 - wS w) (hZ below args s G A w0 (some (.long r.1)) r.2) (F0 m 31 ls []) := by
  have B0 := B
  obtain ⟨hx, hb, hml, hown, hts, hr, hlk, hK⟩ := B0
  unfold fX4_measure_b31 at h
  refine lv_aload_n hx hb dX4_measure_31 rfl (lv_at hl 0 rfl) ?_
  replace h := bo_o h
  obtain ⟨x1, e2, h⟩ := h
  refine h_get (ci := 23) (k := 0) (v := va_rf x1) hx hb hts hown hK hR in_X4 rfl (by decide) (fun _ _ => rfl) q618 (fun _ h9 => h9) (gR_o e2) dX4_measure_32 ?_
  refine lv_aload_n hx hb dX4_measure_35 rfl (lv_at hl 2 rfl) ?_
  replace h := bo_o h
  obtain ⟨_, e4, h⟩ := h
  replace h := b2_o h
  obtain ⟨x6, w3, e5, h⟩ := h
  refine h_callV 0 (ci := 28) (As := []) (rest := [va_rf x1]) (v := (some (.int x6))) (w' := w3) (st1 := [.int x6, va_rf x1]) hx hb hml hown hts hK hR hS (Nat.le_refl _) (Nat.le_refl _) rfl e4 (mX9_to e5) (lw_V q1277 q1278 q1279 q143 q1280) (by decide +kernel) (Nat.le_of_ble_eq_true rfl) (Nat.le_of_ble_eq_true rfl) rfl hl.1 (cat_le (Nat.le_of_ble_eq_true rfl)) dX4_measure_36 rfl rfl (fun H locs hR hS => ?_)
  refine lv_lconst (v := 0) hx hb dX4_measure_39 (by decide) ?_
  replace h := bo_o h
  obtain ⟨a7, e8, h⟩ := h
  subst e8
  replace h := bo_o h
  obtain ⟨w9, e10, h⟩ := h
  refine h_last hx hb hK hR hS e10 dX4_measure_40 (fun H locs hR hS => ?_)
  refine lv_iconst (v := 1) hx hb dX4_measure_41 (by decide) ?_
  refine lv_istore (lv' := [(4, .int 1), (0, .ref v0), (1, .ref v1), (2, .ref v2), (3, .ref v3)]) hx hb dX4_measure_42 hl (by decide) rfl (fun ls hl => ?_)
  exact lX4_measure_44 B _ _ h H locs ls hR hS (lv_sub hl [1, 2, 3, 4, 0] rfl)
noncomputable def fX4_measure_b3 (v0 : Nat) (v1 : Nat) (v2 : Nat) (v3 : Nat) (v4 : Int32) (w : WH) : Option (Sum (Int32 × WH) ((Int64 × WH))) :=
  (gR w v1 21 0).bind fun x1 =>
  x1.bind fun a3 =>
  (gI w a3 22 0).bind fun x5 =>
  if x5 ≤ v4 then (
    (fX4_measure_b31 v0 v1 v2 v3 w).map (fun y => (.inr y))
  ) else (
    (gR w v0 23 0).bind fun x8 =>
    x8.bind fun a10 =>
    (stJ w a10 v4 2305843009213693951).bind fun w12 =>
    some (.inl (v4 + 1, w12))
  )
theorem bX4_measure_3 {p : Program} {l : Launch} {e : Env} {s : State} {m : MethodId} {args : Array Value} {below : List Frame} {meth : Method} {c : Code} {H : Heap} {locs : List Loc} {ls : Array Slot} {G : gE} {A : Nat → Prop} {w0 : WH} (B : gB G RX4 cX4_measure 6 (some .long) p s m args meth c) {v0 : Nat} {v1 : Nat} {v2 : Nat} {v3 : Nat} {v4 : Int32} {w : WH} {x : Sum (Int32 × WH) ((Int64 × WH))} {r : (Int64 × WH)} (h : fX4_measure_b3 v0 v1 v2 v3 v4 w = some x)  (k3 : ∀ (v4' : Int32) (w' : WH), x = (.inl (v4', w')) → ∀ (H : Heap) (locs : List Loc) (ls : Array Slot), RepH G A w' H → Cu A s w0 w' H locs → lv_has ls 6 [(0, .ref v0), (1, .ref v1), (2, .ref v2), (3, .ref v3), (4, .int v4')] → W p l e (hRm 16 361 w0) s m args below meth c H locs (wC w0 - wC w') (wS w0 - wS w') (hZ below args s G A w0 (some (.long r.1)) r.2) (F0 m 3 ls [])) (kR : ∀ q, x = (.inr q) → q = r) (hR : RepH G A w H) (hS : Cu A s w0 w H locs) (hl : lv_has ls 6 [(0, .ref v0), (1, .ref v1), (2, .ref v2), (3, .ref v3), (4, .int v4)]) : W p l e (hRm 16 361 w0) s m args below meth c H locs (wC w0 - wC w) (wS w0 - wS w) (hZ below args s G A w0 (some (.long r.1)) r.2) (F0 m 3 ls []) := by
  have B0 := B
  obtain ⟨hx, hb, hml, hown, hts, hr, hlk, hK⟩ := B0
  unfold fX4_measure_b3 at h
  refine lv_iload hx hb dX4_measure_3 (lv_at hl 4 rfl) ?_
  refine lv_aload_n hx hb dX4_measure_5 rfl (lv_at hl 1 rfl) ?_
  replace h := bo_o h
  obtain ⟨x1, e2, h⟩ := h
  refine h_getN (ci := 21) (k := 0) (v := va_rf x1) hx hb hts hown hK hR in_X2 rfl (by decide) (fun _ _ => rfl) (hK.fn 14 rfl) (fun _ h9 => h9) (gR_o e2) dX4_measure_6 ?_
  replace h := bo_o h
  obtain ⟨a3, e4, h⟩ := h
  subst e4
  replace h := bo_o h
  obtain ⟨x5, e6, h⟩ := h
  refine h_getN (ci := 22) (k := 0) (v := .int x5) hx hb hts hown hK hR in_X3 rfl (by decide) (fun _ _ => rfl) (hK.fn 1 rfl) (fun _ h9 => h9) (gI_o e6) dX4_measure_9 ?_
  refine lv_icmp_ge (tgt := 31) hx hb dX4_measure_12 (by decide) (fun c7 => ?_) (fun c7 => ?_)
  · replace h := it_o c7 h
    obtain ⟨y, h, ey⟩ := mp_o h
    have ey := kR _ ey.symm
    subst ey
    exact bX4_measure_31 B h  hR hS (lv_sub hl [0, 1, 2, 3] rfl)
  · replace h := if_o c7 h
    refine lv_aload_n hx hb dX4_measure_15 rfl (lv_at hl 0 rfl) ?_
    replace h := bo_o h
    obtain ⟨x8, e9, h⟩ := h
    refine h_get (ci := 23) (k := 0) (v := va_rf x8) hx hb hts hown hK hR in_X4 rfl (by decide) (fun _ _ => rfl) q618 (fun _ h9 => h9) (gR_o e9) dX4_measure_16 ?_
    refine lv_iload hx hb dX4_measure_19 (lv_at hl 4 rfl) ?_
    refine lv_ldc2 (v := 2305843009213693951) hx hb hown (hts _ q1276) dX4_measure_21 ?_
    replace h := bo_o h
    obtain ⟨a10, e11, h⟩ := h
    subst e11
    replace h := bo_o h
    obtain ⟨w12, e13, h⟩ := h
    refine h_last hx hb hK hR hS e13 dX4_measure_24 (fun H locs hR hS => ?_)
    refine lv_iinc (v := v4 + 1) (lv' := [(4, .int (v4 + 1)), (0, .ref v0), (1, .ref v1), (2, .ref v2), (3, .ref v3)]) hx hb dX4_measure_25 hl (k := 4) rfl rfl (by decide) rfl (fun ls hl => ?_)
    refine lv_goto (tgt := 3) hx hb dX4_measure_28 (by decide) ?_
    exact k3 _ _ (Option.some.inj h).symm H locs ls hR hS (lv_sub hl [1, 2, 3, 4, 0] rfl)
noncomputable def fX4_measure_l3 (v0 : Nat) (v1 : Nat) (v2 : Nat) (v3 : Nat) (v4 : Int32) (w : WH) : Option ((Int64 × WH)) := whileO (fun q => fX4_measure_b3 v0 v1 v2 v3 q.1 q.2) (v4, w)
theorem lX4_measure_3 {p : Program} {l : Launch} {e : Env} {s : State} {m : MethodId} {args : Array Value} {below : List Frame} {meth : Method} {c : Code} {G : gE} {A : Nat → Prop} {w0 : WH} (B : gB G RX4 cX4_measure 6 (some .long) p s m args meth c) {v0 : Nat} {v1 : Nat} {v2 : Nat} {v3 : Nat} {r : (Int64 × WH)}   : ∀ (v4 : Int32) (w : WH), fX4_measure_l3 v0 v1 v2 v3 v4 w = some r → ∀ (H : Heap) (locs : List Loc) (ls : Array Slot), RepH G A w H → Cu A s w0 w H locs → lv_has ls 6 [(0, .ref v0), (1, .ref v1), (2, .ref v2), (3, .ref v3), (4, .int v4)] → W p l e (hRm 16 361 w0) s m args below meth c H locs (wC w0 - wC w) (wS w0 - wS w) (hZ below args s G A w0 (some (.long r.1)) r.2) (F0 m 3 ls []) := by
  intro v4 w h
  refine wh_walk (body := (fun q => fX4_measure_b3 v0 v1 v2 v3 q.1 q.2)) (P := (fun q : (Int32 × WH) => ∀ (H : Heap) (locs : List Loc) (ls : Array Slot), RepH G A (q.2) H → Cu A s w0 (q.2) H locs → lv_has ls 6 [(0, .ref v0), (1, .ref v1), (2, .ref v2), (3, .ref v3), (4, .int (q.1))] → W p l e (hRm 16 361 w0) s m args below meth c H locs (wC w0 - wC (q.2)) (wS w0 - wS (q.2)) (hZ below args s G A w0 (some (.long r.1)) r.2) (F0 m 3 ls []))) (r := r) ?_ (v4, w) h
  intro q y hy hL hr H locs ls hR hS hl
  exact bX4_measure_3 (r := r) B hy (fun a0 a1 e => hL (a0, a1) e) (fun q e => hr q e) hR hS hl
noncomputable def fX4_measure (v0 : Nat) (v1 : Nat) (v2 : Nat) (v3 : Nat) (w : WH) : Option ((Int64 × WH)) :=
  fX4_measure_l3 v0 v1 v2 v3 0 w
theorem bX4_measure_0 {p : Program} {l : Launch} {e : Env} {s : State} {m : MethodId} {args : Array Value} {below : List Frame} {meth : Method} {c : Code} {H : Heap} {locs : List Loc} {ls : Array Slot} {G : gE} {A : Nat → Prop} {w0 : WH} (B : gB G RX4 cX4_measure 6 (some .long) p s m args meth c) {v0 : Nat} {v1 : Nat} {v2 : Nat} {v3 : Nat} {w : WH} {r : (Int64 × WH)} (h : fX4_measure v0 v1 v2 v3 w = some r)   (hR : RepH G A w H) (hS : Cu A s w0 w H locs) (hl : lv_has ls 6 [(0, .ref v0), (1, .ref v1), (2, .ref v2), (3, .ref v3)]) : W p l e (hRm 16 361 w0) s m args below meth c H locs (wC w0 - wC w) (wS w0 - wS w) (hZ below args s G A w0 (some (.long r.1)) r.2) (F0 m 0 ls []) := by
  have B0 := B
  obtain ⟨hx, hb, hml, hown, hts, hr, hlk, hK⟩ := B0
  unfold fX4_measure at h
  refine lv_iconst (v := 0) hx hb dX4_measure_0 (by decide) ?_
  refine lv_istore (lv' := [(4, .int 0), (0, .ref v0), (1, .ref v1), (2, .ref v2), (3, .ref v3)]) hx hb dX4_measure_1 hl (by decide) rfl (fun ls hl => ?_)
  exact lX4_measure_3 B _ _ h H locs ls hR hS (lv_sub hl [1, 2, 3, 4, 0] rfl)
theorem mX4_measure {l : Launch} {G : gE} {A : Nat → Prop} {v0 : Nat} {v1 : Nat} {v2 : Nat} {v3 : Nat} {w : WH} {r : (Int64 × WH)} (h : fX4_measure v0 v1 v2 v3 w = some r) : hM l G A yX4_measure cX4_measure 6 (some .long) 16 361 [.ref v0, .ref v1, .ref v2, .ref v3] w (some (.long r.1)) r.2 :=
  h_of (by decide +kernel) (Nat.le_of_ble_eq_true rfl) (fun p e s m args below meth c ls B hnm hR hS hl => bX4_measure_0 B h hR hS hl)
noncomputable def fX4_isTight_b60  (w : WH) : Option ((Int32 × WH)) :=
  some (1, w)
theorem bX4_isTight_60 {p : Program} {l : Launch} {e : Env} {s : State} {m : MethodId} {args : Array Value} {below : List Frame} {meth : Method} {c : Code} {H : Heap} {locs : List Loc} {ls : Array Slot} {G : gE} {A : Nat → Prop} {w0 : WH} (B : gB G RX4 cX4_isTight 7 (some .boolean) p s m args meth c)  {w : WH} {r : (Int32 × WH)} (h : fX4_isTight_b60 w = some r)   (hR : RepH G A w H) (hS : Cu A s w0 w H locs) (hl : lv_has ls 7 []) : W p l e (hRm 15 335 w0) s m args below meth c H locs (wC w0 - wC w) (wS w0 - wS w) (hZ below args s G A w0 (some (.int r.1)) r.2) (F0 m 60 ls []) := by
  have B0 := B
  obtain ⟨hx, hb, hml, hown, hts, hr, hlk, hK⟩ := B0
  unfold fX4_isTight_b60 at h
  refine lv_iconst (v := 1) hx hb dX4_isTight_60 (by decide) ?_
  refine lv_goto (tgt := 65) hx hb dX4_isTight_61 (by decide) ?_
  have eR := Option.some.inj h
  subst eR
  exact h_zfin hx hb hr hlk (by show narrow .boolean (.int 1) = .int 1; decide) hR hS dX4_isTight_65
noncomputable def fX4_isTight_b64  (w : WH) : Option ((Int32 × WH)) :=
  some (0, w)
theorem bX4_isTight_64 {p : Program} {l : Launch} {e : Env} {s : State} {m : MethodId} {args : Array Value} {below : List Frame} {meth : Method} {c : Code} {H : Heap} {locs : List Loc} {ls : Array Slot} {G : gE} {A : Nat → Prop} {w0 : WH} (B : gB G RX4 cX4_isTight 7 (some .boolean) p s m args meth c)  {w : WH} {r : (Int32 × WH)} (h : fX4_isTight_b64 w = some r)   (hR : RepH G A w H) (hS : Cu A s w0 w H locs) (hl : lv_has ls 7 []) : W p l e (hRm 15 335 w0) s m args below meth c H locs (wC w0 - wC w) (wS w0 - wS w) (hZ below args s G A w0 (some (.int r.1)) r.2) (F0 m 64 ls []) := by
  have B0 := B
  obtain ⟨hx, hb, hml, hown, hts, hr, hlk, hK⟩ := B0
  unfold fX4_isTight_b64 at h
  refine lv_iconst (v := 0) hx hb dX4_isTight_64 (by decide) ?_
  have eR := Option.some.inj h
  subst eR
  exact h_zfin hx hb hr hlk (by show narrow .boolean (.int 0) = .int 0; decide) hR hS dX4_isTight_65
noncomputable def fX4_isTight (v0 : Nat) (v1 : Nat) (v2 : Nat) (v3 : Nat) (v4 : Nat) (w : WH) : Option ((Int32 × WH)) :=
  b2_ (fWt v4 v1 v2 v3 w) fun x1 w2 =>
  if lg_cmp x1 0 < 0 then (
    some (0, w2)
  ) else (
    (gR w2 v0 23 0).bind fun x5 =>
    (hIs w2 v2 27).bind fun _ =>
    b2_ (fX8_to v2 w2) fun x10 w7 =>
    x5.bind fun a11 =>
    (ldJ w7 a11 x10).bind fun x13 =>
    if lg_cmp x13 2305843009213693951 = 0 then (
      some (0, w7)
    ) else (
      (gR w7 v0 23 0).bind fun x16 =>
      (hIs w7 v2 27).bind fun _ =>
      b2_ (fX8_to v2 w7) fun x21 w18 =>
      x16.bind fun a22 =>
      (ldJ w18 a22 x21).bind fun x24 =>
      (gR w18 v0 23 0).bind fun x26 =>
      (hIs w18 v2 27).bind fun _ =>
      b2_ (fX8_from v2 w18) fun x31 w28 =>
      x26.bind fun a32 =>
      (ldJ w28 a32 x31).bind fun x34 =>
      if lg_cmp (x24 + x1) x34 = 0 then (
        fX4_isTight_b60 w28
      ) else (
        fX4_isTight_b64 w28
      )
    )
  )
theorem bX4_isTight_0 {p : Program} {l : Launch} {e : Env} {s : State} {m : MethodId} {args : Array Value} {below : List Frame} {meth : Method} {c : Code} {H : Heap} {locs : List Loc} {ls : Array Slot} {G : gE} {A : Nat → Prop} {w0 : WH} (B : gB G RX4 cX4_isTight 7 (some .boolean) p s m args meth c) {v0 : Nat} {v1 : Nat} {v2 : Nat} {v3 : Nat} {v4 : Nat} {w : WH} {r : (Int32 × WH)} (h : fX4_isTight v0 v1 v2 v3 v4 w = some r)   (hR : RepH G A w H) (hS : Cu A s w0 w H locs) (hl : lv_has ls 7 [(0, .ref v0), (1, .ref v1), (2, .ref v2), (3, .ref v3), (4, .ref v4)]) : W p l e (hRm 15 335 w0) s m args below meth c H locs (wC w0 - wC w) (wS w0 - wS w) (hZ below args s G A w0 (some (.int r.1)) r.2) (F0 m 0 ls []) := by
  have B0 := B
  obtain ⟨hx, hb, hml, hown, hts, hr, hlk, hK⟩ := B0
  unfold fX4_isTight at h
  refine lv_aload hx hb dX4_isTight_0 (lv_at hl 4 rfl) ?_
  refine lv_aload_n hx hb dX4_isTight_2 rfl (lv_at hl 1 rfl) ?_
  refine lv_aload_n hx hb dX4_isTight_3 rfl (lv_at hl 2 rfl) ?_
  refine lv_aload_n hx hb dX4_isTight_4 rfl (lv_at hl 3 rfl) ?_
  replace h := b2_o h
  obtain ⟨x1, w2, e3, h⟩ := h
  refine h_weight (v := x1) (w' := w2) (rest := []) hx hb hml hown hts hK hR hS (Nat.le_refl _) (Nat.le_refl _) q1291 e3 (Nat.le_of_ble_eq_true rfl) (Nat.le_of_ble_eq_true rfl) hl.1 (Nat.le_of_ble_eq_true rfl) dX4_isTight_5 (fun H locs hR hS => ?_)
  refine lv_lstore (lv' := [(5, .long x1), (0, .ref v0), (1, .ref v1), (2, .ref v2), (3, .ref v3), (4, .ref v4)]) hx hb dX4_isTight_10 hl (by decide) rfl (fun ls hl => ?_)
  refine lv_lload hx hb dX4_isTight_12 (lv_at hl 0 rfl) ?_
  refine lv_lconst (v := 0) hx hb dX4_isTight_14 (by decide) ?_
  refine W.lcmp hx hb dX4_isTight_15 ?_
  refine lv_if_lt (tgt := 64) hx hb dX4_isTight_16 (by decide) (fun c4 => ?_) (fun c4 => ?_)
  · replace h := it_o c4 h
    refine lv_iconst (v := 0) hx hb dX4_isTight_64 (by decide) ?_
    have eR := Option.some.inj h
    subst eR
    exact h_zfin hx hb hr hlk (by show narrow .boolean (.int 0) = .int 0; decide) hR hS dX4_isTight_65
  · replace h := if_o c4 h
    refine lv_aload_n hx hb dX4_isTight_19 rfl (lv_at hl 1 rfl) ?_
    replace h := bo_o h
    obtain ⟨x5, e6, h⟩ := h
    refine h_get (ci := 23) (k := 0) (v := va_rf x5) hx hb hts hown hK hR in_X4 rfl (by decide) (fun _ _ => rfl) q618 (fun _ h9 => h9) (gR_o e6) dX4_isTight_20 ?_
    refine lv_aload_n hx hb dX4_isTight_23 rfl (lv_at hl 3 rfl) ?_
    replace h := bo_o h
    obtain ⟨_, e8, h⟩ := h
    replace h := b2_o h
    obtain ⟨x10, w7, e9, h⟩ := h
    refine h_callV 0 (ci := 27) (As := []) (rest := [va_rf x5]) (v := (some (.int x10))) (w' := w7) (st1 := [.int x10, va_rf x5]) hx hb hml hown hts hK hR hS (Nat.le_refl _) (Nat.le_refl _) rfl e8 (mX8_to e9) (lw_V q1362 q1363 q1364 q141 q1365) (by decide +kernel) (Nat.le_of_ble_eq_true rfl) (Nat.le_of_ble_eq_true rfl) rfl hl.1 (cat_le (Nat.le_of_ble_eq_true rfl)) dX4_isTight_24 rfl rfl (fun H locs hR hS => ?_)
    replace h := bo_o h
    obtain ⟨a11, e12, h⟩ := h
    subst e12
    replace h := bo_o h
    obtain ⟨x13, e14, h⟩ := h
    refine h_lald hx hb hK hR e14 dX4_isTight_27 ?_
    refine lv_ldc2 (v := 2305843009213693951) hx hb hown (hts _ q1276) dX4_isTight_28 ?_
    refine W.lcmp hx hb dX4_isTight_31 ?_
    refine lv_if_eq (tgt := 64) hx hb dX4_isTight_32 (by decide) (fun c15 => ?_) (fun c15 => ?_)
    · replace h := it_o c15 h
      refine lv_iconst (v := 0) hx hb dX4_isTight_64 (by decide) ?_
      have eR := Option.some.inj h
      subst eR
      exact h_zfin hx hb hr hlk (by show narrow .boolean (.int 0) = .int 0; decide) hR hS dX4_isTight_65
    · replace h := if_o c15 h
      refine lv_aload_n hx hb dX4_isTight_35 rfl (lv_at hl 1 rfl) ?_
      replace h := bo_o h
      obtain ⟨x16, e17, h⟩ := h
      refine h_get (ci := 23) (k := 0) (v := va_rf x16) hx hb hts hown hK hR in_X4 rfl (by decide) (fun _ _ => rfl) q618 (fun _ h9 => h9) (gR_o e17) dX4_isTight_36 ?_
      refine lv_aload_n hx hb dX4_isTight_39 rfl (lv_at hl 3 rfl) ?_
      replace h := bo_o h
      obtain ⟨_, e19, h⟩ := h
      replace h := b2_o h
      obtain ⟨x21, w18, e20, h⟩ := h
      refine h_callV 0 (ci := 27) (As := []) (rest := [va_rf x16]) (v := (some (.int x21))) (w' := w18) (st1 := [.int x21, va_rf x16]) hx hb hml hown hts hK hR hS (Nat.le_refl _) (Nat.le_refl _) rfl e19 (mX8_to e20) (lw_V q1362 q1363 q1364 q141 q1365) (by decide +kernel) (Nat.le_of_ble_eq_true rfl) (Nat.le_of_ble_eq_true rfl) rfl hl.1 (cat_le (Nat.le_of_ble_eq_true rfl)) dX4_isTight_40 rfl rfl (fun H locs hR hS => ?_)
      replace h := bo_o h
      obtain ⟨a22, e23, h⟩ := h
      subst e23
      replace h := bo_o h
      obtain ⟨x24, e25, h⟩ := h
      refine h_lald hx hb hK hR e25 dX4_isTight_43 ?_
      refine lv_lload hx hb dX4_isTight_44 (lv_at hl 0 rfl) ?_
      refine lv_ladd hx hb dX4_isTight_46 ?_
      refine lv_aload_n hx hb dX4_isTight_47 rfl (lv_at hl 1 rfl) ?_
      replace h := bo_o h
      obtain ⟨x26, e27, h⟩ := h
      refine h_get (ci := 23) (k := 0) (v := va_rf x26) hx hb hts hown hK hR in_X4 rfl (by decide) (fun _ _ => rfl) q618 (fun _ h9 => h9) (gR_o e27) dX4_isTight_48 ?_
      refine lv_aload_n hx hb dX4_isTight_51 rfl (lv_at hl 3 rfl) ?_
      replace h := bo_o h
      obtain ⟨_, e29, h⟩ := h
      replace h := b2_o h
      obtain ⟨x31, w28, e30, h⟩ := h
      refine h_callV 0 (ci := 27) (As := []) (rest := [va_rf x26, .long (x24 + x1)]) (v := (some (.int x31))) (w' := w28) (st1 := [.int x31, va_rf x26, .long (x24 + x1)]) hx hb hml hown hts hK hR hS (Nat.le_refl _) (Nat.le_refl _) rfl e29 (mX8_from e30) (lw_V q1366 q1367 q1368 q141 q1369) (by decide +kernel) (Nat.le_of_ble_eq_true rfl) (Nat.le_of_ble_eq_true rfl) rfl hl.1 (cat_le (Nat.le_of_ble_eq_true rfl)) dX4_isTight_52 rfl rfl (fun H locs hR hS => ?_)
      replace h := bo_o h
      obtain ⟨a32, e33, h⟩ := h
      subst e33
      replace h := bo_o h
      obtain ⟨x34, e35, h⟩ := h
      refine h_lald hx hb hK hR e35 dX4_isTight_55 ?_
      refine W.lcmp hx hb dX4_isTight_56 ?_
      refine lv_if_ne (tgt := 64) hx hb dX4_isTight_57 (by decide) (fun c36 => ?_) (fun c36 => ?_)
      · replace h := if_o c36 h
        exact bX4_isTight_64 B h  hR hS (lv_sub hl [] rfl)
      · replace h := it_o c36 h
        exact bX4_isTight_60 B h  hR hS (lv_sub hl [] rfl)
theorem mX4_isTight {l : Launch} {G : gE} {A : Nat → Prop} {v0 : Nat} {v1 : Nat} {v2 : Nat} {v3 : Nat} {v4 : Nat} {w : WH} {r : (Int32 × WH)} (h : fX4_isTight v0 v1 v2 v3 v4 w = some r) : hM l G A yX4_isTight cX4_isTight 7 (some .boolean) 15 335 [.ref v0, .ref v1, .ref v2, .ref v3, .ref v4] w (some (.int r.1)) r.2 :=
  h_of (by decide +kernel) (Nat.le_of_ble_eq_true rfl) (fun p e s m args below meth c ls B hnm hR hS hl => bX4_isTight_0 B h hR hS hl)
noncomputable def fX4_next_b71  (w : WH) : Option ((Option Nat × WH)) :=
  none
theorem bX4_next_71 {p : Program} {l : Launch} {e : Env} {s : State} {m : MethodId} {args : Array Value} {below : List Frame} {meth : Method} {c : Code} {H : Heap} {locs : List Loc} {ls : Array Slot} {G : gE} {A : Nat → Prop} {w0 : WH} (B : gB G RX4 cX4_next 6 (some (.object "TollLeader$Arc")) p s m args meth c)  {w : WH} {r : (Option Nat × WH)} (h : fX4_next_b71 w = some r)   (hR : RepH G A w H) (hS : Cu A s w0 w H locs) (hl : lv_has ls 6 []) : W p l e (hRm 16 361 w0) s m args below meth c H locs (wC w0 - wC w) (wS w0 - wS w) (hZ below args s G A w0 (some (va_rf r.1)) r.2) (F0 m 71 ls []) := by
  have B0 := B
  obtain ⟨hx, hb, hml, hown, hts, hr, hlk, hK⟩ := B0
  unfold fX4_next_b71 at h
  exact (nomatch h)
noncomputable def fX4_next_b65 (v0 : Nat) (v1 : Nat) (v2 : Nat) (v3 : Int32) (v4 : Int32) (w : WH) : Option (Sum (Int32 × WH) ((Option Nat × WH))) :=
  some (.inl (v4 + 1, w))
theorem bX4_next_65 {p : Program} {l : Launch} {e : Env} {s : State} {m : MethodId} {args : Array Value} {below : List Frame} {meth : Method} {c : Code} {H : Heap} {locs : List Loc} {ls : Array Slot} {G : gE} {A : Nat → Prop} {w0 : WH} (B : gB G RX4 cX4_next 6 (some (.object "TollLeader$Arc")) p s m args meth c) {v0 : Nat} {v1 : Nat} {v2 : Nat} {v3 : Int32} {v4 : Int32} {w : WH} {x : Sum (Int32 × WH) ((Option Nat × WH))} {r : (Option Nat × WH)} (h : fX4_next_b65 v0 v1 v2 v3 v4 w = some x)  (k3 : ∀ (v4' : Int32) (w' : WH), x = (.inl (v4', w')) → ∀ (H : Heap) (locs : List Loc) (ls : Array Slot), RepH G A w' H → Cu A s w0 w' H locs → lv_has ls 6 [(0, .ref v0), (1, .ref v1), (2, .ref v2), (3, .int v3), (4, .int v4')] → W p l e (hRm 16 361 w0) s m args below meth c H locs (wC w0 - wC w') (wS w0 - wS w') (hZ below args s G A w0 (some (va_rf r.1)) r.2) (F0 m 3 ls [])) (kR : ∀ q, x = (.inr q) → q = r) (hR : RepH G A w H) (hS : Cu A s w0 w H locs) (hl : lv_has ls 6 [(0, .ref v0), (1, .ref v1), (2, .ref v2), (3, .int v3), (4, .int v4)]) : W p l e (hRm 16 361 w0) s m args below meth c H locs (wC w0 - wC w) (wS w0 - wS w) (hZ below args s G A w0 (some (va_rf r.1)) r.2) (F0 m 65 ls []) := by
  have B0 := B
  obtain ⟨hx, hb, hml, hown, hts, hr, hlk, hK⟩ := B0
  unfold fX4_next_b65 at h
  refine lv_iinc (v := v4 + 1) (lv' := [(4, .int (v4 + 1)), (0, .ref v0), (1, .ref v1), (2, .ref v2), (3, .int v3)]) hx hb dX4_next_65 hl (k := 4) rfl rfl (by decide) rfl (fun ls hl => ?_)
  refine lv_goto (tgt := 3) hx hb dX4_next_68 (by decide) ?_
  exact k3 _ _ (Option.some.inj h).symm H locs ls hR hS (lv_sub hl [1, 2, 3, 4, 0] rfl)
noncomputable def fX4_next_b3 (v0 : Nat) (v1 : Nat) (v2 : Nat) (v3 : Int32) (v4 : Int32) (w : WH) : Option (Sum (Int32 × WH) ((Option Nat × WH))) :=
  (gR w v1 21 0).bind fun x1 =>
  x1.bind fun a3 =>
  (gR w a3 22 1).bind fun x5 =>
  x5.bind fun a7 =>
  (hIs w a7 2).bind fun _ =>
  b2_ (fJ2_size a7 w) fun x12 w9 =>
  if x12 ≤ v4 then (
    (fX4_next_b71 w9).map (fun y => (.inr y))
  ) else (
    (gR w9 v1 21 0).bind fun x14 =>
    x14.bind fun a16 =>
    (gR w9 a16 22 1).bind fun x18 =>
    x18.bind fun a20 =>
    (hIs w9 a20 2).bind fun _ =>
    b2_ (fJ2_get a20 v4 w9) fun x25 w22 =>
    x25.bind fun a26 =>
    (hIs w22 a26 27).bind fun _ =>
    (hIs w22 a26 27).bind fun _ =>
    b2_ (fX8_from a26 w22) fun x32 w29 =>
    if x32 = v3 then (
      (hIs w29 v0 23).bind fun _ =>
      b2_ (fX4_isTight v0 v1 a26 v2 (wK w29 5) w29) fun x37 w34 =>
      if x37 = 0 then (
        fX4_next_b65 v0 v1 v2 v3 v4 w34
      ) else (
        some (.inr (some a26, w34))
      )
    ) else (
      fX4_next_b65 v0 v1 v2 v3 v4 w29
    )
  )
theorem bX4_next_3 {p : Program} {l : Launch} {e : Env} {s : State} {m : MethodId} {args : Array Value} {below : List Frame} {meth : Method} {c : Code} {H : Heap} {locs : List Loc} {ls : Array Slot} {G : gE} {A : Nat → Prop} {w0 : WH} (B : gB G RX4 cX4_next 6 (some (.object "TollLeader$Arc")) p s m args meth c) {v0 : Nat} {v1 : Nat} {v2 : Nat} {v3 : Int32} {v4 : Int32} {w : WH} {x : Sum (Int32 × WH) ((Option Nat × WH))} {r : (Option Nat × WH)} (h : fX4_next_b3 v0 v1 v2 v3 v4 w = some x)  (k3 : ∀ (v4' : Int32) (w' : WH), x = (.inl (v4', w')) → ∀ (H : Heap) (locs : List Loc) (ls : Array Slot), RepH G A w' H → Cu A s w0 w' H locs → lv_has ls 6 [(0, .ref v0), (1, .ref v1), (2, .ref v2), (3, .int v3), (4, .int v4')] → W p l e (hRm 16 361 w0) s m args below meth c H locs (wC w0 - wC w') (wS w0 - wS w') (hZ below args s G A w0 (some (va_rf r.1)) r.2) (F0 m 3 ls [])) (kR : ∀ q, x = (.inr q) → q = r) (hR : RepH G A w H) (hS : Cu A s w0 w H locs) (hl : lv_has ls 6 [(0, .ref v0), (1, .ref v1), (2, .ref v2), (3, .int v3), (4, .int v4)]) : W p l e (hRm 16 361 w0) s m args below meth c H locs (wC w0 - wC w) (wS w0 - wS w) (hZ below args s G A w0 (some (va_rf r.1)) r.2) (F0 m 3 ls []) := by
  have B0 := B
  obtain ⟨hx, hb, hml, hown, hts, hr, hlk, hK⟩ := B0
  unfold fX4_next_b3 at h
  refine lv_iload hx hb dX4_next_3 (lv_at hl 4 rfl) ?_
  refine lv_aload_n hx hb dX4_next_5 rfl (lv_at hl 1 rfl) ?_
  replace h := bo_o h
  obtain ⟨x1, e2, h⟩ := h
  refine h_getN (ci := 21) (k := 0) (v := va_rf x1) hx hb hts hown hK hR in_X2 rfl (by decide) (fun _ _ => rfl) (hK.fn 14 rfl) (fun _ h9 => h9) (gR_o e2) dX4_next_6 ?_
  replace h := bo_o h
  obtain ⟨a3, e4, h⟩ := h
  subst e4
  replace h := bo_o h
  obtain ⟨x5, e6, h⟩ := h
  refine h_getN (ci := 22) (k := 1) (v := va_rf x5) hx hb hts hown hK hR in_X3 rfl (by decide) (fun _ _ => rfl) (hK.fn 5 rfl) (fun _ h9 => h9) (gR_o e6) dX4_next_9 ?_
  replace h := bo_o h
  obtain ⟨a7, e8, h⟩ := h
  subst e8
  replace h := bo_o h
  obtain ⟨_, e10, h⟩ := h
  replace h := b2_o h
  obtain ⟨x12, w9, e11, h⟩ := h
  refine h_callF 0  (As := []) (rest := [.int v4]) (v := (some (.int x12))) (w' := w9) (st1 := [.int x12, .int v4]) hx hb hml hown hts hK hR hS (Nat.le_refl _) (Nat.le_refl _) (h_recv (ci := 2) hK hR hS rfl e10) (mJ2_size e11) (lw_app (a := [.methodLink _ _ _, .selects _ _ _, .instanceMethod _, .initialized _]) (lw_4 q1282 q903 q905 q117) (lw_meth q907)) (hK.fw 0 rfl) (by decide +kernel) (Nat.le_of_ble_eq_true rfl) (Nat.le_of_ble_eq_true rfl) rfl hl.1 (Nat.le_of_ble_eq_true rfl) dX4_next_12 rfl rfl (fun H locs hR hS => ?_)
  refine lv_icmp_ge (tgt := 71) hx hb dX4_next_17 (by decide) (fun c13 => ?_) (fun c13 => ?_)
  · replace h := it_o c13 h
    obtain ⟨y, h, ey⟩ := mp_o h
    have ey := kR _ ey.symm
    subst ey
    exact bX4_next_71 B h  hR hS (lv_sub hl [] rfl)
  · replace h := if_o c13 h
    refine lv_aload_n hx hb dX4_next_20 rfl (lv_at hl 1 rfl) ?_
    replace h := bo_o h
    obtain ⟨x14, e15, h⟩ := h
    refine h_getN (ci := 21) (k := 0) (v := va_rf x14) hx hb hts hown hK hR in_X2 rfl (by decide) (fun _ _ => rfl) (hK.fn 14 rfl) (fun _ h9 => h9) (gR_o e15) dX4_next_21 ?_
    replace h := bo_o h
    obtain ⟨a16, e17, h⟩ := h
    subst e17
    replace h := bo_o h
    obtain ⟨x18, e19, h⟩ := h
    refine h_getN (ci := 22) (k := 1) (v := va_rf x18) hx hb hts hown hK hR in_X3 rfl (by decide) (fun _ _ => rfl) (hK.fn 5 rfl) (fun _ h9 => h9) (gR_o e19) dX4_next_24 ?_
    refine lv_iload hx hb dX4_next_27 (lv_at hl 4 rfl) ?_
    replace h := bo_o h
    obtain ⟨a20, e21, h⟩ := h
    subst e21
    replace h := bo_o h
    obtain ⟨_, e23, h⟩ := h
    replace h := b2_o h
    obtain ⟨x25, w22, e24, h⟩ := h
    refine h_callF 1  (As := [.int v4]) (rest := []) (v := (some (va_rf x25))) (w' := w22) (st1 := [va_rf x25]) hx hb hml hown hts hK hR hS (Nat.le_refl _) (Nat.le_refl _) (h_recv (ci := 2) hK hR hS rfl e23) (mJ2_get e24) (lw_app (a := [.methodLink _ _ _, .selects _ _ _, .instanceMethod _, .initialized _]) (lw_4 q1284 q1208 q1210 q117) (lw_meth q1212)) (hK.fw 1 rfl) (by decide +kernel) (Nat.le_of_ble_eq_true rfl) (Nat.le_of_ble_eq_true rfl) rfl hl.1 (Nat.le_of_ble_eq_true rfl) dX4_next_29 rfl rfl (fun H locs hR hS => ?_)
    replace h := bo_o h
    obtain ⟨a26, e27, h⟩ := h
    subst e27
    replace h := bo_o h
    obtain ⟨_, e28, h⟩ := h
    refine h_castS (ci := 27) hx hb hts hown hK hR hS rfl e28 q1285 dX4_next_34 ?_
    refine lv_astore (lv' := [(5, .ref a26), (0, .ref v0), (1, .ref v1), (2, .ref v2), (3, .int v3), (4, .int v4)]) hx hb dX4_next_37 hl (by decide) rfl (fun ls hl => ?_)
    refine lv_aload hx hb dX4_next_39 (lv_at hl 0 rfl) ?_
    replace h := bo_o h
    obtain ⟨_, e30, h⟩ := h
    replace h := b2_o h
    obtain ⟨x32, w29, e31, h⟩ := h
    refine h_callV 0 (ci := 27) (As := []) (rest := []) (v := (some (.int x32))) (w' := w29) (st1 := [.int x32]) hx hb hml hown hts hK hR hS (Nat.le_refl _) (Nat.le_refl _) rfl e30 (mX8_from e31) (lw_V q1366 q1367 q1368 q141 q1369) (by decide +kernel) (Nat.le_of_ble_eq_true rfl) (Nat.le_of_ble_eq_true rfl) rfl hl.1 (Nat.le_of_ble_eq_true rfl) dX4_next_41 rfl rfl (fun H locs hR hS => ?_)
    refine lv_iload_n hx hb dX4_next_44 rfl (lv_at hl 4 rfl) ?_
    refine lv_icmp_ne (tgt := 65) hx hb dX4_next_45 (by decide) (fun c33 => ?_) (fun c33 => ?_)
    · replace h := if_o c33 h
      exact bX4_next_65 B h k3 kR hR hS (lv_sub hl [1, 2, 3, 4, 5] rfl)
    · replace h := it_o c33 h
      refine lv_aload_n hx hb dX4_next_48 rfl (lv_at hl 1 rfl) ?_
      refine lv_aload_n hx hb dX4_next_49 rfl (lv_at hl 2 rfl) ?_
      refine lv_aload hx hb dX4_next_50 (lv_at hl 0 rfl) ?_
      refine lv_aload_n hx hb dX4_next_52 rfl (lv_at hl 3 rfl) ?_
      refine h_getsKN (i := 0) hx hb hown hK hR hS rfl (hK.fn 31 rfl) (fun _ h9 => h9) dX4_next_53 ?_
      replace h := bo_o h
      obtain ⟨_, e35, h⟩ := h
      replace h := b2_o h
      obtain ⟨x37, w34, e36, h⟩ := h
      refine h_callV 4 (ci := 23) (As := [.ref v1, .ref a26, .ref v2, .ref (wK w29 5)]) (rest := []) (v := (some (.int x37))) (w' := w34) (st1 := [.int x37]) hx hb hml hown hts hK hR hS (Nat.le_refl _) (Nat.le_refl _) rfl e35 (mX4_isTight e36) (lw_V q1378 q1380 qs29 q135 q1381) (by decide +kernel) (Nat.le_of_ble_eq_true rfl) (Nat.le_of_ble_eq_true rfl) rfl hl.1 (Nat.le_of_ble_eq_true rfl) dX4_next_56 rfl rfl (fun H locs hR hS => ?_)
      refine lv_if_eq (tgt := 65) hx hb dX4_next_59 (by decide) (fun c38 => ?_) (fun c38 => ?_)
      · replace h := it_o c38 h
        exact bX4_next_65 B h k3 kR hR hS (lv_sub hl [1, 2, 3, 4, 5] rfl)
      · replace h := if_o c38 h
        refine lv_aload hx hb dX4_next_62 (lv_at hl 0 rfl) ?_
        have eR := kR _ (Option.some.inj h).symm
        subst eR
        exact h_afin (x := some a26) hx hb hr hlk (by first | exact Or.inl ⟨_, rfl⟩ | exact Or.inr ⟨_, rfl⟩) hR hS dX4_next_64
noncomputable def fX4_next_l3 (v0 : Nat) (v1 : Nat) (v2 : Nat) (v3 : Int32) (v4 : Int32) (w : WH) : Option ((Option Nat × WH)) := whileO (fun q => fX4_next_b3 v0 v1 v2 v3 q.1 q.2) (v4, w)
theorem lX4_next_3 {p : Program} {l : Launch} {e : Env} {s : State} {m : MethodId} {args : Array Value} {below : List Frame} {meth : Method} {c : Code} {G : gE} {A : Nat → Prop} {w0 : WH} (B : gB G RX4 cX4_next 6 (some (.object "TollLeader$Arc")) p s m args meth c) {v0 : Nat} {v1 : Nat} {v2 : Nat} {v3 : Int32} {r : (Option Nat × WH)}   : ∀ (v4 : Int32) (w : WH), fX4_next_l3 v0 v1 v2 v3 v4 w = some r → ∀ (H : Heap) (locs : List Loc) (ls : Array Slot), RepH G A w H → Cu A s w0 w H locs → lv_has ls 6 [(0, .ref v0), (1, .ref v1), (2, .ref v2), (3, .int v3), (4, .int v4)] → W p l e (hRm 16 361 w0) s m args below meth c H locs (wC w0 - wC w) (wS w0 - wS w) (hZ below args s G A w0 (some (va_rf r.1)) r.2) (F0 m 3 ls []) := by
  intro v4 w h
  refine wh_walk (body := (fun q => fX4_next_b3 v0 v1 v2 v3 q.1 q.2)) (P := (fun q : (Int32 × WH) => ∀ (H : Heap) (locs : List Loc) (ls : Array Slot), RepH G A (q.2) H → Cu A s w0 (q.2) H locs → lv_has ls 6 [(0, .ref v0), (1, .ref v1), (2, .ref v2), (3, .int v3), (4, .int (q.1))] → W p l e (hRm 16 361 w0) s m args below meth c H locs (wC w0 - wC (q.2)) (wS w0 - wS (q.2)) (hZ below args s G A w0 (some (va_rf r.1)) r.2) (F0 m 3 ls []))) (r := r) ?_ (v4, w) h
  intro q y hy hL hr H locs ls hR hS hl
  exact bX4_next_3 (r := r) B hy (fun a0 a1 e => hL (a0, a1) e) (fun q e => hr q e) hR hS hl
noncomputable def fX4_next (v0 : Nat) (v1 : Nat) (v2 : Nat) (v3 : Int32) (w : WH) : Option ((Option Nat × WH)) :=
  fX4_next_l3 v0 v1 v2 v3 0 w
theorem bX4_next_0 {p : Program} {l : Launch} {e : Env} {s : State} {m : MethodId} {args : Array Value} {below : List Frame} {meth : Method} {c : Code} {H : Heap} {locs : List Loc} {ls : Array Slot} {G : gE} {A : Nat → Prop} {w0 : WH} (B : gB G RX4 cX4_next 6 (some (.object "TollLeader$Arc")) p s m args meth c) {v0 : Nat} {v1 : Nat} {v2 : Nat} {v3 : Int32} {w : WH} {r : (Option Nat × WH)} (h : fX4_next v0 v1 v2 v3 w = some r)   (hR : RepH G A w H) (hS : Cu A s w0 w H locs) (hl : lv_has ls 6 [(0, .ref v0), (1, .ref v1), (2, .ref v2), (3, .int v3)]) : W p l e (hRm 16 361 w0) s m args below meth c H locs (wC w0 - wC w) (wS w0 - wS w) (hZ below args s G A w0 (some (va_rf r.1)) r.2) (F0 m 0 ls []) := by
  have B0 := B
  obtain ⟨hx, hb, hml, hown, hts, hr, hlk, hK⟩ := B0
  unfold fX4_next at h
  refine lv_iconst (v := 0) hx hb dX4_next_0 (by decide) ?_
  refine lv_istore (lv' := [(4, .int 0), (0, .ref v0), (1, .ref v1), (2, .ref v2), (3, .int v3)]) hx hb dX4_next_1 hl (by decide) rfl (fun ls hl => ?_)
  exact lX4_next_3 B _ _ h H locs ls hR hS (lv_sub hl [1, 2, 3, 4, 0] rfl)
theorem mX4_next {l : Launch} {G : gE} {A : Nat → Prop} {v0 : Nat} {v1 : Nat} {v2 : Nat} {v3 : Int32} {w : WH} {r : (Option Nat × WH)} (h : fX4_next v0 v1 v2 v3 w = some r) : hM l G A yX4_next cX4_next 6 (some (.object "TollLeader$Arc")) 16 361 [.ref v0, .ref v1, .ref v2, .int v3] w (some (va_rf r.1)) r.2 :=
  h_of (by decide +kernel) (Nat.le_of_ble_eq_true rfl) (fun p e s m args below meth c ls B hnm hR hS hl => bX4_next_0 B h hR hS hl)
noncomputable def fX4_walk_b69 (v0 : Nat) (v1 : Nat) (v2 : Nat) (v4 : Nat) (w : WH) : Option (Sum (Int32 × WH) ((Int32 × WH))) :=
  (hIs w v4 27).bind fun _ =>
  b2_ (fX8_to v4 w) fun x4 w1 =>
  some (.inl (x4, w1))
theorem bX4_walk_69 {p : Program} {l : Launch} {e : Env} {s : State} {m : MethodId} {args : Array Value} {below : List Frame} {meth : Method} {c : Code} {H : Heap} {locs : List Loc} {ls : Array Slot} {G : gE} {A : Nat → Prop} {w0 : WH} (B : gB G RX4 cX4_walk 5 (some .boolean) p s m args meth c) {v0 : Nat} {v1 : Nat} {v2 : Nat} {v4 : Nat} {w : WH} {x : Sum (Int32 × WH) ((Int32 × WH))} {r : (Int32 × WH)} (h : fX4_walk_b69 v0 v1 v2 v4 w = some x)  (k28 : ∀ (v3' : Int32) (w' : WH), x = (.inl (v3', w')) → ∀ (H : Heap) (locs : List Loc) (ls : Array Slot), RepH G A w' H → Cu A s w0 w' H locs → lv_has ls 5 [(0, .ref v0), (1, .ref v1), (2, .ref v2), (3, .int v3')] → W p l e (hRm 17 386 w0) s m args below meth c H locs (wC w0 - wC w') (wS w0 - wS w') (hZ below args s G A w0 (some (.int r.1)) r.2) (F0 m 28 ls [])) (kR : ∀ q, x = (.inr q) → q = r) (hR : RepH G A w H) (hS : Cu A s w0 w H locs) (hl : lv_has ls 5 [(0, .ref v0), (1, .ref v1), (2, .ref v2), (4, .ref v4)]) : W p l e (hRm 17 386 w0) s m args below meth c H locs (wC w0 - wC w) (wS w0 - wS w) (hZ below args s G A w0 (some (.int r.1)) r.2) (F0 m 69 ls []) := by
  have B0 := B
  obtain ⟨hx, hb, hml, hown, hts, hr, hlk, hK⟩ := B0
  unfold fX4_walk_b69 at h
  refine lv_aload hx hb dX4_walk_69 (lv_at hl 3 rfl) ?_
  replace h := bo_o h
  obtain ⟨_, e2, h⟩ := h
  replace h := b2_o h
  obtain ⟨x4, w1, e3, h⟩ := h
  refine h_callV 0 (ci := 27) (As := []) (rest := []) (v := (some (.int x4))) (w' := w1) (st1 := [.int x4]) hx hb hml hown hts hK hR hS (Nat.le_refl _) (Nat.le_refl _) rfl e2 (mX8_to e3) (lw_V q1362 q1363 q1364 q141 q1365) (by decide +kernel) (Nat.le_of_ble_eq_true rfl) (Nat.le_of_ble_eq_true rfl) rfl hl.1 (Nat.le_of_ble_eq_true rfl) dX4_walk_71 rfl rfl (fun H locs hR hS => ?_)
  refine lv_istore_n (lv' := [(3, .int x4), (0, .ref v0), (1, .ref v1), (2, .ref v2), (4, .ref v4)]) hx hb dX4_walk_74 rfl hl (by decide) rfl (fun ls hl => ?_)
  refine lv_goto (tgt := 28) hx hb dX4_walk_75 (by decide) ?_
  exact k28 _ _ (Option.some.inj h).symm H locs ls hR hS (lv_sub hl [1, 2, 3, 0] rfl)
noncomputable def fX4_walk_b28 (v0 : Nat) (v1 : Nat) (v2 : Nat) (v3 : Int32) (w : WH) : Option (Sum (Int32 × WH) ((Int32 × WH))) :=
  (hIs w v2 28).bind fun _ =>
  b2_ (fX9_to v2 w) fun x4 w1 =>
  if v3 = x4 then (
    some (.inr (1, w1))
  ) else (
    (hIs w1 v0 23).bind fun _ =>
    b2_ (fX4_next v0 v1 v2 v3 w1) fun x9 w6 =>
    (gR w6 v0 23 2).bind fun x10 =>
    (gI w6 v0 23 5).bind fun x12 =>
    x9.bind fun a14 =>
    (hIs w6 a14 27).bind fun _ =>
    b2_ (fX8_number a14 w6) fun x19 w16 =>
    x10.bind fun a20 =>
    (stI w16 a20 0 x12 x19).bind fun w22 =>
    (gI w22 v0 23 5).bind fun x24 =>
    (hPut w22 v0 23 5 (.int (x24 + 1))).bind fun w26 =>
    fX4_walk_b69 v0 v1 v2 a14 w26
  )
theorem bX4_walk_28 {p : Program} {l : Launch} {e : Env} {s : State} {m : MethodId} {args : Array Value} {below : List Frame} {meth : Method} {c : Code} {H : Heap} {locs : List Loc} {ls : Array Slot} {G : gE} {A : Nat → Prop} {w0 : WH} (B : gB G RX4 cX4_walk 5 (some .boolean) p s m args meth c) {v0 : Nat} {v1 : Nat} {v2 : Nat} {v3 : Int32} {w : WH} {x : Sum (Int32 × WH) ((Int32 × WH))} {r : (Int32 × WH)} (h : fX4_walk_b28 v0 v1 v2 v3 w = some x)  (k28 : ∀ (v3' : Int32) (w' : WH), x = (.inl (v3', w')) → ∀ (H : Heap) (locs : List Loc) (ls : Array Slot), RepH G A w' H → Cu A s w0 w' H locs → lv_has ls 5 [(0, .ref v0), (1, .ref v1), (2, .ref v2), (3, .int v3')] → W p l e (hRm 17 386 w0) s m args below meth c H locs (wC w0 - wC w') (wS w0 - wS w') (hZ below args s G A w0 (some (.int r.1)) r.2) (F0 m 28 ls [])) (kR : ∀ q, x = (.inr q) → q = r) (hR : RepH G A w H) (hS : Cu A s w0 w H locs) (hl : lv_has ls 5 [(0, .ref v0), (1, .ref v1), (2, .ref v2), (3, .int v3)]) : W p l e (hRm 17 386 w0) s m args below meth c H locs (wC w0 - wC w) (wS w0 - wS w) (hZ below args s G A w0 (some (.int r.1)) r.2) (F0 m 28 ls []) := by
  have B0 := B
  obtain ⟨hx, hb, hml, hown, hts, hr, hlk, hK⟩ := B0
  unfold fX4_walk_b28 at h
  refine lv_iload_n hx hb dX4_walk_28 rfl (lv_at hl 3 rfl) ?_
  refine lv_aload_n hx hb dX4_walk_29 rfl (lv_at hl 2 rfl) ?_
  replace h := bo_o h
  obtain ⟨_, e2, h⟩ := h
  replace h := b2_o h
  obtain ⟨x4, w1, e3, h⟩ := h
  refine h_callV 0 (ci := 28) (As := []) (rest := [.int v3]) (v := (some (.int x4))) (w' := w1) (st1 := [.int x4, .int v3]) hx hb hml hown hts hK hR hS (Nat.le_refl _) (Nat.le_refl _) rfl e2 (mX9_to e3) (lw_V q1277 q1278 q1279 q143 q1280) (by decide +kernel) (Nat.le_of_ble_eq_true rfl) (Nat.le_of_ble_eq_true rfl) rfl hl.1 (Nat.le_of_ble_eq_true rfl) dX4_walk_30 rfl rfl (fun H locs hR hS => ?_)
  refine lv_icmp_eq (tgt := 78) hx hb dX4_walk_33 (by decide) (fun c5 => ?_) (fun c5 => ?_)
  · replace h := it_o c5 h
    refine lv_iconst (v := 1) hx hb dX4_walk_78 (by decide) ?_
    have eR := kR _ (Option.some.inj h).symm
    subst eR
    exact h_zfin hx hb hr hlk (by show narrow .boolean (.int 1) = .int 1; decide) hR hS dX4_walk_79
  · replace h := if_o c5 h
    refine lv_aload_n hx hb dX4_walk_36 rfl (lv_at hl 0 rfl) ?_
    refine lv_aload_n hx hb dX4_walk_37 rfl (lv_at hl 1 rfl) ?_
    refine lv_aload_n hx hb dX4_walk_38 rfl (lv_at hl 2 rfl) ?_
    refine lv_iload_n hx hb dX4_walk_39 rfl (lv_at hl 3 rfl) ?_
    replace h := bo_o h
    obtain ⟨_, e7, h⟩ := h
    replace h := b2_o h
    obtain ⟨x9, w6, e8, h⟩ := h
    refine h_callV 3 (ci := 23) (As := [.ref v1, .ref v2, .int v3]) (rest := []) (v := (some (va_rf x9))) (w' := w6) (st1 := [va_rf x9]) hx hb hml hown hts hK hR hS (Nat.le_refl _) (Nat.le_refl _) rfl e7 (mX4_next e8) (lw_V q1374 q1376 qs28 q135 q1377) (by decide +kernel) (Nat.le_of_ble_eq_true rfl) (Nat.le_of_ble_eq_true rfl) rfl hl.1 (Nat.le_of_ble_eq_true rfl) dX4_walk_40 rfl rfl (fun H locs hR hS => ?_)
    refine lv_astoreq (lv' := [(4, va_rf x9), (0, .ref v0), (1, .ref v1), (2, .ref v2), (3, .int v3)]) hx hb dX4_walk_43 hl (by decide) rfl (fun ls hl => ?_)
    refine lv_aload_n hx hb dX4_walk_45 rfl (lv_at hl 1 rfl) ?_
    replace h := bo_o h
    obtain ⟨x10, e11, h⟩ := h
    refine h_get (ci := 23) (k := 2) (v := va_rf x10) hx hb hts hown hK hR in_X4 rfl (by decide) (fun _ _ => rfl) q620 (fun _ h9 => h9) (gR_o e11) dX4_walk_46 ?_
    refine lv_aload_n hx hb dX4_walk_49 rfl (lv_at hl 1 rfl) ?_
    replace h := bo_o h
    obtain ⟨x12, e13, h⟩ := h
    refine h_get (ci := 23) (k := 5) (v := .int x12) hx hb hts hown hK hR in_X4 rfl (by decide) (fun _ _ => rfl) q624 (fun _ h9 => h9) (gI_o e13) dX4_walk_50 ?_
    refine lv_aloadq hx hb dX4_walk_53 (lv_at hl 0 rfl) ?_
    replace h := bo_o h
    obtain ⟨a14, e15, h⟩ := h
    subst e15
    replace h := bo_o h
    obtain ⟨_, e17, h⟩ := h
    replace h := b2_o h
    obtain ⟨x19, w16, e18, h⟩ := h
    refine h_callV 0 (ci := 27) (As := []) (rest := [.int x12, va_rf x10]) (v := (some (.int x19))) (w' := w16) (st1 := [.int x19, .int x12, va_rf x10]) hx hb hml hown hts hK hR hS (Nat.le_refl _) (Nat.le_refl _) rfl e17 (mX8_number e18) (lw_V q1403 q1305 q1306 q141 q1307) (by decide +kernel) (Nat.le_of_ble_eq_true rfl) (Nat.le_of_ble_eq_true rfl) rfl hl.1 (cat_le (Nat.le_of_ble_eq_true rfl)) dX4_walk_55 rfl rfl (fun H locs hR hS => ?_)
    replace h := bo_o h
    obtain ⟨a20, e21, h⟩ := h
    subst e21
    replace h := bo_o h
    obtain ⟨w22, e23, h⟩ := h
    refine h_iast hx hb hK hR hS e23 dX4_walk_58 (fun H locs hR hS => ?_)
    refine lv_aload_n hx hb dX4_walk_59 rfl (lv_at hl 1 rfl) ?_
    refine lv_dup hx hb dX4_walk_60 rfl ?_
    replace h := bo_o h
    obtain ⟨x24, e25, h⟩ := h
    refine h_get (ci := 23) (k := 5) (v := .int x24) hx hb hts hown hK hR in_X4 rfl (by decide) (fun _ _ => rfl) q624 (fun _ h9 => h9) (gI_o e25) dX4_walk_61 ?_
    refine lv_iconst (v := 1) hx hb dX4_walk_64 (by decide) ?_
    refine lv_iadd hx hb dX4_walk_65 ?_
    replace h := bo_o h
    obtain ⟨w26, e27, h⟩ := h
    refine h_put (ci := 23) (k := 5) (ty := tyX4 5) hx hb hts hown hK hR hS in_X4 tyX4 tyX4_ok nmX4 rfl (by decide) q624 (fun _ h9 => h9) rfl (tyX4_ok 5 (by decide)) rfl rfl e27 dX4_walk_66 (fun H locs hR hS => ?_)
    exact bX4_walk_69 B h k28 kR hR hS (lv_sub hl [1, 2, 3, 0] rfl)
noncomputable def fX4_walk_l28 (v0 : Nat) (v1 : Nat) (v2 : Nat) (v3 : Int32) (w : WH) : Option ((Int32 × WH)) := whileO (fun q => fX4_walk_b28 v0 v1 v2 q.1 q.2) (v3, w)
theorem lX4_walk_28 {p : Program} {l : Launch} {e : Env} {s : State} {m : MethodId} {args : Array Value} {below : List Frame} {meth : Method} {c : Code} {G : gE} {A : Nat → Prop} {w0 : WH} (B : gB G RX4 cX4_walk 5 (some .boolean) p s m args meth c) {v0 : Nat} {v1 : Nat} {v2 : Nat} {r : (Int32 × WH)}   : ∀ (v3 : Int32) (w : WH), fX4_walk_l28 v0 v1 v2 v3 w = some r → ∀ (H : Heap) (locs : List Loc) (ls : Array Slot), RepH G A w H → Cu A s w0 w H locs → lv_has ls 5 [(0, .ref v0), (1, .ref v1), (2, .ref v2), (3, .int v3)] → W p l e (hRm 17 386 w0) s m args below meth c H locs (wC w0 - wC w) (wS w0 - wS w) (hZ below args s G A w0 (some (.int r.1)) r.2) (F0 m 28 ls []) := by
  intro v3 w h
  refine wh_walk (body := (fun q => fX4_walk_b28 v0 v1 v2 q.1 q.2)) (P := (fun q : (Int32 × WH) => ∀ (H : Heap) (locs : List Loc) (ls : Array Slot), RepH G A (q.2) H → Cu A s w0 (q.2) H locs → lv_has ls 5 [(0, .ref v0), (1, .ref v1), (2, .ref v2), (3, .int (q.1))] → W p l e (hRm 17 386 w0) s m args below meth c H locs (wC w0 - wC (q.2)) (wS w0 - wS (q.2)) (hZ below args s G A w0 (some (.int r.1)) r.2) (F0 m 28 ls []))) (r := r) ?_ (v3, w) h
  intro q y hy hL hr H locs ls hR hS hl
  exact bX4_walk_28 (r := r) B hy (fun a0 a1 e => hL (a0, a1) e) (fun q e => hr q e) hR hS hl
noncomputable def fX4_walk (v0 : Nat) (v1 : Nat) (v2 : Nat) (w : WH) : Option ((Int32 × WH)) :=
  (hPut w v0 23 5 (.int 0)).bind fun w1 =>
  (hIs w1 v0 23).bind fun _ =>
  b2_ (fX4_measure v0 v1 v2 (wK w1 5) w1) fun x6 w3 =>
  if lg_cmp x6 2305843009213693951 = 0 then (
    some (0, w3)
  ) else (
    (hIs w3 v2 28).bind fun _ =>
    b2_ (fX9_from v2 w3) fun x11 w8 =>
    fX4_walk_l28 v0 v1 v2 x11 w8
  )
theorem bX4_walk_0 {p : Program} {l : Launch} {e : Env} {s : State} {m : MethodId} {args : Array Value} {below : List Frame} {meth : Method} {c : Code} {H : Heap} {locs : List Loc} {ls : Array Slot} {G : gE} {A : Nat → Prop} {w0 : WH} (B : gB G RX4 cX4_walk 5 (some .boolean) p s m args meth c) {v0 : Nat} {v1 : Nat} {v2 : Nat} {w : WH} {r : (Int32 × WH)} (h : fX4_walk v0 v1 v2 w = some r)   (hR : RepH G A w H) (hS : Cu A s w0 w H locs) (hl : lv_has ls 5 [(0, .ref v0), (1, .ref v1), (2, .ref v2)]) : W p l e (hRm 17 386 w0) s m args below meth c H locs (wC w0 - wC w) (wS w0 - wS w) (hZ below args s G A w0 (some (.int r.1)) r.2) (F0 m 0 ls []) := by
  have B0 := B
  obtain ⟨hx, hb, hml, hown, hts, hr, hlk, hK⟩ := B0
  unfold fX4_walk at h
  refine lv_aload_n hx hb dX4_walk_0 rfl (lv_at hl 0 rfl) ?_
  refine lv_iconst (v := 0) hx hb dX4_walk_1 (by decide) ?_
  replace h := bo_o h
  obtain ⟨w1, e2, h⟩ := h
  refine h_put (ci := 23) (k := 5) (ty := tyX4 5) hx hb hts hown hK hR hS in_X4 tyX4 tyX4_ok nmX4 rfl (by decide) q624 (fun _ h9 => h9) rfl (tyX4_ok 5 (by decide)) rfl rfl e2 dX4_walk_2 (fun H locs hR hS => ?_)
  refine lv_aload_n hx hb dX4_walk_5 rfl (lv_at hl 0 rfl) ?_
  refine lv_aload_n hx hb dX4_walk_6 rfl (lv_at hl 1 rfl) ?_
  refine lv_aload_n hx hb dX4_walk_7 rfl (lv_at hl 2 rfl) ?_
  refine h_getsKN (i := 0) hx hb hown hK hR hS rfl (hK.fn 31 rfl) (fun _ h9 => h9) dX4_walk_8 ?_
  replace h := bo_o h
  obtain ⟨_, e4, h⟩ := h
  replace h := b2_o h
  obtain ⟨x6, w3, e5, h⟩ := h
  refine h_callV 3 (ci := 23) (As := [.ref v1, .ref v2, .ref (wK w1 5)]) (rest := []) (v := (some (.long x6))) (w' := w3) (st1 := [.long x6]) hx hb hml hown hts hK hR hS (Nat.le_refl _) (Nat.le_refl _) rfl e4 (mX4_measure e5) (lw_V q1272 q1273 q1274 q135 q1275) (by decide +kernel) (Nat.le_of_ble_eq_true rfl) (Nat.le_of_ble_eq_true rfl) rfl hl.1 (Nat.le_of_ble_eq_true rfl) dX4_walk_11 rfl rfl (fun H locs hR hS => ?_)
  refine lv_ldc2 (v := 2305843009213693951) hx hb hown (hts _ q1276) dX4_walk_14 ?_
  refine W.lcmp hx hb dX4_walk_17 ?_
  refine lv_if_ne (tgt := 23) hx hb dX4_walk_18 (by decide) (fun c7 => ?_) (fun c7 => ?_)
  · replace h := if_o c7 h
    refine lv_aload_n hx hb dX4_walk_23 rfl (lv_at hl 2 rfl) ?_
    replace h := bo_o h
    obtain ⟨_, e9, h⟩ := h
    replace h := b2_o h
    obtain ⟨x11, w8, e10, h⟩ := h
    refine h_callV 0 (ci := 28) (As := []) (rest := []) (v := (some (.int x11))) (w' := w8) (st1 := [.int x11]) hx hb hml hown hts hK hR hS (Nat.le_refl _) (Nat.le_refl _) rfl e9 (mX9_from e10) (lw_V q1370 q1371 q1372 q143 q1373) (by decide +kernel) (Nat.le_of_ble_eq_true rfl) (Nat.le_of_ble_eq_true rfl) rfl hl.1 (Nat.le_of_ble_eq_true rfl) dX4_walk_24 rfl rfl (fun H locs hR hS => ?_)
    refine lv_istore_n (lv' := [(3, .int x11), (0, .ref v0), (1, .ref v1), (2, .ref v2)]) hx hb dX4_walk_27 rfl hl (by decide) rfl (fun ls hl => ?_)
    exact lX4_walk_28 B _ _ h H locs ls hR hS (lv_sub hl [1, 2, 3, 0] rfl)
  · replace h := it_o c7 h
    refine lv_iconst (v := 0) hx hb dX4_walk_21 (by decide) ?_
    have eR := Option.some.inj h
    subst eR
    exact h_zfin hx hb hr hlk (by show narrow .boolean (.int 0) = .int 0; decide) hR hS dX4_walk_22
theorem mX4_walk {l : Launch} {G : gE} {A : Nat → Prop} {v0 : Nat} {v1 : Nat} {v2 : Nat} {w : WH} {r : (Int32 × WH)} (h : fX4_walk v0 v1 v2 w = some r) : hM l G A yX4_walk cX4_walk 5 (some .boolean) 17 386 [.ref v0, .ref v1, .ref v2] w (some (.int r.1)) r.2 :=
  h_of (by decide +kernel) (Nat.le_of_ble_eq_true rfl) (fun p e s m args below meth c ls B hnm hR hS hl => bX4_walk_0 B h hR hS hl)
noncomputable def fX4_has_b2 (v0 : Nat) (v1 : Int32) (v2 : Int32) (w : WH) : Option (Sum (Int32 × WH) ((Int32 × WH))) :=
  (gI w v0 23 5).bind fun x1 =>
  if x1 ≤ v2 then (
    some (.inr (0, w))
  ) else (
    (gR w v0 23 2).bind fun x4 =>
    x4.bind fun a6 =>
    (ldI w a6 0 v2).bind fun x8 =>
    if x8 = v1 then (
      some (.inr (1, w))
    ) else (
      some (.inl (v2 + 1, w))
    )
  )
theorem bX4_has_2 {p : Program} {l : Launch} {e : Env} {s : State} {m : MethodId} {args : Array Value} {below : List Frame} {meth : Method} {c : Code} {H : Heap} {locs : List Loc} {ls : Array Slot} {G : gE} {A : Nat → Prop} {w0 : WH} (B : gB G RX4 cX4_has 3 (some .boolean) p s m args meth c) {v0 : Nat} {v1 : Int32} {v2 : Int32} {w : WH} {x : Sum (Int32 × WH) ((Int32 × WH))} {r : (Int32 × WH)} (h : fX4_has_b2 v0 v1 v2 w = some x)  (k2 : ∀ (v2' : Int32) (w' : WH), x = (.inl (v2', w')) → ∀ (H : Heap) (locs : List Loc) (ls : Array Slot), RepH G A w' H → Cu A s w0 w' H locs → lv_has ls 3 [(0, .ref v0), (1, .int v1), (2, .int v2')] → W p l e (hRm 0 0 w0) s m args below meth c H locs (wC w0 - wC w') (wS w0 - wS w') (hZ below args s G A w0 (some (.int r.1)) r.2) (F0 m 2 ls [])) (kR : ∀ q, x = (.inr q) → q = r) (hR : RepH G A w H) (hS : Cu A s w0 w H locs) (hl : lv_has ls 3 [(0, .ref v0), (1, .int v1), (2, .int v2)]) : W p l e (hRm 0 0 w0) s m args below meth c H locs (wC w0 - wC w) (wS w0 - wS w) (hZ below args s G A w0 (some (.int r.1)) r.2) (F0 m 2 ls []) := by
  have B0 := B
  obtain ⟨hx, hb, hml, hown, hts, hr, hlk, hK⟩ := B0
  unfold fX4_has_b2 at h
  refine lv_iload_n hx hb dX4_has_2 rfl (lv_at hl 2 rfl) ?_
  refine lv_aload_n hx hb dX4_has_3 rfl (lv_at hl 0 rfl) ?_
  replace h := bo_o h
  obtain ⟨x1, e2, h⟩ := h
  refine h_get (ci := 23) (k := 5) (v := .int x1) hx hb hts hown hK hR in_X4 rfl (by decide) (fun _ _ => rfl) q624 (fun _ h9 => h9) (gI_o e2) dX4_has_4 ?_
  refine lv_icmp_ge (tgt := 28) hx hb dX4_has_7 (by decide) (fun c3 => ?_) (fun c3 => ?_)
  · replace h := it_o c3 h
    refine lv_iconst (v := 0) hx hb dX4_has_28 (by decide) ?_
    have eR := kR _ (Option.some.inj h).symm
    subst eR
    exact h_zfin hx hb hr hlk (by show narrow .boolean (.int 0) = .int 0; decide) hR hS dX4_has_29
  · replace h := if_o c3 h
    refine lv_aload_n hx hb dX4_has_10 rfl (lv_at hl 0 rfl) ?_
    replace h := bo_o h
    obtain ⟨x4, e5, h⟩ := h
    refine h_get (ci := 23) (k := 2) (v := va_rf x4) hx hb hts hown hK hR in_X4 rfl (by decide) (fun _ _ => rfl) q620 (fun _ h9 => h9) (gR_o e5) dX4_has_11 ?_
    refine lv_iload_n hx hb dX4_has_14 rfl (lv_at hl 2 rfl) ?_
    replace h := bo_o h
    obtain ⟨a6, e7, h⟩ := h
    subst e7
    replace h := bo_o h
    obtain ⟨x8, e9, h⟩ := h
    refine h_iald hx hb hK hR e9 dX4_has_15 ?_
    refine lv_iload_n hx hb dX4_has_16 rfl (lv_at hl 1 rfl) ?_
    refine lv_icmp_ne (tgt := 22) hx hb dX4_has_17 (by decide) (fun c10 => ?_) (fun c10 => ?_)
    · replace h := if_o c10 h
      refine lv_iinc (v := v2 + 1) (lv' := [(2, .int (v2 + 1)), (0, .ref v0), (1, .int v1)]) hx hb dX4_has_22 hl (k := 2) rfl rfl (by decide) rfl (fun ls hl => ?_)
      refine lv_goto (tgt := 2) hx hb dX4_has_25 (by decide) ?_
      exact k2 _ _ (Option.some.inj h).symm H locs ls hR hS (lv_sub hl [1, 2, 0] rfl)
    · replace h := it_o c10 h
      refine lv_iconst (v := 1) hx hb dX4_has_20 (by decide) ?_
      have eR := kR _ (Option.some.inj h).symm
      subst eR
      exact h_zfin hx hb hr hlk (by show narrow .boolean (.int 1) = .int 1; decide) hR hS dX4_has_21
noncomputable def fX4_has_l2 (v0 : Nat) (v1 : Int32) (v2 : Int32) (w : WH) : Option ((Int32 × WH)) := whileO (fun q => fX4_has_b2 v0 v1 q.1 q.2) (v2, w)
theorem lX4_has_2 {p : Program} {l : Launch} {e : Env} {s : State} {m : MethodId} {args : Array Value} {below : List Frame} {meth : Method} {c : Code} {G : gE} {A : Nat → Prop} {w0 : WH} (B : gB G RX4 cX4_has 3 (some .boolean) p s m args meth c) {v0 : Nat} {v1 : Int32} {r : (Int32 × WH)}   : ∀ (v2 : Int32) (w : WH), fX4_has_l2 v0 v1 v2 w = some r → ∀ (H : Heap) (locs : List Loc) (ls : Array Slot), RepH G A w H → Cu A s w0 w H locs → lv_has ls 3 [(0, .ref v0), (1, .int v1), (2, .int v2)] → W p l e (hRm 0 0 w0) s m args below meth c H locs (wC w0 - wC w) (wS w0 - wS w) (hZ below args s G A w0 (some (.int r.1)) r.2) (F0 m 2 ls []) := by
  intro v2 w h
  refine wh_walk (body := (fun q => fX4_has_b2 v0 v1 q.1 q.2)) (P := (fun q : (Int32 × WH) => ∀ (H : Heap) (locs : List Loc) (ls : Array Slot), RepH G A (q.2) H → Cu A s w0 (q.2) H locs → lv_has ls 3 [(0, .ref v0), (1, .int v1), (2, .int (q.1))] → W p l e (hRm 0 0 w0) s m args below meth c H locs (wC w0 - wC (q.2)) (wS w0 - wS (q.2)) (hZ below args s G A w0 (some (.int r.1)) r.2) (F0 m 2 ls []))) (r := r) ?_ (v2, w) h
  intro q y hy hL hr H locs ls hR hS hl
  exact bX4_has_2 (r := r) B hy (fun a0 a1 e => hL (a0, a1) e) (fun q e => hr q e) hR hS hl
noncomputable def fX4_has (v0 : Nat) (v1 : Int32) (w : WH) : Option ((Int32 × WH)) :=
  fX4_has_l2 v0 v1 0 w
theorem bX4_has_0 {p : Program} {l : Launch} {e : Env} {s : State} {m : MethodId} {args : Array Value} {below : List Frame} {meth : Method} {c : Code} {H : Heap} {locs : List Loc} {ls : Array Slot} {G : gE} {A : Nat → Prop} {w0 : WH} (B : gB G RX4 cX4_has 3 (some .boolean) p s m args meth c) {v0 : Nat} {v1 : Int32} {w : WH} {r : (Int32 × WH)} (h : fX4_has v0 v1 w = some r)   (hR : RepH G A w H) (hS : Cu A s w0 w H locs) (hl : lv_has ls 3 [(0, .ref v0), (1, .int v1)]) : W p l e (hRm 0 0 w0) s m args below meth c H locs (wC w0 - wC w) (wS w0 - wS w) (hZ below args s G A w0 (some (.int r.1)) r.2) (F0 m 0 ls []) := by
  have B0 := B
  obtain ⟨hx, hb, hml, hown, hts, hr, hlk, hK⟩ := B0
  unfold fX4_has at h
  refine lv_iconst (v := 0) hx hb dX4_has_0 (by decide) ?_
  refine lv_istore_n (lv' := [(2, .int 0), (0, .ref v0), (1, .int v1)]) hx hb dX4_has_1 rfl hl (by decide) rfl (fun ls hl => ?_)
  exact lX4_has_2 B _ _ h H locs ls hR hS (lv_sub hl [1, 2, 0] rfl)
theorem mX4_has {l : Launch} {G : gE} {A : Nat → Prop} {v0 : Nat} {v1 : Int32} {w : WH} {r : (Int32 × WH)} (h : fX4_has v0 v1 w = some r) : hM l G A yX4_has cX4_has 3 (some .boolean) 0 0 [.ref v0, .int v1] w (some (.int r.1)) r.2 :=
  h_of (by decide +kernel) (Nat.le_of_ble_eq_true rfl) (fun p e s m args below meth c ls B hnm hR hS hl => bX4_has_0 B h hR hS hl)
