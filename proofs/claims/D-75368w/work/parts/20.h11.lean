set_option maxRecDepth 100000
set_option maxHeartbeats 4000000

noncomputable def fX1_tollable_b50 (v2 : Nat) (s0 : Int32) (s1 : Int32) (w : WH) : Option (Sum (Int32 × WH) ((Int32 × WH))) :=
  nm_ (s0 + s1) fun x1 =>
  some (.inl (x1, w))
theorem bX1_tollable_50 {p : Program} {l : Launch} {e : Env} {s : State} {m : MethodId} {args : Array Value} {below : List Frame} {meth : Method} {c : Code} {H : Heap} {locs : List Loc} {ls : Array Slot} {G : gE} {A : Nat → Prop} {w0 : WH} (B : gB G RX1 cX1_tollable 4 (some .int) p s m args meth c) {v2 : Nat} {s0 : Int32} {s1 : Int32} {w : WH} {x : Sum (Int32 × WH) ((Int32 × WH))} {r : (Int32 × WH)} (h : fX1_tollable_b50 v2 s0 s1 w = some x)  (k18 : ∀ (v1' : Int32) (w' : WH), x = (.inl (v1', w')) → ∀ (H : Heap) (locs : List Loc) (ls : Array Slot), RepH G A w' H → Cu A s w0 w' H locs → lv_has ls 4 [(1, .int v1'), (2, va_rf v2)] → W p l e (hRm 3 61 w0) s m args below meth c H locs (wC w0 - wC w') (wS w0 - wS w') (hZ below args s G A w0 (some (.int r.1)) r.2) (F0 m 18 ls [])) (kR : ∀ q, x = (.inr q) → q = r) (hR : RepH G A w H) (hS : Cu A s w0 w H locs) (hl : lv_has ls 4 [(2, .ref v2)]) : W p l e (hRm 3 61 w0) s m args below meth c H locs (wC w0 - wC w) (wS w0 - wS w) (hZ below args s G A w0 (some (.int r.1)) r.2) (F0 m 50 ls [.int s1, .int s0]) := by
  have B0 := B
  obtain ⟨hx, hb, hml, hown, hts, hr, hlk, hK⟩ := B0
  unfold fX1_tollable_b50 at h
  refine lv_iadd hx hb dX1_tollable_50 ?_
  replace h := nm_o h
  obtain ⟨x1, e2, h⟩ := h
  refine lv_istore_n (lv' := [(1, .int x1), (2, .ref v2)]) hx hb dX1_tollable_51 rfl hl (by decide) (by subst e2; rfl) (fun ls hl => ?_)
  refine lv_goto (tgt := 18) hx hb dX1_tollable_52 (by decide) ?_
  exact k18 _ _ (Option.some.inj h).symm H locs ls hR hS (lv_sub hl [0, 1] rfl)
noncomputable def fX1_tollable_b18 (v1 : Int32) (v2 : Option Nat) (w : WH) : Option (Sum (Int32 × WH) ((Int32 × WH))) :=
  v2.bind fun a1 =>
  (hIs w a1 4).bind fun _ =>
  b2_ (fJ21_hasNext a1 w) fun x6 w3 =>
  if x6 = 0 then (
    some (.inr (v1, w3))
  ) else (
    (hIs w3 a1 4).bind fun _ =>
    b2_ (fJ21_next a1 w3) fun x11 w8 =>
    x11.bind fun a12 =>
    (hIs w8 a12 27).bind fun _ =>
    (hIs w8 a12 27).bind fun _ =>
    b2_ (fX8_most a12 w8) fun x18 w15 =>
    if x18 ≤ 0 then (
      fX1_tollable_b50 a1 v1 0 w15
    ) else (
      fX1_tollable_b50 a1 v1 1 w15
    )
  )
theorem bX1_tollable_18 {p : Program} {l : Launch} {e : Env} {s : State} {m : MethodId} {args : Array Value} {below : List Frame} {meth : Method} {c : Code} {H : Heap} {locs : List Loc} {ls : Array Slot} {G : gE} {A : Nat → Prop} {w0 : WH} (B : gB G RX1 cX1_tollable 4 (some .int) p s m args meth c) {v1 : Int32} {v2 : Option Nat} {w : WH} {x : Sum (Int32 × WH) ((Int32 × WH))} {r : (Int32 × WH)} (h : fX1_tollable_b18 v1 v2 w = some x)  (k18 : ∀ (v1' : Int32) (w' : WH), x = (.inl (v1', w')) → ∀ (H : Heap) (locs : List Loc) (ls : Array Slot), RepH G A w' H → Cu A s w0 w' H locs → lv_has ls 4 [(1, .int v1'), (2, va_rf v2)] → W p l e (hRm 3 61 w0) s m args below meth c H locs (wC w0 - wC w') (wS w0 - wS w') (hZ below args s G A w0 (some (.int r.1)) r.2) (F0 m 18 ls [])) (kR : ∀ q, x = (.inr q) → q = r) (hR : RepH G A w H) (hS : Cu A s w0 w H locs) (hl : lv_has ls 4 [(1, .int v1), (2, va_rf v2)]) : W p l e (hRm 3 61 w0) s m args below meth c H locs (wC w0 - wC w) (wS w0 - wS w) (hZ below args s G A w0 (some (.int r.1)) r.2) (F0 m 18 ls []) := by
  have B0 := B
  obtain ⟨hx, hb, hml, hown, hts, hr, hlk, hK⟩ := B0
  unfold fX1_tollable_b18 at h
  refine lv_aload_nq hx hb dX1_tollable_18 rfl (lv_at hl 1 rfl) ?_
  replace h := bo_o h
  obtain ⟨a1, e2, h⟩ := h
  subst e2
  replace h := bo_o h
  obtain ⟨_, e4, h⟩ := h
  replace h := b2_o h
  obtain ⟨x6, w3, e5, h⟩ := h
  refine h_callF 0  (As := []) (rest := []) (v := (some (.int x6))) (w' := w3) (st1 := [.int x6]) hx hb hml hown hts hK hR hS (Nat.le_refl _) (Nat.le_refl _) (h_recv (ci := 4) hK hR hS rfl e4) (mJ21_hasNext e5) (lw_app (a := [.methodLink _ _ _, .selects _ _ _, .instanceMethod _, .initialized _]) (lw_4 q1540 q1569 q1571 q144) (lw_meth q1573)) (hK.fw 4 rfl) (by decide +kernel) (Nat.le_of_ble_eq_true rfl) (Nat.le_of_ble_eq_true rfl) rfl hl.1 (Nat.le_of_ble_eq_true rfl) dX1_tollable_19 rfl rfl (fun H locs hR hS => ?_)
  refine lv_if_eq (tgt := 55) hx hb dX1_tollable_24 (by decide) (fun c7 => ?_) (fun c7 => ?_)
  · replace h := it_o c7 h
    refine lv_iload_n hx hb dX1_tollable_55 rfl (lv_at hl 0 rfl) ?_
    have eR := kR _ (Option.some.inj h).symm
    subst eR
    exact h_ifin hx hb hr hlk hR hS dX1_tollable_56
  · replace h := if_o c7 h
    refine lv_aload_n hx hb dX1_tollable_27 rfl (lv_at hl 1 rfl) ?_
    replace h := bo_o h
    obtain ⟨_, e9, h⟩ := h
    replace h := b2_o h
    obtain ⟨x11, w8, e10, h⟩ := h
    refine h_callF 0  (As := []) (rest := []) (v := (some (va_rf x11))) (w' := w8) (st1 := [va_rf x11]) hx hb hml hown hts hK hR hS (Nat.le_refl _) (Nat.le_refl _) (h_recv (ci := 4) hK hR hS rfl e9) (mJ21_next e10) (lw_app (a := [.methodLink _ _ _, .selects _ _ _, .instanceMethod _, .initialized _]) (lw_4 q1584 q1681 q1683 q144) (lw_meth q1685)) (hK.fw 5 rfl) (by decide +kernel) (Nat.le_of_ble_eq_true rfl) (Nat.le_of_ble_eq_true rfl) rfl hl.1 (Nat.le_of_ble_eq_true rfl) dX1_tollable_28 rfl rfl (fun H locs hR hS => ?_)
    replace h := bo_o h
    obtain ⟨a12, e13, h⟩ := h
    subst e13
    replace h := bo_o h
    obtain ⟨_, e14, h⟩ := h
    refine h_castS (ci := 27) hx hb hts hown hK hR hS rfl e14 q1768 dX1_tollable_33 ?_
    refine lv_astore_n (lv' := [(3, .ref a12), (1, .int v1), (2, .ref a1)]) hx hb dX1_tollable_36 rfl hl (by decide) rfl (fun ls hl => ?_)
    refine lv_iload_n hx hb dX1_tollable_37 rfl (lv_at hl 1 rfl) ?_
    refine lv_aload_n hx hb dX1_tollable_38 rfl (lv_at hl 0 rfl) ?_
    replace h := bo_o h
    obtain ⟨_, e16, h⟩ := h
    replace h := b2_o h
    obtain ⟨x18, w15, e17, h⟩ := h
    refine h_callV 0 (ci := 27) (As := []) (rest := [.int v1]) (v := (some (.int x18))) (w' := w15) (st1 := [.int x18, .int v1]) hx hb hml hown hts hK hR hS (Nat.le_refl _) (Nat.le_refl _) rfl e16 (mX8_most e17) (lw_V q1769 q1356 q1357 q141 q1358) (by decide +kernel) (Nat.le_of_ble_eq_true rfl) (Nat.le_of_ble_eq_true rfl) rfl hl.1 (Nat.le_of_ble_eq_true rfl) dX1_tollable_39 rfl rfl (fun H locs hR hS => ?_)
    refine lv_if_le (tgt := 49) hx hb dX1_tollable_42 (by decide) (fun c19 => ?_) (fun c19 => ?_)
    · replace h := it_o c19 h
      refine lv_iconst (v := 0) hx hb dX1_tollable_49 (by decide) ?_
      exact bX1_tollable_50 B h k18 kR hR hS (lv_sub hl [2] rfl)
    · replace h := if_o c19 h
      refine lv_iconst (v := 1) hx hb dX1_tollable_45 (by decide) ?_
      refine lv_goto (tgt := 50) hx hb dX1_tollable_46 (by decide) ?_
      exact bX1_tollable_50 B h k18 kR hR hS (lv_sub hl [2] rfl)
noncomputable def fX1_tollable_l18 (v1 : Int32) (v2 : Option Nat) (w : WH) : Option ((Int32 × WH)) := whileO (fun q => fX1_tollable_b18 q.1 v2 q.2) (v1, w)
theorem lX1_tollable_18 {p : Program} {l : Launch} {e : Env} {s : State} {m : MethodId} {args : Array Value} {below : List Frame} {meth : Method} {c : Code} {G : gE} {A : Nat → Prop} {w0 : WH} (B : gB G RX1 cX1_tollable 4 (some .int) p s m args meth c) {v2 : Option Nat} {r : (Int32 × WH)}   : ∀ (v1 : Int32) (w : WH), fX1_tollable_l18 v1 v2 w = some r → ∀ (H : Heap) (locs : List Loc) (ls : Array Slot), RepH G A w H → Cu A s w0 w H locs → lv_has ls 4 [(1, .int v1), (2, va_rf v2)] → W p l e (hRm 3 61 w0) s m args below meth c H locs (wC w0 - wC w) (wS w0 - wS w) (hZ below args s G A w0 (some (.int r.1)) r.2) (F0 m 18 ls []) := by
  intro v1 w h
  refine wh_walk (body := (fun q => fX1_tollable_b18 q.1 v2 q.2)) (P := (fun q : (Int32 × WH) => ∀ (H : Heap) (locs : List Loc) (ls : Array Slot), RepH G A (q.2) H → Cu A s w0 (q.2) H locs → lv_has ls 4 [(1, .int (q.1)), (2, va_rf v2)] → W p l e (hRm 3 61 w0) s m args below meth c H locs (wC w0 - wC (q.2)) (wS w0 - wS (q.2)) (hZ below args s G A w0 (some (.int r.1)) r.2) (F0 m 18 ls []))) (r := r) ?_ (v1, w) h
  intro q y hy hL hr H locs ls hR hS hl
  exact bX1_tollable_18 (r := r) B hy (fun a0 a1 e => hL (a0, a1) e) (fun q e => hr q e) hR hS hl
noncomputable def fX1_tollable (v0 : Nat) (w : WH) : Option ((Int32 × WH)) :=
  (gR w v0 17 0).bind fun x1 =>
  x1.bind fun a3 =>
  (gR w a3 21 0).bind fun x5 =>
  x5.bind fun a7 =>
  (gR w a7 22 1).bind fun x9 =>
  x9.bind fun a11 =>
  (hIs w a11 2).bind fun _ =>
  b2_ (fJ2_iterator a11 w) fun x16 w13 =>
  fX1_tollable_l18 0 x16 w13
theorem bX1_tollable_0 {p : Program} {l : Launch} {e : Env} {s : State} {m : MethodId} {args : Array Value} {below : List Frame} {meth : Method} {c : Code} {H : Heap} {locs : List Loc} {ls : Array Slot} {G : gE} {A : Nat → Prop} {w0 : WH} (B : gB G RX1 cX1_tollable 4 (some .int) p s m args meth c) {v0 : Nat} {w : WH} {r : (Int32 × WH)} (h : fX1_tollable v0 w = some r)   (hR : RepH G A w H) (hS : Cu A s w0 w H locs) (hl : lv_has ls 4 [(0, .ref v0)]) : W p l e (hRm 3 61 w0) s m args below meth c H locs (wC w0 - wC w) (wS w0 - wS w) (hZ below args s G A w0 (some (.int r.1)) r.2) (F0 m 0 ls []) := by
  have B0 := B
  obtain ⟨hx, hb, hml, hown, hts, hr, hlk, hK⟩ := B0
  unfold fX1_tollable at h
  refine lv_iconst (v := 0) hx hb dX1_tollable_0 (by decide) ?_
  refine lv_istore_n (lv' := [(1, .int 0), (0, .ref v0)]) hx hb dX1_tollable_1 rfl hl (by decide) rfl (fun ls hl => ?_)
  refine lv_aload_n hx hb dX1_tollable_2 rfl (lv_at hl 1 rfl) ?_
  replace h := bo_o h
  obtain ⟨x1, e2, h⟩ := h
  refine h_get (ci := 17) (k := 0) (v := va_rf x1) hx hb hts hown hK hR in_X1 rfl (by decide) (fun _ _ => rfl) q662 (fun _ h9 => h9) (gR_o e2) dX1_tollable_3 ?_
  replace h := bo_o h
  obtain ⟨a3, e4, h⟩ := h
  subst e4
  replace h := bo_o h
  obtain ⟨x5, e6, h⟩ := h
  refine h_getN (ci := 21) (k := 0) (v := va_rf x5) hx hb hts hown hK hR in_X2 rfl (by decide) (fun _ _ => rfl) (hK.fn 15 rfl) (fun _ h9 => h9) (gR_o e6) dX1_tollable_6 ?_
  replace h := bo_o h
  obtain ⟨a7, e8, h⟩ := h
  subst e8
  replace h := bo_o h
  obtain ⟨x9, e10, h⟩ := h
  refine h_getN (ci := 22) (k := 1) (v := va_rf x9) hx hb hts hown hK hR in_X3 rfl (by decide) (fun _ _ => rfl) (hK.fn 6 rfl) (fun _ h9 => h9) (gR_o e10) dX1_tollable_9 ?_
  replace h := bo_o h
  obtain ⟨a11, e12, h⟩ := h
  subst e12
  replace h := bo_o h
  obtain ⟨_, e14, h⟩ := h
  replace h := b2_o h
  obtain ⟨x16, w13, e15, h⟩ := h
  refine h_callF 0  (As := []) (rest := []) (v := (some (va_rf x16))) (w' := w13) (st1 := [va_rf x16]) hx hb hml hown hts hK hR hS (Nat.le_refl _) (Nat.le_refl _) (h_recv (ci := 2) hK hR hS rfl e14) (mJ2_iterator e15) (lw_app (a := [.methodLink _ _ _, .selects _ _ _, .instanceMethod _, .initialized _]) (lw_4 q1432 q1435 q1437 q117) (lw_meth q1439)) (hK.fw 3 rfl) (by decide +kernel) (Nat.le_of_ble_eq_true rfl) (Nat.le_of_ble_eq_true rfl) rfl hl.1 (Nat.le_of_ble_eq_true rfl) dX1_tollable_12 rfl rfl (fun H locs hR hS => ?_)
  refine lv_astore_nq (lv' := [(2, va_rf x16), (1, .int 0), (0, .ref v0)]) hx hb dX1_tollable_17 rfl hl (by decide) rfl (fun ls hl => ?_)
  exact lX1_tollable_18 B _ _ h H locs ls hR hS (lv_sub hl [1, 0] rfl)
theorem mX1_tollable {l : Launch} {G : gE} {A : Nat → Prop} {v0 : Nat} {w : WH} {r : (Int32 × WH)} (h : fX1_tollable v0 w = some r) : hM l G A yX1_tollable cX1_tollable 4 (some .int) 3 61 [.ref v0] w (some (.int r.1)) r.2 :=
  h_of (by decide +kernel) (Nat.le_of_ble_eq_true rfl) (fun p e s m args below meth c ls B hnm hR hS hl => bX1_tollable_0 B h hR hS hl)
noncomputable def fJ28_bitCount_b34 (v0 : Int64) (w : WH) : Option ((Int32 × WH)) :=
  nm_ (v0 + ((v0.toUInt64 >>> ((8 : Int32).toInt64.toUInt64 &&& Int64.toUInt64 63)).toInt64)) fun x1 =>
  nm_ (x1 + ((x1.toUInt64 >>> ((16 : Int32).toInt64.toUInt64 &&& Int64.toUInt64 63)).toInt64)) fun x3 =>
  nm_ (x3 + ((x3.toUInt64 >>> ((32 : Int32).toInt64.toUInt64 &&& Int64.toUInt64 63)).toInt64)) fun x5 =>
  some ((x5.toInt32) &&& 127, w)
theorem bJ28_bitCount_34 {p : Program} {l : Launch} {e : Env} {s : State} {m : MethodId} {args : Array Value} {below : List Frame} {meth : Method} {c : Code} {H : Heap} {locs : List Loc} {ls : Array Slot} {G : gE} {A : Nat → Prop} {w0 : WH} (B : gB G RJ28 cJ28_bitCount 2 (some .int) p s m args meth c) {v0 : Int64} {w : WH} {r : (Int32 × WH)} (h : fJ28_bitCount_b34 v0 w = some r)   (hR : RepH G A w H) (hS : Cu A s w0 w H locs) (hl : lv_has ls 2 [(0, .long v0)]) : W p l e (hRm 0 0 w0) s m args below meth c H locs (wC w0 - wC w) (wS w0 - wS w) (hZ below args s G A w0 (some (.int r.1)) r.2) (F0 m 34 ls []) := by
  have B0 := B
  obtain ⟨hx, hb, hml, hown, hts, hr, hlk, hK⟩ := B0
  unfold fJ28_bitCount_b34 at h
  refine lv_lload_n hx hb dJ28_bitCount_34 rfl (lv_at hl 0 rfl) ?_
  refine lv_lload_n hx hb dJ28_bitCount_35 rfl (lv_at hl 0 rfl) ?_
  refine lv_bipush (v := 8) hx hb dJ28_bitCount_36 (by decide) ?_
  refine lv_lushr hx hb dJ28_bitCount_38 rfl ?_
  refine lv_ladd hx hb dJ28_bitCount_39 ?_
  replace h := nm_o h
  obtain ⟨x1, e2, h⟩ := h
  refine lv_lstore_n (lv' := [(0, .long x1)]) hx hb dJ28_bitCount_40 rfl hl (by decide) (by subst e2; rfl) (fun ls hl => ?_)
  refine lv_lload_n hx hb dJ28_bitCount_41 rfl (lv_at hl 0 rfl) ?_
  refine lv_lload_n hx hb dJ28_bitCount_42 rfl (lv_at hl 0 rfl) ?_
  refine lv_bipush (v := 16) hx hb dJ28_bitCount_43 (by decide) ?_
  refine lv_lushr hx hb dJ28_bitCount_45 rfl ?_
  refine lv_ladd hx hb dJ28_bitCount_46 ?_
  replace h := nm_o h
  obtain ⟨x3, e4, h⟩ := h
  refine lv_lstore_n (lv' := [(0, .long x3)]) hx hb dJ28_bitCount_47 rfl hl (by decide) (by subst e4; rfl) (fun ls hl => ?_)
  refine lv_lload_n hx hb dJ28_bitCount_48 rfl (lv_at hl 0 rfl) ?_
  refine lv_lload_n hx hb dJ28_bitCount_49 rfl (lv_at hl 0 rfl) ?_
  refine lv_bipush (v := 32) hx hb dJ28_bitCount_50 (by decide) ?_
  refine lv_lushr hx hb dJ28_bitCount_52 rfl ?_
  refine lv_ladd hx hb dJ28_bitCount_53 ?_
  replace h := nm_o h
  obtain ⟨x5, e6, h⟩ := h
  refine lv_lstore_n (lv' := [(0, .long x5)]) hx hb dJ28_bitCount_54 rfl hl (by decide) (by subst e6; rfl) (fun ls hl => ?_)
  refine lv_lload_n hx hb dJ28_bitCount_55 rfl (lv_at hl 0 rfl) ?_
  refine lv_l2i hx hb dJ28_bitCount_56 rfl ?_
  refine lv_bipush (v := 127) hx hb dJ28_bitCount_57 (by decide) ?_
  refine lv_iand hx hb dJ28_bitCount_59 ?_
  have eR := Option.some.inj h
  subst eR
  exact h_ifin hx hb hr hlk hR hS dJ28_bitCount_60
noncomputable def fJ28_bitCount (v0 : Int64) (w : WH) : Option ((Int32 × WH)) :=
  nm_ (v0 - (((v0.toUInt64 >>> ((1 : Int32).toInt64.toUInt64 &&& Int64.toUInt64 63)).toInt64) &&& 6148914691236517205)) fun x1 =>
  nm_ ((x1 &&& 3689348814741910323) + (((x1.toUInt64 >>> ((2 : Int32).toInt64.toUInt64 &&& Int64.toUInt64 63)).toInt64) &&& 3689348814741910323)) fun x3 =>
  nm_ ((x3 + ((x3.toUInt64 >>> ((4 : Int32).toInt64.toUInt64 &&& Int64.toUInt64 63)).toInt64)) &&& 1085102592571150095) fun x5 =>
  fJ28_bitCount_b34 x5 w
theorem bJ28_bitCount_0 {p : Program} {l : Launch} {e : Env} {s : State} {m : MethodId} {args : Array Value} {below : List Frame} {meth : Method} {c : Code} {H : Heap} {locs : List Loc} {ls : Array Slot} {G : gE} {A : Nat → Prop} {w0 : WH} (B : gB G RJ28 cJ28_bitCount 2 (some .int) p s m args meth c) {v0 : Int64} {w : WH} {r : (Int32 × WH)} (h : fJ28_bitCount v0 w = some r)   (hR : RepH G A w H) (hS : Cu A s w0 w H locs) (hl : lv_has ls 2 [(0, .long v0)]) : W p l e (hRm 0 0 w0) s m args below meth c H locs (wC w0 - wC w) (wS w0 - wS w) (hZ below args s G A w0 (some (.int r.1)) r.2) (F0 m 0 ls []) := by
  have B0 := B
  obtain ⟨hx, hb, hml, hown, hts, hr, hlk, hK⟩ := B0
  unfold fJ28_bitCount at h
  refine lv_lload_n hx hb dJ28_bitCount_0 rfl (lv_at hl 0 rfl) ?_
  refine lv_lload_n hx hb dJ28_bitCount_1 rfl (lv_at hl 0 rfl) ?_
  refine lv_iconst (v := 1) hx hb dJ28_bitCount_2 (by decide) ?_
  refine lv_lushr hx hb dJ28_bitCount_3 rfl ?_
  refine lv_ldc2 (v := 6148914691236517205) hx hb hown (hts _ q1930) dJ28_bitCount_4 ?_
  refine lv_land hx hb dJ28_bitCount_7 ?_
  refine lv_lsub hx hb dJ28_bitCount_8 ?_
  replace h := nm_o h
  obtain ⟨x1, e2, h⟩ := h
  refine lv_lstore_n (lv' := [(0, .long x1)]) hx hb dJ28_bitCount_9 rfl hl (by decide) (by subst e2; rfl) (fun ls hl => ?_)
  refine lv_lload_n hx hb dJ28_bitCount_10 rfl (lv_at hl 0 rfl) ?_
  refine lv_ldc2 (v := 3689348814741910323) hx hb hown (hts _ q1931) dJ28_bitCount_11 ?_
  refine lv_land hx hb dJ28_bitCount_14 ?_
  refine lv_lload_n hx hb dJ28_bitCount_15 rfl (lv_at hl 0 rfl) ?_
  refine lv_iconst (v := 2) hx hb dJ28_bitCount_16 (by decide) ?_
  refine lv_lushr hx hb dJ28_bitCount_17 rfl ?_
  refine lv_ldc2 (v := 3689348814741910323) hx hb hown (hts _ q1931) dJ28_bitCount_18 ?_
  refine lv_land hx hb dJ28_bitCount_21 ?_
  refine lv_ladd hx hb dJ28_bitCount_22 ?_
  replace h := nm_o h
  obtain ⟨x3, e4, h⟩ := h
  refine lv_lstore_n (lv' := [(0, .long x3)]) hx hb dJ28_bitCount_23 rfl hl (by decide) (by subst e4; rfl) (fun ls hl => ?_)
  refine lv_lload_n hx hb dJ28_bitCount_24 rfl (lv_at hl 0 rfl) ?_
  refine lv_lload_n hx hb dJ28_bitCount_25 rfl (lv_at hl 0 rfl) ?_
  refine lv_iconst (v := 4) hx hb dJ28_bitCount_26 (by decide) ?_
  refine lv_lushr hx hb dJ28_bitCount_27 rfl ?_
  refine lv_ladd hx hb dJ28_bitCount_28 ?_
  refine lv_ldc2 (v := 1085102592571150095) hx hb hown (hts _ q1932) dJ28_bitCount_29 ?_
  refine lv_land hx hb dJ28_bitCount_32 ?_
  replace h := nm_o h
  obtain ⟨x5, e6, h⟩ := h
  refine lv_lstore_n (lv' := [(0, .long x5)]) hx hb dJ28_bitCount_33 rfl hl (by decide) (by subst e6; rfl) (fun ls hl => ?_)
  exact bJ28_bitCount_34 B h  hR hS (lv_sub hl [0] rfl)
theorem mJ28_bitCount {l : Launch} {G : gE} {A : Nat → Prop} {v0 : Int64} {w : WH} {r : (Int32 × WH)} (h : fJ28_bitCount v0 w = some r) : hM l G A yJ28_bitCount cJ28_bitCount 2 (some .int) 0 0 [.long v0] w (some (.int r.1)) r.2 :=
  h_of (by decide +kernel) (Nat.le_of_ble_eq_true rfl) (fun p e s m args below meth c ls B hnm hR hS hl => bJ28_bitCount_0 B h hR hS hl)
noncomputable def fJ17_cardinality_b4 (v0 : Nat) (v1 : Int32) (v2 : Int32) (w : WH) : Option (Sum (Int32 × Int32 × WH) ((Int32 × WH))) :=
  (gI w v0 0 1).bind fun x1 =>
  if x1 ≤ v2 then (
    some (.inr (v1, w))
  ) else (
    (gR w v0 0 0).bind fun x4 =>
    x4.bind fun a6 =>
    (ldJ w a6 v2).bind fun x8 =>
    b2_ (fJ28_bitCount x8 w) fun x12 w10 =>
    nm_ (v1 + x12) fun x13 =>
    some (.inl (x13, v2 + 1, w10))
  )
theorem bJ17_cardinality_4 {p : Program} {l : Launch} {e : Env} {s : State} {m : MethodId} {args : Array Value} {below : List Frame} {meth : Method} {c : Code} {H : Heap} {locs : List Loc} {ls : Array Slot} {G : gE} {A : Nat → Prop} {w0 : WH} (B : gB G RJ17 cJ17_cardinality 3 (some .int) p s m args meth c) {v0 : Nat} {v1 : Int32} {v2 : Int32} {w : WH} {x : Sum (Int32 × Int32 × WH) ((Int32 × WH))} {r : (Int32 × WH)} (h : fJ17_cardinality_b4 v0 v1 v2 w = some x)  (k4 : ∀ (v1' : Int32) (v2' : Int32) (w' : WH), x = (.inl (v1', v2', w')) → ∀ (H : Heap) (locs : List Loc) (ls : Array Slot), RepH G A w' H → Cu A s w0 w' H locs → lv_has ls 3 [(0, .ref v0), (1, .int v1'), (2, .int v2')] → W p l e (hRm 1 21 w0) s m args below meth c H locs (wC w0 - wC w') (wS w0 - wS w') (hZ below args s G A w0 (some (.int r.1)) r.2) (F0 m 4 ls [])) (kR : ∀ q, x = (.inr q) → q = r) (hR : RepH G A w H) (hS : Cu A s w0 w H locs) (hl : lv_has ls 3 [(0, .ref v0), (1, .int v1), (2, .int v2)]) : W p l e (hRm 1 21 w0) s m args below meth c H locs (wC w0 - wC w) (wS w0 - wS w) (hZ below args s G A w0 (some (.int r.1)) r.2) (F0 m 4 ls []) := by
  have B0 := B
  obtain ⟨hx, hb, hml, hown, hts, hr, hlk, hK⟩ := B0
  unfold fJ17_cardinality_b4 at h
  refine lv_iload_n hx hb dJ17_cardinality_4 rfl (lv_at hl 2 rfl) ?_
  refine lv_aload_n hx hb dJ17_cardinality_5 rfl (lv_at hl 0 rfl) ?_
  replace h := bo_o h
  obtain ⟨x1, e2, h⟩ := h
  refine h_get (ci := 0) (k := 1) (v := .int x1) hx hb hts hown hK hR in_J17 rfl (by decide) (fun _ _ => rfl) q575 (fun _ h9 => h9) (gI_o e2) dJ17_cardinality_6 ?_
  refine lv_icmp_ge (tgt := 30) hx hb dJ17_cardinality_9 (by decide) (fun c3 => ?_) (fun c3 => ?_)
  · replace h := it_o c3 h
    refine lv_iload_n hx hb dJ17_cardinality_30 rfl (lv_at hl 1 rfl) ?_
    have eR := kR _ (Option.some.inj h).symm
    subst eR
    exact h_ifin hx hb hr hlk hR hS dJ17_cardinality_31
  · replace h := if_o c3 h
    refine lv_iload_n hx hb dJ17_cardinality_12 rfl (lv_at hl 1 rfl) ?_
    refine lv_aload_n hx hb dJ17_cardinality_13 rfl (lv_at hl 0 rfl) ?_
    replace h := bo_o h
    obtain ⟨x4, e5, h⟩ := h
    refine h_get (ci := 0) (k := 0) (v := va_rf x4) hx hb hts hown hK hR in_J17 rfl (by decide) (fun _ _ => rfl) q574 (fun _ h9 => h9) (gR_o e5) dJ17_cardinality_14 ?_
    refine lv_iload_n hx hb dJ17_cardinality_17 rfl (lv_at hl 2 rfl) ?_
    replace h := bo_o h
    obtain ⟨a6, e7, h⟩ := h
    subst e7
    replace h := bo_o h
    obtain ⟨x8, e9, h⟩ := h
    refine h_lald hx hb hK hR e9 dJ17_cardinality_18 ?_
    replace h := b2_o h
    obtain ⟨x12, w10, e11, h⟩ := h
    refine h_callS 1  (As := [.long x8]) (rest := [.int v1]) (v := (some (.int x12))) (w' := w10) (st1 := [.int x12, .int v1]) hx hb hml hown hts hK hR hS (Nat.le_refl _) (Nat.le_refl _) (mJ28_bitCount e11) (lw_S q1927 q1928 q152 q1929) (by decide +kernel) (Nat.le_of_ble_eq_true rfl) (Nat.le_of_ble_eq_true rfl) rfl hl.1 (Nat.le_of_ble_eq_true rfl) dJ17_cardinality_19 rfl rfl (fun H locs hR hS => ?_)
    refine lv_iadd hx hb dJ17_cardinality_22 ?_
    replace h := nm_o h
    obtain ⟨x13, e14, h⟩ := h
    refine lv_istore_n (lv' := [(1, .int x13), (0, .ref v0), (2, .int v2)]) hx hb dJ17_cardinality_23 rfl hl (by decide) (by subst e14; rfl) (fun ls hl => ?_)
    refine lv_iinc (v := v2 + 1) (lv' := [(2, .int (v2 + 1)), (1, .int x13), (0, .ref v0)]) hx hb dJ17_cardinality_24 hl (k := 2) rfl rfl (by decide) rfl (fun ls hl => ?_)
    refine lv_goto (tgt := 4) hx hb dJ17_cardinality_27 (by decide) ?_
    exact k4 _ _ _ (Option.some.inj h).symm H locs ls hR hS (lv_sub hl [2, 1, 0] rfl)
noncomputable def fJ17_cardinality_l4 (v0 : Nat) (v1 : Int32) (v2 : Int32) (w : WH) : Option ((Int32 × WH)) := whileO (fun q => fJ17_cardinality_b4 v0 q.1 q.2.1 q.2.2) (v1, v2, w)
theorem lJ17_cardinality_4 {p : Program} {l : Launch} {e : Env} {s : State} {m : MethodId} {args : Array Value} {below : List Frame} {meth : Method} {c : Code} {G : gE} {A : Nat → Prop} {w0 : WH} (B : gB G RJ17 cJ17_cardinality 3 (some .int) p s m args meth c) {v0 : Nat} {r : (Int32 × WH)}   : ∀ (v1 : Int32) (v2 : Int32) (w : WH), fJ17_cardinality_l4 v0 v1 v2 w = some r → ∀ (H : Heap) (locs : List Loc) (ls : Array Slot), RepH G A w H → Cu A s w0 w H locs → lv_has ls 3 [(0, .ref v0), (1, .int v1), (2, .int v2)] → W p l e (hRm 1 21 w0) s m args below meth c H locs (wC w0 - wC w) (wS w0 - wS w) (hZ below args s G A w0 (some (.int r.1)) r.2) (F0 m 4 ls []) := by
  intro v1 v2 w h
  refine wh_walk (body := (fun q => fJ17_cardinality_b4 v0 q.1 q.2.1 q.2.2)) (P := (fun q : (Int32 × Int32 × WH) => ∀ (H : Heap) (locs : List Loc) (ls : Array Slot), RepH G A (q.2.2) H → Cu A s w0 (q.2.2) H locs → lv_has ls 3 [(0, .ref v0), (1, .int (q.1)), (2, .int (q.2.1))] → W p l e (hRm 1 21 w0) s m args below meth c H locs (wC w0 - wC (q.2.2)) (wS w0 - wS (q.2.2)) (hZ below args s G A w0 (some (.int r.1)) r.2) (F0 m 4 ls []))) (r := r) ?_ (v1, v2, w) h
  intro q y hy hL hr H locs ls hR hS hl
  exact bJ17_cardinality_4 (r := r) B hy (fun a0 a1 a2 e => hL (a0, a1, a2) e) (fun q e => hr q e) hR hS hl
noncomputable def fJ17_cardinality (v0 : Nat) (w : WH) : Option ((Int32 × WH)) :=
  fJ17_cardinality_l4 v0 0 0 w
theorem bJ17_cardinality_0 {p : Program} {l : Launch} {e : Env} {s : State} {m : MethodId} {args : Array Value} {below : List Frame} {meth : Method} {c : Code} {H : Heap} {locs : List Loc} {ls : Array Slot} {G : gE} {A : Nat → Prop} {w0 : WH} (B : gB G RJ17 cJ17_cardinality 3 (some .int) p s m args meth c) {v0 : Nat} {w : WH} {r : (Int32 × WH)} (h : fJ17_cardinality v0 w = some r)   (hR : RepH G A w H) (hS : Cu A s w0 w H locs) (hl : lv_has ls 3 [(0, .ref v0)]) : W p l e (hRm 1 21 w0) s m args below meth c H locs (wC w0 - wC w) (wS w0 - wS w) (hZ below args s G A w0 (some (.int r.1)) r.2) (F0 m 0 ls []) := by
  have B0 := B
  obtain ⟨hx, hb, hml, hown, hts, hr, hlk, hK⟩ := B0
  unfold fJ17_cardinality at h
  refine lv_iconst (v := 0) hx hb dJ17_cardinality_0 (by decide) ?_
  refine lv_istore_n (lv' := [(1, .int 0), (0, .ref v0)]) hx hb dJ17_cardinality_1 rfl hl (by decide) rfl (fun ls hl => ?_)
  refine lv_iconst (v := 0) hx hb dJ17_cardinality_2 (by decide) ?_
  refine lv_istore_n (lv' := [(2, .int 0), (1, .int 0), (0, .ref v0)]) hx hb dJ17_cardinality_3 rfl hl (by decide) rfl (fun ls hl => ?_)
  exact lJ17_cardinality_4 B _ _ _ h H locs ls hR hS (lv_sub hl [2, 1, 0] rfl)
theorem mJ17_cardinality {l : Launch} {G : gE} {A : Nat → Prop} {v0 : Nat} {w : WH} {r : (Int32 × WH)} (h : fJ17_cardinality v0 w = some r) : hM l G A yJ17_cardinality cJ17_cardinality 3 (some .int) 1 21 [.ref v0] w (some (.int r.1)) r.2 :=
  h_of (by decide +kernel) (Nat.le_of_ble_eq_true rfl) (fun p e s m args below meth c ls B hnm hR hS hl => bJ17_cardinality_0 B h hR hS hl)
noncomputable def fX1_count_b95  (w : WH) : Option (((Sum (Int32) (Nat × Nat)) × WH)) :=
  b2_ (hThr w) fun a1 w2 =>
  some (.inr (1, a1), w2)
theorem bX1_count_95 {p : Program} {l : Launch} {e : Env} {s : State} {m : MethodId} {args : Array Value} {below : List Frame} {meth : Method} {c : Code} {H : Heap} {locs : List Loc} {ls : Array Slot} {G : gE} {A : Nat → Prop} {w0 : WH} (B : gB G RX1 cX1_count 2 (some .int) p s m args meth c) (hT : ∀ x ∈ c.exceptionTable.toList, False) (hl0 : l.stackTraces = false)  {w : WH} {r : ((Sum (Int32) (Nat × Nat)) × WH)} (h : fX1_count_b95 w = some r)   (hR : RepH G A w H) (hS : Cu A s w0 w H locs) (hl : lv_has ls 2 []) : W p l e (hRm 6 100 w0) s m args below meth c H locs (wC w0 - wC w) (wS w0 - wS w) (hZX below args s G A w0 (oI r.1) r.2) (F0 m 95 ls []) := by
  have B0 := B
  obtain ⟨hx, hb, hml, hown, hts, hr, hlk, hK⟩ := B0
  unfold fX1_count_b95 at h
  replace h := b2_o h
  obtain ⟨a1, w2, e3, h⟩ := h
  have eR := Option.some.inj h
  subst eR
  exact h_throw0 (cls := "java/lang/IllegalArgumentException") (names := ["java/lang/RuntimeException", "java/lang/Exception"]) hx hb hl0 (hml.trans hl.1.symm) hown hK hR hS (Nat.le_refl _) (Nat.le_refl _) (by decide) (by decide) (hts _ q1933) (hts _ q121) (hat_IAE hts hK) hgd_IAE dX1_count_95 dX1_count_98 dX1_count_99 dX1_count_102 hT (Nat.le_of_ble_eq_true rfl) (Nat.le_of_ble_eq_true rfl) hlk e3
noncomputable def fX1_count (v0 : Nat) (v1 : Int32) (w : WH) : Option (((Sum (Int32) (Nat × Nat)) × WH)) :=
  if v1 = 0 then (
    (gR w v0 17 0).bind fun x2 =>
    x2.bind fun a4 =>
    (gR w a4 21 0).bind fun x6 =>
    x6.bind fun a8 =>
    (gI w a8 22 0).bind fun x10 =>
    some (.inl x10, w)
  ) else (
    if v1 = 1 then (
      (gR w v0 17 0).bind fun x13 =>
      x13.bind fun a15 =>
      (gR w a15 21 0).bind fun x17 =>
      x17.bind fun a19 =>
      (gR w a19 22 1).bind fun x21 =>
      x21.bind fun a23 =>
      (hIs w a23 2).bind fun _ =>
      b2_ (fJ2_size a23 w) fun x28 w25 =>
      some (.inl x28, w25)
    ) else (
      if v1 = 2 then (
        (gR w v0 17 0).bind fun x30 =>
        x30.bind fun a32 =>
        (gR w a32 21 0).bind fun x34 =>
        x34.bind fun a36 =>
        (gR w a36 22 2).bind fun x38 =>
        x38.bind fun a40 =>
        (hIs w a40 2).bind fun _ =>
        b2_ (fJ2_size a40 w) fun x45 w42 =>
        some (.inl x45, w42)
      ) else (
        if v1 = 3 then (
          (hIs w v0 17).bind fun _ =>
          b2_ (fX1_tollable v0 w) fun x50 w47 =>
          some (.inl x50, w47)
        ) else (
          if v1 = 4 then (
            (gR w v0 17 0).bind fun x52 =>
            x52.bind fun a54 =>
            (gR w a54 21 3).bind fun x56 =>
            x56.bind fun a58 =>
            (hIs w a58 0).bind fun _ =>
            b2_ (fJ17_cardinality a58 w) fun x63 w60 =>
            some (.inl x63, w60)
          ) else (
            fX1_count_b95 w
          )
        )
      )
    )
  )
theorem bX1_count_0 {p : Program} {l : Launch} {e : Env} {s : State} {m : MethodId} {args : Array Value} {below : List Frame} {meth : Method} {c : Code} {H : Heap} {locs : List Loc} {ls : Array Slot} {G : gE} {A : Nat → Prop} {w0 : WH} (B : gB G RX1 cX1_count 2 (some .int) p s m args meth c) (hT : ∀ x ∈ c.exceptionTable.toList, False) (hl0 : l.stackTraces = false) {v0 : Nat} {v1 : Int32} {w : WH} {r : ((Sum (Int32) (Nat × Nat)) × WH)} (h : fX1_count v0 v1 w = some r)   (hR : RepH G A w H) (hS : Cu A s w0 w H locs) (hl : lv_has ls 2 [(0, .ref v0), (1, .int v1)]) : W p l e (hRm 6 100 w0) s m args below meth c H locs (wC w0 - wC w) (wS w0 - wS w) (hZX below args s G A w0 (oI r.1) r.2) (F0 m 0 ls []) := by
  have B0 := B
  obtain ⟨hx, hb, hml, hown, hts, hr, hlk, hK⟩ := B0
  unfold fX1_count at h
  refine lv_iload_n hx hb dX1_count_0 rfl (lv_at hl 1 rfl) ?_
  by_cases c1 : v1 = 0
  · replace h := it_o c1 h
    rw [c1]
    refine lv_tableIn (off := 35) (tgt := 36) hx hb dX1_count_1 (by decide) (by decide) rfl (by decide) ?_
    refine lv_aload_n hx hb dX1_count_36 rfl (lv_at hl 0 rfl) ?_
    replace h := bo_o h
    obtain ⟨x2, e3, h⟩ := h
    refine h_get (ci := 17) (k := 0) (v := va_rf x2) hx hb hts hown hK hR in_X1 rfl (by decide) (fun _ _ => rfl) q662 (fun _ h9 => h9) (gR_o e3) dX1_count_37 ?_
    replace h := bo_o h
    obtain ⟨a4, e5, h⟩ := h
    subst e5
    replace h := bo_o h
    obtain ⟨x6, e7, h⟩ := h
    refine h_getN (ci := 21) (k := 0) (v := va_rf x6) hx hb hts hown hK hR in_X2 rfl (by decide) (fun _ _ => rfl) (hK.fn 15 rfl) (fun _ h9 => h9) (gR_o e7) dX1_count_40 ?_
    replace h := bo_o h
    obtain ⟨a8, e9, h⟩ := h
    subst e9
    replace h := bo_o h
    obtain ⟨x10, e11, h⟩ := h
    refine h_getN (ci := 22) (k := 0) (v := .int x10) hx hb hts hown hK hR in_X3 rfl (by decide) (fun _ _ => rfl) (hK.fn 3 rfl) (fun _ h9 => h9) (gI_o e11) dX1_count_43 ?_
    have eR := Option.some.inj h
    subst eR
    exact h_ifinX hx hb hr hlk hR hS dX1_count_46
  · replace h := if_o c1 h
    by_cases c12 : v1 = 1
    · replace h := it_o c12 h
      rw [c12]
      refine lv_tableIn (off := 46) (tgt := 47) hx hb dX1_count_1 (by decide) (by decide) rfl (by decide) ?_
      refine lv_aload_n hx hb dX1_count_47 rfl (lv_at hl 0 rfl) ?_
      replace h := bo_o h
      obtain ⟨x13, e14, h⟩ := h
      refine h_get (ci := 17) (k := 0) (v := va_rf x13) hx hb hts hown hK hR in_X1 rfl (by decide) (fun _ _ => rfl) q662 (fun _ h9 => h9) (gR_o e14) dX1_count_48 ?_
      replace h := bo_o h
      obtain ⟨a15, e16, h⟩ := h
      subst e16
      replace h := bo_o h
      obtain ⟨x17, e18, h⟩ := h
      refine h_getN (ci := 21) (k := 0) (v := va_rf x17) hx hb hts hown hK hR in_X2 rfl (by decide) (fun _ _ => rfl) (hK.fn 15 rfl) (fun _ h9 => h9) (gR_o e18) dX1_count_51 ?_
      replace h := bo_o h
      obtain ⟨a19, e20, h⟩ := h
      subst e20
      replace h := bo_o h
      obtain ⟨x21, e22, h⟩ := h
      refine h_getN (ci := 22) (k := 1) (v := va_rf x21) hx hb hts hown hK hR in_X3 rfl (by decide) (fun _ _ => rfl) (hK.fn 6 rfl) (fun _ h9 => h9) (gR_o e22) dX1_count_54 ?_
      replace h := bo_o h
      obtain ⟨a23, e24, h⟩ := h
      subst e24
      replace h := bo_o h
      obtain ⟨_, e26, h⟩ := h
      replace h := b2_o h
      obtain ⟨x28, w25, e27, h⟩ := h
      refine h_callF 0  (As := []) (rest := []) (v := (some (.int x28))) (w' := w25) (st1 := [.int x28]) hx hb hml hown hts hK hR hS (Nat.le_refl _) (Nat.le_refl _) (h_recv (ci := 2) hK hR hS rfl e26) (mJ2_size e27) (lw_app (a := [.methodLink _ _ _, .selects _ _ _, .instanceMethod _, .initialized _]) (lw_4 q1076 q903 q905 q117) (lw_meth q907)) (hK.fw 0 rfl) (by decide +kernel) (Nat.le_of_ble_eq_true rfl) (Nat.le_of_ble_eq_true rfl) rfl hl.1 (Nat.le_of_ble_eq_true rfl) dX1_count_57 rfl rfl (fun H locs hR hS => ?_)
      have eR := Option.some.inj h
      subst eR
      exact h_ifinX hx hb hr hlk hR hS dX1_count_62
    · replace h := if_o c12 h
      by_cases c29 : v1 = 2
      · replace h := it_o c29 h
        rw [c29]
        refine lv_tableIn (off := 62) (tgt := 63) hx hb dX1_count_1 (by decide) (by decide) rfl (by decide) ?_
        refine lv_aload_n hx hb dX1_count_63 rfl (lv_at hl 0 rfl) ?_
        replace h := bo_o h
        obtain ⟨x30, e31, h⟩ := h
        refine h_get (ci := 17) (k := 0) (v := va_rf x30) hx hb hts hown hK hR in_X1 rfl (by decide) (fun _ _ => rfl) q662 (fun _ h9 => h9) (gR_o e31) dX1_count_64 ?_
        replace h := bo_o h
        obtain ⟨a32, e33, h⟩ := h
        subst e33
        replace h := bo_o h
        obtain ⟨x34, e35, h⟩ := h
        refine h_getN (ci := 21) (k := 0) (v := va_rf x34) hx hb hts hown hK hR in_X2 rfl (by decide) (fun _ _ => rfl) (hK.fn 15 rfl) (fun _ h9 => h9) (gR_o e35) dX1_count_67 ?_
        replace h := bo_o h
        obtain ⟨a36, e37, h⟩ := h
        subst e37
        replace h := bo_o h
        obtain ⟨x38, e39, h⟩ := h
        refine h_getN (ci := 22) (k := 2) (v := va_rf x38) hx hb hts hown hK hR in_X3 rfl (by decide) (fun _ _ => rfl) (hK.fn 10 rfl) (fun _ h9 => h9) (gR_o e39) dX1_count_70 ?_
        replace h := bo_o h
        obtain ⟨a40, e41, h⟩ := h
        subst e41
        replace h := bo_o h
        obtain ⟨_, e43, h⟩ := h
        replace h := b2_o h
        obtain ⟨x45, w42, e44, h⟩ := h
        refine h_callF 0  (As := []) (rest := []) (v := (some (.int x45))) (w' := w42) (st1 := [.int x45]) hx hb hml hown hts hK hR hS (Nat.le_refl _) (Nat.le_refl _) (h_recv (ci := 2) hK hR hS rfl e43) (mJ2_size e44) (lw_app (a := [.methodLink _ _ _, .selects _ _ _, .instanceMethod _, .initialized _]) (lw_4 q1076 q903 q905 q117) (lw_meth q907)) (hK.fw 0 rfl) (by decide +kernel) (Nat.le_of_ble_eq_true rfl) (Nat.le_of_ble_eq_true rfl) rfl hl.1 (Nat.le_of_ble_eq_true rfl) dX1_count_73 rfl rfl (fun H locs hR hS => ?_)
        have eR := Option.some.inj h
        subst eR
        exact h_ifinX hx hb hr hlk hR hS dX1_count_78
      · replace h := if_o c29 h
        by_cases c46 : v1 = 3
        · replace h := it_o c46 h
          rw [c46]
          refine lv_tableIn (off := 78) (tgt := 79) hx hb dX1_count_1 (by decide) (by decide) rfl (by decide) ?_
          refine lv_aload_n hx hb dX1_count_79 rfl (lv_at hl 0 rfl) ?_
          replace h := bo_o h
          obtain ⟨_, e48, h⟩ := h
          replace h := b2_o h
          obtain ⟨x50, w47, e49, h⟩ := h
          refine h_callV 0 (ci := 17) (As := []) (rest := []) (v := (some (.int x50))) (w' := w47) (st1 := [.int x50]) hx hb hml hown hts hK hR hS (Nat.le_refl _) (Nat.le_refl _) rfl e48 (mX1_tollable e49) (lw_V q1919 q1921 qs45 q112 q1922) (by decide +kernel) (Nat.le_of_ble_eq_true rfl) (Nat.le_of_ble_eq_true rfl) rfl hl.1 (Nat.le_of_ble_eq_true rfl) dX1_count_80 rfl rfl (fun H locs hR hS => ?_)
          have eR := Option.some.inj h
          subst eR
          exact h_ifinX hx hb hr hlk hR hS dX1_count_83
        · replace h := if_o c46 h
          by_cases c51 : v1 = 4
          · replace h := it_o c51 h
            rw [c51]
            refine lv_tableIn (off := 83) (tgt := 84) hx hb dX1_count_1 (by decide) (by decide) rfl (by decide) ?_
            refine lv_aload_n hx hb dX1_count_84 rfl (lv_at hl 0 rfl) ?_
            replace h := bo_o h
            obtain ⟨x52, e53, h⟩ := h
            refine h_get (ci := 17) (k := 0) (v := va_rf x52) hx hb hts hown hK hR in_X1 rfl (by decide) (fun _ _ => rfl) q662 (fun _ h9 => h9) (gR_o e53) dX1_count_85 ?_
            replace h := bo_o h
            obtain ⟨a54, e55, h⟩ := h
            subst e55
            replace h := bo_o h
            obtain ⟨x56, e57, h⟩ := h
            refine h_getN (ci := 21) (k := 3) (v := va_rf x56) hx hb hts hown hK hR in_X2 rfl (by decide) (fun _ _ => rfl) (hK.fn 20 rfl) (fun _ h9 => h9) (gR_o e57) dX1_count_88 ?_
            replace h := bo_o h
            obtain ⟨a58, e59, h⟩ := h
            subst e59
            replace h := bo_o h
            obtain ⟨_, e61, h⟩ := h
            replace h := b2_o h
            obtain ⟨x63, w60, e62, h⟩ := h
            refine h_callV 0 (ci := 0) (As := []) (rest := []) (v := (some (.int x63))) (w' := w60) (st1 := [.int x63]) hx hb hml hown hts hK hR hS (Nat.le_refl _) (Nat.le_refl _) rfl e61 (mJ17_cardinality e62) (lw_V q1923 q1924 q1925 q134 q1926) (by decide +kernel) (Nat.le_of_ble_eq_true rfl) (Nat.le_of_ble_eq_true rfl) rfl hl.1 (Nat.le_of_ble_eq_true rfl) dX1_count_91 rfl rfl (fun H locs hR hS => ?_)
            have eR := Option.some.inj h
            subst eR
            exact h_ifinX hx hb hr hlk hR hS dX1_count_94
          · replace h := if_o c51 h
            refine lv_tableOut (tgt := 95) hx hb dX1_count_1 (sw_out (n := 5) (by decide) (lt_s (lt_s (lt_s (lt_s (lt_s lt_0 c1) c12) c29) c46) c51)) (by decide) ?_
            exact bX1_count_95 B hT hl0 h  hR hS (lv_sub hl [] rfl)
theorem mX1_count {l : Launch} {G : gE} {A : Nat → Prop} {v0 : Nat} {v1 : Int32} {w : WH} {r : ((Sum (Int32) (Nat × Nat)) × WH)} (hl0 : l.stackTraces = false) (h : fX1_count v0 v1 w = some r) : hMX l G A yX1_count cX1_count 2 (some .int) 6 100 [.ref v0, .int v1] w (oI r.1) r.2 :=
  h_ofX (by decide +kernel) (Nat.le_of_ble_eq_true rfl) (fun p e s m args below meth c ls B hnm hT hR hS hl => bX1_count_0 B hT hl0 h hR hS hl)
noncomputable def fX1_isArc (v0 : Nat) (v1 : Int32) (w : WH) : Option ((Int32 × WH)) :=
  (gR w v0 17 0).bind fun x1 =>
  x1.bind fun a3 =>
  (gR w a3 21 0).bind fun x5 =>
  x5.bind fun a7 =>
  (gR w a7 22 1).bind fun x9 =>
  x9.bind fun a11 =>
  (hIs w a11 2).bind fun _ =>
  b2_ (fJ2_size a11 w) fun x16 w13 =>
  b2_ (fX1_inRange (v1.toInt64) 0 ((x16 - 1).toInt64) w13) fun x19 w17 =>
  (fz_ .boolean x19).bind fun _ =>
  some (x19, w17)
theorem bX1_isArc_0 {p : Program} {l : Launch} {e : Env} {s : State} {m : MethodId} {args : Array Value} {below : List Frame} {meth : Method} {c : Code} {H : Heap} {locs : List Loc} {ls : Array Slot} {G : gE} {A : Nat → Prop} {w0 : WH} (B : gB G RX1 cX1_isArc 2 (some .boolean) p s m args meth c) {v0 : Nat} {v1 : Int32} {w : WH} {r : (Int32 × WH)} (h : fX1_isArc v0 v1 w = some r)   (hR : RepH G A w H) (hS : Cu A s w0 w H locs) (hl : lv_has ls 2 [(0, .ref v0), (1, .int v1)]) : W p l e (hRm 1 25 w0) s m args below meth c H locs (wC w0 - wC w) (wS w0 - wS w) (hZ below args s G A w0 (some (.int r.1)) r.2) (F0 m 0 ls []) := by
  have B0 := B
  obtain ⟨hx, hb, hml, hown, hts, hr, hlk, hK⟩ := B0
  unfold fX1_isArc at h
  refine lv_iload_n hx hb dX1_isArc_0 rfl (lv_at hl 1 rfl) ?_
  refine lv_i2l hx hb dX1_isArc_1 rfl ?_
  refine lv_lconst (v := 0) hx hb dX1_isArc_2 (by decide) ?_
  refine lv_aload_n hx hb dX1_isArc_3 rfl (lv_at hl 0 rfl) ?_
  replace h := bo_o h
  obtain ⟨x1, e2, h⟩ := h
  refine h_get (ci := 17) (k := 0) (v := va_rf x1) hx hb hts hown hK hR in_X1 rfl (by decide) (fun _ _ => rfl) q662 (fun _ h9 => h9) (gR_o e2) dX1_isArc_4 ?_
  replace h := bo_o h
  obtain ⟨a3, e4, h⟩ := h
  subst e4
  replace h := bo_o h
  obtain ⟨x5, e6, h⟩ := h
  refine h_getN (ci := 21) (k := 0) (v := va_rf x5) hx hb hts hown hK hR in_X2 rfl (by decide) (fun _ _ => rfl) (hK.fn 15 rfl) (fun _ h9 => h9) (gR_o e6) dX1_isArc_7 ?_
  replace h := bo_o h
  obtain ⟨a7, e8, h⟩ := h
  subst e8
  replace h := bo_o h
  obtain ⟨x9, e10, h⟩ := h
  refine h_getN (ci := 22) (k := 1) (v := va_rf x9) hx hb hts hown hK hR in_X3 rfl (by decide) (fun _ _ => rfl) (hK.fn 6 rfl) (fun _ h9 => h9) (gR_o e10) dX1_isArc_10 ?_
  replace h := bo_o h
  obtain ⟨a11, e12, h⟩ := h
  subst e12
  replace h := bo_o h
  obtain ⟨_, e14, h⟩ := h
  replace h := b2_o h
  obtain ⟨x16, w13, e15, h⟩ := h
  refine h_callF 0  (As := []) (rest := [.long 0, .long (v1.toInt64)]) (v := (some (.int x16))) (w' := w13) (st1 := [.int x16, .long 0, .long (v1.toInt64)]) hx hb hml hown hts hK hR hS (Nat.le_refl _) (Nat.le_refl _) (h_recv (ci := 2) hK hR hS rfl e14) (mJ2_size e15) (lw_app (a := [.methodLink _ _ _, .selects _ _ _, .instanceMethod _, .initialized _]) (lw_4 q1076 q903 q905 q117) (lw_meth q907)) (hK.fw 0 rfl) (by decide +kernel) (Nat.le_of_ble_eq_true rfl) (Nat.le_of_ble_eq_true rfl) rfl hl.1 (Nat.le_of_ble_eq_true rfl) dX1_isArc_13 rfl rfl (fun H locs hR hS => ?_)
  refine lv_iconst (v := 1) hx hb dX1_isArc_18 (by decide) ?_
  refine lv_isub hx hb dX1_isArc_19 ?_
  refine lv_i2l hx hb dX1_isArc_20 rfl ?_
  replace h := b2_o h
  obtain ⟨x19, w17, e18, h⟩ := h
  refine h_callS 3  (As := [.long (v1.toInt64), .long 0, .long ((x16 - 1).toInt64)]) (rest := []) (v := (some (.int x19))) (w' := w17) (st1 := [.int x19]) hx hb hml hown hts hK hR hS (Nat.le_refl _) (Nat.le_refl _) (mX1_inRange e18) (lw_S q1900 q743 q112 q744) (by decide +kernel) (Nat.le_of_ble_eq_true rfl) (Nat.le_of_ble_eq_true rfl) rfl hl.1 (Nat.le_of_ble_eq_true rfl) dX1_isArc_21 rfl rfl (fun H locs hR hS => ?_)
  replace h := bo_o h
  obtain ⟨_, e20, h⟩ := h
  have eR := Option.some.inj h
  subst eR
  exact h_zfin hx hb hr hlk (fz_n (fun _ => ⟨_, rfl⟩) e20) hR hS dX1_isArc_24
theorem mX1_isArc {l : Launch} {G : gE} {A : Nat → Prop} {v0 : Nat} {v1 : Int32} {w : WH} {r : (Int32 × WH)} (h : fX1_isArc v0 v1 w = some r) : hM l G A yX1_isArc cX1_isArc 2 (some .boolean) 1 25 [.ref v0, .int v1] w (some (.int r.1)) r.2 :=
  h_of (by decide +kernel) (Nat.le_of_ble_eq_true rfl) (fun p e s m args below meth c ls B hnm hR hS hl => bX1_isArc_0 B h hR hS hl)
noncomputable def fX1_requireIndex (v0 : Int32) (w : WH) : Option (((Sum Unit (Nat × Nat)) × WH)) :=
  if v0 = 0 then (
    b2_ (hThr w) fun a2 w3 =>
    some (.inr (0, a2), w3)
  ) else (
    some (.inl (), w)
  )
theorem bX1_requireIndex_0 {p : Program} {l : Launch} {e : Env} {s : State} {m : MethodId} {args : Array Value} {below : List Frame} {meth : Method} {c : Code} {H : Heap} {locs : List Loc} {ls : Array Slot} {G : gE} {A : Nat → Prop} {w0 : WH} (B : gB G RX1 cX1_requireIndex 1 none p s m args meth c) (hT : ∀ x ∈ c.exceptionTable.toList, False) (hl0 : l.stackTraces = false) {v0 : Int32} {w : WH} {r : ((Sum Unit (Nat × Nat)) × WH)} (h : fX1_requireIndex v0 w = some r)   (hR : RepH G A w H) (hS : Cu A s w0 w H locs) (hl : lv_has ls 1 [(0, .int v0)]) : W p l e (hRm 6 100 w0) s m args below meth c H locs (wC w0 - wC w) (wS w0 - wS w) (hZX below args s G A w0 (oV r.1) r.2) (F0 m 0 ls []) := by
  have B0 := B
  obtain ⟨hx, hb, hml, hown, hts, hr, hlk, hK⟩ := B0
  unfold fX1_requireIndex at h
  refine lv_iload_n hx hb dX1_requireIndex_0 rfl (lv_at hl 0 rfl) ?_
  refine lv_if_ne (tgt := 12) hx hb dX1_requireIndex_1 (by decide) (fun c1 => ?_) (fun c1 => ?_)
  · replace h := if_o c1 h
    have eR := Option.some.inj h
    subst eR
    exact h_vfinX hx hb hr hlk hR hS dX1_requireIndex_12
  · replace h := it_o c1 h
    replace h := b2_o h
    obtain ⟨a2, w3, e4, h⟩ := h
    have eR := Option.some.inj h
    subst eR
    exact h_throw0 (cls := "java/lang/IndexOutOfBoundsException") (names := ["java/lang/RuntimeException", "java/lang/Exception"]) hx hb hl0 (hml.trans hl.1.symm) hown hK hR hS (Nat.le_refl _) (Nat.le_refl _) (by decide) (by decide) (hts _ q1959) (hts _ q145) (hat_IOO hts hK) hgd_IOO dX1_requireIndex_4 dX1_requireIndex_7 dX1_requireIndex_8 dX1_requireIndex_11 hT (Nat.le_of_ble_eq_true rfl) (Nat.le_of_ble_eq_true rfl) hlk e4
theorem mX1_requireIndex {l : Launch} {G : gE} {A : Nat → Prop} {v0 : Int32} {w : WH} {r : ((Sum Unit (Nat × Nat)) × WH)} (hl0 : l.stackTraces = false) (h : fX1_requireIndex v0 w = some r) : hMX l G A yX1_requireIndex cX1_requireIndex 1 none 6 100 [.int v0] w (oV r.1) r.2 :=
  h_ofX (by decide +kernel) (Nat.le_of_ble_eq_true rfl) (fun p e s m args below meth c ls B hnm hT hR hS hl => bX1_requireIndex_0 B hT hl0 h hR hS hl)
noncomputable def fX1_arcAt (v0 : Nat) (v1 : Int32) (w : WH) : Option (((Sum (Option Nat) (Nat × Nat)) × WH)) :=
  (hIs w v0 17).bind fun _ =>
  b2_ (fX1_isArc v0 v1 w) fun x4 w1 =>
  b2_ (fX1_requireIndex x4 w1) fun o6 w5 => ex_ o6 (fun _ =>
    (gR w5 v0 17 0).bind fun x10 =>
    x10.bind fun a12 =>
    (gR w5 a12 21 0).bind fun x14 =>
    x14.bind fun a16 =>
    (gR w5 a16 22 1).bind fun x18 =>
    x18.bind fun a20 =>
    (hIs w5 a20 2).bind fun _ =>
    b2_ (fJ2_get a20 v1 w5) fun x25 w22 =>
    x25.bind fun a26 =>
    (hIs w22 a26 27).bind fun _ =>
    some (.inl (some a26), w22)) (fun q9 =>
    some (.inr q9, w5))
theorem bX1_arcAt_0 {p : Program} {l : Launch} {e : Env} {s : State} {m : MethodId} {args : Array Value} {below : List Frame} {meth : Method} {c : Code} {H : Heap} {locs : List Loc} {ls : Array Slot} {G : gE} {A : Nat → Prop} {w0 : WH} (B : gB G RX1 cX1_arcAt 2 (some (.object "TollLeader$Arc")) p s m args meth c) (hT : ∀ x ∈ c.exceptionTable.toList, False) (hl0 : l.stackTraces = false) {v0 : Nat} {v1 : Int32} {w : WH} {r : ((Sum (Option Nat) (Nat × Nat)) × WH)} (h : fX1_arcAt v0 v1 w = some r)   (hR : RepH G A w H) (hS : Cu A s w0 w H locs) (hl : lv_has ls 2 [(0, .ref v0), (1, .int v1)]) : W p l e (hRm 7 120 w0) s m args below meth c H locs (wC w0 - wC w) (wS w0 - wS w) (hZX below args s G A w0 (oR r.1) r.2) (F0 m 0 ls []) := by
  have B0 := B
  obtain ⟨hx, hb, hml, hown, hts, hr, hlk, hK⟩ := B0
  unfold fX1_arcAt at h
  refine lv_aload_n hx hb dX1_arcAt_0 rfl (lv_at hl 0 rfl) ?_
  refine lv_iload_n hx hb dX1_arcAt_1 rfl (lv_at hl 1 rfl) ?_
  replace h := bo_o h
  obtain ⟨_, e2, h⟩ := h
  replace h := b2_o h
  obtain ⟨x4, w1, e3, h⟩ := h
  refine h_callV 1 (ci := 17) (As := [.int v1]) (rest := []) (v := (some (.int x4))) (w' := w1) (st1 := [.int x4]) hx hb hml hown hts hK hR hS (Nat.le_refl _) (Nat.le_refl _) rfl e2 (mX1_isArc e3) (lw_V q1952 q1954 qs47 q112 q1955) (by decide +kernel) (Nat.le_of_ble_eq_true rfl) (Nat.le_of_ble_eq_true rfl) rfl hl.1 (Nat.le_of_ble_eq_true rfl) dX1_arcAt_2 rfl rfl (fun H locs hR hS => ?_)
  replace h := b2_o h
  obtain ⟨o6, w5, e7, h⟩ := h
  refine h_callSX 1 (As := [.int x4]) (rest := []) (o := oV o6) (w' := w5)  hx hb hml hown hts hK hR hS (Nat.le_refl _) (Nat.le_refl _) (mX1_requireIndex hl0 e7) (lw_S q1956 q1957 q112 q1958) (by decide +kernel) (Nat.le_of_ble_eq_true rfl) (Nat.le_of_ble_eq_true rfl) rfl hl.1 (Nat.le_of_ble_eq_true rfl) dX1_arcAt_5 rfl (fun v9 hv9 H locs hR hS => ?_) (fun E9 q9 hq9 H locs hR hS hce => ?_)
  · cases o6 with
    | inr q => cases hv9
    | inl x8 =>
      cases hv9
      replace h := exl_o h
      refine W.eq (g2 := F0 m 8 ls []) rfl ?_
      refine lv_aload_n hx hb dX1_arcAt_8 rfl (lv_at hl 0 rfl) ?_
      replace h := bo_o h
      obtain ⟨x10, e11, h⟩ := h
      refine h_get (ci := 17) (k := 0) (v := va_rf x10) hx hb hts hown hK hR in_X1 rfl (by decide) (fun _ _ => rfl) q662 (fun _ h9 => h9) (gR_o e11) dX1_arcAt_9 ?_
      replace h := bo_o h
      obtain ⟨a12, e13, h⟩ := h
      subst e13
      replace h := bo_o h
      obtain ⟨x14, e15, h⟩ := h
      refine h_getN (ci := 21) (k := 0) (v := va_rf x14) hx hb hts hown hK hR in_X2 rfl (by decide) (fun _ _ => rfl) (hK.fn 15 rfl) (fun _ h9 => h9) (gR_o e15) dX1_arcAt_12 ?_
      replace h := bo_o h
      obtain ⟨a16, e17, h⟩ := h
      subst e17
      replace h := bo_o h
      obtain ⟨x18, e19, h⟩ := h
      refine h_getN (ci := 22) (k := 1) (v := va_rf x18) hx hb hts hown hK hR in_X3 rfl (by decide) (fun _ _ => rfl) (hK.fn 6 rfl) (fun _ h9 => h9) (gR_o e19) dX1_arcAt_15 ?_
      refine lv_iload_n hx hb dX1_arcAt_18 rfl (lv_at hl 1 rfl) ?_
      replace h := bo_o h
      obtain ⟨a20, e21, h⟩ := h
      subst e21
      replace h := bo_o h
      obtain ⟨_, e23, h⟩ := h
      replace h := b2_o h
      obtain ⟨x25, w22, e24, h⟩ := h
      refine h_callF 1  (As := [.int v1]) (rest := []) (v := (some (va_rf x25))) (w' := w22) (st1 := [va_rf x25]) hx hb hml hown hts hK hR hS (Nat.le_refl _) (Nat.le_refl _) (h_recv (ci := 2) hK hR hS rfl e23) (mJ2_get e24) (lw_app (a := [.methodLink _ _ _, .selects _ _ _, .instanceMethod _, .initialized _]) (lw_4 q1205 q1208 q1210 q117) (lw_meth q1212)) (hK.fw 1 rfl) (by decide +kernel) (Nat.le_of_ble_eq_true rfl) (Nat.le_of_ble_eq_true rfl) rfl hl.1 (Nat.le_of_ble_eq_true rfl) dX1_arcAt_19 rfl rfl (fun H locs hR hS => ?_)
      replace h := bo_o h
      obtain ⟨a26, e27, h⟩ := h
      subst e27
      replace h := bo_o h
      obtain ⟨_, e28, h⟩ := h
      refine h_castS (ci := 27) hx hb hts hown hK hR hS rfl e28 q1768 dX1_arcAt_24 ?_
      have eR := Option.some.inj h
      subst eR
      exact h_afinX (x := some a26) hx hb hr hlk (by first | exact Or.inl ⟨_, rfl⟩ | exact Or.inr ⟨_, rfl⟩) hR hS dX1_arcAt_27
  · cases o6 with
    | inl q => cases hq9
    | inr q9 =>
      cases hq9
      replace h := exr_o h
      have eR := Option.some.inj h
      subst eR
      exact h_out hT hlk hR hS hce
theorem mX1_arcAt {l : Launch} {G : gE} {A : Nat → Prop} {v0 : Nat} {v1 : Int32} {w : WH} {r : ((Sum (Option Nat) (Nat × Nat)) × WH)} (hl0 : l.stackTraces = false) (h : fX1_arcAt v0 v1 w = some r) : hMX l G A yX1_arcAt cX1_arcAt 2 (some (.object "TollLeader$Arc")) 7 120 [.ref v0, .int v1] w (oR r.1) r.2 :=
  h_ofX (by decide +kernel) (Nat.le_of_ble_eq_true rfl) (fun p e s m args below meth c ls B hnm hT hR hS hl => bX1_arcAt_0 B hT hl0 h hR hS hl)
noncomputable def fX1_arcValue_b73 (v0 : Nat) (v3 : Option Nat) (w : WH) : Option (((Sum (Int32) (Nat × Nat)) × WH)) :=
  (gR w v0 17 0).bind fun x1 =>
  x1.bind fun a3 =>
  v3.bind fun a5 =>
  (hIs w a3 21).bind fun _ =>
  b2_ (fX2_isOpen a3 a5 w) fun x10 w7 =>
  if x10 = 0 then (
    some (.inl 1, w7)
  ) else (
    some (.inl 0, w7)
  )
theorem bX1_arcValue_73 {p : Program} {l : Launch} {e : Env} {s : State} {m : MethodId} {args : Array Value} {below : List Frame} {meth : Method} {c : Code} {H : Heap} {locs : List Loc} {ls : Array Slot} {G : gE} {A : Nat → Prop} {w0 : WH} (B : gB G RX1 cX1_arcValue 4 (some .int) p s m args meth c) (hT : ∀ x ∈ c.exceptionTable.toList, False) (hl0 : l.stackTraces = false) {v0 : Nat} {v3 : Option Nat} {w : WH} {r : ((Sum (Int32) (Nat × Nat)) × WH)} (h : fX1_arcValue_b73 v0 v3 w = some r)   (hR : RepH G A w H) (hS : Cu A s w0 w H locs) (hl : lv_has ls 4 [(0, .ref v0), (3, va_rf v3)]) : W p l e (hRm 14 312 w0) s m args below meth c H locs (wC w0 - wC w) (wS w0 - wS w) (hZX below args s G A w0 (oI r.1) r.2) (F0 m 73 ls []) := by
  have B0 := B
  obtain ⟨hx, hb, hml, hown, hts, hr, hlk, hK⟩ := B0
  unfold fX1_arcValue_b73 at h
  refine lv_aload_n hx hb dX1_arcValue_73 rfl (lv_at hl 0 rfl) ?_
  replace h := bo_o h
  obtain ⟨x1, e2, h⟩ := h
  refine h_get (ci := 17) (k := 0) (v := va_rf x1) hx hb hts hown hK hR in_X1 rfl (by decide) (fun _ _ => rfl) q662 (fun _ h9 => h9) (gR_o e2) dX1_arcValue_74 ?_
  refine lv_aload_nq hx hb dX1_arcValue_77 rfl (lv_at hl 1 rfl) ?_
  replace h := bo_o h
  obtain ⟨a3, e4, h⟩ := h
  subst e4
  replace h := bo_o h
  obtain ⟨a5, e6, h⟩ := h
  subst e6
  replace h := bo_o h
  obtain ⟨_, e8, h⟩ := h
  replace h := b2_o h
  obtain ⟨x10, w7, e9, h⟩ := h
  refine h_callV 1 (ci := 21) (As := [.ref a5]) (rest := []) (v := (some (.int x10))) (w' := w7) (st1 := [.int x10]) hx hb hml hown hts hK hR hS (Nat.le_refl _) (Nat.le_refl _) rfl e8 (mX2_isOpen e9) (lw_V q1967 q1301 q1302 q113 q1303) (by decide +kernel) (Nat.le_of_ble_eq_true rfl) (Nat.le_of_ble_eq_true rfl) rfl hl.1 (Nat.le_of_ble_eq_true rfl) dX1_arcValue_78 rfl rfl (fun H locs hR hS => ?_)
  refine lv_if_eq (tgt := 88) hx hb dX1_arcValue_81 (by decide) (fun c11 => ?_) (fun c11 => ?_)
  · replace h := it_o c11 h
    refine lv_iconst (v := 1) hx hb dX1_arcValue_88 (by decide) ?_
    have eR := Option.some.inj h
    subst eR
    exact h_ifinX hx hb hr hlk hR hS dX1_arcValue_89
  · replace h := if_o c11 h
    refine lv_iconst (v := 0) hx hb dX1_arcValue_84 (by decide) ?_
    refine lv_goto (tgt := 89) hx hb dX1_arcValue_85 (by decide) ?_
    have eR := Option.some.inj h
    subst eR
    exact h_ifinX hx hb hr hlk hR hS dX1_arcValue_89
noncomputable def fX1_arcValue_b90  (w : WH) : Option (((Sum (Int32) (Nat × Nat)) × WH)) :=
  b2_ (hThr w) fun a1 w2 =>
  some (.inr (1, a1), w2)
theorem bX1_arcValue_90 {p : Program} {l : Launch} {e : Env} {s : State} {m : MethodId} {args : Array Value} {below : List Frame} {meth : Method} {c : Code} {H : Heap} {locs : List Loc} {ls : Array Slot} {G : gE} {A : Nat → Prop} {w0 : WH} (B : gB G RX1 cX1_arcValue 4 (some .int) p s m args meth c) (hT : ∀ x ∈ c.exceptionTable.toList, False) (hl0 : l.stackTraces = false)  {w : WH} {r : ((Sum (Int32) (Nat × Nat)) × WH)} (h : fX1_arcValue_b90 w = some r)   (hR : RepH G A w H) (hS : Cu A s w0 w H locs) (hl : lv_has ls 4 []) : W p l e (hRm 14 312 w0) s m args below meth c H locs (wC w0 - wC w) (wS w0 - wS w) (hZX below args s G A w0 (oI r.1) r.2) (F0 m 90 ls []) := by
  have B0 := B
  obtain ⟨hx, hb, hml, hown, hts, hr, hlk, hK⟩ := B0
  unfold fX1_arcValue_b90 at h
  replace h := b2_o h
  obtain ⟨a1, w2, e3, h⟩ := h
  have eR := Option.some.inj h
  subst eR
  exact h_throw0 (cls := "java/lang/IllegalArgumentException") (names := ["java/lang/RuntimeException", "java/lang/Exception"]) hx hb hl0 (hml.trans hl.1.symm) hown hK hR hS (Nat.le_refl _) (Nat.le_refl _) (by decide) (by decide) (hts _ q1933) (hts _ q121) (hat_IAE hts hK) hgd_IAE dX1_arcValue_90 dX1_arcValue_93 dX1_arcValue_94 dX1_arcValue_97 hT (Nat.le_of_ble_eq_true rfl) (Nat.le_of_ble_eq_true rfl) hlk e3
noncomputable def fX1_arcValue (v0 : Nat) (v1 : Int32) (v2 : Int32) (w : WH) : Option (((Sum (Int32) (Nat × Nat)) × WH)) :=
  (hIs w v0 17).bind fun _ =>
  b2_ (fX1_arcAt v0 v1 w) fun o3 w1 => ex_ o3 (fun x5 =>
    if v2 = 0 then (
      x5.bind fun a8 =>
      (hIs w1 a8 27).bind fun _ =>
      b2_ (fX8_from a8 w1) fun x13 w10 =>
      some (.inl x13, w10)
    ) else (
      if v2 = 1 then (
        x5.bind fun a15 =>
        (hIs w1 a15 27).bind fun _ =>
        b2_ (fX8_to a15 w1) fun x20 w17 =>
        some (.inl x20, w17)
      ) else (
        if v2 = 2 then (
          x5.bind fun a22 =>
          (hIs w1 a22 27).bind fun _ =>
          b2_ (fX8_cost a22 w1) fun x27 w24 =>
          some (.inl x27, w24)
        ) else (
          if v2 = 3 then (
            x5.bind fun a29 =>
            (hIs w1 a29 27).bind fun _ =>
            b2_ (fX8_most a29 w1) fun x34 w31 =>
            some (.inl x34, w31)
          ) else (
            if v2 = 4 then (
              (gR w1 v0 17 0).bind fun x36 =>
              x36.bind fun a38 =>
              x5.bind fun a40 =>
              (hIs w1 a38 21).bind fun _ =>
              b2_ (fX2_toll a38 a40 w1) fun x45 w42 =>
              some (.inl x45, w42)
            ) else (
              if v2 = 5 then (
                fX1_arcValue_b73 v0 x5 w1
              ) else (
                fX1_arcValue_b90 w1
              )
            )
          )
        )
      )
    )) (fun q6 =>
    some (.inr q6, w1))
theorem bX1_arcValue_0 {p : Program} {l : Launch} {e : Env} {s : State} {m : MethodId} {args : Array Value} {below : List Frame} {meth : Method} {c : Code} {H : Heap} {locs : List Loc} {ls : Array Slot} {G : gE} {A : Nat → Prop} {w0 : WH} (B : gB G RX1 cX1_arcValue 4 (some .int) p s m args meth c) (hT : ∀ x ∈ c.exceptionTable.toList, False) (hl0 : l.stackTraces = false) {v0 : Nat} {v1 : Int32} {v2 : Int32} {w : WH} {r : ((Sum (Int32) (Nat × Nat)) × WH)} (h : fX1_arcValue v0 v1 v2 w = some r)   (hR : RepH G A w H) (hS : Cu A s w0 w H locs) (hl : lv_has ls 4 [(0, .ref v0), (1, .int v1), (2, .int v2)]) : W p l e (hRm 14 312 w0) s m args below meth c H locs (wC w0 - wC w) (wS w0 - wS w) (hZX below args s G A w0 (oI r.1) r.2) (F0 m 0 ls []) := by
  have B0 := B
  obtain ⟨hx, hb, hml, hown, hts, hr, hlk, hK⟩ := B0
  unfold fX1_arcValue at h
  refine lv_aload_n hx hb dX1_arcValue_0 rfl (lv_at hl 0 rfl) ?_
  refine lv_iload_n hx hb dX1_arcValue_1 rfl (lv_at hl 1 rfl) ?_
  replace h := bo_o h
  obtain ⟨_, e2, h⟩ := h
  replace h := b2_o h
  obtain ⟨o3, w1, e4, h⟩ := h
  refine h_callVX 1 (ci := 17) (As := [.int v1]) (rest := []) (o := oR o3) (w' := w1) hx hb hml hown hts hK hR hS (Nat.le_refl _) (Nat.le_refl _) rfl e2 (mX1_arcAt hl0 e4) (lw_V q1948 q1950 qs46 q112 q1951) (by decide +kernel) (Nat.le_of_ble_eq_true rfl) (Nat.le_of_ble_eq_true rfl) rfl hl.1 (Nat.le_of_ble_eq_true rfl) dX1_arcValue_2 rfl (fun v9 hv9 H locs hR hS => ?_) (fun E9 q9 hq9 H locs hR hS hce => ?_)
  · cases o3 with
    | inr q => cases hv9
    | inl x5 =>
      cases hv9
      replace h := exl_o h
      refine W.eq (g2 := F0 m 5 ls [va_rf x5]) rfl ?_
      refine lv_astore_nq (lv' := [(3, va_rf x5), (0, .ref v0), (1, .int v1), (2, .int v2)]) hx hb dX1_arcValue_5 rfl hl (by decide) rfl (fun ls hl => ?_)
      refine lv_iload_n hx hb dX1_arcValue_6 rfl (lv_at hl 3 rfl) ?_
      by_cases c7 : v2 = 0
      · replace h := it_o c7 h
        rw [c7]
        refine lv_tableIn (off := 37) (tgt := 44) hx hb dX1_arcValue_7 (by decide) (by decide) rfl (by decide) ?_
        refine lv_aload_nq hx hb dX1_arcValue_44 rfl (lv_at hl 0 rfl) ?_
        replace h := bo_o h
        obtain ⟨a8, e9, h⟩ := h
        subst e9
        replace h := bo_o h
        obtain ⟨_, e11, h⟩ := h
        replace h := b2_o h
        obtain ⟨x13, w10, e12, h⟩ := h
        refine h_callV 0 (ci := 27) (As := []) (rest := []) (v := (some (.int x13))) (w' := w10) (st1 := [.int x13]) hx hb hml hown hts hK hR hS (Nat.le_refl _) (Nat.le_refl _) rfl e11 (mX8_from e12) (lw_V q1964 q1367 q1368 q141 q1369) (by decide +kernel) (Nat.le_of_ble_eq_true rfl) (Nat.le_of_ble_eq_true rfl) rfl hl.1 (Nat.le_of_ble_eq_true rfl) dX1_arcValue_45 rfl rfl (fun H locs hR hS => ?_)
        have eR := Option.some.inj h
        subst eR
        exact h_ifinX hx hb hr hlk hR hS dX1_arcValue_48
      · replace h := if_o c7 h
        by_cases c14 : v2 = 1
        · replace h := it_o c14 h
          rw [c14]
          refine lv_tableIn (off := 42) (tgt := 49) hx hb dX1_arcValue_7 (by decide) (by decide) rfl (by decide) ?_
          refine lv_aload_nq hx hb dX1_arcValue_49 rfl (lv_at hl 0 rfl) ?_
          replace h := bo_o h
          obtain ⟨a15, e16, h⟩ := h
          subst e16
          replace h := bo_o h
          obtain ⟨_, e18, h⟩ := h
          replace h := b2_o h
          obtain ⟨x20, w17, e19, h⟩ := h
          refine h_callV 0 (ci := 27) (As := []) (rest := []) (v := (some (.int x20))) (w' := w17) (st1 := [.int x20]) hx hb hml hown hts hK hR hS (Nat.le_refl _) (Nat.le_refl _) rfl e18 (mX8_to e19) (lw_V q1965 q1363 q1364 q141 q1365) (by decide +kernel) (Nat.le_of_ble_eq_true rfl) (Nat.le_of_ble_eq_true rfl) rfl hl.1 (Nat.le_of_ble_eq_true rfl) dX1_arcValue_50 rfl rfl (fun H locs hR hS => ?_)
          have eR := Option.some.inj h
          subst eR
          exact h_ifinX hx hb hr hlk hR hS dX1_arcValue_53
        · replace h := if_o c14 h
          by_cases c21 : v2 = 2
          · replace h := it_o c21 h
            rw [c21]
            refine lv_tableIn (off := 47) (tgt := 54) hx hb dX1_arcValue_7 (by decide) (by decide) rfl (by decide) ?_
            refine lv_aload_nq hx hb dX1_arcValue_54 rfl (lv_at hl 0 rfl) ?_
            replace h := bo_o h
            obtain ⟨a22, e23, h⟩ := h
            subst e23
            replace h := bo_o h
            obtain ⟨_, e25, h⟩ := h
            replace h := b2_o h
            obtain ⟨x27, w24, e26, h⟩ := h
            refine h_callV 0 (ci := 27) (As := []) (rest := []) (v := (some (.int x27))) (w' := w24) (st1 := [.int x27]) hx hb hml hown hts hK hR hS (Nat.le_refl _) (Nat.le_refl _) rfl e25 (mX8_cost e26) (lw_V q1966 q1328 q1329 q141 q1330) (by decide +kernel) (Nat.le_of_ble_eq_true rfl) (Nat.le_of_ble_eq_true rfl) rfl hl.1 (Nat.le_of_ble_eq_true rfl) dX1_arcValue_55 rfl rfl (fun H locs hR hS => ?_)
            have eR := Option.some.inj h
            subst eR
            exact h_ifinX hx hb hr hlk hR hS dX1_arcValue_58
          · replace h := if_o c21 h
            by_cases c28 : v2 = 3
            · replace h := it_o c28 h
              rw [c28]
              refine lv_tableIn (off := 52) (tgt := 59) hx hb dX1_arcValue_7 (by decide) (by decide) rfl (by decide) ?_
              refine lv_aload_nq hx hb dX1_arcValue_59 rfl (lv_at hl 0 rfl) ?_
              replace h := bo_o h
              obtain ⟨a29, e30, h⟩ := h
              subst e30
              replace h := bo_o h
              obtain ⟨_, e32, h⟩ := h
              replace h := b2_o h
              obtain ⟨x34, w31, e33, h⟩ := h
              refine h_callV 0 (ci := 27) (As := []) (rest := []) (v := (some (.int x34))) (w' := w31) (st1 := [.int x34]) hx hb hml hown hts hK hR hS (Nat.le_refl _) (Nat.le_refl _) rfl e32 (mX8_most e33) (lw_V q1769 q1356 q1357 q141 q1358) (by decide +kernel) (Nat.le_of_ble_eq_true rfl) (Nat.le_of_ble_eq_true rfl) rfl hl.1 (Nat.le_of_ble_eq_true rfl) dX1_arcValue_60 rfl rfl (fun H locs hR hS => ?_)
              have eR := Option.some.inj h
              subst eR
              exact h_ifinX hx hb hr hlk hR hS dX1_arcValue_63
            · replace h := if_o c28 h
              by_cases c35 : v2 = 4
              · replace h := it_o c35 h
                rw [c35]
                refine lv_tableIn (off := 57) (tgt := 64) hx hb dX1_arcValue_7 (by decide) (by decide) rfl (by decide) ?_
                refine lv_aload_n hx hb dX1_arcValue_64 rfl (lv_at hl 1 rfl) ?_
                replace h := bo_o h
                obtain ⟨x36, e37, h⟩ := h
                refine h_get (ci := 17) (k := 0) (v := va_rf x36) hx hb hts hown hK hR in_X1 rfl (by decide) (fun _ _ => rfl) q662 (fun _ h9 => h9) (gR_o e37) dX1_arcValue_65 ?_
                refine lv_aload_nq hx hb dX1_arcValue_68 rfl (lv_at hl 0 rfl) ?_
                replace h := bo_o h
                obtain ⟨a38, e39, h⟩ := h
                subst e39
                replace h := bo_o h
                obtain ⟨a40, e41, h⟩ := h
                subst e41
                replace h := bo_o h
                obtain ⟨_, e43, h⟩ := h
                replace h := b2_o h
                obtain ⟨x45, w42, e44, h⟩ := h
                refine h_callV 1 (ci := 21) (As := [.ref a40]) (rest := []) (v := (some (.int x45))) (w' := w42) (st1 := [.int x45]) hx hb hml hown hts hK hR hS (Nat.le_refl _) (Nat.le_refl _) rfl e43 (mX2_toll e44) (lw_V q1892 q1332 q1333 q113 q1334) (by decide +kernel) (Nat.le_of_ble_eq_true rfl) (Nat.le_of_ble_eq_true rfl) rfl hl.1 (Nat.le_of_ble_eq_true rfl) dX1_arcValue_69 rfl rfl (fun H locs hR hS => ?_)
                have eR := Option.some.inj h
                subst eR
                exact h_ifinX hx hb hr hlk hR hS dX1_arcValue_72
              · replace h := if_o c35 h
                by_cases c46 : v2 = 5
                · replace h := it_o c46 h
                  rw [c46]
                  refine lv_tableIn (off := 66) (tgt := 73) hx hb dX1_arcValue_7 (by decide) (by decide) rfl (by decide) ?_
                  exact bX1_arcValue_73 B hT hl0 h  hR hS (lv_sub hl [1, 0] rfl)
                · replace h := if_o c46 h
                  refine lv_tableOut (tgt := 90) hx hb dX1_arcValue_7 (sw_out (n := 6) (by decide) (lt_s (lt_s (lt_s (lt_s (lt_s (lt_s lt_0 c7) c14) c21) c28) c35) c46)) (by decide) ?_
                  exact bX1_arcValue_90 B hT hl0 h  hR hS (lv_sub hl [] rfl)
  · cases o3 with
    | inl q => cases hq9
    | inr q6 =>
      cases hq9
      replace h := exr_o h
      have eR := Option.some.inj h
      subst eR
      exact h_out hT hlk hR hS hce
theorem mX1_arcValue {l : Launch} {G : gE} {A : Nat → Prop} {v0 : Nat} {v1 : Int32} {v2 : Int32} {w : WH} {r : ((Sum (Int32) (Nat × Nat)) × WH)} (hl0 : l.stackTraces = false) (h : fX1_arcValue v0 v1 v2 w = some r) : hMX l G A yX1_arcValue cX1_arcValue 4 (some .int) 14 312 [.ref v0, .int v1, .int v2] w (oI r.1) r.2 :=
  h_ofX (by decide +kernel) (Nat.le_of_ble_eq_true rfl) (fun p e s m args below meth c ls B hnm hT hR hS hl => bX1_arcValue_0 B hT hl0 h hR hS hl)
noncomputable def fX1_isTrip (v0 : Nat) (v1 : Int32) (w : WH) : Option ((Int32 × WH)) :=
  (gR w v0 17 0).bind fun x1 =>
  x1.bind fun a3 =>
  (gR w a3 21 0).bind fun x5 =>
  x5.bind fun a7 =>
  (gR w a7 22 2).bind fun x9 =>
  x9.bind fun a11 =>
  (hIs w a11 2).bind fun _ =>
  b2_ (fJ2_size a11 w) fun x16 w13 =>
  b2_ (fX1_inRange (v1.toInt64) 0 ((x16 - 1).toInt64) w13) fun x19 w17 =>
  (fz_ .boolean x19).bind fun _ =>
  some (x19, w17)
theorem bX1_isTrip_0 {p : Program} {l : Launch} {e : Env} {s : State} {m : MethodId} {args : Array Value} {below : List Frame} {meth : Method} {c : Code} {H : Heap} {locs : List Loc} {ls : Array Slot} {G : gE} {A : Nat → Prop} {w0 : WH} (B : gB G RX1 cX1_isTrip 2 (some .boolean) p s m args meth c) {v0 : Nat} {v1 : Int32} {w : WH} {r : (Int32 × WH)} (h : fX1_isTrip v0 v1 w = some r)   (hR : RepH G A w H) (hS : Cu A s w0 w H locs) (hl : lv_has ls 2 [(0, .ref v0), (1, .int v1)]) : W p l e (hRm 1 25 w0) s m args below meth c H locs (wC w0 - wC w) (wS w0 - wS w) (hZ below args s G A w0 (some (.int r.1)) r.2) (F0 m 0 ls []) := by
  have B0 := B
  obtain ⟨hx, hb, hml, hown, hts, hr, hlk, hK⟩ := B0
  unfold fX1_isTrip at h
  refine lv_iload_n hx hb dX1_isTrip_0 rfl (lv_at hl 1 rfl) ?_
  refine lv_i2l hx hb dX1_isTrip_1 rfl ?_
  refine lv_lconst (v := 0) hx hb dX1_isTrip_2 (by decide) ?_
  refine lv_aload_n hx hb dX1_isTrip_3 rfl (lv_at hl 0 rfl) ?_
  replace h := bo_o h
  obtain ⟨x1, e2, h⟩ := h
  refine h_get (ci := 17) (k := 0) (v := va_rf x1) hx hb hts hown hK hR in_X1 rfl (by decide) (fun _ _ => rfl) q662 (fun _ h9 => h9) (gR_o e2) dX1_isTrip_4 ?_
  replace h := bo_o h
  obtain ⟨a3, e4, h⟩ := h
  subst e4
  replace h := bo_o h
  obtain ⟨x5, e6, h⟩ := h
  refine h_getN (ci := 21) (k := 0) (v := va_rf x5) hx hb hts hown hK hR in_X2 rfl (by decide) (fun _ _ => rfl) (hK.fn 15 rfl) (fun _ h9 => h9) (gR_o e6) dX1_isTrip_7 ?_
  replace h := bo_o h
  obtain ⟨a7, e8, h⟩ := h
  subst e8
  replace h := bo_o h
  obtain ⟨x9, e10, h⟩ := h
  refine h_getN (ci := 22) (k := 2) (v := va_rf x9) hx hb hts hown hK hR in_X3 rfl (by decide) (fun _ _ => rfl) (hK.fn 10 rfl) (fun _ h9 => h9) (gR_o e10) dX1_isTrip_10 ?_
  replace h := bo_o h
  obtain ⟨a11, e12, h⟩ := h
  subst e12
  replace h := bo_o h
  obtain ⟨_, e14, h⟩ := h
  replace h := b2_o h
  obtain ⟨x16, w13, e15, h⟩ := h
  refine h_callF 0  (As := []) (rest := [.long 0, .long (v1.toInt64)]) (v := (some (.int x16))) (w' := w13) (st1 := [.int x16, .long 0, .long (v1.toInt64)]) hx hb hml hown hts hK hR hS (Nat.le_refl _) (Nat.le_refl _) (h_recv (ci := 2) hK hR hS rfl e14) (mJ2_size e15) (lw_app (a := [.methodLink _ _ _, .selects _ _ _, .instanceMethod _, .initialized _]) (lw_4 q1076 q903 q905 q117) (lw_meth q907)) (hK.fw 0 rfl) (by decide +kernel) (Nat.le_of_ble_eq_true rfl) (Nat.le_of_ble_eq_true rfl) rfl hl.1 (Nat.le_of_ble_eq_true rfl) dX1_isTrip_13 rfl rfl (fun H locs hR hS => ?_)
  refine lv_iconst (v := 1) hx hb dX1_isTrip_18 (by decide) ?_
  refine lv_isub hx hb dX1_isTrip_19 ?_
  refine lv_i2l hx hb dX1_isTrip_20 rfl ?_
  replace h := b2_o h
  obtain ⟨x19, w17, e18, h⟩ := h
  refine h_callS 3  (As := [.long (v1.toInt64), .long 0, .long ((x16 - 1).toInt64)]) (rest := []) (v := (some (.int x19))) (w' := w17) (st1 := [.int x19]) hx hb hml hown hts hK hR hS (Nat.le_refl _) (Nat.le_refl _) (mX1_inRange e18) (lw_S q1900 q743 q112 q744) (by decide +kernel) (Nat.le_of_ble_eq_true rfl) (Nat.le_of_ble_eq_true rfl) rfl hl.1 (Nat.le_of_ble_eq_true rfl) dX1_isTrip_21 rfl rfl (fun H locs hR hS => ?_)
  replace h := bo_o h
  obtain ⟨_, e20, h⟩ := h
  have eR := Option.some.inj h
  subst eR
  exact h_zfin hx hb hr hlk (fz_n (fun _ => ⟨_, rfl⟩) e20) hR hS dX1_isTrip_24
theorem mX1_isTrip {l : Launch} {G : gE} {A : Nat → Prop} {v0 : Nat} {v1 : Int32} {w : WH} {r : (Int32 × WH)} (h : fX1_isTrip v0 v1 w = some r) : hM l G A yX1_isTrip cX1_isTrip 2 (some .boolean) 1 25 [.ref v0, .int v1] w (some (.int r.1)) r.2 :=
  h_of (by decide +kernel) (Nat.le_of_ble_eq_true rfl) (fun p e s m args below meth c ls B hnm hR hS hl => bX1_isTrip_0 B h hR hS hl)
noncomputable def fX1_tripAt (v0 : Nat) (v1 : Int32) (w : WH) : Option (((Sum (Option Nat) (Nat × Nat)) × WH)) :=
  (hIs w v0 17).bind fun _ =>
  b2_ (fX1_isTrip v0 v1 w) fun x4 w1 =>
  b2_ (fX1_requireIndex x4 w1) fun o6 w5 => ex_ o6 (fun _ =>
    (gR w5 v0 17 0).bind fun x10 =>
    x10.bind fun a12 =>
    (gR w5 a12 21 0).bind fun x14 =>
    x14.bind fun a16 =>
    (gR w5 a16 22 2).bind fun x18 =>
    x18.bind fun a20 =>
    (hIs w5 a20 2).bind fun _ =>
    b2_ (fJ2_get a20 v1 w5) fun x25 w22 =>
    x25.bind fun a26 =>
    (hIs w22 a26 28).bind fun _ =>
    some (.inl (some a26), w22)) (fun q9 =>
    some (.inr q9, w5))
theorem bX1_tripAt_0 {p : Program} {l : Launch} {e : Env} {s : State} {m : MethodId} {args : Array Value} {below : List Frame} {meth : Method} {c : Code} {H : Heap} {locs : List Loc} {ls : Array Slot} {G : gE} {A : Nat → Prop} {w0 : WH} (B : gB G RX1 cX1_tripAt 2 (some (.object "TollLeader$Trip")) p s m args meth c) (hT : ∀ x ∈ c.exceptionTable.toList, False) (hl0 : l.stackTraces = false) {v0 : Nat} {v1 : Int32} {w : WH} {r : ((Sum (Option Nat) (Nat × Nat)) × WH)} (h : fX1_tripAt v0 v1 w = some r)   (hR : RepH G A w H) (hS : Cu A s w0 w H locs) (hl : lv_has ls 2 [(0, .ref v0), (1, .int v1)]) : W p l e (hRm 7 120 w0) s m args below meth c H locs (wC w0 - wC w) (wS w0 - wS w) (hZX below args s G A w0 (oR r.1) r.2) (F0 m 0 ls []) := by
  have B0 := B
  obtain ⟨hx, hb, hml, hown, hts, hr, hlk, hK⟩ := B0
  unfold fX1_tripAt at h
  refine lv_aload_n hx hb dX1_tripAt_0 rfl (lv_at hl 0 rfl) ?_
  refine lv_iload_n hx hb dX1_tripAt_1 rfl (lv_at hl 1 rfl) ?_
  replace h := bo_o h
  obtain ⟨_, e2, h⟩ := h
  replace h := b2_o h
  obtain ⟨x4, w1, e3, h⟩ := h
  refine h_callV 1 (ci := 17) (As := [.int v1]) (rest := []) (v := (some (.int x4))) (w' := w1) (st1 := [.int x4]) hx hb hml hown hts hK hR hS (Nat.le_refl _) (Nat.le_refl _) rfl e2 (mX1_isTrip e3) (lw_V q1979 q1981 qs49 q112 q1982) (by decide +kernel) (Nat.le_of_ble_eq_true rfl) (Nat.le_of_ble_eq_true rfl) rfl hl.1 (Nat.le_of_ble_eq_true rfl) dX1_tripAt_2 rfl rfl (fun H locs hR hS => ?_)
  replace h := b2_o h
  obtain ⟨o6, w5, e7, h⟩ := h
  refine h_callSX 1 (As := [.int x4]) (rest := []) (o := oV o6) (w' := w5)  hx hb hml hown hts hK hR hS (Nat.le_refl _) (Nat.le_refl _) (mX1_requireIndex hl0 e7) (lw_S q1956 q1957 q112 q1958) (by decide +kernel) (Nat.le_of_ble_eq_true rfl) (Nat.le_of_ble_eq_true rfl) rfl hl.1 (Nat.le_of_ble_eq_true rfl) dX1_tripAt_5 rfl (fun v9 hv9 H locs hR hS => ?_) (fun E9 q9 hq9 H locs hR hS hce => ?_)
  · cases o6 with
    | inr q => cases hv9
    | inl x8 =>
      cases hv9
      replace h := exl_o h
      refine W.eq (g2 := F0 m 8 ls []) rfl ?_
      refine lv_aload_n hx hb dX1_tripAt_8 rfl (lv_at hl 0 rfl) ?_
      replace h := bo_o h
      obtain ⟨x10, e11, h⟩ := h
      refine h_get (ci := 17) (k := 0) (v := va_rf x10) hx hb hts hown hK hR in_X1 rfl (by decide) (fun _ _ => rfl) q662 (fun _ h9 => h9) (gR_o e11) dX1_tripAt_9 ?_
      replace h := bo_o h
      obtain ⟨a12, e13, h⟩ := h
      subst e13
      replace h := bo_o h
      obtain ⟨x14, e15, h⟩ := h
      refine h_getN (ci := 21) (k := 0) (v := va_rf x14) hx hb hts hown hK hR in_X2 rfl (by decide) (fun _ _ => rfl) (hK.fn 15 rfl) (fun _ h9 => h9) (gR_o e15) dX1_tripAt_12 ?_
      replace h := bo_o h
      obtain ⟨a16, e17, h⟩ := h
      subst e17
      replace h := bo_o h
      obtain ⟨x18, e19, h⟩ := h
      refine h_getN (ci := 22) (k := 2) (v := va_rf x18) hx hb hts hown hK hR in_X3 rfl (by decide) (fun _ _ => rfl) (hK.fn 10 rfl) (fun _ h9 => h9) (gR_o e19) dX1_tripAt_15 ?_
      refine lv_iload_n hx hb dX1_tripAt_18 rfl (lv_at hl 1 rfl) ?_
      replace h := bo_o h
      obtain ⟨a20, e21, h⟩ := h
      subst e21
      replace h := bo_o h
      obtain ⟨_, e23, h⟩ := h
      replace h := b2_o h
      obtain ⟨x25, w22, e24, h⟩ := h
      refine h_callF 1  (As := [.int v1]) (rest := []) (v := (some (va_rf x25))) (w' := w22) (st1 := [va_rf x25]) hx hb hml hown hts hK hR hS (Nat.le_refl _) (Nat.le_refl _) (h_recv (ci := 2) hK hR hS rfl e23) (mJ2_get e24) (lw_app (a := [.methodLink _ _ _, .selects _ _ _, .instanceMethod _, .initialized _]) (lw_4 q1205 q1208 q1210 q117) (lw_meth q1212)) (hK.fw 1 rfl) (by decide +kernel) (Nat.le_of_ble_eq_true rfl) (Nat.le_of_ble_eq_true rfl) rfl hl.1 (Nat.le_of_ble_eq_true rfl) dX1_tripAt_19 rfl rfl (fun H locs hR hS => ?_)
      replace h := bo_o h
      obtain ⟨a26, e27, h⟩ := h
      subst e27
      replace h := bo_o h
      obtain ⟨_, e28, h⟩ := h
      refine h_castS (ci := 28) hx hb hts hown hK hR hS rfl e28 q1265 dX1_tripAt_24 ?_
      have eR := Option.some.inj h
      subst eR
      exact h_afinX (x := some a26) hx hb hr hlk (by first | exact Or.inl ⟨_, rfl⟩ | exact Or.inr ⟨_, rfl⟩) hR hS dX1_tripAt_27
  · cases o6 with
    | inl q => cases hq9
    | inr q9 =>
      cases hq9
      replace h := exr_o h
      have eR := Option.some.inj h
      subst eR
      exact h_out hT hlk hR hS hce
theorem mX1_tripAt {l : Launch} {G : gE} {A : Nat → Prop} {v0 : Nat} {v1 : Int32} {w : WH} {r : ((Sum (Option Nat) (Nat × Nat)) × WH)} (hl0 : l.stackTraces = false) (h : fX1_tripAt v0 v1 w = some r) : hMX l G A yX1_tripAt cX1_tripAt 2 (some (.object "TollLeader$Trip")) 7 120 [.ref v0, .int v1] w (oR r.1) r.2 :=
  h_ofX (by decide +kernel) (Nat.le_of_ble_eq_true rfl) (fun p e s m args below meth c ls B hnm hT hR hS hl => bX1_tripAt_0 B hT hl0 h hR hS hl)
noncomputable def fX1_tripValue (v0 : Nat) (v1 : Int32) (v2 : Int32) (w : WH) : Option (((Sum (Int32) (Nat × Nat)) × WH)) :=
  (hIs w v0 17).bind fun _ =>
  b2_ (fX1_tripAt v0 v1 w) fun o3 w1 => ex_ o3 (fun x5 =>
    if v2 = 0 then (
      x5.bind fun a8 =>
      (hIs w1 a8 28).bind fun _ =>
      b2_ (fX9_from a8 w1) fun x13 w10 =>
      some (.inl x13, w10)
    ) else (
      if v2 = 1 then (
        x5.bind fun a15 =>
        (hIs w1 a15 28).bind fun _ =>
        b2_ (fX9_to a15 w1) fun x20 w17 =>
        some (.inl x20, w17)
      ) else (
        if v2 = 2 then (
          (gR w1 v0 17 0).bind fun x22 =>
          x22.bind fun a24 =>
          (gR w1 a24 21 2).bind fun x26 =>
          x26.bind fun a28 =>
          (ldI w1 a28 0 v1).bind fun x30 =>
          some (.inl x30, w1)
        ) else (
          if v2 = 3 then (
            x5.bind fun a33 =>
            (hIs w1 a33 28).bind fun _ =>
            b2_ (fX9_value a33 w1) fun x38 w35 =>
            some (.inl x38, w35)
          ) else (
            b2_ (hThr w1) fun a39 w40 =>
            some (.inr (1, a39), w40)
          )
        )
      )
    )) (fun q6 =>
    some (.inr q6, w1))
theorem bX1_tripValue_0 {p : Program} {l : Launch} {e : Env} {s : State} {m : MethodId} {args : Array Value} {below : List Frame} {meth : Method} {c : Code} {H : Heap} {locs : List Loc} {ls : Array Slot} {G : gE} {A : Nat → Prop} {w0 : WH} (B : gB G RX1 cX1_tripValue 4 (some .int) p s m args meth c) (hT : ∀ x ∈ c.exceptionTable.toList, False) (hl0 : l.stackTraces = false) {v0 : Nat} {v1 : Int32} {v2 : Int32} {w : WH} {r : ((Sum (Int32) (Nat × Nat)) × WH)} (h : fX1_tripValue v0 v1 v2 w = some r)   (hR : RepH G A w H) (hS : Cu A s w0 w H locs) (hl : lv_has ls 4 [(0, .ref v0), (1, .int v1), (2, .int v2)]) : W p l e (hRm 8 141 w0) s m args below meth c H locs (wC w0 - wC w) (wS w0 - wS w) (hZX below args s G A w0 (oI r.1) r.2) (F0 m 0 ls []) := by
  have B0 := B
  obtain ⟨hx, hb, hml, hown, hts, hr, hlk, hK⟩ := B0
  unfold fX1_tripValue at h
  refine lv_aload_n hx hb dX1_tripValue_0 rfl (lv_at hl 0 rfl) ?_
  refine lv_iload_n hx hb dX1_tripValue_1 rfl (lv_at hl 1 rfl) ?_
  replace h := bo_o h
  obtain ⟨_, e2, h⟩ := h
  replace h := b2_o h
  obtain ⟨o3, w1, e4, h⟩ := h
  refine h_callVX 1 (ci := 17) (As := [.int v1]) (rest := []) (o := oR o3) (w' := w1) hx hb hml hown hts hK hR hS (Nat.le_refl _) (Nat.le_refl _) rfl e2 (mX1_tripAt hl0 e4) (lw_V q1975 q1977 qs48 q112 q1978) (by decide +kernel) (Nat.le_of_ble_eq_true rfl) (Nat.le_of_ble_eq_true rfl) rfl hl.1 (Nat.le_of_ble_eq_true rfl) dX1_tripValue_2 rfl (fun v9 hv9 H locs hR hS => ?_) (fun E9 q9 hq9 H locs hR hS hce => ?_)
  · cases o3 with
    | inr q => cases hv9
    | inl x5 =>
      cases hv9
      replace h := exl_o h
      refine W.eq (g2 := F0 m 5 ls [va_rf x5]) rfl ?_
      refine lv_astore_nq (lv' := [(3, va_rf x5), (0, .ref v0), (1, .int v1), (2, .int v2)]) hx hb dX1_tripValue_5 rfl hl (by decide) rfl (fun ls hl => ?_)
      refine lv_iload_n hx hb dX1_tripValue_6 rfl (lv_at hl 3 rfl) ?_
      by_cases c7 : v2 = 0
      · replace h := it_o c7 h
        rw [c7]
        refine lv_tableIn (off := 29) (tgt := 36) hx hb dX1_tripValue_7 (by decide) (by decide) rfl (by decide) ?_
        refine lv_aload_nq hx hb dX1_tripValue_36 rfl (lv_at hl 0 rfl) ?_
        replace h := bo_o h
        obtain ⟨a8, e9, h⟩ := h
        subst e9
        replace h := bo_o h
        obtain ⟨_, e11, h⟩ := h
        replace h := b2_o h
        obtain ⟨x13, w10, e12, h⟩ := h
        refine h_callV 0 (ci := 28) (As := []) (rest := []) (v := (some (.int x13))) (w' := w10) (st1 := [.int x13]) hx hb hml hown hts hK hR hS (Nat.le_refl _) (Nat.le_refl _) rfl e11 (mX9_from e12) (lw_V q1983 q1371 q1372 q143 q1373) (by decide +kernel) (Nat.le_of_ble_eq_true rfl) (Nat.le_of_ble_eq_true rfl) rfl hl.1 (Nat.le_of_ble_eq_true rfl) dX1_tripValue_37 rfl rfl (fun H locs hR hS => ?_)
        have eR := Option.some.inj h
        subst eR
        exact h_ifinX hx hb hr hlk hR hS dX1_tripValue_40
      · replace h := if_o c7 h
        by_cases c14 : v2 = 1
        · replace h := it_o c14 h
          rw [c14]
          refine lv_tableIn (off := 34) (tgt := 41) hx hb dX1_tripValue_7 (by decide) (by decide) rfl (by decide) ?_
          refine lv_aload_nq hx hb dX1_tripValue_41 rfl (lv_at hl 0 rfl) ?_
          replace h := bo_o h
          obtain ⟨a15, e16, h⟩ := h
          subst e16
          replace h := bo_o h
          obtain ⟨_, e18, h⟩ := h
          replace h := b2_o h
          obtain ⟨x20, w17, e19, h⟩ := h
          refine h_callV 0 (ci := 28) (As := []) (rest := []) (v := (some (.int x20))) (w' := w17) (st1 := [.int x20]) hx hb hml hown hts hK hR hS (Nat.le_refl _) (Nat.le_refl _) rfl e18 (mX9_to e19) (lw_V q1984 q1278 q1279 q143 q1280) (by decide +kernel) (Nat.le_of_ble_eq_true rfl) (Nat.le_of_ble_eq_true rfl) rfl hl.1 (Nat.le_of_ble_eq_true rfl) dX1_tripValue_42 rfl rfl (fun H locs hR hS => ?_)
          have eR := Option.some.inj h
          subst eR
          exact h_ifinX hx hb hr hlk hR hS dX1_tripValue_45
        · replace h := if_o c14 h
          by_cases c21 : v2 = 2
          · replace h := it_o c21 h
            rw [c21]
            refine lv_tableIn (off := 39) (tgt := 46) hx hb dX1_tripValue_7 (by decide) (by decide) rfl (by decide) ?_
            refine lv_aload_n hx hb dX1_tripValue_46 rfl (lv_at hl 1 rfl) ?_
            replace h := bo_o h
            obtain ⟨x22, e23, h⟩ := h
            refine h_get (ci := 17) (k := 0) (v := va_rf x22) hx hb hts hown hK hR in_X1 rfl (by decide) (fun _ _ => rfl) q662 (fun _ h9 => h9) (gR_o e23) dX1_tripValue_47 ?_
            replace h := bo_o h
            obtain ⟨a24, e25, h⟩ := h
            subst e25
            replace h := bo_o h
            obtain ⟨x26, e27, h⟩ := h
            refine h_getN (ci := 21) (k := 2) (v := va_rf x26) hx hb hts hown hK hR in_X2 rfl (by decide) (fun _ _ => rfl) (hK.fn 19 rfl) (fun _ h9 => h9) (gR_o e27) dX1_tripValue_50 ?_
            refine lv_iload_n hx hb dX1_tripValue_53 rfl (lv_at hl 2 rfl) ?_
            replace h := bo_o h
            obtain ⟨a28, e29, h⟩ := h
            subst e29
            replace h := bo_o h
            obtain ⟨x30, e31, h⟩ := h
            refine h_iald hx hb hK hR e31 dX1_tripValue_54 ?_
            have eR := Option.some.inj h
            subst eR
            exact h_ifinX hx hb hr hlk hR hS dX1_tripValue_55
          · replace h := if_o c21 h
            by_cases c32 : v2 = 3
            · replace h := it_o c32 h
              rw [c32]
              refine lv_tableIn (off := 49) (tgt := 56) hx hb dX1_tripValue_7 (by decide) (by decide) rfl (by decide) ?_
              refine lv_aload_nq hx hb dX1_tripValue_56 rfl (lv_at hl 0 rfl) ?_
              replace h := bo_o h
              obtain ⟨a33, e34, h⟩ := h
              subst e34
              replace h := bo_o h
              obtain ⟨_, e36, h⟩ := h
              replace h := b2_o h
              obtain ⟨x38, w35, e37, h⟩ := h
              refine h_callV 0 (ci := 28) (As := []) (rest := []) (v := (some (.int x38))) (w' := w35) (st1 := [.int x38]) hx hb hml hown hts hK hR hS (Nat.le_refl _) (Nat.le_refl _) rfl e36 (mX9_value e37) (lw_V q1985 q1324 q1325 q143 q1326) (by decide +kernel) (Nat.le_of_ble_eq_true rfl) (Nat.le_of_ble_eq_true rfl) rfl hl.1 (Nat.le_of_ble_eq_true rfl) dX1_tripValue_57 rfl rfl (fun H locs hR hS => ?_)
              have eR := Option.some.inj h
              subst eR
              exact h_ifinX hx hb hr hlk hR hS dX1_tripValue_60
            · replace h := if_o c32 h
              refine lv_tableOut (tgt := 61) hx hb dX1_tripValue_7 (sw_out (n := 4) (by decide) (lt_s (lt_s (lt_s (lt_s lt_0 c7) c14) c21) c32)) (by decide) ?_
              replace h := b2_o h
              obtain ⟨a39, w40, e41, h⟩ := h
              have eR := Option.some.inj h
              subst eR
              exact h_throw0 (cls := "java/lang/IllegalArgumentException") (names := ["java/lang/RuntimeException", "java/lang/Exception"]) hx hb hl0 (hml.trans hl.1.symm) hown hK hR hS (Nat.le_refl _) (Nat.le_refl _) (by decide) (by decide) (hts _ q1933) (hts _ q121) (hat_IAE hts hK) hgd_IAE dX1_tripValue_61 dX1_tripValue_64 dX1_tripValue_65 dX1_tripValue_68 hT (Nat.le_of_ble_eq_true rfl) (Nat.le_of_ble_eq_true rfl) hlk e41
  · cases o3 with
    | inl q => cases hq9
    | inr q6 =>
      cases hq9
      replace h := exr_o h
      have eR := Option.some.inj h
      subst eR
      exact h_out hT hlk hR hS hce
theorem mX1_tripValue {l : Launch} {G : gE} {A : Nat → Prop} {v0 : Nat} {v1 : Int32} {v2 : Int32} {w : WH} {r : ((Sum (Int32) (Nat × Nat)) × WH)} (hl0 : l.stackTraces = false) (h : fX1_tripValue v0 v1 v2 w = some r) : hMX l G A yX1_tripValue cX1_tripValue 4 (some .int) 8 141 [.ref v0, .int v1, .int v2] w (oI r.1) r.2 :=
  h_ofX (by decide +kernel) (Nat.le_of_ble_eq_true rfl) (fun p e s m args below meth c ls B hnm hT hR hS hl => bX1_tripValue_0 B hT hl0 h hR hS hl)
noncomputable def fX1_requireArgument (v0 : Int32) (w : WH) : Option (((Sum Unit (Nat × Nat)) × WH)) :=
  if v0 = 0 then (
    b2_ (hThr w) fun a2 w3 =>
    some (.inr (1, a2), w3)
  ) else (
    some (.inl (), w)
  )
theorem bX1_requireArgument_0 {p : Program} {l : Launch} {e : Env} {s : State} {m : MethodId} {args : Array Value} {below : List Frame} {meth : Method} {c : Code} {H : Heap} {locs : List Loc} {ls : Array Slot} {G : gE} {A : Nat → Prop} {w0 : WH} (B : gB G RX1 cX1_requireArgument 1 none p s m args meth c) (hT : ∀ x ∈ c.exceptionTable.toList, False) (hl0 : l.stackTraces = false) {v0 : Int32} {w : WH} {r : ((Sum Unit (Nat × Nat)) × WH)} (h : fX1_requireArgument v0 w = some r)   (hR : RepH G A w H) (hS : Cu A s w0 w H locs) (hl : lv_has ls 1 [(0, .int v0)]) : W p l e (hRm 6 100 w0) s m args below meth c H locs (wC w0 - wC w) (wS w0 - wS w) (hZX below args s G A w0 (oV r.1) r.2) (F0 m 0 ls []) := by
  have B0 := B
  obtain ⟨hx, hb, hml, hown, hts, hr, hlk, hK⟩ := B0
  unfold fX1_requireArgument at h
  refine lv_iload_n hx hb dX1_requireArgument_0 rfl (lv_at hl 0 rfl) ?_
  refine lv_if_ne (tgt := 12) hx hb dX1_requireArgument_1 (by decide) (fun c1 => ?_) (fun c1 => ?_)
  · replace h := if_o c1 h
    have eR := Option.some.inj h
    subst eR
    exact h_vfinX hx hb hr hlk hR hS dX1_requireArgument_12
  · replace h := it_o c1 h
    replace h := b2_o h
    obtain ⟨a2, w3, e4, h⟩ := h
    have eR := Option.some.inj h
    subst eR
    exact h_throw0 (cls := "java/lang/IllegalArgumentException") (names := ["java/lang/RuntimeException", "java/lang/Exception"]) hx hb hl0 (hml.trans hl.1.symm) hown hK hR hS (Nat.le_refl _) (Nat.le_refl _) (by decide) (by decide) (hts _ q1933) (hts _ q121) (hat_IAE hts hK) hgd_IAE dX1_requireArgument_4 dX1_requireArgument_7 dX1_requireArgument_8 dX1_requireArgument_11 hT (Nat.le_of_ble_eq_true rfl) (Nat.le_of_ble_eq_true rfl) hlk e4
theorem mX1_requireArgument {l : Launch} {G : gE} {A : Nat → Prop} {v0 : Int32} {w : WH} {r : ((Sum Unit (Nat × Nat)) × WH)} (hl0 : l.stackTraces = false) (h : fX1_requireArgument v0 w = some r) : hMX l G A yX1_requireArgument cX1_requireArgument 1 none 6 100 [.int v0] w (oV r.1) r.2 :=
  h_ofX (by decide +kernel) (Nat.le_of_ble_eq_true rfl) (fun p e s m args below meth c ls B hnm hT hR hS hl => bX1_requireArgument_0 B hT hl0 h hR hS hl)
noncomputable def fX1_setToll_b42 (v3 : Int32) (w : WH) : Option (((Sum (Int32) (Nat × Nat)) × WH)) :=
  some (.inl v3, w)
theorem bX1_setToll_42 {p : Program} {l : Launch} {e : Env} {s : State} {m : MethodId} {args : Array Value} {below : List Frame} {meth : Method} {c : Code} {H : Heap} {locs : List Loc} {ls : Array Slot} {G : gE} {A : Nat → Prop} {w0 : WH} (B : gB G RX1 cX1_setToll 4 (some .int) p s m args meth c) (hT : ∀ x ∈ c.exceptionTable.toList, False) (hl0 : l.stackTraces = false) {v3 : Int32} {w : WH} {r : ((Sum (Int32) (Nat × Nat)) × WH)} (h : fX1_setToll_b42 v3 w = some r)   (hR : RepH G A w H) (hS : Cu A s w0 w H locs) (hl : lv_has ls 4 [(3, .int v3)]) : W p l e (hRm 15 332 w0) s m args below meth c H locs (wC w0 - wC w) (wS w0 - wS w) (hZX below args s G A w0 (oI r.1) r.2) (F0 m 42 ls []) := by
  have B0 := B
  obtain ⟨hx, hb, hml, hown, hts, hr, hlk, hK⟩ := B0
  unfold fX1_setToll_b42 at h
  refine lv_iload_n hx hb dX1_setToll_42 rfl (lv_at hl 0 rfl) ?_
  have eR := Option.some.inj h
  subst eR
  exact h_ifinX hx hb hr hlk hR hS dX1_setToll_43
noncomputable def fX1_setToll (v0 : Nat) (v1 : Int32) (v2 : Int32) (w : WH) : Option (((Sum (Int32) (Nat × Nat)) × WH)) :=
  (hIs w v0 17).bind fun _ =>
  b2_ (fX1_arcAt v0 v1 w) fun o3 w1 => ex_ o3 (fun x5 =>
    x5.bind fun a7 =>
    (hIs w1 a7 27).bind fun _ =>
    b2_ (fX8_most a7 w1) fun x12 w9 =>
    b2_ (fX1_inRange (v2.toInt64) 0 (x12.toInt64) w9) fun x15 w13 =>
    b2_ (fX1_requireArgument x15 w13) fun o17 w16 => ex_ o17 (fun _ =>
      (hIs w16 v0 17).bind fun _ =>
      (fX1_act v0 w16).bind fun w21 =>
      (gR w21 v0 17 0).bind fun x24 =>
      x24.bind fun a26 =>
      (gR w21 a26 21 1).bind fun x28 =>
      x28.bind fun a30 =>
      (ldI w21 a30 0 v1).bind fun x32 =>
      (gR w21 v0 17 0).bind fun x34 =>
      x34.bind fun a36 =>
      (gR w21 a36 21 1).bind fun x38 =>
      x38.bind fun a40 =>
      (stI w21 a40 0 v1 v2).bind fun w42 =>
      fX1_setToll_b42 x32 w42) (fun q20 =>
      some (.inr q20, w16))) (fun q6 =>
    some (.inr q6, w1))
theorem bX1_setToll_0 {p : Program} {l : Launch} {e : Env} {s : State} {m : MethodId} {args : Array Value} {below : List Frame} {meth : Method} {c : Code} {H : Heap} {locs : List Loc} {ls : Array Slot} {G : gE} {A : Nat → Prop} {w0 : WH} (B : gB G RX1 cX1_setToll 4 (some .int) p s m args meth c) (hT : ∀ x ∈ c.exceptionTable.toList, False) (hl0 : l.stackTraces = false) {v0 : Nat} {v1 : Int32} {v2 : Int32} {w : WH} {r : ((Sum (Int32) (Nat × Nat)) × WH)} (h : fX1_setToll v0 v1 v2 w = some r)   (hR : RepH G A w H) (hS : Cu A s w0 w H locs) (hl : lv_has ls 4 [(0, .ref v0), (1, .int v1), (2, .int v2)]) : W p l e (hRm 15 332 w0) s m args below meth c H locs (wC w0 - wC w) (wS w0 - wS w) (hZX below args s G A w0 (oI r.1) r.2) (F0 m 0 ls []) := by
  have B0 := B
  obtain ⟨hx, hb, hml, hown, hts, hr, hlk, hK⟩ := B0
  unfold fX1_setToll at h
  refine lv_iload_n hx hb dX1_setToll_0 rfl (lv_at hl 2 rfl) ?_
  refine lv_i2l hx hb dX1_setToll_1 rfl ?_
  refine lv_lconst (v := 0) hx hb dX1_setToll_2 (by decide) ?_
  refine lv_aload_n hx hb dX1_setToll_3 rfl (lv_at hl 0 rfl) ?_
  refine lv_iload_n hx hb dX1_setToll_4 rfl (lv_at hl 1 rfl) ?_
  replace h := bo_o h
  obtain ⟨_, e2, h⟩ := h
  replace h := b2_o h
  obtain ⟨o3, w1, e4, h⟩ := h
  refine h_callVX 1 (ci := 17) (As := [.int v1]) (rest := [.long 0, .long (v2.toInt64)]) (o := oR o3) (w' := w1) hx hb hml hown hts hK hR hS (Nat.le_refl _) (Nat.le_refl _) rfl e2 (mX1_arcAt hl0 e4) (lw_V q1948 q1950 qs46 q112 q1951) (by decide +kernel) (Nat.le_of_ble_eq_true rfl) (Nat.le_of_ble_eq_true rfl) rfl hl.1 (Nat.le_of_ble_eq_true rfl) dX1_setToll_5 rfl (fun v9 hv9 H locs hR hS => ?_) (fun E9 q9 hq9 H locs hR hS hce => ?_)
  · cases o3 with
    | inr q => cases hv9
    | inl x5 =>
      cases hv9
      replace h := exl_o h
      refine W.eq (g2 := F0 m 8 ls [va_rf x5, .long 0, .long (v2.toInt64)]) rfl ?_
      replace h := bo_o h
      obtain ⟨a7, e8, h⟩ := h
      subst e8
      replace h := bo_o h
      obtain ⟨_, e10, h⟩ := h
      replace h := b2_o h
      obtain ⟨x12, w9, e11, h⟩ := h
      refine h_callV 0 (ci := 27) (As := []) (rest := [.long 0, .long (v2.toInt64)]) (v := (some (.int x12))) (w' := w9) (st1 := [.int x12, .long 0, .long (v2.toInt64)]) hx hb hml hown hts hK hR hS (Nat.le_refl _) (Nat.le_refl _) rfl e10 (mX8_most e11) (lw_V q1769 q1356 q1357 q141 q1358) (by decide +kernel) (Nat.le_of_ble_eq_true rfl) (Nat.le_of_ble_eq_true rfl) rfl hl.1 (Nat.le_of_ble_eq_true rfl) dX1_setToll_8 rfl rfl (fun H locs hR hS => ?_)
      refine lv_i2l hx hb dX1_setToll_11 rfl ?_
      replace h := b2_o h
      obtain ⟨x15, w13, e14, h⟩ := h
      refine h_callS 3  (As := [.long (v2.toInt64), .long 0, .long (x12.toInt64)]) (rest := []) (v := (some (.int x15))) (w' := w13) (st1 := [.int x15]) hx hb hml hown hts hK hR hS (Nat.le_refl _) (Nat.le_refl _) (mX1_inRange e14) (lw_S q1900 q743 q112 q744) (by decide +kernel) (Nat.le_of_ble_eq_true rfl) (Nat.le_of_ble_eq_true rfl) rfl hl.1 (Nat.le_of_ble_eq_true rfl) dX1_setToll_12 rfl rfl (fun H locs hR hS => ?_)
      replace h := b2_o h
      obtain ⟨o17, w16, e18, h⟩ := h
      refine h_callSX 1 (As := [.int x15]) (rest := []) (o := oV o17) (w' := w16)  hx hb hml hown hts hK hR hS (Nat.le_refl _) (Nat.le_refl _) (mX1_requireArgument hl0 e18) (lw_S q1993 q1994 q112 q1995) (by decide +kernel) (Nat.le_of_ble_eq_true rfl) (Nat.le_of_ble_eq_true rfl) rfl hl.1 (Nat.le_of_ble_eq_true rfl) dX1_setToll_15 rfl (fun v9 hv9 H locs hR hS => ?_) (fun E9 q9 hq9 H locs hR hS hce => ?_)
      · cases o17 with
        | inr q => cases hv9
        | inl x19 =>
          cases hv9
          replace h := exl_o h
          refine W.eq (g2 := F0 m 18 ls []) rfl ?_
          refine lv_aload_n hx hb dX1_setToll_18 rfl (lv_at hl 0 rfl) ?_
          replace h := bo_o h
          obtain ⟨_, e22, h⟩ := h
          replace h := bo_o h
          obtain ⟨w21, e23, h⟩ := h
          refine h_callV 0 (ci := 17) (As := []) (rest := []) (v := none) (w' := w21) (st1 := []) hx hb hml hown hts hK hR hS (Nat.le_refl _) (Nat.le_refl _) rfl e22 (mX1_act e23) (lw_V q1089 q1091 qs16 q112 q1092) (by decide +kernel) (Nat.le_of_ble_eq_true rfl) (Nat.le_of_ble_eq_true rfl) rfl hl.1 (Nat.le_of_ble_eq_true rfl) dX1_setToll_19 rfl rfl (fun H locs hR hS => ?_)
          refine lv_aload_n hx hb dX1_setToll_22 rfl (lv_at hl 0 rfl) ?_
          replace h := bo_o h
          obtain ⟨x24, e25, h⟩ := h
          refine h_get (ci := 17) (k := 0) (v := va_rf x24) hx hb hts hown hK hR in_X1 rfl (by decide) (fun _ _ => rfl) q662 (fun _ h9 => h9) (gR_o e25) dX1_setToll_23 ?_
          replace h := bo_o h
          obtain ⟨a26, e27, h⟩ := h
          subst e27
          replace h := bo_o h
          obtain ⟨x28, e29, h⟩ := h
          refine h_getN (ci := 21) (k := 1) (v := va_rf x28) hx hb hts hown hK hR in_X2 rfl (by decide) (fun _ _ => rfl) (hK.fn 18 rfl) (fun _ h9 => h9) (gR_o e29) dX1_setToll_26 ?_
          refine lv_iload_n hx hb dX1_setToll_29 rfl (lv_at hl 1 rfl) ?_
          replace h := bo_o h
          obtain ⟨a30, e31, h⟩ := h
          subst e31
          replace h := bo_o h
          obtain ⟨x32, e33, h⟩ := h
          refine h_iald hx hb hK hR e33 dX1_setToll_30 ?_
          refine lv_istore_n (lv' := [(3, .int x32), (0, .ref v0), (1, .int v1), (2, .int v2)]) hx hb dX1_setToll_31 rfl hl (by decide) rfl (fun ls hl => ?_)
          refine lv_aload_n hx hb dX1_setToll_32 rfl (lv_at hl 1 rfl) ?_
          replace h := bo_o h
          obtain ⟨x34, e35, h⟩ := h
          refine h_get (ci := 17) (k := 0) (v := va_rf x34) hx hb hts hown hK hR in_X1 rfl (by decide) (fun _ _ => rfl) q662 (fun _ h9 => h9) (gR_o e35) dX1_setToll_33 ?_
          replace h := bo_o h
          obtain ⟨a36, e37, h⟩ := h
          subst e37
          replace h := bo_o h
          obtain ⟨x38, e39, h⟩ := h
          refine h_getN (ci := 21) (k := 1) (v := va_rf x38) hx hb hts hown hK hR in_X2 rfl (by decide) (fun _ _ => rfl) (hK.fn 18 rfl) (fun _ h9 => h9) (gR_o e39) dX1_setToll_36 ?_
          refine lv_iload_n hx hb dX1_setToll_39 rfl (lv_at hl 2 rfl) ?_
          refine lv_iload_n hx hb dX1_setToll_40 rfl (lv_at hl 3 rfl) ?_
          replace h := bo_o h
          obtain ⟨a40, e41, h⟩ := h
          subst e41
          replace h := bo_o h
          obtain ⟨w42, e43, h⟩ := h
          refine h_iast hx hb hK hR hS e43 dX1_setToll_41 (fun H locs hR hS => ?_)
          exact bX1_setToll_42 B hT hl0 h  hR hS (lv_sub hl [0] rfl)
      · cases o17 with
        | inl q => cases hq9
        | inr q20 =>
          cases hq9
          replace h := exr_o h
          have eR := Option.some.inj h
          subst eR
          exact h_out hT hlk hR hS hce
  · cases o3 with
    | inl q => cases hq9
    | inr q6 =>
      cases hq9
      replace h := exr_o h
      have eR := Option.some.inj h
      subst eR
      exact h_out hT hlk hR hS hce
theorem mX1_setToll {l : Launch} {G : gE} {A : Nat → Prop} {v0 : Nat} {v1 : Int32} {v2 : Int32} {w : WH} {r : ((Sum (Int32) (Nat × Nat)) × WH)} (hl0 : l.stackTraces = false) (h : fX1_setToll v0 v1 v2 w = some r) : hMX l G A yX1_setToll cX1_setToll 4 (some .int) 15 332 [.ref v0, .int v1, .int v2] w (oI r.1) r.2 :=
  h_ofX (by decide +kernel) (Nat.le_of_ble_eq_true rfl) (fun p e s m args below meth c ls B hnm hT hR hS hl => bX1_setToll_0 B hT hl0 h hR hS hl)
noncomputable def fX1_addTolls_b116 (v0 : Nat) (v1 : Int32) (v3 : Nat) (s0 : Int32) (s1 : Int32) (w : WH) : Option (Sum (Int32 × WH) (((Sum (Int32) (Nat × Nat)) × WH))) :=
  nm_ (s0 + s1) fun x1 =>
  some (.inl (x1, w))
theorem bX1_addTolls_116 {p : Program} {l : Launch} {e : Env} {s : State} {m : MethodId} {args : Array Value} {below : List Frame} {meth : Method} {c : Code} {H : Heap} {locs : List Loc} {ls : Array Slot} {G : gE} {A : Nat → Prop} {w0 : WH} (B : gB G RX1 cX1_addTolls 6 (some .int) p s m args meth c) (hT : ∀ x ∈ c.exceptionTable.toList, False) (hl0 : l.stackTraces = false) {v0 : Nat} {v1 : Int32} {v3 : Nat} {s0 : Int32} {s1 : Int32} {w : WH} {x : Sum (Int32 × WH) (((Sum (Int32) (Nat × Nat)) × WH))} {r : ((Sum (Int32) (Nat × Nat)) × WH)} (h : fX1_addTolls_b116 v0 v1 v3 s0 s1 w = some x)  (k36 : ∀ (v2' : Int32) (w' : WH), x = (.inl (v2', w')) → ∀ (H : Heap) (locs : List Loc) (ls : Array Slot), RepH G A w' H → Cu A s w0 w' H locs → lv_has ls 6 [(0, .ref v0), (1, .int v1), (2, .int v2'), (3, va_rf v3)] → W p l e (hRm 15 332 w0) s m args below meth c H locs (wC w0 - wC w') (wS w0 - wS w') (hZX below args s G A w0 (oI r.1) r.2) (F0 m 36 ls [])) (kR : ∀ q, x = (.inr q) → q = r) (hR : RepH G A w H) (hS : Cu A s w0 w H locs) (hl : lv_has ls 6 [(0, .ref v0), (1, .int v1), (3, .ref v3)]) : W p l e (hRm 15 332 w0) s m args below meth c H locs (wC w0 - wC w) (wS w0 - wS w) (hZX below args s G A w0 (oI r.1) r.2) (F0 m 116 ls [.int s1, .int s0]) := by
  have B0 := B
  obtain ⟨hx, hb, hml, hown, hts, hr, hlk, hK⟩ := B0
  unfold fX1_addTolls_b116 at h
  refine lv_iadd hx hb dX1_addTolls_116 ?_
  replace h := nm_o h
  obtain ⟨x1, e2, h⟩ := h
  refine lv_istore_n (lv' := [(2, .int x1), (0, .ref v0), (1, .int v1), (3, .ref v3)]) hx hb dX1_addTolls_117 rfl hl (by decide) (by subst e2; rfl) (fun ls hl => ?_)
  refine lv_goto (tgt := 36) hx hb dX1_addTolls_118 (by decide) ?_
  exact k36 _ _ (Option.some.inj h).symm H locs ls hR hS (lv_sub hl [1, 2, 0, 3] rfl)
noncomputable def fX1_addTolls_b96 (v0 : Nat) (v1 : Int32) (v2 : Int32) (v3 : Nat) (v4 : Nat) (v5 : Int32) (w : WH) : Option (Sum (Int32 × WH) (((Sum (Int32) (Nat × Nat)) × WH))) :=
  (gR w v0 17 0).bind fun x1 =>
  x1.bind fun a3 =>
  (hIs w a3 21).bind fun _ =>
  b2_ (fX2_toll a3 v4 w) fun x8 w5 =>
  if x8 = v5 then (
    fX1_addTolls_b116 v0 v1 v3 v2 0 w5
  ) else (
    fX1_addTolls_b116 v0 v1 v3 v2 1 w5
  )
theorem bX1_addTolls_96 {p : Program} {l : Launch} {e : Env} {s : State} {m : MethodId} {args : Array Value} {below : List Frame} {meth : Method} {c : Code} {H : Heap} {locs : List Loc} {ls : Array Slot} {G : gE} {A : Nat → Prop} {w0 : WH} (B : gB G RX1 cX1_addTolls 6 (some .int) p s m args meth c) (hT : ∀ x ∈ c.exceptionTable.toList, False) (hl0 : l.stackTraces = false) {v0 : Nat} {v1 : Int32} {v2 : Int32} {v3 : Nat} {v4 : Nat} {v5 : Int32} {w : WH} {x : Sum (Int32 × WH) (((Sum (Int32) (Nat × Nat)) × WH))} {r : ((Sum (Int32) (Nat × Nat)) × WH)} (h : fX1_addTolls_b96 v0 v1 v2 v3 v4 v5 w = some x)  (k36 : ∀ (v2' : Int32) (w' : WH), x = (.inl (v2', w')) → ∀ (H : Heap) (locs : List Loc) (ls : Array Slot), RepH G A w' H → Cu A s w0 w' H locs → lv_has ls 6 [(0, .ref v0), (1, .int v1), (2, .int v2'), (3, va_rf v3)] → W p l e (hRm 15 332 w0) s m args below meth c H locs (wC w0 - wC w') (wS w0 - wS w') (hZX below args s G A w0 (oI r.1) r.2) (F0 m 36 ls [])) (kR : ∀ q, x = (.inr q) → q = r) (hR : RepH G A w H) (hS : Cu A s w0 w H locs) (hl : lv_has ls 6 [(0, .ref v0), (1, .int v1), (2, .int v2), (3, .ref v3), (4, .ref v4), (5, .int v5)]) : W p l e (hRm 15 332 w0) s m args below meth c H locs (wC w0 - wC w) (wS w0 - wS w) (hZX below args s G A w0 (oI r.1) r.2) (F0 m 96 ls []) := by
  have B0 := B
  obtain ⟨hx, hb, hml, hown, hts, hr, hlk, hK⟩ := B0
  unfold fX1_addTolls_b96 at h
  refine lv_iload_n hx hb dX1_addTolls_96 rfl (lv_at hl 2 rfl) ?_
  refine lv_aload_n hx hb dX1_addTolls_97 rfl (lv_at hl 0 rfl) ?_
  replace h := bo_o h
  obtain ⟨x1, e2, h⟩ := h
  refine h_get (ci := 17) (k := 0) (v := va_rf x1) hx hb hts hown hK hR in_X1 rfl (by decide) (fun _ _ => rfl) q662 (fun _ h9 => h9) (gR_o e2) dX1_addTolls_98 ?_
  refine lv_aload hx hb dX1_addTolls_101 (lv_at hl 4 rfl) ?_
  replace h := bo_o h
  obtain ⟨a3, e4, h⟩ := h
  subst e4
  replace h := bo_o h
  obtain ⟨_, e6, h⟩ := h
  replace h := b2_o h
  obtain ⟨x8, w5, e7, h⟩ := h
  refine h_callV 1 (ci := 21) (As := [.ref v4]) (rest := [.int v2]) (v := (some (.int x8))) (w' := w5) (st1 := [.int x8, .int v2]) hx hb hml hown hts hK hR hS (Nat.le_refl _) (Nat.le_refl _) rfl e6 (mX2_toll e7) (lw_V q1892 q1332 q1333 q113 q1334) (by decide +kernel) (Nat.le_of_ble_eq_true rfl) (Nat.le_of_ble_eq_true rfl) rfl hl.1 (Nat.le_of_ble_eq_true rfl) dX1_addTolls_103 rfl rfl (fun H locs hR hS => ?_)
  refine lv_iload hx hb dX1_addTolls_106 (lv_at hl 5 rfl) ?_
  refine lv_icmp_eq (tgt := 115) hx hb dX1_addTolls_108 (by decide) (fun c9 => ?_) (fun c9 => ?_)
  · replace h := it_o c9 h
    refine lv_iconst (v := 0) hx hb dX1_addTolls_115 (by decide) ?_
    exact bX1_addTolls_116 B hT hl0 h k36 kR hR hS (lv_sub hl [0, 1, 3] rfl)
  · replace h := if_o c9 h
    refine lv_iconst (v := 1) hx hb dX1_addTolls_111 (by decide) ?_
    refine lv_goto (tgt := 116) hx hb dX1_addTolls_112 (by decide) ?_
    exact bX1_addTolls_116 B hT hl0 h k36 kR hR hS (lv_sub hl [0, 1, 3] rfl)
noncomputable def fX1_addTolls_b36 (v0 : Nat) (v1 : Int32) (v2 : Int32) (v3 : Option Nat) (w : WH) : Option (Sum (Int32 × WH) (((Sum (Int32) (Nat × Nat)) × WH))) :=
  v3.bind fun a1 =>
  (hIs w a1 4).bind fun _ =>
  b2_ (fJ21_hasNext a1 w) fun x6 w3 =>
  if x6 = 0 then (
    some (.inr (.inl v2, w3))
  ) else (
    (hIs w3 a1 4).bind fun _ =>
    b2_ (fJ21_next a1 w3) fun x11 w8 =>
    x11.bind fun a12 =>
    (hIs w8 a12 27).bind fun _ =>
    (gR w8 v0 17 0).bind fun x15 =>
    x15.bind fun a17 =>
    (hIs w8 a17 21).bind fun _ =>
    b2_ (fX2_toll a17 a12 w8) fun x22 w19 =>
    (gR w19 v0 17 0).bind fun x23 =>
    x23.bind fun a25 =>
    (gR w19 a25 21 1).bind fun x27 =>
    (hIs w19 a12 27).bind fun _ =>
    b2_ (fX8_number a12 w19) fun x32 w29 =>
    (hIs w29 a12 27).bind fun _ =>
    b2_ (fX8_most a12 w29) fun x36 w33 =>
    nm_ (mnI x36 (x22 + v1)) fun x37 =>
    nm_ (mxI 0 x37) fun x39 =>
    x27.bind fun a41 =>
    (stI w33 a41 0 x32 x39).bind fun w43 =>
    fX1_addTolls_b96 v0 v1 v2 a1 a12 x22 w43
  )
theorem bX1_addTolls_36 {p : Program} {l : Launch} {e : Env} {s : State} {m : MethodId} {args : Array Value} {below : List Frame} {meth : Method} {c : Code} {H : Heap} {locs : List Loc} {ls : Array Slot} {G : gE} {A : Nat → Prop} {w0 : WH} (B : gB G RX1 cX1_addTolls 6 (some .int) p s m args meth c) (hT : ∀ x ∈ c.exceptionTable.toList, False) (hl0 : l.stackTraces = false) {v0 : Nat} {v1 : Int32} {v2 : Int32} {v3 : Option Nat} {w : WH} {x : Sum (Int32 × WH) (((Sum (Int32) (Nat × Nat)) × WH))} {r : ((Sum (Int32) (Nat × Nat)) × WH)} (h : fX1_addTolls_b36 v0 v1 v2 v3 w = some x)  (k36 : ∀ (v2' : Int32) (w' : WH), x = (.inl (v2', w')) → ∀ (H : Heap) (locs : List Loc) (ls : Array Slot), RepH G A w' H → Cu A s w0 w' H locs → lv_has ls 6 [(0, .ref v0), (1, .int v1), (2, .int v2'), (3, va_rf v3)] → W p l e (hRm 15 332 w0) s m args below meth c H locs (wC w0 - wC w') (wS w0 - wS w') (hZX below args s G A w0 (oI r.1) r.2) (F0 m 36 ls [])) (kR : ∀ q, x = (.inr q) → q = r) (hR : RepH G A w H) (hS : Cu A s w0 w H locs) (hl : lv_has ls 6 [(0, .ref v0), (1, .int v1), (2, .int v2), (3, va_rf v3)]) : W p l e (hRm 15 332 w0) s m args below meth c H locs (wC w0 - wC w) (wS w0 - wS w) (hZX below args s G A w0 (oI r.1) r.2) (F0 m 36 ls []) := by
  have B0 := B
  obtain ⟨hx, hb, hml, hown, hts, hr, hlk, hK⟩ := B0
  unfold fX1_addTolls_b36 at h
  refine lv_aload_nq hx hb dX1_addTolls_36 rfl (lv_at hl 3 rfl) ?_
  replace h := bo_o h
  obtain ⟨a1, e2, h⟩ := h
  subst e2
  replace h := bo_o h
  obtain ⟨_, e4, h⟩ := h
  replace h := b2_o h
  obtain ⟨x6, w3, e5, h⟩ := h
  refine h_callF 0  (As := []) (rest := []) (v := (some (.int x6))) (w' := w3) (st1 := [.int x6]) hx hb hml hown hts hK hR hS (Nat.le_refl _) (Nat.le_refl _) (h_recv (ci := 4) hK hR hS rfl e4) (mJ21_hasNext e5) (lw_app (a := [.methodLink _ _ _, .selects _ _ _, .instanceMethod _, .initialized _]) (lw_4 q1540 q1569 q1571 q144) (lw_meth q1573)) (hK.fw 4 rfl) (by decide +kernel) (Nat.le_of_ble_eq_true rfl) (Nat.le_of_ble_eq_true rfl) rfl hl.1 (Nat.le_of_ble_eq_true rfl) dX1_addTolls_37 rfl rfl (fun H locs hR hS => ?_)
  refine lv_if_eq (tgt := 121) hx hb dX1_addTolls_42 (by decide) (fun c7 => ?_) (fun c7 => ?_)
  · replace h := it_o c7 h
    refine lv_iload_n hx hb dX1_addTolls_121 rfl (lv_at hl 2 rfl) ?_
    have eR := kR _ (Option.some.inj h).symm
    subst eR
    exact h_ifinX hx hb hr hlk hR hS dX1_addTolls_122
  · replace h := if_o c7 h
    refine lv_aload_n hx hb dX1_addTolls_45 rfl (lv_at hl 3 rfl) ?_
    replace h := bo_o h
    obtain ⟨_, e9, h⟩ := h
    replace h := b2_o h
    obtain ⟨x11, w8, e10, h⟩ := h
    refine h_callF 0  (As := []) (rest := []) (v := (some (va_rf x11))) (w' := w8) (st1 := [va_rf x11]) hx hb hml hown hts hK hR hS (Nat.le_refl _) (Nat.le_refl _) (h_recv (ci := 4) hK hR hS rfl e9) (mJ21_next e10) (lw_app (a := [.methodLink _ _ _, .selects _ _ _, .instanceMethod _, .initialized _]) (lw_4 q1584 q1681 q1683 q144) (lw_meth q1685)) (hK.fw 5 rfl) (by decide +kernel) (Nat.le_of_ble_eq_true rfl) (Nat.le_of_ble_eq_true rfl) rfl hl.1 (Nat.le_of_ble_eq_true rfl) dX1_addTolls_46 rfl rfl (fun H locs hR hS => ?_)
    replace h := bo_o h
    obtain ⟨a12, e13, h⟩ := h
    subst e13
    replace h := bo_o h
    obtain ⟨_, e14, h⟩ := h
    refine h_castS (ci := 27) hx hb hts hown hK hR hS rfl e14 q1768 dX1_addTolls_51 ?_
    refine lv_astore (lv' := [(4, .ref a12), (0, .ref v0), (1, .int v1), (2, .int v2), (3, .ref a1)]) hx hb dX1_addTolls_54 hl (by decide) rfl (fun ls hl => ?_)
    refine lv_aload_n hx hb dX1_addTolls_56 rfl (lv_at hl 1 rfl) ?_
    replace h := bo_o h
    obtain ⟨x15, e16, h⟩ := h
    refine h_get (ci := 17) (k := 0) (v := va_rf x15) hx hb hts hown hK hR in_X1 rfl (by decide) (fun _ _ => rfl) q662 (fun _ h9 => h9) (gR_o e16) dX1_addTolls_57 ?_
    refine lv_aload hx hb dX1_addTolls_60 (lv_at hl 0 rfl) ?_
    replace h := bo_o h
    obtain ⟨a17, e18, h⟩ := h
    subst e18
    replace h := bo_o h
    obtain ⟨_, e20, h⟩ := h
    replace h := b2_o h
    obtain ⟨x22, w19, e21, h⟩ := h
    refine h_callV 1 (ci := 21) (As := [.ref a12]) (rest := []) (v := (some (.int x22))) (w' := w19) (st1 := [.int x22]) hx hb hml hown hts hK hR hS (Nat.le_refl _) (Nat.le_refl _) rfl e20 (mX2_toll e21) (lw_V q1892 q1332 q1333 q113 q1334) (by decide +kernel) (Nat.le_of_ble_eq_true rfl) (Nat.le_of_ble_eq_true rfl) rfl hl.1 (Nat.le_of_ble_eq_true rfl) dX1_addTolls_62 rfl rfl (fun H locs hR hS => ?_)
    refine lv_istore (lv' := [(5, .int x22), (4, .ref a12), (0, .ref v0), (1, .int v1), (2, .int v2), (3, .ref a1)]) hx hb dX1_addTolls_65 hl (by decide) rfl (fun ls hl => ?_)
    refine lv_aload_n hx hb dX1_addTolls_67 rfl (lv_at hl 2 rfl) ?_
    replace h := bo_o h
    obtain ⟨x23, e24, h⟩ := h
    refine h_get (ci := 17) (k := 0) (v := va_rf x23) hx hb hts hown hK hR in_X1 rfl (by decide) (fun _ _ => rfl) q662 (fun _ h9 => h9) (gR_o e24) dX1_addTolls_68 ?_
    replace h := bo_o h
    obtain ⟨a25, e26, h⟩ := h
    subst e26
    replace h := bo_o h
    obtain ⟨x27, e28, h⟩ := h
    refine h_getN (ci := 21) (k := 1) (v := va_rf x27) hx hb hts hown hK hR in_X2 rfl (by decide) (fun _ _ => rfl) (hK.fn 18 rfl) (fun _ h9 => h9) (gR_o e28) dX1_addTolls_71 ?_
    refine lv_aload hx hb dX1_addTolls_74 (lv_at hl 1 rfl) ?_
    replace h := bo_o h
    obtain ⟨_, e30, h⟩ := h
    replace h := b2_o h
    obtain ⟨x32, w29, e31, h⟩ := h
    refine h_callV 0 (ci := 27) (As := []) (rest := [va_rf x27]) (v := (some (.int x32))) (w' := w29) (st1 := [.int x32, va_rf x27]) hx hb hml hown hts hK hR hS (Nat.le_refl _) (Nat.le_refl _) rfl e30 (mX8_number e31) (lw_V q1791 q1305 q1306 q141 q1307) (by decide +kernel) (Nat.le_of_ble_eq_true rfl) (Nat.le_of_ble_eq_true rfl) rfl hl.1 (cat_le (Nat.le_of_ble_eq_true rfl)) dX1_addTolls_76 rfl rfl (fun H locs hR hS => ?_)
    refine lv_iconst (v := 0) hx hb dX1_addTolls_79 (by decide) ?_
    refine lv_aload hx hb dX1_addTolls_80 (lv_at hl 1 rfl) ?_
    replace h := bo_o h
    obtain ⟨_, e34, h⟩ := h
    replace h := b2_o h
    obtain ⟨x36, w33, e35, h⟩ := h
    refine h_callV 0 (ci := 27) (As := []) (rest := [.int 0, .int x32, va_rf x27]) (v := (some (.int x36))) (w' := w33) (st1 := [.int x36, .int 0, .int x32, va_rf x27]) hx hb hml hown hts hK hR hS (Nat.le_refl _) (Nat.le_refl _) rfl e34 (mX8_most e35) (lw_V q1769 q1356 q1357 q141 q1358) (by decide +kernel) (Nat.le_of_ble_eq_true rfl) (Nat.le_of_ble_eq_true rfl) rfl hl.1 (cat_le (Nat.le_of_ble_eq_true rfl)) dX1_addTolls_82 rfl rfl (fun H locs hR hS => ?_)
    refine lv_iload hx hb dX1_addTolls_85 (lv_at hl 0 rfl) ?_
    refine lv_iload_n hx hb dX1_addTolls_87 rfl (lv_at hl 3 rfl) ?_
    refine lv_iadd hx hb dX1_addTolls_88 ?_
    replace h := nm_o h
    obtain ⟨x37, e38, h⟩ := h
    refine va_mmin hx hb (hml.trans hl.1.symm) hown (hts _ q2005) (hts _ q313) (hts _ q127) (hts _ q314) (Nat.le_of_ble_eq_true rfl) (by simp only [List.map, rf_cat]; exact Nat.le_of_ble_eq_true rfl) (Nat.sub_le _ _) (Nat.sub_le _ _) dX1_addTolls_89 ?_
    refine W.eq (g2 := F0 m 92 ls [.int x37, .int 0, .int x32, va_rf x27]) (by rw [e38]; rfl) ?_
    replace h := nm_o h
    obtain ⟨x39, e40, h⟩ := h
    refine va_mmax hx hb (hml.trans hl.1.symm) hown (hts _ q1408) (hts _ q295) (hts _ q127) (hts _ q296) (Nat.le_of_ble_eq_true rfl) (by simp only [List.map, rf_cat]; exact Nat.le_of_ble_eq_true rfl) (Nat.sub_le _ _) (Nat.sub_le _ _) dX1_addTolls_92 ?_
    refine W.eq (g2 := F0 m 95 ls [.int x39, .int x32, va_rf x27]) (by rw [e40]; rfl) ?_
    replace h := bo_o h
    obtain ⟨a41, e42, h⟩ := h
    subst e42
    replace h := bo_o h
    obtain ⟨w43, e44, h⟩ := h
    refine h_iast hx hb hK hR hS e44 dX1_addTolls_95 (fun H locs hR hS => ?_)
    exact bX1_addTolls_96 B hT hl0 h k36 kR hR hS (lv_sub hl [2, 3, 4, 5, 1, 0] rfl)
noncomputable def fX1_addTolls_l36 (v0 : Nat) (v1 : Int32) (v2 : Int32) (v3 : Option Nat) (w : WH) : Option (((Sum (Int32) (Nat × Nat)) × WH)) := whileO (fun q => fX1_addTolls_b36 v0 v1 q.1 v3 q.2) (v2, w)
theorem lX1_addTolls_36 {p : Program} {l : Launch} {e : Env} {s : State} {m : MethodId} {args : Array Value} {below : List Frame} {meth : Method} {c : Code} {G : gE} {A : Nat → Prop} {w0 : WH} (B : gB G RX1 cX1_addTolls 6 (some .int) p s m args meth c) (hT : ∀ x ∈ c.exceptionTable.toList, False) (hl0 : l.stackTraces = false) {v0 : Nat} {v1 : Int32} {v3 : Option Nat} {r : ((Sum (Int32) (Nat × Nat)) × WH)}   : ∀ (v2 : Int32) (w : WH), fX1_addTolls_l36 v0 v1 v2 v3 w = some r → ∀ (H : Heap) (locs : List Loc) (ls : Array Slot), RepH G A w H → Cu A s w0 w H locs → lv_has ls 6 [(0, .ref v0), (1, .int v1), (2, .int v2), (3, va_rf v3)] → W p l e (hRm 15 332 w0) s m args below meth c H locs (wC w0 - wC w) (wS w0 - wS w) (hZX below args s G A w0 (oI r.1) r.2) (F0 m 36 ls []) := by
  intro v2 w h
  refine wh_walk (body := (fun q => fX1_addTolls_b36 v0 v1 q.1 v3 q.2)) (P := (fun q : (Int32 × WH) => ∀ (H : Heap) (locs : List Loc) (ls : Array Slot), RepH G A (q.2) H → Cu A s w0 (q.2) H locs → lv_has ls 6 [(0, .ref v0), (1, .int v1), (2, .int (q.1)), (3, va_rf v3)] → W p l e (hRm 15 332 w0) s m args below meth c H locs (wC w0 - wC (q.2)) (wS w0 - wS (q.2)) (hZX below args s G A w0 (oI r.1) r.2) (F0 m 36 ls []))) (r := r) ?_ (v2, w) h
  intro q y hy hL hr H locs ls hR hS hl
  exact bX1_addTolls_36 (r := r) B hT hl0 hy (fun a0 a1 e => hL (a0, a1) e) (fun q e => hr q e) hR hS hl
noncomputable def fX1_addTolls (v0 : Nat) (v1 : Int32) (w : WH) : Option (((Sum (Int32) (Nat × Nat)) × WH)) :=
  b2_ (fX1_inRange (v1.toInt64) (-9999) 9999 w) fun x3 w1 =>
  b2_ (fX1_requireArgument x3 w1) fun o5 w4 => ex_ o5 (fun _ =>
    (hIs w4 v0 17).bind fun _ =>
    (fX1_act v0 w4).bind fun w9 =>
    (gR w9 v0 17 0).bind fun x12 =>
    x12.bind fun a14 =>
    (gR w9 a14 21 0).bind fun x16 =>
    x16.bind fun a18 =>
    (gR w9 a18 22 1).bind fun x20 =>
    x20.bind fun a22 =>
    (hIs w9 a22 2).bind fun _ =>
    b2_ (fJ2_iterator a22 w9) fun x27 w24 =>
    fX1_addTolls_l36 v0 v1 0 x27 w24) (fun q8 =>
    some (.inr q8, w4))
theorem bX1_addTolls_0 {p : Program} {l : Launch} {e : Env} {s : State} {m : MethodId} {args : Array Value} {below : List Frame} {meth : Method} {c : Code} {H : Heap} {locs : List Loc} {ls : Array Slot} {G : gE} {A : Nat → Prop} {w0 : WH} (B : gB G RX1 cX1_addTolls 6 (some .int) p s m args meth c) (hT : ∀ x ∈ c.exceptionTable.toList, False) (hl0 : l.stackTraces = false) {v0 : Nat} {v1 : Int32} {w : WH} {r : ((Sum (Int32) (Nat × Nat)) × WH)} (h : fX1_addTolls v0 v1 w = some r)   (hR : RepH G A w H) (hS : Cu A s w0 w H locs) (hl : lv_has ls 6 [(0, .ref v0), (1, .int v1)]) : W p l e (hRm 15 332 w0) s m args below meth c H locs (wC w0 - wC w) (wS w0 - wS w) (hZX below args s G A w0 (oI r.1) r.2) (F0 m 0 ls []) := by
  have B0 := B
  obtain ⟨hx, hb, hml, hown, hts, hr, hlk, hK⟩ := B0
  unfold fX1_addTolls at h
  refine lv_iload_n hx hb dX1_addTolls_0 rfl (lv_at hl 1 rfl) ?_
  refine lv_i2l hx hb dX1_addTolls_1 rfl ?_
  refine lv_ldc2 (v := (-9999)) hx hb hown (hts _ q2003) dX1_addTolls_2 ?_
  refine lv_ldc2 (v := 9999) hx hb hown (hts _ q2004) dX1_addTolls_5 ?_
  replace h := b2_o h
  obtain ⟨x3, w1, e2, h⟩ := h
  refine h_callS 3  (As := [.long (v1.toInt64), .long (-9999), .long 9999]) (rest := []) (v := (some (.int x3))) (w' := w1) (st1 := [.int x3]) hx hb hml hown hts hK hR hS (Nat.le_refl _) (Nat.le_refl _) (mX1_inRange e2) (lw_S q1900 q743 q112 q744) (by decide +kernel) (Nat.le_of_ble_eq_true rfl) (Nat.le_of_ble_eq_true rfl) rfl hl.1 (Nat.le_of_ble_eq_true rfl) dX1_addTolls_8 rfl rfl (fun H locs hR hS => ?_)
  replace h := b2_o h
  obtain ⟨o5, w4, e6, h⟩ := h
  refine h_callSX 1 (As := [.int x3]) (rest := []) (o := oV o5) (w' := w4)  hx hb hml hown hts hK hR hS (Nat.le_refl _) (Nat.le_refl _) (mX1_requireArgument hl0 e6) (lw_S q1993 q1994 q112 q1995) (by decide +kernel) (Nat.le_of_ble_eq_true rfl) (Nat.le_of_ble_eq_true rfl) rfl hl.1 (Nat.le_of_ble_eq_true rfl) dX1_addTolls_11 rfl (fun v9 hv9 H locs hR hS => ?_) (fun E9 q9 hq9 H locs hR hS hce => ?_)
  · cases o5 with
    | inr q => cases hv9
    | inl x7 =>
      cases hv9
      replace h := exl_o h
      refine W.eq (g2 := F0 m 14 ls []) rfl ?_
      refine lv_aload_n hx hb dX1_addTolls_14 rfl (lv_at hl 0 rfl) ?_
      replace h := bo_o h
      obtain ⟨_, e10, h⟩ := h
      replace h := bo_o h
      obtain ⟨w9, e11, h⟩ := h
      refine h_callV 0 (ci := 17) (As := []) (rest := []) (v := none) (w' := w9) (st1 := []) hx hb hml hown hts hK hR hS (Nat.le_refl _) (Nat.le_refl _) rfl e10 (mX1_act e11) (lw_V q1089 q1091 qs16 q112 q1092) (by decide +kernel) (Nat.le_of_ble_eq_true rfl) (Nat.le_of_ble_eq_true rfl) rfl hl.1 (Nat.le_of_ble_eq_true rfl) dX1_addTolls_15 rfl rfl (fun H locs hR hS => ?_)
      refine lv_iconst (v := 0) hx hb dX1_addTolls_18 (by decide) ?_
      refine lv_istore_n (lv' := [(2, .int 0), (0, .ref v0), (1, .int v1)]) hx hb dX1_addTolls_19 rfl hl (by decide) rfl (fun ls hl => ?_)
      refine lv_aload_n hx hb dX1_addTolls_20 rfl (lv_at hl 1 rfl) ?_
      replace h := bo_o h
      obtain ⟨x12, e13, h⟩ := h
      refine h_get (ci := 17) (k := 0) (v := va_rf x12) hx hb hts hown hK hR in_X1 rfl (by decide) (fun _ _ => rfl) q662 (fun _ h9 => h9) (gR_o e13) dX1_addTolls_21 ?_
      replace h := bo_o h
      obtain ⟨a14, e15, h⟩ := h
      subst e15
      replace h := bo_o h
      obtain ⟨x16, e17, h⟩ := h
      refine h_getN (ci := 21) (k := 0) (v := va_rf x16) hx hb hts hown hK hR in_X2 rfl (by decide) (fun _ _ => rfl) (hK.fn 15 rfl) (fun _ h9 => h9) (gR_o e17) dX1_addTolls_24 ?_
      replace h := bo_o h
      obtain ⟨a18, e19, h⟩ := h
      subst e19
      replace h := bo_o h
      obtain ⟨x20, e21, h⟩ := h
      refine h_getN (ci := 22) (k := 1) (v := va_rf x20) hx hb hts hown hK hR in_X3 rfl (by decide) (fun _ _ => rfl) (hK.fn 6 rfl) (fun _ h9 => h9) (gR_o e21) dX1_addTolls_27 ?_
      replace h := bo_o h
      obtain ⟨a22, e23, h⟩ := h
      subst e23
      replace h := bo_o h
      obtain ⟨_, e25, h⟩ := h
      replace h := b2_o h
      obtain ⟨x27, w24, e26, h⟩ := h
      refine h_callF 0  (As := []) (rest := []) (v := (some (va_rf x27))) (w' := w24) (st1 := [va_rf x27]) hx hb hml hown hts hK hR hS (Nat.le_refl _) (Nat.le_refl _) (h_recv (ci := 2) hK hR hS rfl e25) (mJ2_iterator e26) (lw_app (a := [.methodLink _ _ _, .selects _ _ _, .instanceMethod _, .initialized _]) (lw_4 q1432 q1435 q1437 q117) (lw_meth q1439)) (hK.fw 3 rfl) (by decide +kernel) (Nat.le_of_ble_eq_true rfl) (Nat.le_of_ble_eq_true rfl) rfl hl.1 (Nat.le_of_ble_eq_true rfl) dX1_addTolls_30 rfl rfl (fun H locs hR hS => ?_)
      refine lv_astore_nq (lv' := [(3, va_rf x27), (2, .int 0), (0, .ref v0), (1, .int v1)]) hx hb dX1_addTolls_35 rfl hl (by decide) rfl (fun ls hl => ?_)
      exact lX1_addTolls_36 B hT hl0 _ _ h H locs ls hR hS (lv_sub hl [2, 3, 1, 0] rfl)
  · cases o5 with
    | inl q => cases hq9
    | inr q8 =>
      cases hq9
      replace h := exr_o h
      have eR := Option.some.inj h
      subst eR
      exact h_out hT hlk hR hS hce
theorem mX1_addTolls {l : Launch} {G : gE} {A : Nat → Prop} {v0 : Nat} {v1 : Int32} {w : WH} {r : ((Sum (Int32) (Nat × Nat)) × WH)} (hl0 : l.stackTraces = false) (h : fX1_addTolls v0 v1 w = some r) : hMX l G A yX1_addTolls cX1_addTolls 6 (some .int) 15 332 [.ref v0, .int v1] w (oI r.1) r.2 :=
  h_ofX (by decide +kernel) (Nat.le_of_ble_eq_true rfl) (fun p e s m args below meth c ls B hnm hT hR hS hl => bX1_addTolls_0 B hT hl0 h hR hS hl)
noncomputable def fX1_setDemand_b44 (v3 : Int32) (w : WH) : Option (((Sum (Int32) (Nat × Nat)) × WH)) :=
  some (.inl v3, w)
theorem bX1_setDemand_44 {p : Program} {l : Launch} {e : Env} {s : State} {m : MethodId} {args : Array Value} {below : List Frame} {meth : Method} {c : Code} {H : Heap} {locs : List Loc} {ls : Array Slot} {G : gE} {A : Nat → Prop} {w0 : WH} (B : gB G RX1 cX1_setDemand 4 (some .int) p s m args meth c) (hT : ∀ x ∈ c.exceptionTable.toList, False) (hl0 : l.stackTraces = false) {v3 : Int32} {w : WH} {r : ((Sum (Int32) (Nat × Nat)) × WH)} (h : fX1_setDemand_b44 v3 w = some r)   (hR : RepH G A w H) (hS : Cu A s w0 w H locs) (hl : lv_has ls 4 [(3, .int v3)]) : W p l e (hRm 15 332 w0) s m args below meth c H locs (wC w0 - wC w) (wS w0 - wS w) (hZX below args s G A w0 (oI r.1) r.2) (F0 m 44 ls []) := by
  have B0 := B
  obtain ⟨hx, hb, hml, hown, hts, hr, hlk, hK⟩ := B0
  unfold fX1_setDemand_b44 at h
  refine lv_iload_n hx hb dX1_setDemand_44 rfl (lv_at hl 0 rfl) ?_
  have eR := Option.some.inj h
  subst eR
  exact h_ifinX hx hb hr hlk hR hS dX1_setDemand_45
noncomputable def fX1_setDemand (v0 : Nat) (v1 : Int32) (v2 : Int32) (w : WH) : Option (((Sum (Int32) (Nat × Nat)) × WH)) :=
  (hIs w v0 17).bind fun _ =>
  b2_ (fX1_isTrip v0 v1 w) fun x4 w1 =>
  b2_ (fX1_requireIndex x4 w1) fun o6 w5 => ex_ o6 (fun _ =>
    b2_ (fX1_inRange (v2.toInt64) 0 999 w5) fun x12 w10 =>
    b2_ (fX1_requireArgument x12 w10) fun o14 w13 => ex_ o14 (fun _ =>
      (hIs w13 v0 17).bind fun _ =>
      (fX1_act v0 w13).bind fun w18 =>
      (gR w18 v0 17 0).bind fun x21 =>
      x21.bind fun a23 =>
      (gR w18 a23 21 2).bind fun x25 =>
      x25.bind fun a27 =>
      (ldI w18 a27 0 v1).bind fun x29 =>
      (gR w18 v0 17 0).bind fun x31 =>
      x31.bind fun a33 =>
      (gR w18 a33 21 2).bind fun x35 =>
      x35.bind fun a37 =>
      (stI w18 a37 0 v1 v2).bind fun w39 =>
      fX1_setDemand_b44 x29 w39) (fun q17 =>
      some (.inr q17, w13))) (fun q9 =>
    some (.inr q9, w5))
theorem bX1_setDemand_0 {p : Program} {l : Launch} {e : Env} {s : State} {m : MethodId} {args : Array Value} {below : List Frame} {meth : Method} {c : Code} {H : Heap} {locs : List Loc} {ls : Array Slot} {G : gE} {A : Nat → Prop} {w0 : WH} (B : gB G RX1 cX1_setDemand 4 (some .int) p s m args meth c) (hT : ∀ x ∈ c.exceptionTable.toList, False) (hl0 : l.stackTraces = false) {v0 : Nat} {v1 : Int32} {v2 : Int32} {w : WH} {r : ((Sum (Int32) (Nat × Nat)) × WH)} (h : fX1_setDemand v0 v1 v2 w = some r)   (hR : RepH G A w H) (hS : Cu A s w0 w H locs) (hl : lv_has ls 4 [(0, .ref v0), (1, .int v1), (2, .int v2)]) : W p l e (hRm 15 332 w0) s m args below meth c H locs (wC w0 - wC w) (wS w0 - wS w) (hZX below args s G A w0 (oI r.1) r.2) (F0 m 0 ls []) := by
  have B0 := B
  obtain ⟨hx, hb, hml, hown, hts, hr, hlk, hK⟩ := B0
  unfold fX1_setDemand at h
  refine lv_aload_n hx hb dX1_setDemand_0 rfl (lv_at hl 0 rfl) ?_
  refine lv_iload_n hx hb dX1_setDemand_1 rfl (lv_at hl 1 rfl) ?_
  replace h := bo_o h
  obtain ⟨_, e2, h⟩ := h
  replace h := b2_o h
  obtain ⟨x4, w1, e3, h⟩ := h
  refine h_callV 1 (ci := 17) (As := [.int v1]) (rest := []) (v := (some (.int x4))) (w' := w1) (st1 := [.int x4]) hx hb hml hown hts hK hR hS (Nat.le_refl _) (Nat.le_refl _) rfl e2 (mX1_isTrip e3) (lw_V q1979 q1981 qs49 q112 q1982) (by decide +kernel) (Nat.le_of_ble_eq_true rfl) (Nat.le_of_ble_eq_true rfl) rfl hl.1 (Nat.le_of_ble_eq_true rfl) dX1_setDemand_2 rfl rfl (fun H locs hR hS => ?_)
  replace h := b2_o h
  obtain ⟨o6, w5, e7, h⟩ := h
  refine h_callSX 1 (As := [.int x4]) (rest := []) (o := oV o6) (w' := w5)  hx hb hml hown hts hK hR hS (Nat.le_refl _) (Nat.le_refl _) (mX1_requireIndex hl0 e7) (lw_S q1956 q1957 q112 q1958) (by decide +kernel) (Nat.le_of_ble_eq_true rfl) (Nat.le_of_ble_eq_true rfl) rfl hl.1 (Nat.le_of_ble_eq_true rfl) dX1_setDemand_5 rfl (fun v9 hv9 H locs hR hS => ?_) (fun E9 q9 hq9 H locs hR hS hce => ?_)
  · cases o6 with
    | inr q => cases hv9
    | inl x8 =>
      cases hv9
      replace h := exl_o h
      refine W.eq (g2 := F0 m 8 ls []) rfl ?_
      refine lv_iload_n hx hb dX1_setDemand_8 rfl (lv_at hl 2 rfl) ?_
      refine lv_i2l hx hb dX1_setDemand_9 rfl ?_
      refine lv_lconst (v := 0) hx hb dX1_setDemand_10 (by decide) ?_
      refine lv_ldc2 (v := 999) hx hb hown (hts _ q2013) dX1_setDemand_11 ?_
      replace h := b2_o h
      obtain ⟨x12, w10, e11, h⟩ := h
      refine h_callS 3  (As := [.long (v2.toInt64), .long 0, .long 999]) (rest := []) (v := (some (.int x12))) (w' := w10) (st1 := [.int x12]) hx hb hml hown hts hK hR hS (Nat.le_refl _) (Nat.le_refl _) (mX1_inRange e11) (lw_S q1900 q743 q112 q744) (by decide +kernel) (Nat.le_of_ble_eq_true rfl) (Nat.le_of_ble_eq_true rfl) rfl hl.1 (Nat.le_of_ble_eq_true rfl) dX1_setDemand_14 rfl rfl (fun H locs hR hS => ?_)
      replace h := b2_o h
      obtain ⟨o14, w13, e15, h⟩ := h
      refine h_callSX 1 (As := [.int x12]) (rest := []) (o := oV o14) (w' := w13)  hx hb hml hown hts hK hR hS (Nat.le_refl _) (Nat.le_refl _) (mX1_requireArgument hl0 e15) (lw_S q1993 q1994 q112 q1995) (by decide +kernel) (Nat.le_of_ble_eq_true rfl) (Nat.le_of_ble_eq_true rfl) rfl hl.1 (Nat.le_of_ble_eq_true rfl) dX1_setDemand_17 rfl (fun v9 hv9 H locs hR hS => ?_) (fun E9 q9 hq9 H locs hR hS hce => ?_)
      · cases o14 with
        | inr q => cases hv9
        | inl x16 =>
          cases hv9
          replace h := exl_o h
          refine W.eq (g2 := F0 m 20 ls []) rfl ?_
          refine lv_aload_n hx hb dX1_setDemand_20 rfl (lv_at hl 0 rfl) ?_
          replace h := bo_o h
          obtain ⟨_, e19, h⟩ := h
          replace h := bo_o h
          obtain ⟨w18, e20, h⟩ := h
          refine h_callV 0 (ci := 17) (As := []) (rest := []) (v := none) (w' := w18) (st1 := []) hx hb hml hown hts hK hR hS (Nat.le_refl _) (Nat.le_refl _) rfl e19 (mX1_act e20) (lw_V q1089 q1091 qs16 q112 q1092) (by decide +kernel) (Nat.le_of_ble_eq_true rfl) (Nat.le_of_ble_eq_true rfl) rfl hl.1 (Nat.le_of_ble_eq_true rfl) dX1_setDemand_21 rfl rfl (fun H locs hR hS => ?_)
          refine lv_aload_n hx hb dX1_setDemand_24 rfl (lv_at hl 0 rfl) ?_
          replace h := bo_o h
          obtain ⟨x21, e22, h⟩ := h
          refine h_get (ci := 17) (k := 0) (v := va_rf x21) hx hb hts hown hK hR in_X1 rfl (by decide) (fun _ _ => rfl) q662 (fun _ h9 => h9) (gR_o e22) dX1_setDemand_25 ?_
          replace h := bo_o h
          obtain ⟨a23, e24, h⟩ := h
          subst e24
          replace h := bo_o h
          obtain ⟨x25, e26, h⟩ := h
          refine h_getN (ci := 21) (k := 2) (v := va_rf x25) hx hb hts hown hK hR in_X2 rfl (by decide) (fun _ _ => rfl) (hK.fn 19 rfl) (fun _ h9 => h9) (gR_o e26) dX1_setDemand_28 ?_
          refine lv_iload_n hx hb dX1_setDemand_31 rfl (lv_at hl 1 rfl) ?_
          replace h := bo_o h
          obtain ⟨a27, e28, h⟩ := h
          subst e28
          replace h := bo_o h
          obtain ⟨x29, e30, h⟩ := h
          refine h_iald hx hb hK hR e30 dX1_setDemand_32 ?_
          refine lv_istore_n (lv' := [(3, .int x29), (0, .ref v0), (1, .int v1), (2, .int v2)]) hx hb dX1_setDemand_33 rfl hl (by decide) rfl (fun ls hl => ?_)
          refine lv_aload_n hx hb dX1_setDemand_34 rfl (lv_at hl 1 rfl) ?_
          replace h := bo_o h
          obtain ⟨x31, e32, h⟩ := h
          refine h_get (ci := 17) (k := 0) (v := va_rf x31) hx hb hts hown hK hR in_X1 rfl (by decide) (fun _ _ => rfl) q662 (fun _ h9 => h9) (gR_o e32) dX1_setDemand_35 ?_
          replace h := bo_o h
          obtain ⟨a33, e34, h⟩ := h
          subst e34
          replace h := bo_o h
          obtain ⟨x35, e36, h⟩ := h
          refine h_getN (ci := 21) (k := 2) (v := va_rf x35) hx hb hts hown hK hR in_X2 rfl (by decide) (fun _ _ => rfl) (hK.fn 19 rfl) (fun _ h9 => h9) (gR_o e36) dX1_setDemand_38 ?_
          refine lv_iload_n hx hb dX1_setDemand_41 rfl (lv_at hl 2 rfl) ?_
          refine lv_iload_n hx hb dX1_setDemand_42 rfl (lv_at hl 3 rfl) ?_
          replace h := bo_o h
          obtain ⟨a37, e38, h⟩ := h
          subst e38
          replace h := bo_o h
          obtain ⟨w39, e40, h⟩ := h
          refine h_iast hx hb hK hR hS e40 dX1_setDemand_43 (fun H locs hR hS => ?_)
          exact bX1_setDemand_44 B hT hl0 h  hR hS (lv_sub hl [0] rfl)
      · cases o14 with
        | inl q => cases hq9
        | inr q17 =>
          cases hq9
          replace h := exr_o h
          have eR := Option.some.inj h
          subst eR
          exact h_out hT hlk hR hS hce
  · cases o6 with
    | inl q => cases hq9
    | inr q9 =>
      cases hq9
      replace h := exr_o h
      have eR := Option.some.inj h
      subst eR
      exact h_out hT hlk hR hS hce
theorem mX1_setDemand {l : Launch} {G : gE} {A : Nat → Prop} {v0 : Nat} {v1 : Int32} {v2 : Int32} {w : WH} {r : ((Sum (Int32) (Nat × Nat)) × WH)} (hl0 : l.stackTraces = false) (h : fX1_setDemand v0 v1 v2 w = some r) : hMX l G A yX1_setDemand cX1_setDemand 4 (some .int) 15 332 [.ref v0, .int v1, .int v2] w (oI r.1) r.2 :=
  h_ofX (by decide +kernel) (Nat.le_of_ble_eq_true rfl) (fun p e s m args below meth c ls B hnm hT hR hS hl => bX1_setDemand_0 B hT hl0 h hR hS hl)
