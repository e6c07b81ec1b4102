set_option maxRecDepth 100000
set_option maxHeartbeats 4000000

noncomputable def fX1_improve (v0 : Nat) (w : WH) : Option ((Int32 × WH)) :=
  (hIs w v0 17).bind fun _ =>
  (fX1_act v0 w).bind fun w1 =>
  (hIs w1 v0 17).bind fun _ =>
  b2_ (fX1_improved v0 w1) fun x7 w4 =>
  some (x7, w4)
theorem bX1_improve_0 {p : Program} {l : Launch} {e : Env} {s : State} {m : MethodId} {args : Array Value} {below : List Frame} {meth : Method} {c : Code} {H : Heap} {locs : List Loc} {ls : Array Slot} {G : gE} {A : Nat → Prop} {w0 : WH} (B : gB G RX1 cX1_improve 1 (some .int) p s m args meth c) {v0 : Nat} {w : WH} {r : (Int32 × WH)} (h : fX1_improve v0 w = some r)   (hR : RepH G A w H) (hS : Cu A s w0 w H locs) (hl : lv_has ls 1 [(0, .ref v0)]) : W p l e (hRm 23 530 w0) s m args below meth c H locs (wC w0 - wC w) (wS w0 - wS w) (hZ below args s G A w0 (some (.int r.1)) r.2) (F0 m 0 ls []) := by
  have B0 := B
  obtain ⟨hx, hb, hml, hown, hts, hr, hlk, hK⟩ := B0
  unfold fX1_improve at h
  refine lv_aload_n hx hb dX1_improve_0 rfl (lv_at hl 0 rfl) ?_
  replace h := bo_o h
  obtain ⟨_, e2, h⟩ := h
  replace h := bo_o h
  obtain ⟨w1, e3, h⟩ := h
  refine h_callV 0 (ci := 17) (As := []) (rest := []) (v := none) (w' := w1) (st1 := []) hx hb hml hown hts hK hR hS (Nat.le_refl _) (Nat.le_refl _) rfl e2 (mX1_act e3) (lw_V q1089 q1091 qs16 q112 q1092) (by decide +kernel) (Nat.le_of_ble_eq_true rfl) (Nat.le_of_ble_eq_true rfl) rfl hl.1 (Nat.le_of_ble_eq_true rfl) dX1_improve_1 rfl rfl (fun H locs hR hS => ?_)
  refine lv_aload_n hx hb dX1_improve_4 rfl (lv_at hl 0 rfl) ?_
  replace h := bo_o h
  obtain ⟨_, e5, h⟩ := h
  replace h := b2_o h
  obtain ⟨x7, w4, e6, h⟩ := h
  refine h_callV 0 (ci := 17) (As := []) (rest := []) (v := (some (.int x7))) (w' := w4) (st1 := [.int x7]) hx hb hml hown hts hK hR hS (Nat.le_refl _) (Nat.le_refl _) rfl e5 (mX1_improved e6) (lw_V q1764 q1766 qs41 q112 q1767) (by decide +kernel) (Nat.le_of_ble_eq_true rfl) (Nat.le_of_ble_eq_true rfl) rfl hl.1 (Nat.le_of_ble_eq_true rfl) dX1_improve_5 rfl rfl (fun H locs hR hS => ?_)
  have eR := Option.some.inj h
  subst eR
  exact h_ifin hx hb hr hlk hR hS dX1_improve_8
theorem mX1_improve {l : Launch} {G : gE} {A : Nat → Prop} {v0 : Nat} {w : WH} {r : (Int32 × WH)} (h : fX1_improve v0 w = some r) : hM l G A yX1_improve cX1_improve 1 (some .int) 23 530 [.ref v0] w (some (.int r.1)) r.2 :=
  h_of (by decide +kernel) (Nat.le_of_ble_eq_true rfl) (fun p e s m args below meth c ls B hnm hR hS hl => bX1_improve_0 B h hR hS hl)
noncomputable def fX1_burden_b75 (v0 : Nat) (v3 : Int32) (s0 : Int64) (s1 : Int64) (w : WH) : Option (Sum (Int64 × Int32 × WH) ((Int64 × WH))) :=
  nm_ (s0 + s1) fun x1 =>
  some (.inl (x1, v3 + 1, w))
theorem bX1_burden_75 {p : Program} {l : Launch} {e : Env} {s : State} {m : MethodId} {args : Array Value} {below : List Frame} {meth : Method} {c : Code} {H : Heap} {locs : List Loc} {ls : Array Slot} {G : gE} {A : Nat → Prop} {w0 : WH} (B : gB G RX1 cX1_burden 6 (some .long) p s m args meth c) {v0 : Nat} {v3 : Int32} {s0 : Int64} {s1 : Int64} {w : WH} {x : Sum (Int64 × Int32 × WH) ((Int64 × WH))} {r : (Int64 × WH)} (h : fX1_burden_b75 v0 v3 s0 s1 w = some x)  (k4 : ∀ (v1' : Int64) (v3' : Int32) (w' : WH), x = (.inl (v1', v3', w')) → ∀ (H : Heap) (locs : List Loc) (ls : Array Slot), RepH G A w' H → Cu A s w0 w' H locs → lv_has ls 6 [(0, .ref v0), (1, .long v1'), (3, .int v3')] → W p l e (hRm 18 407 w0) s m args below meth c H locs (wC w0 - wC w') (wS w0 - wS w') (hZ below args s G A w0 (some (.long r.1)) r.2) (F0 m 4 ls [])) (kR : ∀ q, x = (.inr q) → q = r) (hR : RepH G A w H) (hS : Cu A s w0 w H locs) (hl : lv_has ls 6 [(0, .ref v0), (3, .int v3)]) : W p l e (hRm 18 407 w0) s m args below meth c H locs (wC w0 - wC w) (wS w0 - wS w) (hZ below args s G A w0 (some (.long r.1)) r.2) (F0 m 75 ls [.long s1, .long s0]) := by
  have B0 := B
  obtain ⟨hx, hb, hml, hown, hts, hr, hlk, hK⟩ := B0
  unfold fX1_burden_b75 at h
  refine lv_ladd hx hb dX1_burden_75 ?_
  replace h := nm_o h
  obtain ⟨x1, e2, h⟩ := h
  refine lv_lstore_n (lv' := [(1, .long x1), (0, .ref v0), (3, .int v3)]) hx hb dX1_burden_76 rfl hl (by decide) (by subst e2; rfl) (fun ls hl => ?_)
  refine lv_iinc (v := v3 + 1) (lv' := [(3, .int (v3 + 1)), (1, .long x1), (0, .ref v0)]) hx hb dX1_burden_77 hl (k := 2) rfl rfl (by decide) rfl (fun ls hl => ?_)
  refine lv_goto (tgt := 4) hx hb dX1_burden_80 (by decide) ?_
  exact k4 _ _ _ (Option.some.inj h).symm H locs ls hR hS (lv_sub hl [2, 1, 0] rfl)
noncomputable def fX1_burden_b4 (v0 : Nat) (v1 : Int64) (v3 : Int32) (w : WH) : Option (Sum (Int64 × Int32 × WH) ((Int64 × WH))) :=
  (gR w v0 17 0).bind fun x1 =>
  x1.bind fun a3 =>
  (gR w a3 21 0).bind fun x5 =>
  x5.bind fun a7 =>
  (gR w a7 22 2).bind fun x9 =>
  x9.bind fun a11 =>
  (hIs w a11 2).bind fun _ =>
  b2_ (fJ2_size a11 w) fun x16 w13 =>
  if x16 ≤ v3 then (
    some (.inr (v1, w13))
  ) else (
    (gR w13 v0 17 0).bind fun x18 =>
    x18.bind fun a20 =>
    (gR w13 a20 21 0).bind fun x22 =>
    x22.bind fun a24 =>
    (gR w13 a24 22 2).bind fun x26 =>
    x26.bind fun a28 =>
    (hIs w13 a28 2).bind fun _ =>
    b2_ (fJ2_get a28 v3 w13) fun x33 w30 =>
    x33.bind fun a34 =>
    (hIs w30 a34 28).bind fun _ =>
    (hIs w30 v0 17).bind fun _ =>
    b2_ (fX1_feltBy v0 a34 w30) fun x40 w37 =>
    if lg_cmp x40 2305843009213693951 = 0 then (
      fX1_burden_b75 v0 v3 v1 0 w37
    ) else (
      (gR w37 v0 17 0).bind fun x42 =>
      x42.bind fun a44 =>
      (gR w37 a44 21 2).bind fun x46 =>
      x46.bind fun a48 =>
      (ldI w37 a48 0 v3).bind fun x50 =>
      fX1_burden_b75 v0 v3 v1 ((x50.toInt64) * x40) w37
    )
  )
theorem bX1_burden_4 {p : Program} {l : Launch} {e : Env} {s : State} {m : MethodId} {args : Array Value} {below : List Frame} {meth : Method} {c : Code} {H : Heap} {locs : List Loc} {ls : Array Slot} {G : gE} {A : Nat → Prop} {w0 : WH} (B : gB G RX1 cX1_burden 6 (some .long) p s m args meth c) {v0 : Nat} {v1 : Int64} {v3 : Int32} {w : WH} {x : Sum (Int64 × Int32 × WH) ((Int64 × WH))} {r : (Int64 × WH)} (h : fX1_burden_b4 v0 v1 v3 w = some x)  (k4 : ∀ (v1' : Int64) (v3' : Int32) (w' : WH), x = (.inl (v1', v3', w')) → ∀ (H : Heap) (locs : List Loc) (ls : Array Slot), RepH G A w' H → Cu A s w0 w' H locs → lv_has ls 6 [(0, .ref v0), (1, .long v1'), (3, .int v3')] → W p l e (hRm 18 407 w0) s m args below meth c H locs (wC w0 - wC w') (wS w0 - wS w') (hZ below args s G A w0 (some (.long r.1)) r.2) (F0 m 4 ls [])) (kR : ∀ q, x = (.inr q) → q = r) (hR : RepH G A w H) (hS : Cu A s w0 w H locs) (hl : lv_has ls 6 [(0, .ref v0), (1, .long v1), (3, .int v3)]) : W p l e (hRm 18 407 w0) s m args below meth c H locs (wC w0 - wC w) (wS w0 - wS w) (hZ below args s G A w0 (some (.long r.1)) r.2) (F0 m 4 ls []) := by
  have B0 := B
  obtain ⟨hx, hb, hml, hown, hts, hr, hlk, hK⟩ := B0
  unfold fX1_burden_b4 at h
  refine lv_iload_n hx hb dX1_burden_4 rfl (lv_at hl 2 rfl) ?_
  refine lv_aload_n hx hb dX1_burden_5 rfl (lv_at hl 0 rfl) ?_
  replace h := bo_o h
  obtain ⟨x1, e2, h⟩ := h
  refine h_get (ci := 17) (k := 0) (v := va_rf x1) hx hb hts hown hK hR in_X1 rfl (by decide) (fun _ _ => rfl) q662 (fun _ h9 => h9) (gR_o e2) dX1_burden_6 ?_
  replace h := bo_o h
  obtain ⟨a3, e4, h⟩ := h
  subst e4
  replace h := bo_o h
  obtain ⟨x5, e6, h⟩ := h
  refine h_getN (ci := 21) (k := 0) (v := va_rf x5) hx hb hts hown hK hR in_X2 rfl (by decide) (fun _ _ => rfl) (hK.fn 15 rfl) (fun _ h9 => h9) (gR_o e6) dX1_burden_9 ?_
  replace h := bo_o h
  obtain ⟨a7, e8, h⟩ := h
  subst e8
  replace h := bo_o h
  obtain ⟨x9, e10, h⟩ := h
  refine h_getN (ci := 22) (k := 2) (v := va_rf x9) hx hb hts hown hK hR in_X3 rfl (by decide) (fun _ _ => rfl) (hK.fn 10 rfl) (fun _ h9 => h9) (gR_o e10) dX1_burden_12 ?_
  replace h := bo_o h
  obtain ⟨a11, e12, h⟩ := h
  subst e12
  replace h := bo_o h
  obtain ⟨_, e14, h⟩ := h
  replace h := b2_o h
  obtain ⟨x16, w13, e15, h⟩ := h
  refine h_callF 0  (As := []) (rest := [.int v3]) (v := (some (.int x16))) (w' := w13) (st1 := [.int x16, .int v3]) hx hb hml hown hts hK hR hS (Nat.le_refl _) (Nat.le_refl _) (h_recv (ci := 2) hK hR hS rfl e14) (mJ2_size e15) (lw_app (a := [.methodLink _ _ _, .selects _ _ _, .instanceMethod _, .initialized _]) (lw_4 q1076 q903 q905 q117) (lw_meth q907)) (hK.fw 0 rfl) (by decide +kernel) (Nat.le_of_ble_eq_true rfl) (Nat.le_of_ble_eq_true rfl) rfl hl.1 (Nat.le_of_ble_eq_true rfl) dX1_burden_15 rfl rfl (fun H locs hR hS => ?_)
  refine lv_icmp_ge (tgt := 83) hx hb dX1_burden_20 (by decide) (fun c17 => ?_) (fun c17 => ?_)
  · replace h := it_o c17 h
    refine lv_lload_n hx hb dX1_burden_83 rfl (lv_at hl 1 rfl) ?_
    have eR := kR _ (Option.some.inj h).symm
    subst eR
    exact h_lfin hx hb hr hlk hR hS dX1_burden_84
  · replace h := if_o c17 h
    refine lv_aload_n hx hb dX1_burden_23 rfl (lv_at hl 0 rfl) ?_
    refine lv_aload_n hx hb dX1_burden_24 rfl (lv_at hl 0 rfl) ?_
    replace h := bo_o h
    obtain ⟨x18, e19, h⟩ := h
    refine h_get (ci := 17) (k := 0) (v := va_rf x18) hx hb hts hown hK hR in_X1 rfl (by decide) (fun _ _ => rfl) q662 (fun _ h9 => h9) (gR_o e19) dX1_burden_25 ?_
    replace h := bo_o h
    obtain ⟨a20, e21, h⟩ := h
    subst e21
    replace h := bo_o h
    obtain ⟨x22, e23, h⟩ := h
    refine h_getN (ci := 21) (k := 0) (v := va_rf x22) hx hb hts hown hK hR in_X2 rfl (by decide) (fun _ _ => rfl) (hK.fn 15 rfl) (fun _ h9 => h9) (gR_o e23) dX1_burden_28 ?_
    replace h := bo_o h
    obtain ⟨a24, e25, h⟩ := h
    subst e25
    replace h := bo_o h
    obtain ⟨x26, e27, h⟩ := h
    refine h_getN (ci := 22) (k := 2) (v := va_rf x26) hx hb hts hown hK hR in_X3 rfl (by decide) (fun _ _ => rfl) (hK.fn 10 rfl) (fun _ h9 => h9) (gR_o e27) dX1_burden_31 ?_
    refine lv_iload_n hx hb dX1_burden_34 rfl (lv_at hl 2 rfl) ?_
    replace h := bo_o h
    obtain ⟨a28, e29, h⟩ := h
    subst e29
    replace h := bo_o h
    obtain ⟨_, e31, h⟩ := h
    replace h := b2_o h
    obtain ⟨x33, w30, e32, h⟩ := h
    refine h_callF 1  (As := [.int v3]) (rest := [.ref v0]) (v := (some (va_rf x33))) (w' := w30) (st1 := [va_rf x33, .ref v0]) hx hb hml hown hts hK hR hS (Nat.le_refl _) (Nat.le_refl _) (h_recv (ci := 2) hK hR hS rfl e31) (mJ2_get e32) (lw_app (a := [.methodLink _ _ _, .selects _ _ _, .instanceMethod _, .initialized _]) (lw_4 q1205 q1208 q1210 q117) (lw_meth q1212)) (hK.fw 1 rfl) (by decide +kernel) (Nat.le_of_ble_eq_true rfl) (Nat.le_of_ble_eq_true rfl) rfl hl.1 (Nat.le_of_ble_eq_true rfl) dX1_burden_35 rfl rfl (fun H locs hR hS => ?_)
    replace h := bo_o h
    obtain ⟨a34, e35, h⟩ := h
    subst e35
    replace h := bo_o h
    obtain ⟨_, e36, h⟩ := h
    refine h_castS (ci := 28) hx hb hts hown hK hR hS rfl e36 q1265 dX1_burden_40 ?_
    replace h := bo_o h
    obtain ⟨_, e38, h⟩ := h
    replace h := b2_o h
    obtain ⟨x40, w37, e39, h⟩ := h
    refine h_callV 1 (ci := 17) (As := [.ref a34]) (rest := []) (v := (some (.long x40))) (w' := w37) (st1 := [.long x40]) hx hb hml hown hts hK hR hS (Nat.le_refl _) (Nat.le_refl _) rfl e38 (mX1_feltBy e39) (lw_V q1743 q1745 qs39 q112 q1746) (by decide +kernel) (Nat.le_of_ble_eq_true rfl) (Nat.le_of_ble_eq_true rfl) rfl hl.1 (Nat.le_of_ble_eq_true rfl) dX1_burden_43 rfl rfl (fun H locs hR hS => ?_)
    refine lv_lstore (lv' := [(4, .long x40), (0, .ref v0), (1, .long v1), (3, .int v3)]) hx hb dX1_burden_46 hl (by decide) rfl (fun ls hl => ?_)
    refine lv_lload_n hx hb dX1_burden_48 rfl (lv_at hl 2 rfl) ?_
    refine lv_lload hx hb dX1_burden_49 (lv_at hl 0 rfl) ?_
    refine lv_ldc2 (v := 2305843009213693951) hx hb hown (hts _ q1750) dX1_burden_51 ?_
    refine W.lcmp hx hb dX1_burden_54 ?_
    refine lv_if_ne (tgt := 62) hx hb dX1_burden_55 (by decide) (fun c41 => ?_) (fun c41 => ?_)
    · replace h := if_o c41 h
      refine lv_aload_n hx hb dX1_burden_62 rfl (lv_at hl 1 rfl) ?_
      replace h := bo_o h
      obtain ⟨x42, e43, h⟩ := h
      refine h_get (ci := 17) (k := 0) (v := va_rf x42) hx hb hts hown hK hR in_X1 rfl (by decide) (fun _ _ => rfl) q662 (fun _ h9 => h9) (gR_o e43) dX1_burden_63 ?_
      replace h := bo_o h
      obtain ⟨a44, e45, h⟩ := h
      subst e45
      replace h := bo_o h
      obtain ⟨x46, e47, h⟩ := h
      refine h_getN (ci := 21) (k := 2) (v := va_rf x46) hx hb hts hown hK hR in_X2 rfl (by decide) (fun _ _ => rfl) (hK.fn 19 rfl) (fun _ h9 => h9) (gR_o e47) dX1_burden_66 ?_
      refine lv_iload_n hx hb dX1_burden_69 rfl (lv_at hl 3 rfl) ?_
      replace h := bo_o h
      obtain ⟨a48, e49, h⟩ := h
      subst e49
      replace h := bo_o h
      obtain ⟨x50, e51, h⟩ := h
      refine h_iald hx hb hK hR e51 dX1_burden_70 ?_
      refine lv_i2l hx hb dX1_burden_71 rfl ?_
      refine lv_lload hx hb dX1_burden_72 (lv_at hl 0 rfl) ?_
      refine lv_lmul hx hb dX1_burden_74 ?_
      exact bX1_burden_75 B h k4 kR hR hS (lv_sub hl [1, 3] rfl)
    · replace h := it_o c41 h
      refine lv_lconst (v := 0) hx hb dX1_burden_58 (by decide) ?_
      refine lv_goto (tgt := 75) hx hb dX1_burden_59 (by decide) ?_
      exact bX1_burden_75 B h k4 kR hR hS (lv_sub hl [1, 3] rfl)
noncomputable def fX1_burden_l4 (v0 : Nat) (v1 : Int64) (v3 : Int32) (w : WH) : Option ((Int64 × WH)) := whileO (fun q => fX1_burden_b4 v0 q.1 q.2.1 q.2.2) (v1, v3, w)
theorem lX1_burden_4 {p : Program} {l : Launch} {e : Env} {s : State} {m : MethodId} {args : Array Value} {below : List Frame} {meth : Method} {c : Code} {G : gE} {A : Nat → Prop} {w0 : WH} (B : gB G RX1 cX1_burden 6 (some .long) p s m args meth c) {v0 : Nat} {r : (Int64 × WH)}   : ∀ (v1 : Int64) (v3 : Int32) (w : WH), fX1_burden_l4 v0 v1 v3 w = some r → ∀ (H : Heap) (locs : List Loc) (ls : Array Slot), RepH G A w H → Cu A s w0 w H locs → lv_has ls 6 [(0, .ref v0), (1, .long v1), (3, .int v3)] → W p l e (hRm 18 407 w0) s m args below meth c H locs (wC w0 - wC w) (wS w0 - wS w) (hZ below args s G A w0 (some (.long r.1)) r.2) (F0 m 4 ls []) := by
  intro v1 v3 w h
  refine wh_walk (body := (fun q => fX1_burden_b4 v0 q.1 q.2.1 q.2.2)) (P := (fun q : (Int64 × Int32 × WH) => ∀ (H : Heap) (locs : List Loc) (ls : Array Slot), RepH G A (q.2.2) H → Cu A s w0 (q.2.2) H locs → lv_has ls 6 [(0, .ref v0), (1, .long (q.1)), (3, .int (q.2.1))] → W p l e (hRm 18 407 w0) s m args below meth c H locs (wC w0 - wC (q.2.2)) (wS w0 - wS (q.2.2)) (hZ below args s G A w0 (some (.long r.1)) r.2) (F0 m 4 ls []))) (r := r) ?_ (v1, v3, w) h
  intro q y hy hL hr H locs ls hR hS hl
  exact bX1_burden_4 (r := r) B hy (fun a0 a1 a2 e => hL (a0, a1, a2) e) (fun q e => hr q e) hR hS hl
noncomputable def fX1_burden (v0 : Nat) (w : WH) : Option ((Int64 × WH)) :=
  fX1_burden_l4 v0 0 0 w
theorem bX1_burden_0 {p : Program} {l : Launch} {e : Env} {s : State} {m : MethodId} {args : Array Value} {below : List Frame} {meth : Method} {c : Code} {H : Heap} {locs : List Loc} {ls : Array Slot} {G : gE} {A : Nat → Prop} {w0 : WH} (B : gB G RX1 cX1_burden 6 (some .long) p s m args meth c) {v0 : Nat} {w : WH} {r : (Int64 × WH)} (h : fX1_burden v0 w = some r)   (hR : RepH G A w H) (hS : Cu A s w0 w H locs) (hl : lv_has ls 6 [(0, .ref v0)]) : W p l e (hRm 18 407 w0) s m args below meth c H locs (wC w0 - wC w) (wS w0 - wS w) (hZ below args s G A w0 (some (.long r.1)) r.2) (F0 m 0 ls []) := by
  have B0 := B
  obtain ⟨hx, hb, hml, hown, hts, hr, hlk, hK⟩ := B0
  unfold fX1_burden at h
  refine lv_lconst (v := 0) hx hb dX1_burden_0 (by decide) ?_
  refine lv_lstore_n (lv' := [(1, .long 0), (0, .ref v0)]) hx hb dX1_burden_1 rfl hl (by decide) rfl (fun ls hl => ?_)
  refine lv_iconst (v := 0) hx hb dX1_burden_2 (by decide) ?_
  refine lv_istore_n (lv' := [(3, .int 0), (1, .long 0), (0, .ref v0)]) hx hb dX1_burden_3 rfl hl (by decide) rfl (fun ls hl => ?_)
  exact lX1_burden_4 B _ _ _ h H locs ls hR hS (lv_sub hl [2, 1, 0] rfl)
theorem mX1_burden {l : Launch} {G : gE} {A : Nat → Prop} {v0 : Nat} {w : WH} {r : (Int64 × WH)} (h : fX1_burden v0 w = some r) : hM l G A yX1_burden cX1_burden 6 (some .long) 18 407 [.ref v0] w (some (.long r.1)) r.2 :=
  h_of (by decide +kernel) (Nat.le_of_ble_eq_true rfl) (fun p e s m args below meth c ls B hnm hR hS hl => bX1_burden_0 B h hR hS hl)
noncomputable def fX1_dearest_b138 (v0 : Nat) (v1 : Int32) (v2 : Int64) (v4 : Int64) (v6 : Int32) (w : WH) : Option (Sum (Int32 × Int64 × Int64 × Int32 × WH) ((Int32 × WH))) :=
  some (.inl (v1, v2, v4, v6 + 1, w))
theorem bX1_dearest_138 {p : Program} {l : Launch} {e : Env} {s : State} {m : MethodId} {args : Array Value} {below : List Frame} {meth : Method} {c : Code} {H : Heap} {locs : List Loc} {ls : Array Slot} {G : gE} {A : Nat → Prop} {w0 : WH} (B : gB G RX1 cX1_dearest 11 (some .int) p s m args meth c) {v0 : Nat} {v1 : Int32} {v2 : Int64} {v4 : Int64} {v6 : Int32} {w : WH} {x : Sum (Int32 × Int64 × Int64 × Int32 × WH) ((Int32 × WH))} {r : (Int32 × WH)} (h : fX1_dearest_b138 v0 v1 v2 v4 v6 w = some x)  (k10 : ∀ (v1' : Int32) (v2' : Int64) (v4' : Int64) (v6' : Int32) (w' : WH), x = (.inl (v1', v2', v4', v6', w')) → ∀ (H : Heap) (locs : List Loc) (ls : Array Slot), RepH G A w' H → Cu A s w0 w' H locs → lv_has ls 11 [(0, .ref v0), (1, .int v1'), (2, .long v2'), (4, .long v4'), (6, .int v6')] → W p l e (hRm 18 410 w0) s m args below meth c H locs (wC w0 - wC w') (wS w0 - wS w') (hZ below args s G A w0 (some (.int r.1)) r.2) (F0 m 10 ls [])) (kR : ∀ q, x = (.inr q) → q = r) (hR : RepH G A w H) (hS : Cu A s w0 w H locs) (hl : lv_has ls 11 [(0, .ref v0), (1, .int v1), (2, .long v2), (4, .long v4), (6, .int v6)]) : W p l e (hRm 18 410 w0) s m args below meth c H locs (wC w0 - wC w) (wS w0 - wS w) (hZ below args s G A w0 (some (.int r.1)) r.2) (F0 m 138 ls []) := by
  have B0 := B
  obtain ⟨hx, hb, hml, hown, hts, hr, hlk, hK⟩ := B0
  unfold fX1_dearest_b138 at h
  refine lv_iinc (v := v6 + 1) (lv' := [(6, .int (v6 + 1)), (0, .ref v0), (1, .int v1), (2, .long v2), (4, .long v4)]) hx hb dX1_dearest_138 hl (k := 4) rfl rfl (by decide) rfl (fun ls hl => ?_)
  refine lv_goto (tgt := 10) hx hb dX1_dearest_141 (by decide) ?_
  exact k10 _ _ _ _ _ (Option.some.inj h).symm H locs ls hR hS (lv_sub hl [1, 2, 3, 4, 0] rfl)
noncomputable def fX1_dearest_b128 (v0 : Nat) (v6 : Int32) (v7 : Int64) (v9 : Int64) (w : WH) : Option (Sum (Int32 × Int64 × Int64 × Int32 × WH) ((Int32 × WH))) :=
  fX1_dearest_b138 v0 v6 v7 v9 v6 w
theorem bX1_dearest_128 {p : Program} {l : Launch} {e : Env} {s : State} {m : MethodId} {args : Array Value} {below : List Frame} {meth : Method} {c : Code} {H : Heap} {locs : List Loc} {ls : Array Slot} {G : gE} {A : Nat → Prop} {w0 : WH} (B : gB G RX1 cX1_dearest 11 (some .int) p s m args meth c) {v0 : Nat} {v6 : Int32} {v7 : Int64} {v9 : Int64} {w : WH} {x : Sum (Int32 × Int64 × Int64 × Int32 × WH) ((Int32 × WH))} {r : (Int32 × WH)} (h : fX1_dearest_b128 v0 v6 v7 v9 w = some x)  (k10 : ∀ (v1' : Int32) (v2' : Int64) (v4' : Int64) (v6' : Int32) (w' : WH), x = (.inl (v1', v2', v4', v6', w')) → ∀ (H : Heap) (locs : List Loc) (ls : Array Slot), RepH G A w' H → Cu A s w0 w' H locs → lv_has ls 11 [(0, .ref v0), (1, .int v1'), (2, .long v2'), (4, .long v4'), (6, .int v6')] → W p l e (hRm 18 410 w0) s m args below meth c H locs (wC w0 - wC w') (wS w0 - wS w') (hZ below args s G A w0 (some (.int r.1)) r.2) (F0 m 10 ls [])) (kR : ∀ q, x = (.inr q) → q = r) (hR : RepH G A w H) (hS : Cu A s w0 w H locs) (hl : lv_has ls 11 [(0, .ref v0), (6, .int v6), (7, .long v7), (9, .long v9)]) : W p l e (hRm 18 410 w0) s m args below meth c H locs (wC w0 - wC w) (wS w0 - wS w) (hZ below args s G A w0 (some (.int r.1)) r.2) (F0 m 128 ls []) := by
  have B0 := B
  obtain ⟨hx, hb, hml, hown, hts, hr, hlk, hK⟩ := B0
  unfold fX1_dearest_b128 at h
  refine lv_iload hx hb dX1_dearest_128 (lv_at hl 1 rfl) ?_
  refine lv_istore_n (lv' := [(1, .int v6), (0, .ref v0), (6, .int v6), (7, .long v7), (9, .long v9)]) hx hb dX1_dearest_130 rfl hl (by decide) rfl (fun ls hl => ?_)
  refine lv_lload hx hb dX1_dearest_131 (lv_at hl 3 rfl) ?_
  refine lv_lstore_n (lv' := [(2, .long v7), (1, .int v6), (0, .ref v0), (6, .int v6), (7, .long v7), (9, .long v9)]) hx hb dX1_dearest_133 rfl hl (by decide) rfl (fun ls hl => ?_)
  refine lv_lload hx hb dX1_dearest_134 (lv_at hl 5 rfl) ?_
  refine lv_lstore (lv' := [(4, .long v9), (2, .long v7), (1, .int v6), (0, .ref v0), (6, .int v6), (7, .long v7), (9, .long v9)]) hx hb dX1_dearest_136 hl (by decide) rfl (fun ls hl => ?_)
  exact bX1_dearest_138 B h k10 kR hR hS (lv_sub hl [3, 2, 1, 0, 4] rfl)
noncomputable def fX1_dearest_b125 (v0 : Nat) (v1 : Int32) (v2 : Int64) (v4 : Int64) (v6 : Int32) (w : WH) : Option (Sum (Int32 × Int64 × Int64 × Int32 × WH) ((Int32 × WH))) :=
  fX1_dearest_b138 v0 v1 v2 v4 v6 w
theorem bX1_dearest_125 {p : Program} {l : Launch} {e : Env} {s : State} {m : MethodId} {args : Array Value} {below : List Frame} {meth : Method} {c : Code} {H : Heap} {locs : List Loc} {ls : Array Slot} {G : gE} {A : Nat → Prop} {w0 : WH} (B : gB G RX1 cX1_dearest 11 (some .int) p s m args meth c) {v0 : Nat} {v1 : Int32} {v2 : Int64} {v4 : Int64} {v6 : Int32} {w : WH} {x : Sum (Int32 × Int64 × Int64 × Int32 × WH) ((Int32 × WH))} {r : (Int32 × WH)} (h : fX1_dearest_b125 v0 v1 v2 v4 v6 w = some x)  (k10 : ∀ (v1' : Int32) (v2' : Int64) (v4' : Int64) (v6' : Int32) (w' : WH), x = (.inl (v1', v2', v4', v6', w')) → ∀ (H : Heap) (locs : List Loc) (ls : Array Slot), RepH G A w' H → Cu A s w0 w' H locs → lv_has ls 11 [(0, .ref v0), (1, .int v1'), (2, .long v2'), (4, .long v4'), (6, .int v6')] → W p l e (hRm 18 410 w0) s m args below meth c H locs (wC w0 - wC w') (wS w0 - wS w') (hZ below args s G A w0 (some (.int r.1)) r.2) (F0 m 10 ls [])) (kR : ∀ q, x = (.inr q) → q = r) (hR : RepH G A w H) (hS : Cu A s w0 w H locs) (hl : lv_has ls 11 [(0, .ref v0), (1, .int v1), (2, .long v2), (4, .long v4), (6, .int v6)]) : W p l e (hRm 18 410 w0) s m args below meth c H locs (wC w0 - wC w) (wS w0 - wS w) (hZ below args s G A w0 (some (.int r.1)) r.2) (F0 m 125 ls []) := by
  have B0 := B
  obtain ⟨hx, hb, hml, hown, hts, hr, hlk, hK⟩ := B0
  unfold fX1_dearest_b125 at h
  refine lv_goto (tgt := 138) hx hb dX1_dearest_125 (by decide) ?_
  exact bX1_dearest_138 B h k10 kR hR hS (lv_sub hl [0, 1, 2, 3, 4] rfl)
noncomputable def fX1_dearest_b67 (v0 : Nat) (v1 : Int32) (v2 : Int64) (v4 : Int64) (v6 : Int32) (w : WH) : Option (Sum (Int32 × Int64 × Int64 × Int32 × WH) ((Int32 × WH))) :=
  (gR w v0 17 1).bind fun x1 =>
  (gR w v0 17 0).bind fun x3 =>
  x1.bind fun a5 =>
  x3.bind fun a7 =>
  (hIs w a5 23).bind fun _ =>
  b2_ (fX4_tolls a5 a7 w) fun x12 w9 =>
  nm_ (x12.toInt64) fun x13 =>
  (gR w9 v0 17 0).bind fun x15 =>
  x15.bind fun a17 =>
  (gR w9 a17 21 0).bind fun x19 =>
  x19.bind fun a21 =>
  (gR w9 a21 22 2).bind fun x23 =>
  x23.bind fun a25 =>
  (hIs w9 a25 2).bind fun _ =>
  b2_ (fJ2_get a25 v6 w9) fun x30 w27 =>
  x30.bind fun a31 =>
  (hIs w27 a31 28).bind fun _ =>
  (hIs w27 v0 17).bind fun _ =>
  b2_ (fX1_feltBy v0 a31 w27) fun x37 w34 =>
  if v1 = (-1) then (
    fX1_dearest_b128 v0 v6 x13 x37 w34
  ) else (
    if 0 < lg_cmp (x13 * v4) (v2 * x37) then (
      fX1_dearest_b128 v0 v6 x13 x37 w34
    ) else (
      fX1_dearest_b125 v0 v1 v2 v4 v6 w34
    )
  )
theorem bX1_dearest_67 {p : Program} {l : Launch} {e : Env} {s : State} {m : MethodId} {args : Array Value} {below : List Frame} {meth : Method} {c : Code} {H : Heap} {locs : List Loc} {ls : Array Slot} {G : gE} {A : Nat → Prop} {w0 : WH} (B : gB G RX1 cX1_dearest 11 (some .int) p s m args meth c) {v0 : Nat} {v1 : Int32} {v2 : Int64} {v4 : Int64} {v6 : Int32} {w : WH} {x : Sum (Int32 × Int64 × Int64 × Int32 × WH) ((Int32 × WH))} {r : (Int32 × WH)} (h : fX1_dearest_b67 v0 v1 v2 v4 v6 w = some x)  (k10 : ∀ (v1' : Int32) (v2' : Int64) (v4' : Int64) (v6' : Int32) (w' : WH), x = (.inl (v1', v2', v4', v6', w')) → ∀ (H : Heap) (locs : List Loc) (ls : Array Slot), RepH G A w' H → Cu A s w0 w' H locs → lv_has ls 11 [(0, .ref v0), (1, .int v1'), (2, .long v2'), (4, .long v4'), (6, .int v6')] → W p l e (hRm 18 410 w0) s m args below meth c H locs (wC w0 - wC w') (wS w0 - wS w') (hZ below args s G A w0 (some (.int r.1)) r.2) (F0 m 10 ls [])) (kR : ∀ q, x = (.inr q) → q = r) (hR : RepH G A w H) (hS : Cu A s w0 w H locs) (hl : lv_has ls 11 [(0, .ref v0), (1, .int v1), (2, .long v2), (4, .long v4), (6, .int v6)]) : W p l e (hRm 18 410 w0) s m args below meth c H locs (wC w0 - wC w) (wS w0 - wS w) (hZ below args s G A w0 (some (.int r.1)) r.2) (F0 m 67 ls []) := by
  have B0 := B
  obtain ⟨hx, hb, hml, hown, hts, hr, hlk, hK⟩ := B0
  unfold fX1_dearest_b67 at h
  refine lv_aload_n hx hb dX1_dearest_67 rfl (lv_at hl 0 rfl) ?_
  replace h := bo_o h
  obtain ⟨x1, e2, h⟩ := h
  refine h_get (ci := 17) (k := 1) (v := va_rf x1) hx hb hts hown hK hR in_X1 rfl (by decide) (fun _ _ => rfl) q664 (fun _ h9 => h9) (gR_o e2) dX1_dearest_68 ?_
  refine lv_aload_n hx hb dX1_dearest_71 rfl (lv_at hl 0 rfl) ?_
  replace h := bo_o h
  obtain ⟨x3, e4, h⟩ := h
  refine h_get (ci := 17) (k := 0) (v := va_rf x3) hx hb hts hown hK hR in_X1 rfl (by decide) (fun _ _ => rfl) q662 (fun _ h9 => h9) (gR_o e4) dX1_dearest_72 ?_
  replace h := bo_o h
  obtain ⟨a5, e6, h⟩ := h
  subst e6
  replace h := bo_o h
  obtain ⟨a7, e8, h⟩ := h
  subst e8
  replace h := bo_o h
  obtain ⟨_, e10, h⟩ := h
  replace h := b2_o h
  obtain ⟨x12, w9, e11, h⟩ := h
  refine h_callV 1 (ci := 23) (As := [.ref a7]) (rest := []) (v := (some (.int x12))) (w' := w9) (st1 := [.int x12]) hx hb hml hown hts hK hR hS (Nat.le_refl _) (Nat.le_refl _) rfl e10 (mX4_tolls e11) (lw_V q1735 q1736 q1737 q135 q1738) (by decide +kernel) (Nat.le_of_ble_eq_true rfl) (Nat.le_of_ble_eq_true rfl) rfl hl.1 (Nat.le_of_ble_eq_true rfl) dX1_dearest_75 rfl rfl (fun H locs hR hS => ?_)
  refine lv_i2l hx hb dX1_dearest_78 rfl ?_
  replace h := nm_o h
  obtain ⟨x13, e14, h⟩ := h
  refine lv_lstore (lv' := [(7, .long x13), (0, .ref v0), (1, .int v1), (2, .long v2), (4, .long v4), (6, .int v6)]) hx hb dX1_dearest_79 hl (by decide) (by subst e14; rfl) (fun ls hl => ?_)
  refine lv_aload_n hx hb dX1_dearest_81 rfl (lv_at hl 1 rfl) ?_
  refine lv_aload_n hx hb dX1_dearest_82 rfl (lv_at hl 1 rfl) ?_
  replace h := bo_o h
  obtain ⟨x15, e16, h⟩ := h
  refine h_get (ci := 17) (k := 0) (v := va_rf x15) hx hb hts hown hK hR in_X1 rfl (by decide) (fun _ _ => rfl) q662 (fun _ h9 => h9) (gR_o e16) dX1_dearest_83 ?_
  replace h := bo_o h
  obtain ⟨a17, e18, h⟩ := h
  subst e18
  replace h := bo_o h
  obtain ⟨x19, e20, h⟩ := h
  refine h_getN (ci := 21) (k := 0) (v := va_rf x19) hx hb hts hown hK hR in_X2 rfl (by decide) (fun _ _ => rfl) (hK.fn 15 rfl) (fun _ h9 => h9) (gR_o e20) dX1_dearest_86 ?_
  replace h := bo_o h
  obtain ⟨a21, e22, h⟩ := h
  subst e22
  replace h := bo_o h
  obtain ⟨x23, e24, h⟩ := h
  refine h_getN (ci := 22) (k := 2) (v := va_rf x23) hx hb hts hown hK hR in_X3 rfl (by decide) (fun _ _ => rfl) (hK.fn 10 rfl) (fun _ h9 => h9) (gR_o e24) dX1_dearest_89 ?_
  refine lv_iload hx hb dX1_dearest_92 (lv_at hl 5 rfl) ?_
  replace h := bo_o h
  obtain ⟨a25, e26, h⟩ := h
  subst e26
  replace h := bo_o h
  obtain ⟨_, e28, h⟩ := h
  replace h := b2_o h
  obtain ⟨x30, w27, e29, h⟩ := h
  refine h_callF 1  (As := [.int v6]) (rest := [.ref v0]) (v := (some (va_rf x30))) (w' := w27) (st1 := [va_rf x30, .ref v0]) hx hb hml hown hts hK hR hS (Nat.le_refl _) (Nat.le_refl _) (h_recv (ci := 2) hK hR hS rfl e28) (mJ2_get e29) (lw_app (a := [.methodLink _ _ _, .selects _ _ _, .instanceMethod _, .initialized _]) (lw_4 q1205 q1208 q1210 q117) (lw_meth q1212)) (hK.fw 1 rfl) (by decide +kernel) (Nat.le_of_ble_eq_true rfl) (Nat.le_of_ble_eq_true rfl) rfl hl.1 (Nat.le_of_ble_eq_true rfl) dX1_dearest_94 rfl rfl (fun H locs hR hS => ?_)
  replace h := bo_o h
  obtain ⟨a31, e32, h⟩ := h
  subst e32
  replace h := bo_o h
  obtain ⟨_, e33, h⟩ := h
  refine h_castS (ci := 28) hx hb hts hown hK hR hS rfl e33 q1265 dX1_dearest_99 ?_
  replace h := bo_o h
  obtain ⟨_, e35, h⟩ := h
  replace h := b2_o h
  obtain ⟨x37, w34, e36, h⟩ := h
  refine h_callV 1 (ci := 17) (As := [.ref a31]) (rest := []) (v := (some (.long x37))) (w' := w34) (st1 := [.long x37]) hx hb hml hown hts hK hR hS (Nat.le_refl _) (Nat.le_refl _) rfl e35 (mX1_feltBy e36) (lw_V q1743 q1745 qs39 q112 q1746) (by decide +kernel) (Nat.le_of_ble_eq_true rfl) (Nat.le_of_ble_eq_true rfl) rfl hl.1 (Nat.le_of_ble_eq_true rfl) dX1_dearest_102 rfl rfl (fun H locs hR hS => ?_)
  refine lv_lstore (lv' := [(9, .long x37), (7, .long x13), (0, .ref v0), (1, .int v1), (2, .long v2), (4, .long v4), (6, .int v6)]) hx hb dX1_dearest_105 hl (by decide) rfl (fun ls hl => ?_)
  refine lv_iload_n hx hb dX1_dearest_107 rfl (lv_at hl 3 rfl) ?_
  refine lv_iconst (v := (-1)) hx hb dX1_dearest_108 (by decide) ?_
  refine lv_icmp_eq (tgt := 128) hx hb dX1_dearest_109 (by decide) (fun c38 => ?_) (fun c38 => ?_)
  · replace h := it_o c38 h
    exact bX1_dearest_128 B h k10 kR hR hS (lv_sub hl [2, 6, 1, 0] rfl)
  · replace h := if_o c38 h
    refine lv_lload hx hb dX1_dearest_112 (lv_at hl 1 rfl) ?_
    refine lv_lload hx hb dX1_dearest_114 (lv_at hl 5 rfl) ?_
    refine lv_lmul hx hb dX1_dearest_116 ?_
    refine lv_lload_n hx hb dX1_dearest_117 rfl (lv_at hl 4 rfl) ?_
    refine lv_lload hx hb dX1_dearest_118 (lv_at hl 0 rfl) ?_
    refine lv_lmul hx hb dX1_dearest_120 ?_
    refine W.lcmp hx hb dX1_dearest_121 ?_
    refine lv_if_gt (tgt := 128) hx hb dX1_dearest_122 (by decide) (fun c39 => ?_) (fun c39 => ?_)
    · replace h := it_o c39 h
      exact bX1_dearest_128 B h k10 kR hR hS (lv_sub hl [2, 6, 1, 0] rfl)
    · replace h := if_o c39 h
      exact bX1_dearest_125 B h k10 kR hR hS (lv_sub hl [2, 3, 4, 5, 6] rfl)
noncomputable def fX1_dearest_b10 (v0 : Nat) (v1 : Int32) (v2 : Int64) (v4 : Int64) (v6 : Int32) (w : WH) : Option (Sum (Int32 × Int64 × Int64 × Int32 × WH) ((Int32 × WH))) :=
  (gR w v0 17 0).bind fun x1 =>
  x1.bind fun a3 =>
  (gR w a3 21 0).bind fun x5 =>
  x5.bind fun a7 =>
  (gR w a7 22 2).bind fun x9 =>
  x9.bind fun a11 =>
  (hIs w a11 2).bind fun _ =>
  b2_ (fJ2_size a11 w) fun x16 w13 =>
  if x16 ≤ v6 then (
    some (.inr (v1, w13))
  ) else (
    (gR w13 v0 17 1).bind fun x18 =>
    (gR w13 v0 17 0).bind fun x20 =>
    (gR w13 v0 17 0).bind fun x22 =>
    x22.bind fun a24 =>
    (gR w13 a24 21 0).bind fun x26 =>
    x26.bind fun a28 =>
    (gR w13 a28 22 2).bind fun x30 =>
    x30.bind fun a32 =>
    (hIs w13 a32 2).bind fun _ =>
    b2_ (fJ2_get a32 v6 w13) fun x37 w34 =>
    x37.bind fun a38 =>
    (hIs w34 a38 28).bind fun _ =>
    x18.bind fun a41 =>
    x20.bind fun a43 =>
    (hIs w34 a41 23).bind fun _ =>
    b2_ (fX4_walk a41 a43 a38 w34) fun x48 w45 =>
    if x48 = 0 then (
      fX1_dearest_b138 v0 v1 v2 v4 v6 w45
    ) else (
      fX1_dearest_b67 v0 v1 v2 v4 v6 w45
    )
  )
theorem bX1_dearest_10 {p : Program} {l : Launch} {e : Env} {s : State} {m : MethodId} {args : Array Value} {below : List Frame} {meth : Method} {c : Code} {H : Heap} {locs : List Loc} {ls : Array Slot} {G : gE} {A : Nat → Prop} {w0 : WH} (B : gB G RX1 cX1_dearest 11 (some .int) p s m args meth c) {v0 : Nat} {v1 : Int32} {v2 : Int64} {v4 : Int64} {v6 : Int32} {w : WH} {x : Sum (Int32 × Int64 × Int64 × Int32 × WH) ((Int32 × WH))} {r : (Int32 × WH)} (h : fX1_dearest_b10 v0 v1 v2 v4 v6 w = some x)  (k10 : ∀ (v1' : Int32) (v2' : Int64) (v4' : Int64) (v6' : Int32) (w' : WH), x = (.inl (v1', v2', v4', v6', w')) → ∀ (H : Heap) (locs : List Loc) (ls : Array Slot), RepH G A w' H → Cu A s w0 w' H locs → lv_has ls 11 [(0, .ref v0), (1, .int v1'), (2, .long v2'), (4, .long v4'), (6, .int v6')] → W p l e (hRm 18 410 w0) s m args below meth c H locs (wC w0 - wC w') (wS w0 - wS w') (hZ below args s G A w0 (some (.int r.1)) r.2) (F0 m 10 ls [])) (kR : ∀ q, x = (.inr q) → q = r) (hR : RepH G A w H) (hS : Cu A s w0 w H locs) (hl : lv_has ls 11 [(0, .ref v0), (1, .int v1), (2, .long v2), (4, .long v4), (6, .int v6)]) : W p l e (hRm 18 410 w0) s m args below meth c H locs (wC w0 - wC w) (wS w0 - wS w) (hZ below args s G A w0 (some (.int r.1)) r.2) (F0 m 10 ls []) := by
  have B0 := B
  obtain ⟨hx, hb, hml, hown, hts, hr, hlk, hK⟩ := B0
  unfold fX1_dearest_b10 at h
  refine lv_iload hx hb dX1_dearest_10 (lv_at hl 4 rfl) ?_
  refine lv_aload_n hx hb dX1_dearest_12 rfl (lv_at hl 0 rfl) ?_
  replace h := bo_o h
  obtain ⟨x1, e2, h⟩ := h
  refine h_get (ci := 17) (k := 0) (v := va_rf x1) hx hb hts hown hK hR in_X1 rfl (by decide) (fun _ _ => rfl) q662 (fun _ h9 => h9) (gR_o e2) dX1_dearest_13 ?_
  replace h := bo_o h
  obtain ⟨a3, e4, h⟩ := h
  subst e4
  replace h := bo_o h
  obtain ⟨x5, e6, h⟩ := h
  refine h_getN (ci := 21) (k := 0) (v := va_rf x5) hx hb hts hown hK hR in_X2 rfl (by decide) (fun _ _ => rfl) (hK.fn 15 rfl) (fun _ h9 => h9) (gR_o e6) dX1_dearest_16 ?_
  replace h := bo_o h
  obtain ⟨a7, e8, h⟩ := h
  subst e8
  replace h := bo_o h
  obtain ⟨x9, e10, h⟩ := h
  refine h_getN (ci := 22) (k := 2) (v := va_rf x9) hx hb hts hown hK hR in_X3 rfl (by decide) (fun _ _ => rfl) (hK.fn 10 rfl) (fun _ h9 => h9) (gR_o e10) dX1_dearest_19 ?_
  replace h := bo_o h
  obtain ⟨a11, e12, h⟩ := h
  subst e12
  replace h := bo_o h
  obtain ⟨_, e14, h⟩ := h
  replace h := b2_o h
  obtain ⟨x16, w13, e15, h⟩ := h
  refine h_callF 0  (As := []) (rest := [.int v6]) (v := (some (.int x16))) (w' := w13) (st1 := [.int x16, .int v6]) hx hb hml hown hts hK hR hS (Nat.le_refl _) (Nat.le_refl _) (h_recv (ci := 2) hK hR hS rfl e14) (mJ2_size e15) (lw_app (a := [.methodLink _ _ _, .selects _ _ _, .instanceMethod _, .initialized _]) (lw_4 q1076 q903 q905 q117) (lw_meth q907)) (hK.fw 0 rfl) (by decide +kernel) (Nat.le_of_ble_eq_true rfl) (Nat.le_of_ble_eq_true rfl) rfl hl.1 (Nat.le_of_ble_eq_true rfl) dX1_dearest_22 rfl rfl (fun H locs hR hS => ?_)
  refine lv_icmp_ge (tgt := 144) hx hb dX1_dearest_27 (by decide) (fun c17 => ?_) (fun c17 => ?_)
  · replace h := it_o c17 h
    refine lv_iload_n hx hb dX1_dearest_144 rfl (lv_at hl 1 rfl) ?_
    have eR := kR _ (Option.some.inj h).symm
    subst eR
    exact h_ifin hx hb hr hlk hR hS dX1_dearest_145
  · replace h := if_o c17 h
    refine lv_aload_n hx hb dX1_dearest_30 rfl (lv_at hl 0 rfl) ?_
    replace h := bo_o h
    obtain ⟨x18, e19, h⟩ := h
    refine h_get (ci := 17) (k := 1) (v := va_rf x18) hx hb hts hown hK hR in_X1 rfl (by decide) (fun _ _ => rfl) q664 (fun _ h9 => h9) (gR_o e19) dX1_dearest_31 ?_
    refine lv_aload_n hx hb dX1_dearest_34 rfl (lv_at hl 0 rfl) ?_
    replace h := bo_o h
    obtain ⟨x20, e21, h⟩ := h
    refine h_get (ci := 17) (k := 0) (v := va_rf x20) hx hb hts hown hK hR in_X1 rfl (by decide) (fun _ _ => rfl) q662 (fun _ h9 => h9) (gR_o e21) dX1_dearest_35 ?_
    refine lv_aload_n hx hb dX1_dearest_38 rfl (lv_at hl 0 rfl) ?_
    replace h := bo_o h
    obtain ⟨x22, e23, h⟩ := h
    refine h_get (ci := 17) (k := 0) (v := va_rf x22) hx hb hts hown hK hR in_X1 rfl (by decide) (fun _ _ => rfl) q662 (fun _ h9 => h9) (gR_o e23) dX1_dearest_39 ?_
    replace h := bo_o h
    obtain ⟨a24, e25, h⟩ := h
    subst e25
    replace h := bo_o h
    obtain ⟨x26, e27, h⟩ := h
    refine h_getN (ci := 21) (k := 0) (v := va_rf x26) hx hb hts hown hK hR in_X2 rfl (by decide) (fun _ _ => rfl) (hK.fn 15 rfl) (fun _ h9 => h9) (gR_o e27) dX1_dearest_42 ?_
    replace h := bo_o h
    obtain ⟨a28, e29, h⟩ := h
    subst e29
    replace h := bo_o h
    obtain ⟨x30, e31, h⟩ := h
    refine h_getN (ci := 22) (k := 2) (v := va_rf x30) hx hb hts hown hK hR in_X3 rfl (by decide) (fun _ _ => rfl) (hK.fn 10 rfl) (fun _ h9 => h9) (gR_o e31) dX1_dearest_45 ?_
    refine lv_iload hx hb dX1_dearest_48 (lv_at hl 4 rfl) ?_
    replace h := bo_o h
    obtain ⟨a32, e33, h⟩ := h
    subst e33
    replace h := bo_o h
    obtain ⟨_, e35, h⟩ := h
    replace h := b2_o h
    obtain ⟨x37, w34, e36, h⟩ := h
    refine h_callF 1  (As := [.int v6]) (rest := [va_rf x20, va_rf x18]) (v := (some (va_rf x37))) (w' := w34) (st1 := [va_rf x37, va_rf x20, va_rf x18]) hx hb hml hown hts hK hR hS (Nat.le_refl _) (Nat.le_refl _) (h_recv (ci := 2) hK hR hS rfl e35) (mJ2_get e36) (lw_app (a := [.methodLink _ _ _, .selects _ _ _, .instanceMethod _, .initialized _]) (lw_4 q1205 q1208 q1210 q117) (lw_meth q1212)) (hK.fw 1 rfl) (by decide +kernel) (Nat.le_of_ble_eq_true rfl) (Nat.le_of_ble_eq_true rfl) rfl hl.1 (cat_le (Nat.le_of_ble_eq_true rfl)) dX1_dearest_50 rfl rfl (fun H locs hR hS => ?_)
    replace h := bo_o h
    obtain ⟨a38, e39, h⟩ := h
    subst e39
    replace h := bo_o h
    obtain ⟨_, e40, h⟩ := h
    refine h_castS (ci := 28) hx hb hts hown hK hR hS rfl e40 q1265 dX1_dearest_55 ?_
    replace h := bo_o h
    obtain ⟨a41, e42, h⟩ := h
    subst e42
    replace h := bo_o h
    obtain ⟨a43, e44, h⟩ := h
    subst e44
    replace h := bo_o h
    obtain ⟨_, e46, h⟩ := h
    replace h := b2_o h
    obtain ⟨x48, w45, e47, h⟩ := h
    refine h_callV 2 (ci := 23) (As := [.ref a43, .ref a38]) (rest := []) (v := (some (.int x48))) (w' := w45) (st1 := [.int x48]) hx hb hml hown hts hK hR hS (Nat.le_refl _) (Nat.le_refl _) rfl e46 (mX4_walk e47) (lw_V q1266 q1267 q1268 q135 q1269) (by decide +kernel) (Nat.le_of_ble_eq_true rfl) (Nat.le_of_ble_eq_true rfl) rfl hl.1 (Nat.le_of_ble_eq_true rfl) dX1_dearest_58 rfl rfl (fun H locs hR hS => ?_)
    refine lv_if_ne (tgt := 67) hx hb dX1_dearest_61 (by decide) (fun c49 => ?_) (fun c49 => ?_)
    · replace h := if_o c49 h
      exact bX1_dearest_67 B h k10 kR hR hS (lv_sub hl [0, 1, 2, 3, 4] rfl)
    · replace h := it_o c49 h
      refine lv_goto (tgt := 138) hx hb dX1_dearest_64 (by decide) ?_
      exact bX1_dearest_138 B h k10 kR hR hS (lv_sub hl [0, 1, 2, 3, 4] rfl)
noncomputable def fX1_dearest_l10 (v0 : Nat) (v1 : Int32) (v2 : Int64) (v4 : Int64) (v6 : Int32) (w : WH) : Option ((Int32 × WH)) := whileO (fun q => fX1_dearest_b10 v0 q.1 q.2.1 q.2.2.1 q.2.2.2.1 q.2.2.2.2) (v1, v2, v4, v6, w)
theorem lX1_dearest_10 {p : Program} {l : Launch} {e : Env} {s : State} {m : MethodId} {args : Array Value} {below : List Frame} {meth : Method} {c : Code} {G : gE} {A : Nat → Prop} {w0 : WH} (B : gB G RX1 cX1_dearest 11 (some .int) p s m args meth c) {v0 : Nat} {r : (Int32 × WH)}   : ∀ (v1 : Int32) (v2 : Int64) (v4 : Int64) (v6 : Int32) (w : WH), fX1_dearest_l10 v0 v1 v2 v4 v6 w = some r → ∀ (H : Heap) (locs : List Loc) (ls : Array Slot), RepH G A w H → Cu A s w0 w H locs → lv_has ls 11 [(0, .ref v0), (1, .int v1), (2, .long v2), (4, .long v4), (6, .int v6)] → W p l e (hRm 18 410 w0) s m args below meth c H locs (wC w0 - wC w) (wS w0 - wS w) (hZ below args s G A w0 (some (.int r.1)) r.2) (F0 m 10 ls []) := by
  intro v1 v2 v4 v6 w h
  refine wh_walk (body := (fun q => fX1_dearest_b10 v0 q.1 q.2.1 q.2.2.1 q.2.2.2.1 q.2.2.2.2)) (P := (fun q : (Int32 × Int64 × Int64 × Int32 × WH) => ∀ (H : Heap) (locs : List Loc) (ls : Array Slot), RepH G A (q.2.2.2.2) H → Cu A s w0 (q.2.2.2.2) H locs → lv_has ls 11 [(0, .ref v0), (1, .int (q.1)), (2, .long (q.2.1)), (4, .long (q.2.2.1)), (6, .int (q.2.2.2.1))] → W p l e (hRm 18 410 w0) s m args below meth c H locs (wC w0 - wC (q.2.2.2.2)) (wS w0 - wS (q.2.2.2.2)) (hZ below args s G A w0 (some (.int r.1)) r.2) (F0 m 10 ls []))) (r := r) ?_ (v1, v2, v4, v6, w) h
  intro q y hy hL hr H locs ls hR hS hl
  exact bX1_dearest_10 (r := r) B hy (fun a0 a1 a2 a3 a4 e => hL (a0, a1, a2, a3, a4) e) (fun q e => hr q e) hR hS hl
noncomputable def fX1_dearest (v0 : Nat) (w : WH) : Option ((Int32 × WH)) :=
  fX1_dearest_l10 v0 (-1) 0 1 0 w
theorem bX1_dearest_0 {p : Program} {l : Launch} {e : Env} {s : State} {m : MethodId} {args : Array Value} {below : List Frame} {meth : Method} {c : Code} {H : Heap} {locs : List Loc} {ls : Array Slot} {G : gE} {A : Nat → Prop} {w0 : WH} (B : gB G RX1 cX1_dearest 11 (some .int) p s m args meth c) {v0 : Nat} {w : WH} {r : (Int32 × WH)} (h : fX1_dearest v0 w = some r)   (hR : RepH G A w H) (hS : Cu A s w0 w H locs) (hl : lv_has ls 11 [(0, .ref v0)]) : W p l e (hRm 18 410 w0) s m args below meth c H locs (wC w0 - wC w) (wS w0 - wS w) (hZ below args s G A w0 (some (.int r.1)) r.2) (F0 m 0 ls []) := by
  have B0 := B
  obtain ⟨hx, hb, hml, hown, hts, hr, hlk, hK⟩ := B0
  unfold fX1_dearest at h
  refine lv_iconst (v := (-1)) hx hb dX1_dearest_0 (by decide) ?_
  refine lv_istore_n (lv' := [(1, .int (-1)), (0, .ref v0)]) hx hb dX1_dearest_1 rfl hl (by decide) rfl (fun ls hl => ?_)
  refine lv_lconst (v := 0) hx hb dX1_dearest_2 (by decide) ?_
  refine lv_lstore_n (lv' := [(2, .long 0), (1, .int (-1)), (0, .ref v0)]) hx hb dX1_dearest_3 rfl hl (by decide) rfl (fun ls hl => ?_)
  refine lv_lconst (v := 1) hx hb dX1_dearest_4 (by decide) ?_
  refine lv_lstore (lv' := [(4, .long 1), (2, .long 0), (1, .int (-1)), (0, .ref v0)]) hx hb dX1_dearest_5 hl (by decide) rfl (fun ls hl => ?_)
  refine lv_iconst (v := 0) hx hb dX1_dearest_7 (by decide) ?_
  refine lv_istore (lv' := [(6, .int 0), (4, .long 1), (2, .long 0), (1, .int (-1)), (0, .ref v0)]) hx hb dX1_dearest_8 hl (by decide) rfl (fun ls hl => ?_)
  exact lX1_dearest_10 B _ _ _ _ _ h H locs ls hR hS (lv_sub hl [4, 3, 2, 1, 0] rfl)
theorem mX1_dearest {l : Launch} {G : gE} {A : Nat → Prop} {v0 : Nat} {w : WH} {r : (Int32 × WH)} (h : fX1_dearest v0 w = some r) : hM l G A yX1_dearest cX1_dearest 11 (some .int) 18 410 [.ref v0] w (some (.int r.1)) r.2 :=
  h_of (by decide +kernel) (Nat.le_of_ble_eq_true rfl) (fun p e s m args below meth c ls B hnm hR hS hl => bX1_dearest_0 B h hR hS hl)
noncomputable def fX1_improvable_b84 (v0 : Nat) (v1 : Int64) (v4 : Nat) (s0 : Int32) (s1 : Int32) (w : WH) : Option (Sum (Int32 × WH) ((Int32 × WH))) :=
  nm_ (s0 ||| s1) fun x1 =>
  some (.inl (x1, w))
theorem bX1_improvable_84 {p : Program} {l : Launch} {e : Env} {s : State} {m : MethodId} {args : Array Value} {below : List Frame} {meth : Method} {c : Code} {H : Heap} {locs : List Loc} {ls : Array Slot} {G : gE} {A : Nat → Prop} {w0 : WH} (B : gB G RX1 cX1_improvable 6 (some .int) p s m args meth c) {v0 : Nat} {v1 : Int64} {v4 : Nat} {s0 : Int32} {s1 : Int32} {w : WH} {x : Sum (Int32 × WH) ((Int32 × WH))} {r : (Int32 × WH)} (h : fX1_improvable_b84 v0 v1 v4 s0 s1 w = some x)  (k24 : ∀ (v3' : Int32) (w' : WH), x = (.inl (v3', w')) → ∀ (H : Heap) (locs : List Loc) (ls : Array Slot), RepH G A w' H → Cu A s w0 w' H locs → lv_has ls 6 [(0, .ref v0), (1, .long v1), (3, .int v3'), (4, va_rf v4)] → W p l e (hRm 22 506 w0) s m args below meth c H locs (wC w0 - wC w') (wS w0 - wS w') (hZ below args s G A w0 (some (.int r.1)) r.2) (F0 m 24 ls [])) (kR : ∀ q, x = (.inr q) → q = r) (hR : RepH G A w H) (hS : Cu A s w0 w H locs) (hl : lv_has ls 6 [(0, .ref v0), (1, .long v1), (4, .ref v4)]) : W p l e (hRm 22 506 w0) s m args below meth c H locs (wC w0 - wC w) (wS w0 - wS w) (hZ below args s G A w0 (some (.int r.1)) r.2) (F0 m 84 ls [.int s1, .int s0]) := by
  have B0 := B
  obtain ⟨hx, hb, hml, hown, hts, hr, hlk, hK⟩ := B0
  unfold fX1_improvable_b84 at h
  refine lv_ior hx hb dX1_improvable_84 ?_
  replace h := nm_o h
  obtain ⟨x1, e2, h⟩ := h
  refine lv_istore_n (lv' := [(3, .int x1), (0, .ref v0), (1, .long v1), (4, .ref v4)]) hx hb dX1_improvable_85 rfl hl (by decide) (by subst e2; rfl) (fun ls hl => ?_)
  refine lv_goto (tgt := 24) hx hb dX1_improvable_86 (by decide) ?_
  exact k24 _ _ (Option.some.inj h).symm H locs ls hR hS (lv_sub hl [1, 2, 0, 3] rfl)
noncomputable def fX1_improvable_b83 (v0 : Nat) (v1 : Int64) (v4 : Nat) (s0 : Int32) (w : WH) : Option (Sum (Int32 × WH) ((Int32 × WH))) :=
  fX1_improvable_b84 v0 v1 v4 s0 0 w
theorem bX1_improvable_83 {p : Program} {l : Launch} {e : Env} {s : State} {m : MethodId} {args : Array Value} {below : List Frame} {meth : Method} {c : Code} {H : Heap} {locs : List Loc} {ls : Array Slot} {G : gE} {A : Nat → Prop} {w0 : WH} (B : gB G RX1 cX1_improvable 6 (some .int) p s m args meth c) {v0 : Nat} {v1 : Int64} {v4 : Nat} {s0 : Int32} {w : WH} {x : Sum (Int32 × WH) ((Int32 × WH))} {r : (Int32 × WH)} (h : fX1_improvable_b83 v0 v1 v4 s0 w = some x)  (k24 : ∀ (v3' : Int32) (w' : WH), x = (.inl (v3', w')) → ∀ (H : Heap) (locs : List Loc) (ls : Array Slot), RepH G A w' H → Cu A s w0 w' H locs → lv_has ls 6 [(0, .ref v0), (1, .long v1), (3, .int v3'), (4, va_rf v4)] → W p l e (hRm 22 506 w0) s m args below meth c H locs (wC w0 - wC w') (wS w0 - wS w') (hZ below args s G A w0 (some (.int r.1)) r.2) (F0 m 24 ls [])) (kR : ∀ q, x = (.inr q) → q = r) (hR : RepH G A w H) (hS : Cu A s w0 w H locs) (hl : lv_has ls 6 [(0, .ref v0), (1, .long v1), (4, .ref v4)]) : W p l e (hRm 22 506 w0) s m args below meth c H locs (wC w0 - wC w) (wS w0 - wS w) (hZ below args s G A w0 (some (.int r.1)) r.2) (F0 m 83 ls [.int s0]) := by
  have B0 := B
  obtain ⟨hx, hb, hml, hown, hts, hr, hlk, hK⟩ := B0
  unfold fX1_improvable_b83 at h
  refine lv_iconst (v := 0) hx hb dX1_improvable_83 (by decide) ?_
  exact bX1_improvable_84 B h k24 kR hR hS (lv_sub hl [0, 1, 2] rfl)
noncomputable def fX1_improvable_b24 (v0 : Nat) (v1 : Int64) (v3 : Int32) (v4 : Option Nat) (w : WH) : Option (Sum (Int32 × WH) ((Int32 × WH))) :=
  v4.bind fun a1 =>
  (hIs w a1 4).bind fun _ =>
  b2_ (fJ21_hasNext a1 w) fun x6 w3 =>
  if x6 = 0 then (
    some (.inr (v3, w3))
  ) else (
    (hIs w3 a1 4).bind fun _ =>
    b2_ (fJ21_next a1 w3) fun x11 w8 =>
    x11.bind fun a12 =>
    (hIs w8 a12 27).bind fun _ =>
    (hIs w8 a12 27).bind fun _ =>
    b2_ (fX8_most a12 w8) fun x18 w15 =>
    if x18 ≤ 0 then (
      fX1_improvable_b83 v0 v1 a1 v3 w15
    ) else (
      b2_ (hNw w15 4 18 [.null, .int 0, .long 0, .null]) fun a20 w21 =>
      (fX11_init a20 v0 a12 w21).bind fun w23 =>
      (gJ w23 a20 18 2).bind fun x25 =>
      if lg_cmp x25 v1 ≤ 0 then (
        fX1_improvable_b83 v0 v1 a1 v3 w23
      ) else (
        (hIs w23 a12 27).bind fun _ =>
        b2_ (fX8_number a12 w23) fun x31 w28 =>
        fX1_improvable_b84 v0 v1 a1 v3 ((1 : Int32) <<< (x31 &&& 31)) w28
      )
    )
  )
theorem bX1_improvable_24 {p : Program} {l : Launch} {e : Env} {s : State} {m : MethodId} {args : Array Value} {below : List Frame} {meth : Method} {c : Code} {H : Heap} {locs : List Loc} {ls : Array Slot} {G : gE} {A : Nat → Prop} {w0 : WH} (B : gB G RX1 cX1_improvable 6 (some .int) p s m args meth c) {v0 : Nat} {v1 : Int64} {v3 : Int32} {v4 : Option Nat} {w : WH} {x : Sum (Int32 × WH) ((Int32 × WH))} {r : (Int32 × WH)} (h : fX1_improvable_b24 v0 v1 v3 v4 w = some x)  (k24 : ∀ (v3' : Int32) (w' : WH), x = (.inl (v3', w')) → ∀ (H : Heap) (locs : List Loc) (ls : Array Slot), RepH G A w' H → Cu A s w0 w' H locs → lv_has ls 6 [(0, .ref v0), (1, .long v1), (3, .int v3'), (4, va_rf v4)] → W p l e (hRm 22 506 w0) s m args below meth c H locs (wC w0 - wC w') (wS w0 - wS w') (hZ below args s G A w0 (some (.int r.1)) r.2) (F0 m 24 ls [])) (kR : ∀ q, x = (.inr q) → q = r) (hR : RepH G A w H) (hS : Cu A s w0 w H locs) (hl : lv_has ls 6 [(0, .ref v0), (1, .long v1), (3, .int v3), (4, va_rf v4)]) : W p l e (hRm 22 506 w0) s m args below meth c H locs (wC w0 - wC w) (wS w0 - wS w) (hZ below args s G A w0 (some (.int r.1)) r.2) (F0 m 24 ls []) := by
  have B0 := B
  obtain ⟨hx, hb, hml, hown, hts, hr, hlk, hK⟩ := B0
  unfold fX1_improvable_b24 at h
  refine lv_aloadq hx hb dX1_improvable_24 (lv_at hl 3 rfl) ?_
  replace h := bo_o h
  obtain ⟨a1, e2, h⟩ := h
  subst e2
  replace h := bo_o h
  obtain ⟨_, e4, h⟩ := h
  replace h := b2_o h
  obtain ⟨x6, w3, e5, h⟩ := h
  refine h_callF 0  (As := []) (rest := []) (v := (some (.int x6))) (w' := w3) (st1 := [.int x6]) hx hb hml hown hts hK hR hS (Nat.le_refl _) (Nat.le_refl _) (h_recv (ci := 4) hK hR hS rfl e4) (mJ21_hasNext e5) (lw_app (a := [.methodLink _ _ _, .selects _ _ _, .instanceMethod _, .initialized _]) (lw_4 q1540 q1569 q1571 q144) (lw_meth q1573)) (hK.fw 4 rfl) (by decide +kernel) (Nat.le_of_ble_eq_true rfl) (Nat.le_of_ble_eq_true rfl) rfl hl.1 (Nat.le_of_ble_eq_true rfl) dX1_improvable_26 rfl rfl (fun H locs hR hS => ?_)
  refine lv_if_eq (tgt := 89) hx hb dX1_improvable_31 (by decide) (fun c7 => ?_) (fun c7 => ?_)
  · replace h := it_o c7 h
    refine lv_iload_n hx hb dX1_improvable_89 rfl (lv_at hl 2 rfl) ?_
    have eR := kR _ (Option.some.inj h).symm
    subst eR
    exact h_ifin hx hb hr hlk hR hS dX1_improvable_90
  · replace h := if_o c7 h
    refine lv_aload hx hb dX1_improvable_34 (lv_at hl 3 rfl) ?_
    replace h := bo_o h
    obtain ⟨_, e9, h⟩ := h
    replace h := b2_o h
    obtain ⟨x11, w8, e10, h⟩ := h
    refine h_callF 0  (As := []) (rest := []) (v := (some (va_rf x11))) (w' := w8) (st1 := [va_rf x11]) hx hb hml hown hts hK hR hS (Nat.le_refl _) (Nat.le_refl _) (h_recv (ci := 4) hK hR hS rfl e9) (mJ21_next e10) (lw_app (a := [.methodLink _ _ _, .selects _ _ _, .instanceMethod _, .initialized _]) (lw_4 q1584 q1681 q1683 q144) (lw_meth q1685)) (hK.fw 5 rfl) (by decide +kernel) (Nat.le_of_ble_eq_true rfl) (Nat.le_of_ble_eq_true rfl) rfl hl.1 (Nat.le_of_ble_eq_true rfl) dX1_improvable_36 rfl rfl (fun H locs hR hS => ?_)
    replace h := bo_o h
    obtain ⟨a12, e13, h⟩ := h
    subst e13
    replace h := bo_o h
    obtain ⟨_, e14, h⟩ := h
    refine h_castS (ci := 27) hx hb hts hown hK hR hS rfl e14 q1768 dX1_improvable_41 ?_
    refine lv_astore (lv' := [(5, .ref a12), (0, .ref v0), (1, .long v1), (3, .int v3), (4, .ref a1)]) hx hb dX1_improvable_44 hl (by decide) rfl (fun ls hl => ?_)
    refine lv_iload_n hx hb dX1_improvable_46 rfl (lv_at hl 3 rfl) ?_
    refine lv_aload hx hb dX1_improvable_47 (lv_at hl 0 rfl) ?_
    replace h := bo_o h
    obtain ⟨_, e16, h⟩ := h
    replace h := b2_o h
    obtain ⟨x18, w15, e17, h⟩ := h
    refine h_callV 0 (ci := 27) (As := []) (rest := [.int v3]) (v := (some (.int x18))) (w' := w15) (st1 := [.int x18, .int v3]) hx hb hml hown hts hK hR hS (Nat.le_refl _) (Nat.le_refl _) rfl e16 (mX8_most e17) (lw_V q1769 q1356 q1357 q141 q1358) (by decide +kernel) (Nat.le_of_ble_eq_true rfl) (Nat.le_of_ble_eq_true rfl) rfl hl.1 (Nat.le_of_ble_eq_true rfl) dX1_improvable_49 rfl rfl (fun H locs hR hS => ?_)
    refine lv_if_le (tgt := 83) hx hb dX1_improvable_52 (by decide) (fun c19 => ?_) (fun c19 => ?_)
    · replace h := it_o c19 h
      exact bX1_improvable_83 B h k24 kR hR hS (lv_sub hl [1, 2, 4] rfl)
    · replace h := if_o c19 h
      replace h := b2_o h
      obtain ⟨a20, w21, e22, h⟩ := h
      refine h_new (ci := 18) (fs := [.null, .int 0, .long 0, .null]) hx hb hts hown hK hR hS (Nat.le_refl _) (Nat.le_refl _) in_X11 tyX11 tyX11_ok rfl (by decide +kernel) q1770 q1771 q157 e22 dX1_improvable_55 (fun H locs hR hS => ?_)
      refine lv_dup hx hb dX1_improvable_58 rfl ?_
      refine lv_aload_n hx hb dX1_improvable_59 rfl (lv_at hl 1 rfl) ?_
      refine lv_aload hx hb dX1_improvable_60 (lv_at hl 0 rfl) ?_
      replace h := bo_o h
      obtain ⟨w23, e24, h⟩ := h
      refine h_callI 2  (As := [.ref v0, .ref a12]) (rest := [.ref a20, .int v3]) (w' := w23) hx hb hml hown hts hK hR hS (Nat.le_refl _) (Nat.le_refl _) (mX11_init e24) (lw_meth q1774) q157 q1772 q1773 rfl (by decide +kernel) (Nat.le_of_ble_eq_true rfl) (Nat.le_of_ble_eq_true rfl) rfl hl.1 (Nat.le_of_ble_eq_true rfl) dX1_improvable_62 rfl (fun H locs hR hS => ?_)
      replace h := bo_o h
      obtain ⟨x25, e26, h⟩ := h
      refine h_getN (ci := 18) (k := 2) (v := .long x25) hx hb hts hown hK hR in_X11 rfl (by decide) (fun _ _ => rfl) (hK.fn 33 rfl) (fun _ h9 => h9) (gJ_o e26) dX1_improvable_65 ?_
      refine lv_lload_n hx hb dX1_improvable_68 rfl (lv_at hl 2 rfl) ?_
      refine W.lcmp hx hb dX1_improvable_69 ?_
      refine lv_if_le (tgt := 83) hx hb dX1_improvable_70 (by decide) (fun c27 => ?_) (fun c27 => ?_)
      · replace h := it_o c27 h
        exact bX1_improvable_83 B h k24 kR hR hS (lv_sub hl [1, 2, 4] rfl)
      · replace h := if_o c27 h
        refine lv_iconst (v := 1) hx hb dX1_improvable_73 (by decide) ?_
        refine lv_aload hx hb dX1_improvable_74 (lv_at hl 0 rfl) ?_
        replace h := bo_o h
        obtain ⟨_, e29, h⟩ := h
        replace h := b2_o h
        obtain ⟨x31, w28, e30, h⟩ := h
        refine h_callV 0 (ci := 27) (As := []) (rest := [.int 1, .int v3]) (v := (some (.int x31))) (w' := w28) (st1 := [.int x31, .int 1, .int v3]) hx hb hml hown hts hK hR hS (Nat.le_refl _) (Nat.le_refl _) rfl e29 (mX8_number e30) (lw_V q1791 q1305 q1306 q141 q1307) (by decide +kernel) (Nat.le_of_ble_eq_true rfl) (Nat.le_of_ble_eq_true rfl) rfl hl.1 (Nat.le_of_ble_eq_true rfl) dX1_improvable_76 rfl rfl (fun H locs hR hS => ?_)
        refine lv_ishl hx hb dX1_improvable_79 ?_
        refine lv_goto (tgt := 84) hx hb dX1_improvable_80 (by decide) ?_
        exact bX1_improvable_84 B h k24 kR hR hS (lv_sub hl [1, 2, 4] rfl)
noncomputable def fX1_improvable_l24 (v0 : Nat) (v1 : Int64) (v3 : Int32) (v4 : Option Nat) (w : WH) : Option ((Int32 × WH)) := whileO (fun q => fX1_improvable_b24 v0 v1 q.1 v4 q.2) (v3, w)
theorem lX1_improvable_24 {p : Program} {l : Launch} {e : Env} {s : State} {m : MethodId} {args : Array Value} {below : List Frame} {meth : Method} {c : Code} {G : gE} {A : Nat → Prop} {w0 : WH} (B : gB G RX1 cX1_improvable 6 (some .int) p s m args meth c) {v0 : Nat} {v1 : Int64} {v4 : Option Nat} {r : (Int32 × WH)}   : ∀ (v3 : Int32) (w : WH), fX1_improvable_l24 v0 v1 v3 v4 w = some r → ∀ (H : Heap) (locs : List Loc) (ls : Array Slot), RepH G A w H → Cu A s w0 w H locs → lv_has ls 6 [(0, .ref v0), (1, .long v1), (3, .int v3), (4, va_rf v4)] → W p l e (hRm 22 506 w0) s m args below meth c H locs (wC w0 - wC w) (wS w0 - wS w) (hZ below args s G A w0 (some (.int r.1)) r.2) (F0 m 24 ls []) := by
  intro v3 w h
  refine wh_walk (body := (fun q => fX1_improvable_b24 v0 v1 q.1 v4 q.2)) (P := (fun q : (Int32 × WH) => ∀ (H : Heap) (locs : List Loc) (ls : Array Slot), RepH G A (q.2) H → Cu A s w0 (q.2) H locs → lv_has ls 6 [(0, .ref v0), (1, .long v1), (3, .int (q.1)), (4, va_rf v4)] → W p l e (hRm 22 506 w0) s m args below meth c H locs (wC w0 - wC (q.2)) (wS w0 - wS (q.2)) (hZ below args s G A w0 (some (.int r.1)) r.2) (F0 m 24 ls []))) (r := r) ?_ (v3, w) h
  intro q y hy hL hr H locs ls hR hS hl
  exact bX1_improvable_24 (r := r) B hy (fun a0 a1 e => hL (a0, a1) e) (fun q e => hr q e) hR hS hl
noncomputable def fX1_improvable (v0 : Nat) (w : WH) : Option ((Int32 × WH)) :=
  (hIs w v0 17).bind fun _ =>
  b2_ (fX1_brought v0 w) fun x4 w1 =>
  (gR w1 v0 17 0).bind fun x5 =>
  x5.bind fun a7 =>
  (gR w1 a7 21 0).bind fun x9 =>
  x9.bind fun a11 =>
  (gR w1 a11 22 1).bind fun x13 =>
  x13.bind fun a15 =>
  (hIs w1 a15 2).bind fun _ =>
  b2_ (fJ2_iterator a15 w1) fun x20 w17 =>
  fX1_improvable_l24 v0 x4 0 x20 w17
theorem bX1_improvable_0 {p : Program} {l : Launch} {e : Env} {s : State} {m : MethodId} {args : Array Value} {below : List Frame} {meth : Method} {c : Code} {H : Heap} {locs : List Loc} {ls : Array Slot} {G : gE} {A : Nat → Prop} {w0 : WH} (B : gB G RX1 cX1_improvable 6 (some .int) p s m args meth c) {v0 : Nat} {w : WH} {r : (Int32 × WH)} (h : fX1_improvable v0 w = some r)   (hR : RepH G A w H) (hS : Cu A s w0 w H locs) (hl : lv_has ls 6 [(0, .ref v0)]) : W p l e (hRm 22 506 w0) s m args below meth c H locs (wC w0 - wC w) (wS w0 - wS w) (hZ below args s G A w0 (some (.int r.1)) r.2) (F0 m 0 ls []) := by
  have B0 := B
  obtain ⟨hx, hb, hml, hown, hts, hr, hlk, hK⟩ := B0
  unfold fX1_improvable at h
  refine lv_aload_n hx hb dX1_improvable_0 rfl (lv_at hl 0 rfl) ?_
  replace h := bo_o h
  obtain ⟨_, e2, h⟩ := h
  replace h := b2_o h
  obtain ⟨x4, w1, e3, h⟩ := h
  refine h_callV 0 (ci := 17) (As := []) (rest := []) (v := (some (.long x4))) (w' := w1) (st1 := [.long x4]) hx hb hml hown hts hK hR hS (Nat.le_refl _) (Nat.le_refl _) rfl e2 (mX1_brought e3) (lw_V q1727 q1729 qs37 q112 q1730) (by decide +kernel) (Nat.le_of_ble_eq_true rfl) (Nat.le_of_ble_eq_true rfl) rfl hl.1 (Nat.le_of_ble_eq_true rfl) dX1_improvable_1 rfl rfl (fun H locs hR hS => ?_)
  refine lv_lstore_n (lv' := [(1, .long x4), (0, .ref v0)]) hx hb dX1_improvable_4 rfl hl (by decide) rfl (fun ls hl => ?_)
  refine lv_iconst (v := 0) hx hb dX1_improvable_5 (by decide) ?_
  refine lv_istore_n (lv' := [(3, .int 0), (1, .long x4), (0, .ref v0)]) hx hb dX1_improvable_6 rfl hl (by decide) rfl (fun ls hl => ?_)
  refine lv_aload_n hx hb dX1_improvable_7 rfl (lv_at hl 2 rfl) ?_
  replace h := bo_o h
  obtain ⟨x5, e6, h⟩ := h
  refine h_get (ci := 17) (k := 0) (v := va_rf x5) hx hb hts hown hK hR in_X1 rfl (by decide) (fun _ _ => rfl) q662 (fun _ h9 => h9) (gR_o e6) dX1_improvable_8 ?_
  replace h := bo_o h
  obtain ⟨a7, e8, h⟩ := h
  subst e8
  replace h := bo_o h
  obtain ⟨x9, e10, h⟩ := h
  refine h_getN (ci := 21) (k := 0) (v := va_rf x9) hx hb hts hown hK hR in_X2 rfl (by decide) (fun _ _ => rfl) (hK.fn 15 rfl) (fun _ h9 => h9) (gR_o e10) dX1_improvable_11 ?_
  replace h := bo_o h
  obtain ⟨a11, e12, h⟩ := h
  subst e12
  replace h := bo_o h
  obtain ⟨x13, e14, h⟩ := h
  refine h_getN (ci := 22) (k := 1) (v := va_rf x13) hx hb hts hown hK hR in_X3 rfl (by decide) (fun _ _ => rfl) (hK.fn 6 rfl) (fun _ h9 => h9) (gR_o e14) dX1_improvable_14 ?_
  replace h := bo_o h
  obtain ⟨a15, e16, h⟩ := h
  subst e16
  replace h := bo_o h
  obtain ⟨_, e18, h⟩ := h
  replace h := b2_o h
  obtain ⟨x20, w17, e19, h⟩ := h
  refine h_callF 0  (As := []) (rest := []) (v := (some (va_rf x20))) (w' := w17) (st1 := [va_rf x20]) hx hb hml hown hts hK hR hS (Nat.le_refl _) (Nat.le_refl _) (h_recv (ci := 2) hK hR hS rfl e18) (mJ2_iterator e19) (lw_app (a := [.methodLink _ _ _, .selects _ _ _, .instanceMethod _, .initialized _]) (lw_4 q1432 q1435 q1437 q117) (lw_meth q1439)) (hK.fw 3 rfl) (by decide +kernel) (Nat.le_of_ble_eq_true rfl) (Nat.le_of_ble_eq_true rfl) rfl hl.1 (Nat.le_of_ble_eq_true rfl) dX1_improvable_17 rfl rfl (fun H locs hR hS => ?_)
  refine lv_astoreq (lv' := [(4, va_rf x20), (3, .int 0), (1, .long x4), (0, .ref v0)]) hx hb dX1_improvable_22 hl (by decide) rfl (fun ls hl => ?_)
  exact lX1_improvable_24 B _ _ h H locs ls hR hS (lv_sub hl [3, 2, 1, 0] rfl)
theorem mX1_improvable {l : Launch} {G : gE} {A : Nat → Prop} {v0 : Nat} {w : WH} {r : (Int32 × WH)} (h : fX1_improvable v0 w = some r) : hM l G A yX1_improvable cX1_improvable 6 (some .int) 22 506 [.ref v0] w (some (.int r.1)) r.2 :=
  h_of (by decide +kernel) (Nat.le_of_ble_eq_true rfl) (fun p e s m args below meth c ls B hnm hR hS hl => bX1_improvable_0 B h hR hS hl)
noncomputable def fJ7_setLength_b76 (v0 : Nat) (v1 : Int32) (w : WH) : Option (WH) :=
  (hPut w v0 15 3 (.int v1)).bind fun w1 =>
  some w1
theorem bJ7_setLength_76 {p : Program} {l : Launch} {e : Env} {s : State} {m : MethodId} {args : Array Value} {below : List Frame} {meth : Method} {c : Code} {H : Heap} {locs : List Loc} {ls : Array Slot} {G : gE} {A : Nat → Prop} {w0 : WH} (B : gB G RJ7 cJ7_setLength 2 none p s m args meth c) {v0 : Nat} {v1 : Int32} {w : WH} {r : WH} (h : fJ7_setLength_b76 v0 v1 w = some r)   (hR : RepH G A w H) (hS : Cu A s w0 w H locs) (hl : lv_has ls 2 [(0, .ref v0), (1, .int v1)]) : W p l e (hRm 4 93 w0) s m args below meth c H locs (wC w0 - wC w) (wS w0 - wS w) (hZ below args s G A w0 none r) (F0 m 76 ls []) := by
  have B0 := B
  obtain ⟨hx, hb, hml, hown, hts, hr, hlk, hK⟩ := B0
  unfold fJ7_setLength_b76 at h
  refine lv_aload_n hx hb dJ7_setLength_76 rfl (lv_at hl 0 rfl) ?_
  refine lv_iload_n hx hb dJ7_setLength_77 rfl (lv_at hl 1 rfl) ?_
  replace h := bo_o h
  obtain ⟨w1, e2, h⟩ := h
  refine h_put (ci := 15) (k := 3) (ty := tyJ8 3) hx hb hts hown hK hR hS in_J8 tyJ8 tyJ8_ok nmJ8 rfl (by decide) q260 (fun _ h9 => h9) rfl (tyJ8_ok 3 (by decide)) rfl rfl e2 dJ7_setLength_78 (fun H locs hR hS => ?_)
  have eR := Option.some.inj h
  subst eR
  exact h_vfin hx hb hr hlk hR hS dJ7_setLength_81
noncomputable def fJ7_setLength_b33 (v0 : Nat) (v1 : Int32) (w : WH) : Option (WH) :=
  (gR w v0 15 0).bind fun x1 =>
  (gI w v0 15 3).bind fun x3 =>
  none
theorem bJ7_setLength_33 {p : Program} {l : Launch} {e : Env} {s : State} {m : MethodId} {args : Array Value} {below : List Frame} {meth : Method} {c : Code} {H : Heap} {locs : List Loc} {ls : Array Slot} {G : gE} {A : Nat → Prop} {w0 : WH} (B : gB G RJ7 cJ7_setLength 2 none p s m args meth c) {v0 : Nat} {v1 : Int32} {w : WH} {r : WH} (h : fJ7_setLength_b33 v0 v1 w = some r)   (hR : RepH G A w H) (hS : Cu A s w0 w H locs) (hl : lv_has ls 2 [(0, .ref v0), (1, .int v1)]) : W p l e (hRm 4 93 w0) s m args below meth c H locs (wC w0 - wC w) (wS w0 - wS w) (hZ below args s G A w0 none r) (F0 m 33 ls []) := by
  have B0 := B
  obtain ⟨hx, hb, hml, hown, hts, hr, hlk, hK⟩ := B0
  unfold fJ7_setLength_b33 at h
  refine lv_aload_n hx hb dJ7_setLength_33 rfl (lv_at hl 0 rfl) ?_
  replace h := bo_o h
  obtain ⟨x1, e2, h⟩ := h
  refine h_get (ci := 15) (k := 0) (v := va_rf x1) hx hb hts hown hK hR in_J8 rfl (by decide) (fun _ _ => rfl) q256 (fun _ h9 => h9) (gR_o e2) dJ7_setLength_34 ?_
  refine lv_aload_n hx hb dJ7_setLength_37 rfl (lv_at hl 0 rfl) ?_
  replace h := bo_o h
  obtain ⟨x3, e4, h⟩ := h
  refine h_get (ci := 15) (k := 3) (v := .int x3) hx hb hts hown hK hR in_J8 rfl (by decide) (fun _ _ => rfl) q260 (fun _ h9 => h9) (gI_o e4) dJ7_setLength_38 ?_
  refine lv_iload_n hx hb dJ7_setLength_41 rfl (lv_at hl 1 rfl) ?_
  exact (nomatch h)
noncomputable def fJ7_setLength_b4 (v1 : Int32) (w : WH) : Option (WH) :=
  none
theorem bJ7_setLength_4 {p : Program} {l : Launch} {e : Env} {s : State} {m : MethodId} {args : Array Value} {below : List Frame} {meth : Method} {c : Code} {H : Heap} {locs : List Loc} {ls : Array Slot} {G : gE} {A : Nat → Prop} {w0 : WH} (B : gB G RJ7 cJ7_setLength 2 none p s m args meth c) {v1 : Int32} {w : WH} {r : WH} (h : fJ7_setLength_b4 v1 w = some r)   (hR : RepH G A w H) (hS : Cu A s w0 w H locs) (hl : lv_has ls 2 [(1, .int v1)]) : W p l e (hRm 4 93 w0) s m args below meth c H locs (wC w0 - wC w) (wS w0 - wS w) (hZ below args s G A w0 none r) (F0 m 4 ls []) := by
  have B0 := B
  obtain ⟨hx, hb, hml, hown, hts, hr, hlk, hK⟩ := B0
  unfold fJ7_setLength_b4 at h
  exact (nomatch h)
noncomputable def fJ7_setLength (v0 : Nat) (v1 : Int32) (w : WH) : Option (WH) :=
  if 0 ≤ v1 then (
    (hIs w v0 15).bind fun _ =>
    (fJ7_ensureCapacityInternal v0 v1 w).bind fun w2 =>
    (gI w2 v0 15 3).bind fun x5 =>
    if v1 ≤ x5 then (
      (gI w2 v0 15 3).bind fun x8 =>
      if x8 ≤ v1 then (
        fJ7_setLength_b76 v0 v1 w2
      ) else (
        (hPut w2 v0 15 2 (.int 1)).bind fun w11 =>
        fJ7_setLength_b76 v0 v1 w11
      )
    ) else (
      (hIs w2 v0 15).bind fun _ =>
      b2_ (fJ7_isLatin1 v0 w2) fun x16 w13 =>
      if x16 = 0 then (
        (gR w13 v0 15 0).bind fun x18 =>
        (gI w13 v0 15 3).bind fun x20 =>
        none
      ) else (
        fJ7_setLength_b33 v0 v1 w13
      )
    )
  ) else (
    fJ7_setLength_b4 v1 w
  )
theorem bJ7_setLength_0 {p : Program} {l : Launch} {e : Env} {s : State} {m : MethodId} {args : Array Value} {below : List Frame} {meth : Method} {c : Code} {H : Heap} {locs : List Loc} {ls : Array Slot} {G : gE} {A : Nat → Prop} {w0 : WH} (B : gB G RJ7 cJ7_setLength 2 none p s m args meth c) {v0 : Nat} {v1 : Int32} {w : WH} {r : WH} (h : fJ7_setLength v0 v1 w = some r)   (hR : RepH G A w H) (hS : Cu A s w0 w H locs) (hl : lv_has ls 2 [(0, .ref v0), (1, .int v1)]) : W p l e (hRm 4 93 w0) s m args below meth c H locs (wC w0 - wC w) (wS w0 - wS w) (hZ below args s G A w0 none r) (F0 m 0 ls []) := by
  have B0 := B
  obtain ⟨hx, hb, hml, hown, hts, hr, hlk, hK⟩ := B0
  unfold fJ7_setLength at h
  refine lv_iload_n hx hb dJ7_setLength_0 rfl (lv_at hl 1 rfl) ?_
  refine lv_if_ge (tgt := 13) hx hb dJ7_setLength_1 (by decide) (fun c1 => ?_) (fun c1 => ?_)
  · replace h := it_o c1 h
    refine lv_aload_n hx hb dJ7_setLength_13 rfl (lv_at hl 0 rfl) ?_
    refine lv_iload_n hx hb dJ7_setLength_14 rfl (lv_at hl 1 rfl) ?_
    replace h := bo_o h
    obtain ⟨_, e3, h⟩ := h
    replace h := bo_o h
    obtain ⟨w2, e4, h⟩ := h
    refine h_callX 1 (ci := 15) (As := [.int v1]) (rest := []) (v := none) (w' := w2) (st1 := []) hx hb hml hown hts hK hR hS (Nat.le_refl _) (Nat.le_refl _) rfl e3 (mJ7_ensureCapacityInternal e4) (lw_meth q286) q122 q283 q285 (hK.sl 0 rfl) (by decide +kernel) (Nat.le_of_ble_eq_true rfl) (Nat.le_of_ble_eq_true rfl) rfl hl.1 (Nat.le_of_ble_eq_true rfl) dJ7_setLength_15 rfl rfl (fun H locs hR hS => ?_)
    refine lv_aload_n hx hb dJ7_setLength_18 rfl (lv_at hl 0 rfl) ?_
    replace h := bo_o h
    obtain ⟨x5, e6, h⟩ := h
    refine h_get (ci := 15) (k := 3) (v := .int x5) hx hb hts hown hK hR in_J8 rfl (by decide) (fun _ _ => rfl) q260 (fun _ h9 => h9) (gI_o e6) dJ7_setLength_19 ?_
    refine lv_iload_n hx hb dJ7_setLength_22 rfl (lv_at hl 1 rfl) ?_
    refine lv_icmp_ge (tgt := 63) hx hb dJ7_setLength_23 (by decide) (fun c7 => ?_) (fun c7 => ?_)
    · replace h := it_o c7 h
      refine lv_aload_n hx hb dJ7_setLength_63 rfl (lv_at hl 0 rfl) ?_
      replace h := bo_o h
      obtain ⟨x8, e9, h⟩ := h
      refine h_get (ci := 15) (k := 3) (v := .int x8) hx hb hts hown hK hR in_J8 rfl (by decide) (fun _ _ => rfl) q260 (fun _ h9 => h9) (gI_o e9) dJ7_setLength_64 ?_
      refine lv_iload_n hx hb dJ7_setLength_67 rfl (lv_at hl 1 rfl) ?_
      refine lv_icmp_le (tgt := 76) hx hb dJ7_setLength_68 (by decide) (fun c10 => ?_) (fun c10 => ?_)
      · replace h := it_o c10 h
        exact bJ7_setLength_76 B h  hR hS (lv_sub hl [0, 1] rfl)
      · replace h := if_o c10 h
        refine lv_aload_n hx hb dJ7_setLength_71 rfl (lv_at hl 0 rfl) ?_
        refine lv_iconst (v := 1) hx hb dJ7_setLength_72 (by decide) ?_
        replace h := bo_o h
        obtain ⟨w11, e12, h⟩ := h
        refine h_put (ci := 15) (k := 2) (ty := tyJ8 2) hx hb hts hown hK hR hS in_J8 tyJ8 tyJ8_ok nmJ8 rfl (by decide) q258 (fun _ h9 => h9) rfl (tyJ8_ok 2 (by decide)) rfl rfl e12 dJ7_setLength_73 (fun H locs hR hS => ?_)
        exact bJ7_setLength_76 B h  hR hS (lv_sub hl [0, 1] rfl)
    · replace h := if_o c7 h
      refine lv_aload_n hx hb dJ7_setLength_26 rfl (lv_at hl 0 rfl) ?_
      replace h := bo_o h
      obtain ⟨_, e14, h⟩ := h
      replace h := b2_o h
      obtain ⟨x16, w13, e15, h⟩ := h
      refine h_callX 0 (ci := 15) (As := []) (rest := []) (v := (some (.int x16))) (w' := w13) (st1 := [.int x16]) hx hb hml hown hts hK hR hS (Nat.le_refl _) (Nat.le_refl _) rfl e14 (mJ7_isLatin1 e15) (lw_meth q322) q122 q318 q319 (hts _ q321) (by decide +kernel) (Nat.le_of_ble_eq_true rfl) (Nat.le_of_ble_eq_true rfl) rfl hl.1 (Nat.le_of_ble_eq_true rfl) dJ7_setLength_27 rfl rfl (fun H locs hR hS => ?_)
      refine lv_if_eq (tgt := 48) hx hb dJ7_setLength_30 (by decide) (fun c17 => ?_) (fun c17 => ?_)
      · replace h := it_o c17 h
        refine lv_aload_n hx hb dJ7_setLength_48 rfl (lv_at hl 0 rfl) ?_
        replace h := bo_o h
        obtain ⟨x18, e19, h⟩ := h
        refine h_get (ci := 15) (k := 0) (v := va_rf x18) hx hb hts hown hK hR in_J8 rfl (by decide) (fun _ _ => rfl) q256 (fun _ h9 => h9) (gR_o e19) dJ7_setLength_49 ?_
        refine lv_aload_n hx hb dJ7_setLength_52 rfl (lv_at hl 0 rfl) ?_
        replace h := bo_o h
        obtain ⟨x20, e21, h⟩ := h
        refine h_get (ci := 15) (k := 3) (v := .int x20) hx hb hts hown hK hR in_J8 rfl (by decide) (fun _ _ => rfl) q260 (fun _ h9 => h9) (gI_o e21) dJ7_setLength_53 ?_
        refine lv_iload_n hx hb dJ7_setLength_56 rfl (lv_at hl 1 rfl) ?_
        exact (nomatch h)
      · replace h := if_o c17 h
        exact bJ7_setLength_33 B h  hR hS (lv_sub hl [0, 1] rfl)
  · replace h := if_o c1 h
    exact bJ7_setLength_4 B h  hR hS (lv_sub hl [1] rfl)
theorem mJ7_setLength {l : Launch} {G : gE} {A : Nat → Prop} {v0 : Nat} {v1 : Int32} {w : WH} {r : WH} (h : fJ7_setLength v0 v1 w = some r) : hM l G A yJ7_setLength cJ7_setLength 2 none 4 93 [.ref v0, .int v1] w none r :=
  h_of (by decide +kernel) (Nat.le_of_ble_eq_true rfl) (fun p e s m args below meth c ls B hnm hR hS hl => bJ7_setLength_0 B h hR hS hl)
noncomputable def fJ8_setLength (v0 : Nat) (v1 : Int32) (w : WH) : Option (WH) :=
  (hIs w v0 15).bind fun _ =>
  (fJ7_setLength v0 v1 w).bind fun w1 =>
  some w1
theorem bJ8_setLength_0 {p : Program} {l : Launch} {e : Env} {s : State} {m : MethodId} {args : Array Value} {below : List Frame} {meth : Method} {c : Code} {H : Heap} {locs : List Loc} {ls : Array Slot} {G : gE} {A : Nat → Prop} {w0 : WH} (B : gB G RJ8 cJ8_setLength 2 none p s m args meth c) {v0 : Nat} {v1 : Int32} {w : WH} {r : WH} (h : fJ8_setLength v0 v1 w = some r)   (hR : RepH G A w H) (hS : Cu A s w0 w H locs) (hl : lv_has ls 2 [(0, .ref v0), (1, .int v1)]) : W p l e (hRm 5 114 w0) s m args below meth c H locs (wC w0 - wC w) (wS w0 - wS w) (hZ below args s G A w0 none r) (F0 m 0 ls []) := by
  have B0 := B
  obtain ⟨hx, hb, hml, hown, hts, hr, hlk, hK⟩ := B0
  unfold fJ8_setLength at h
  refine lv_aload_n hx hb dJ8_setLength_0 rfl (lv_at hl 0 rfl) ?_
  refine lv_iload_n hx hb dJ8_setLength_1 rfl (lv_at hl 1 rfl) ?_
  replace h := bo_o h
  obtain ⟨_, e2, h⟩ := h
  replace h := bo_o h
  obtain ⟨w1, e3, h⟩ := h
  refine h_callSU 1 (ci := 15) (As := [.int v1]) (rest := []) (v := none) (w' := w1) (st1 := []) hx hb hml hown hts hK hR hS (Nat.le_refl _) (Nat.le_refl _) rfl e2 (mJ7_setLength e3) (lw_app (a := [.methodLink _ _ _, .sameMethod _ _ _ _, .superclass _ _, .instanceMethod _, .initialized _]) (lw_5 q1831 q3045 q269 q1832 q122) (lw_meth q1833)) (by decide +kernel) (Nat.le_of_ble_eq_true rfl) (Nat.le_of_ble_eq_true rfl) rfl hl.1 (Nat.le_of_ble_eq_true rfl) dJ8_setLength_2 rfl rfl (fun H locs hR hS => ?_)
  have eR := Option.some.inj h
  subst eR
  exact h_vfin hx hb hr hlk hR hS dJ8_setLength_5
theorem mJ8_setLength {l : Launch} {G : gE} {A : Nat → Prop} {v0 : Nat} {v1 : Int32} {w : WH} {r : WH} (h : fJ8_setLength v0 v1 w = some r) : hM l G A yJ8_setLength cJ8_setLength 2 none 5 114 [.ref v0, .int v1] w none r :=
  h_of (by decide +kernel) (Nat.le_of_ble_eq_true rfl) (fun p e s m args below meth c ls B hnm hR hS hl => bJ8_setLength_0 B h hR hS hl)
noncomputable def fJ16_stringSize_b42 (v1 : Int32) (w : WH) : Option ((Int32 × WH)) :=
  some (10 + v1, w)
theorem bJ16_stringSize_42 {p : Program} {l : Launch} {e : Env} {s : State} {m : MethodId} {args : Array Value} {below : List Frame} {meth : Method} {c : Code} {H : Heap} {locs : List Loc} {ls : Array Slot} {G : gE} {A : Nat → Prop} {w0 : WH} (B : gB G RJ16 cJ16_stringSize 4 (some .int) p s m args meth c) {v1 : Int32} {w : WH} {r : (Int32 × WH)} (h : fJ16_stringSize_b42 v1 w = some r)   (hR : RepH G A w H) (hS : Cu A s w0 w H locs) (hl : lv_has ls 4 [(1, .int v1)]) : W p l e (hRm 0 0 w0) s m args below meth c H locs (wC w0 - wC w) (wS w0 - wS w) (hZ below args s G A w0 (some (.int r.1)) r.2) (F0 m 42 ls []) := by
  have B0 := B
  obtain ⟨hx, hb, hml, hown, hts, hr, hlk, hK⟩ := B0
  unfold fJ16_stringSize_b42 at h
  refine lv_bipush (v := 10) hx hb dJ16_stringSize_42 (by decide) ?_
  refine lv_iload_n hx hb dJ16_stringSize_44 rfl (lv_at hl 0 rfl) ?_
  refine lv_iadd hx hb dJ16_stringSize_45 ?_
  have eR := Option.some.inj h
  subst eR
  exact h_ifin hx hb hr hlk hR hS dJ16_stringSize_46
noncomputable def fJ16_stringSize_b27 (v1 : Int32) (v3 : Int32) (w : WH) : Option ((Int32 × WH)) :=
  some (v3 + v1, w)
theorem bJ16_stringSize_27 {p : Program} {l : Launch} {e : Env} {s : State} {m : MethodId} {args : Array Value} {below : List Frame} {meth : Method} {c : Code} {H : Heap} {locs : List Loc} {ls : Array Slot} {G : gE} {A : Nat → Prop} {w0 : WH} (B : gB G RJ16 cJ16_stringSize 4 (some .int) p s m args meth c) {v1 : Int32} {v3 : Int32} {w : WH} {r : (Int32 × WH)} (h : fJ16_stringSize_b27 v1 v3 w = some r)   (hR : RepH G A w H) (hS : Cu A s w0 w H locs) (hl : lv_has ls 4 [(1, .int v1), (3, .int v3)]) : W p l e (hRm 0 0 w0) s m args below meth c H locs (wC w0 - wC w) (wS w0 - wS w) (hZ below args s G A w0 (some (.int r.1)) r.2) (F0 m 27 ls []) := by
  have B0 := B
  obtain ⟨hx, hb, hml, hown, hts, hr, hlk, hK⟩ := B0
  unfold fJ16_stringSize_b27 at h
  refine lv_iload_n hx hb dJ16_stringSize_27 rfl (lv_at hl 1 rfl) ?_
  refine lv_iload_n hx hb dJ16_stringSize_28 rfl (lv_at hl 0 rfl) ?_
  refine lv_iadd hx hb dJ16_stringSize_29 ?_
  have eR := Option.some.inj h
  subst eR
  exact h_ifin hx hb hr hlk hR hS dJ16_stringSize_30
noncomputable def fJ16_stringSize_b16 (v0 : Int32) (v1 : Int32) (v2 : Int32) (v3 : Int32) (w : WH) : Option (Sum (Int32 × Int32 × WH) ((Int32 × WH))) :=
  if 10 ≤ v3 then (
    (fJ16_stringSize_b42 v1 w).map (fun y => (.inr y))
  ) else (
    if v0 ≤ v2 then (
      nm_ (10 * v2) fun x3 =>
      some (.inl (x3, v3 + 1, w))
    ) else (
      (fJ16_stringSize_b27 v1 v3 w).map (fun y => (.inr y))
    )
  )
theorem bJ16_stringSize_16 {p : Program} {l : Launch} {e : Env} {s : State} {m : MethodId} {args : Array Value} {below : List Frame} {meth : Method} {c : Code} {H : Heap} {locs : List Loc} {ls : Array Slot} {G : gE} {A : Nat → Prop} {w0 : WH} (B : gB G RJ16 cJ16_stringSize 4 (some .int) p s m args meth c) {v0 : Int32} {v1 : Int32} {v2 : Int32} {v3 : Int32} {w : WH} {x : Sum (Int32 × Int32 × WH) ((Int32 × WH))} {r : (Int32 × WH)} (h : fJ16_stringSize_b16 v0 v1 v2 v3 w = some x)  (k16 : ∀ (v2' : Int32) (v3' : Int32) (w' : WH), x = (.inl (v2', v3', w')) → ∀ (H : Heap) (locs : List Loc) (ls : Array Slot), RepH G A w' H → Cu A s w0 w' H locs → lv_has ls 4 [(0, .int v0), (1, .int v1), (2, .int v2'), (3, .int v3')] → W p l e (hRm 0 0 w0) s m args below meth c H locs (wC w0 - wC w') (wS w0 - wS w') (hZ below args s G A w0 (some (.int r.1)) r.2) (F0 m 16 ls [])) (kR : ∀ q, x = (.inr q) → q = r) (hR : RepH G A w H) (hS : Cu A s w0 w H locs) (hl : lv_has ls 4 [(0, .int v0), (1, .int v1), (2, .int v2), (3, .int v3)]) : W p l e (hRm 0 0 w0) s m args below meth c H locs (wC w0 - wC w) (wS w0 - wS w) (hZ below args s G A w0 (some (.int r.1)) r.2) (F0 m 16 ls []) := by
  have B0 := B
  obtain ⟨hx, hb, hml, hown, hts, hr, hlk, hK⟩ := B0
  unfold fJ16_stringSize_b16 at h
  refine lv_iload_n hx hb dJ16_stringSize_16 rfl (lv_at hl 3 rfl) ?_
  refine lv_bipush (v := 10) hx hb dJ16_stringSize_17 (by decide) ?_
  refine lv_icmp_ge (tgt := 42) hx hb dJ16_stringSize_19 (by decide) (fun c1 => ?_) (fun c1 => ?_)
  · replace h := it_o c1 h
    obtain ⟨y, h, ey⟩ := mp_o h
    have ey := kR _ ey.symm
    subst ey
    exact bJ16_stringSize_42 B h  hR hS (lv_sub hl [1] rfl)
  · replace h := if_o c1 h
    refine lv_iload_n hx hb dJ16_stringSize_22 rfl (lv_at hl 0 rfl) ?_
    refine lv_iload_n hx hb dJ16_stringSize_23 rfl (lv_at hl 2 rfl) ?_
    refine lv_icmp_le (tgt := 31) hx hb dJ16_stringSize_24 (by decide) (fun c2 => ?_) (fun c2 => ?_)
    · replace h := it_o c2 h
      refine lv_bipush (v := 10) hx hb dJ16_stringSize_31 (by decide) ?_
      refine lv_iload_n hx hb dJ16_stringSize_33 rfl (lv_at hl 2 rfl) ?_
      refine lv_imul hx hb dJ16_stringSize_34 ?_
      replace h := nm_o h
      obtain ⟨x3, e4, h⟩ := h
      refine lv_istore_n (lv' := [(2, .int x3), (0, .int v0), (1, .int v1), (3, .int v3)]) hx hb dJ16_stringSize_35 rfl hl (by decide) (by subst e4; rfl) (fun ls hl => ?_)
      refine lv_iinc (v := v3 + 1) (lv' := [(3, .int (v3 + 1)), (2, .int x3), (0, .int v0), (1, .int v1)]) hx hb dJ16_stringSize_36 hl (k := 3) rfl rfl (by decide) rfl (fun ls hl => ?_)
      refine lv_goto (tgt := 16) hx hb dJ16_stringSize_39 (by decide) ?_
      exact k16 _ _ _ (Option.some.inj h).symm H locs ls hR hS (lv_sub hl [2, 3, 1, 0] rfl)
    · replace h := if_o c2 h
      obtain ⟨y, h, ey⟩ := mp_o h
      have ey := kR _ ey.symm
      subst ey
      exact bJ16_stringSize_27 B h  hR hS (lv_sub hl [1, 3] rfl)
noncomputable def fJ16_stringSize_l16 (v0 : Int32) (v1 : Int32) (v2 : Int32) (v3 : Int32) (w : WH) : Option ((Int32 × WH)) := whileO (fun q => fJ16_stringSize_b16 v0 v1 q.1 q.2.1 q.2.2) (v2, v3, w)
theorem lJ16_stringSize_16 {p : Program} {l : Launch} {e : Env} {s : State} {m : MethodId} {args : Array Value} {below : List Frame} {meth : Method} {c : Code} {G : gE} {A : Nat → Prop} {w0 : WH} (B : gB G RJ16 cJ16_stringSize 4 (some .int) p s m args meth c) {v0 : Int32} {v1 : Int32} {r : (Int32 × WH)}   : ∀ (v2 : Int32) (v3 : Int32) (w : WH), fJ16_stringSize_l16 v0 v1 v2 v3 w = some r → ∀ (H : Heap) (locs : List Loc) (ls : Array Slot), RepH G A w H → Cu A s w0 w H locs → lv_has ls 4 [(0, .int v0), (1, .int v1), (2, .int v2), (3, .int v3)] → W p l e (hRm 0 0 w0) s m args below meth c H locs (wC w0 - wC w) (wS w0 - wS w) (hZ below args s G A w0 (some (.int r.1)) r.2) (F0 m 16 ls []) := by
  intro v2 v3 w h
  refine wh_walk (body := (fun q => fJ16_stringSize_b16 v0 v1 q.1 q.2.1 q.2.2)) (P := (fun q : (Int32 × Int32 × WH) => ∀ (H : Heap) (locs : List Loc) (ls : Array Slot), RepH G A (q.2.2) H → Cu A s w0 (q.2.2) H locs → lv_has ls 4 [(0, .int v0), (1, .int v1), (2, .int (q.1)), (3, .int (q.2.1))] → W p l e (hRm 0 0 w0) s m args below meth c H locs (wC w0 - wC (q.2.2)) (wS w0 - wS (q.2.2)) (hZ below args s G A w0 (some (.int r.1)) r.2) (F0 m 16 ls []))) (r := r) ?_ (v2, v3, w) h
  intro q y hy hL hr H locs ls hR hS hl
  exact bJ16_stringSize_16 (r := r) B hy (fun a0 a1 a2 e => hL (a0, a1, a2) e) (fun q e => hr q e) hR hS hl
noncomputable def fJ16_stringSize_b11 (v0 : Int32) (v1 : Int32) (w : WH) : Option ((Int32 × WH)) :=
  fJ16_stringSize_l16 v0 v1 (-10) 1 w
theorem bJ16_stringSize_11 {p : Program} {l : Launch} {e : Env} {s : State} {m : MethodId} {args : Array Value} {below : List Frame} {meth : Method} {c : Code} {H : Heap} {locs : List Loc} {ls : Array Slot} {G : gE} {A : Nat → Prop} {w0 : WH} (B : gB G RJ16 cJ16_stringSize 4 (some .int) p s m args meth c) {v0 : Int32} {v1 : Int32} {w : WH} {r : (Int32 × WH)} (h : fJ16_stringSize_b11 v0 v1 w = some r)   (hR : RepH G A w H) (hS : Cu A s w0 w H locs) (hl : lv_has ls 4 [(0, .int v0), (1, .int v1)]) : W p l e (hRm 0 0 w0) s m args below meth c H locs (wC w0 - wC w) (wS w0 - wS w) (hZ below args s G A w0 (some (.int r.1)) r.2) (F0 m 11 ls []) := by
  have B0 := B
  obtain ⟨hx, hb, hml, hown, hts, hr, hlk, hK⟩ := B0
  unfold fJ16_stringSize_b11 at h
  refine lv_bipush (v := (-10)) hx hb dJ16_stringSize_11 (by decide) ?_
  refine lv_istore_n (lv' := [(2, .int (-10)), (0, .int v0), (1, .int v1)]) hx hb dJ16_stringSize_13 rfl hl (by decide) rfl (fun ls hl => ?_)
  refine lv_iconst (v := 1) hx hb dJ16_stringSize_14 (by decide) ?_
  refine lv_istore_n (lv' := [(3, .int 1), (2, .int (-10)), (0, .int v0), (1, .int v1)]) hx hb dJ16_stringSize_15 rfl hl (by decide) rfl (fun ls hl => ?_)
  exact lJ16_stringSize_16 B _ _ _ h H locs ls hR hS (lv_sub hl [2, 3, 1, 0] rfl)
noncomputable def fJ16_stringSize (v0 : Int32) (w : WH) : Option ((Int32 × WH)) :=
  if v0 < 0 then (
    fJ16_stringSize_b11 v0 1 w
  ) else (
    nm_ (-v0) fun x2 =>
    fJ16_stringSize_b11 x2 0 w
  )
theorem bJ16_stringSize_0 {p : Program} {l : Launch} {e : Env} {s : State} {m : MethodId} {args : Array Value} {below : List Frame} {meth : Method} {c : Code} {H : Heap} {locs : List Loc} {ls : Array Slot} {G : gE} {A : Nat → Prop} {w0 : WH} (B : gB G RJ16 cJ16_stringSize 4 (some .int) p s m args meth c) {v0 : Int32} {w : WH} {r : (Int32 × WH)} (h : fJ16_stringSize v0 w = some r)   (hR : RepH G A w H) (hS : Cu A s w0 w H locs) (hl : lv_has ls 4 [(0, .int v0)]) : W p l e (hRm 0 0 w0) s m args below meth c H locs (wC w0 - wC w) (wS w0 - wS w) (hZ below args s G A w0 (some (.int r.1)) r.2) (F0 m 0 ls []) := by
  have B0 := B
  obtain ⟨hx, hb, hml, hown, hts, hr, hlk, hK⟩ := B0
  unfold fJ16_stringSize at h
  refine lv_iconst (v := 1) hx hb dJ16_stringSize_0 (by decide) ?_
  refine lv_istore_n (lv' := [(1, .int 1), (0, .int v0)]) hx hb dJ16_stringSize_1 rfl hl (by decide) rfl (fun ls hl => ?_)
  refine lv_iload_n hx hb dJ16_stringSize_2 rfl (lv_at hl 1 rfl) ?_
  refine lv_if_lt (tgt := 11) hx hb dJ16_stringSize_3 (by decide) (fun c1 => ?_) (fun c1 => ?_)
  · replace h := it_o c1 h
    exact bJ16_stringSize_11 B h  hR hS (lv_sub hl [1, 0] rfl)
  · replace h := if_o c1 h
    refine lv_iconst (v := 0) hx hb dJ16_stringSize_6 (by decide) ?_
    refine lv_istore_n (lv' := [(1, .int 0), (0, .int v0)]) hx hb dJ16_stringSize_7 rfl hl (by decide) rfl (fun ls hl => ?_)
    refine lv_iload_n hx hb dJ16_stringSize_8 rfl (lv_at hl 1 rfl) ?_
    refine lv_ineg hx hb dJ16_stringSize_9 ?_
    replace h := nm_o h
    obtain ⟨x2, e3, h⟩ := h
    refine lv_istore_n (lv' := [(0, .int x2), (1, .int 0)]) hx hb dJ16_stringSize_10 rfl hl (by decide) (by subst e3; rfl) (fun ls hl => ?_)
    exact bJ16_stringSize_11 B h  hR hS (lv_sub hl [0, 1] rfl)
theorem mJ16_stringSize {l : Launch} {G : gE} {A : Nat → Prop} {v0 : Int32} {w : WH} {r : (Int32 × WH)} (h : fJ16_stringSize v0 w = some r) : hM l G A yJ16_stringSize cJ16_stringSize 4 (some .int) 0 0 [.int v0] w (some (.int r.1)) r.2 :=
  h_of (by decide +kernel) (Nat.le_of_ble_eq_true rfl) (fun p e s m args below meth c ls B hnm hR hS hl => bJ16_stringSize_0 B h hR hS hl)
noncomputable def fJ16_getChars_b104 (v2 : Nat) (v5 : Int32) (v6 : Int32) (w : WH) : Option ((Int32 × WH)) :=
  if v6 = 0 then (
    some (v5, w)
  ) else (
    (stI w v2 2 (v5 + (-1)) (vp_nar .byte 45)).bind fun w2 =>
    some (v5 + (-1), w2)
  )
theorem bJ16_getChars_104 {p : Program} {l : Launch} {e : Env} {s : State} {m : MethodId} {args : Array Value} {below : List Frame} {meth : Method} {c : Code} {H : Heap} {locs : List Loc} {ls : Array Slot} {G : gE} {A : Nat → Prop} {w0 : WH} (B : gB G RJ16 cJ16_getChars 7 (some .int) p s m args meth c) {v2 : Nat} {v5 : Int32} {v6 : Int32} {w : WH} {r : (Int32 × WH)} (h : fJ16_getChars_b104 v2 v5 v6 w = some r)   (hR : RepH G A w H) (hS : Cu A s w0 w H locs) (hl : lv_has ls 7 [(2, .ref v2), (5, .int v5), (6, .int v6)]) : W p l e (hRm 0 0 w0) s m args below meth c H locs (wC w0 - wC w) (wS w0 - wS w) (hZ below args s G A w0 (some (.int r.1)) r.2) (F0 m 104 ls []) := by
  have B0 := B
  obtain ⟨hx, hb, hml, hown, hts, hr, hlk, hK⟩ := B0
  unfold fJ16_getChars_b104 at h
  refine lv_iload hx hb dJ16_getChars_104 (lv_at hl 2 rfl) ?_
  refine lv_if_eq (tgt := 118) hx hb dJ16_getChars_106 (by decide) (fun c1 => ?_) (fun c1 => ?_)
  · replace h := it_o c1 h
    refine lv_iload hx hb dJ16_getChars_118 (lv_at hl 1 rfl) ?_
    have eR := Option.some.inj h
    subst eR
    exact h_ifin hx hb hr hlk hR hS dJ16_getChars_120
  · replace h := if_o c1 h
    refine lv_aload_n hx hb dJ16_getChars_109 rfl (lv_at hl 0 rfl) ?_
    refine lv_iinc (v := v5 + (-1)) (lv' := [(5, .int (v5 + (-1))), (2, .ref v2), (6, .int v6)]) hx hb dJ16_getChars_110 hl (k := 1) rfl rfl (by decide) rfl (fun ls hl => ?_)
    refine lv_iload hx hb dJ16_getChars_113 (lv_at hl 0 rfl) ?_
    refine lv_bipush (v := 45) hx hb dJ16_getChars_115 (by decide) ?_
    replace h := bo_o h
    obtain ⟨w2, e3, h⟩ := h
    refine h_bast hx hb hK hR hS e3 dJ16_getChars_117 (fun H locs hR hS => ?_)
    refine lv_iload hx hb dJ16_getChars_118 (lv_at hl 0 rfl) ?_
    have eR := Option.some.inj h
    subst eR
    exact h_ifin hx hb hr hlk hR hS dJ16_getChars_120
noncomputable def fJ16_getChars_b72 (v0 : Int32) (v2 : Nat) (v5 : Int32) (v6 : Int32) (w : WH) : Option ((Int32 × WH)) :=
  (ldI w (wK w 21) 2 (-v0)).bind fun x1 =>
  (stI w v2 2 (v5 + (-1)) (vp_nar .byte x1)).bind fun w3 =>
  if (-9) ≤ v0 then (
    fJ16_getChars_b104 v2 (v5 + (-1)) v6 w3
  ) else (
    (ldI w3 (wK w3 20) 2 (-v0)).bind fun x6 =>
    (stI w3 v2 2 ((v5 + (-1)) + (-1)) (vp_nar .byte x6)).bind fun w8 =>
    fJ16_getChars_b104 v2 ((v5 + (-1)) + (-1)) v6 w8
  )
theorem bJ16_getChars_72 {p : Program} {l : Launch} {e : Env} {s : State} {m : MethodId} {args : Array Value} {below : List Frame} {meth : Method} {c : Code} {H : Heap} {locs : List Loc} {ls : Array Slot} {G : gE} {A : Nat → Prop} {w0 : WH} (B : gB G RJ16 cJ16_getChars 7 (some .int) p s m args meth c) {v0 : Int32} {v2 : Nat} {v5 : Int32} {v6 : Int32} {w : WH} {r : (Int32 × WH)} (h : fJ16_getChars_b72 v0 v2 v5 v6 w = some r)   (hR : RepH G A w H) (hS : Cu A s w0 w H locs) (hl : lv_has ls 7 [(0, .int v0), (2, .ref v2), (5, .int v5), (6, .int v6)]) : W p l e (hRm 0 0 w0) s m args below meth c H locs (wC w0 - wC w) (wS w0 - wS w) (hZ below args s G A w0 (some (.int r.1)) r.2) (F0 m 72 ls []) := by
  have B0 := B
  obtain ⟨hx, hb, hml, hown, hts, hr, hlk, hK⟩ := B0
  unfold fJ16_getChars_b72 at h
  refine lv_aload_n hx hb dJ16_getChars_72 rfl (lv_at hl 1 rfl) ?_
  refine lv_iinc (v := v5 + (-1)) (lv' := [(5, .int (v5 + (-1))), (0, .int v0), (2, .ref v2), (6, .int v6)]) hx hb dJ16_getChars_73 hl (k := 2) rfl rfl (by decide) rfl (fun ls hl => ?_)
  refine lv_iload hx hb dJ16_getChars_76 (lv_at hl 0 rfl) ?_
  refine h_getsK (i := 5) hx hb hts hown hK hR hS rfl q405 (fun _ h9 => h9) dJ16_getChars_78 ?_
  refine lv_iload_n hx hb dJ16_getChars_81 rfl (lv_at hl 1 rfl) ?_
  refine lv_ineg hx hb dJ16_getChars_82 ?_
  replace h := bo_o h
  obtain ⟨x1, e2, h⟩ := h
  refine h_bald hx hb hK hR hS e2 dJ16_getChars_83 ?_
  replace h := bo_o h
  obtain ⟨w3, e4, h⟩ := h
  refine h_bast hx hb hK hR hS e4 dJ16_getChars_84 (fun H locs hR hS => ?_)
  refine lv_iload_n hx hb dJ16_getChars_85 rfl (lv_at hl 1 rfl) ?_
  refine lv_bipush (v := (-9)) hx hb dJ16_getChars_86 (by decide) ?_
  refine lv_icmp_ge (tgt := 104) hx hb dJ16_getChars_88 (by decide) (fun c5 => ?_) (fun c5 => ?_)
  · replace h := it_o c5 h
    exact bJ16_getChars_104 B h  hR hS (lv_sub hl [2, 0, 3] rfl)
  · replace h := if_o c5 h
    refine lv_aload_n hx hb dJ16_getChars_91 rfl (lv_at hl 2 rfl) ?_
    refine lv_iinc (v := (v5 + (-1)) + (-1)) (lv' := [(5, .int ((v5 + (-1)) + (-1))), (0, .int v0), (2, .ref v2), (6, .int v6)]) hx hb dJ16_getChars_92 hl (k := 0) rfl rfl (by decide) rfl (fun ls hl => ?_)
    refine lv_iload hx hb dJ16_getChars_95 (lv_at hl 0 rfl) ?_
    refine h_getsK (i := 4) hx hb hts hown hK hR hS rfl q407 (fun _ h9 => h9) dJ16_getChars_97 ?_
    refine lv_iload_n hx hb dJ16_getChars_100 rfl (lv_at hl 1 rfl) ?_
    refine lv_ineg hx hb dJ16_getChars_101 ?_
    replace h := bo_o h
    obtain ⟨x6, e7, h⟩ := h
    refine h_bald hx hb hK hR hS e7 dJ16_getChars_102 ?_
    replace h := bo_o h
    obtain ⟨w8, e9, h⟩ := h
    refine h_bast hx hb hK hR hS e9 dJ16_getChars_103 (fun H locs hR hS => ?_)
    exact bJ16_getChars_104 B h  hR hS (lv_sub hl [2, 0, 3] rfl)
noncomputable def fJ16_getChars_b69 (v0 : Int32) (v2 : Nat) (v5 : Int32) (v6 : Int32) (w : WH) : Option (Sum (Int32 × Int32 × WH) ((Int32 × WH))) :=
  some (.inl (v0, v5, w))
theorem bJ16_getChars_69 {p : Program} {l : Launch} {e : Env} {s : State} {m : MethodId} {args : Array Value} {below : List Frame} {meth : Method} {c : Code} {H : Heap} {locs : List Loc} {ls : Array Slot} {G : gE} {A : Nat → Prop} {w0 : WH} (B : gB G RJ16 cJ16_getChars 7 (some .int) p s m args meth c) {v0 : Int32} {v2 : Nat} {v5 : Int32} {v6 : Int32} {w : WH} {x : Sum (Int32 × Int32 × WH) ((Int32 × WH))} {r : (Int32 × WH)} (h : fJ16_getChars_b69 v0 v2 v5 v6 w = some x)  (k22 : ∀ (v0' : Int32) (v5' : Int32) (w' : WH), x = (.inl (v0', v5', w')) → ∀ (H : Heap) (locs : List Loc) (ls : Array Slot), RepH G A w' H → Cu A s w0 w' H locs → lv_has ls 7 [(0, .int v0'), (2, .ref v2), (5, .int v5'), (6, .int v6)] → W p l e (hRm 0 0 w0) s m args below meth c H locs (wC w0 - wC w') (wS w0 - wS w') (hZ below args s G A w0 (some (.int r.1)) r.2) (F0 m 22 ls [])) (kR : ∀ q, x = (.inr q) → q = r) (hR : RepH G A w H) (hS : Cu A s w0 w H locs) (hl : lv_has ls 7 [(0, .int v0), (2, .ref v2), (5, .int v5), (6, .int v6)]) : W p l e (hRm 0 0 w0) s m args below meth c H locs (wC w0 - wC w) (wS w0 - wS w) (hZ below args s G A w0 (some (.int r.1)) r.2) (F0 m 69 ls []) := by
  have B0 := B
  obtain ⟨hx, hb, hml, hown, hts, hr, hlk, hK⟩ := B0
  unfold fJ16_getChars_b69 at h
  refine lv_goto (tgt := 22) hx hb dJ16_getChars_69 (by decide) ?_
  exact k22 _ _ _ (Option.some.inj h).symm H locs ls hR hS (lv_sub hl [0, 1, 2, 3] rfl)
noncomputable def fJ16_getChars_b22 (v0 : Int32) (v2 : Nat) (v5 : Int32) (v6 : Int32) (w : WH) : Option (Sum (Int32 × Int32 × WH) ((Int32 × WH))) :=
  if (-100) < v0 then (
    (fJ16_getChars_b72 v0 v2 v5 v6 w).map (fun y => (.inr y))
  ) else (
    nm_ (v0 / 100) fun x2 =>
    nm_ ((x2 * 100) - v0) fun x4 =>
    (ldI w (wK w 21) 2 x4).bind fun x6 =>
    (stI w v2 2 (v5 + (-1)) (vp_nar .byte x6)).bind fun w8 =>
    (ldI w8 (wK w8 20) 2 x4).bind fun x10 =>
    (stI w8 v2 2 ((v5 + (-1)) + (-1)) (vp_nar .byte x10)).bind fun w12 =>
    fJ16_getChars_b69 x2 v2 ((v5 + (-1)) + (-1)) v6 w12
  )
theorem bJ16_getChars_22 {p : Program} {l : Launch} {e : Env} {s : State} {m : MethodId} {args : Array Value} {below : List Frame} {meth : Method} {c : Code} {H : Heap} {locs : List Loc} {ls : Array Slot} {G : gE} {A : Nat → Prop} {w0 : WH} (B : gB G RJ16 cJ16_getChars 7 (some .int) p s m args meth c) {v0 : Int32} {v2 : Nat} {v5 : Int32} {v6 : Int32} {w : WH} {x : Sum (Int32 × Int32 × WH) ((Int32 × WH))} {r : (Int32 × WH)} (h : fJ16_getChars_b22 v0 v2 v5 v6 w = some x)  (k22 : ∀ (v0' : Int32) (v5' : Int32) (w' : WH), x = (.inl (v0', v5', w')) → ∀ (H : Heap) (locs : List Loc) (ls : Array Slot), RepH G A w' H → Cu A s w0 w' H locs → lv_has ls 7 [(0, .int v0'), (2, .ref v2), (5, .int v5'), (6, .int v6)] → W p l e (hRm 0 0 w0) s m args below meth c H locs (wC w0 - wC w') (wS w0 - wS w') (hZ below args s G A w0 (some (.int r.1)) r.2) (F0 m 22 ls [])) (kR : ∀ q, x = (.inr q) → q = r) (hR : RepH G A w H) (hS : Cu A s w0 w H locs) (hl : lv_has ls 7 [(0, .int v0), (2, .ref v2), (5, .int v5), (6, .int v6)]) : W p l e (hRm 0 0 w0) s m args below meth c H locs (wC w0 - wC w) (wS w0 - wS w) (hZ below args s G A w0 (some (.int r.1)) r.2) (F0 m 22 ls []) := by
  have B0 := B
  obtain ⟨hx, hb, hml, hown, hts, hr, hlk, hK⟩ := B0
  unfold fJ16_getChars_b22 at h
  refine lv_iload_n hx hb dJ16_getChars_22 rfl (lv_at hl 0 rfl) ?_
  refine lv_bipush (v := (-100)) hx hb dJ16_getChars_23 (by decide) ?_
  refine lv_icmp_gt (tgt := 72) hx hb dJ16_getChars_25 (by decide) (fun c1 => ?_) (fun c1 => ?_)
  · replace h := it_o c1 h
    obtain ⟨y, h, ey⟩ := mp_o h
    have ey := kR _ ey.symm
    subst ey
    exact bJ16_getChars_72 B h  hR hS (lv_sub hl [0, 1, 2, 3] rfl)
  · replace h := if_o c1 h
    refine lv_iload_n hx hb dJ16_getChars_28 rfl (lv_at hl 0 rfl) ?_
    refine lv_bipush (v := 100) hx hb dJ16_getChars_29 (by decide) ?_
    refine lv_idiv hx hb dJ16_getChars_31 (by decide) ?_
    replace h := nm_o h
    obtain ⟨x2, e3, h⟩ := h
    refine lv_istore_n (lv' := [(3, .int x2), (0, .int v0), (2, .ref v2), (5, .int v5), (6, .int v6)]) hx hb dJ16_getChars_32 rfl hl (by decide) (by subst e3; rfl) (fun ls hl => ?_)
    refine lv_iload_n hx hb dJ16_getChars_33 rfl (lv_at hl 0 rfl) ?_
    refine lv_bipush (v := 100) hx hb dJ16_getChars_34 (by decide) ?_
    refine lv_imul hx hb dJ16_getChars_36 ?_
    refine lv_iload_n hx hb dJ16_getChars_37 rfl (lv_at hl 1 rfl) ?_
    refine lv_isub hx hb dJ16_getChars_38 ?_
    replace h := nm_o h
    obtain ⟨x4, e5, h⟩ := h
    refine lv_istore (lv' := [(4, .int x4), (3, .int x2), (0, .int v0), (2, .ref v2), (5, .int v5), (6, .int v6)]) hx hb dJ16_getChars_39 hl (by decide) (by subst e5; rfl) (fun ls hl => ?_)
    refine lv_iload_n hx hb dJ16_getChars_41 rfl (lv_at hl 1 rfl) ?_
    refine lv_istore_n (lv' := [(0, .int x2), (4, .int x4), (3, .int x2), (2, .ref v2), (5, .int v5), (6, .int v6)]) hx hb dJ16_getChars_42 rfl hl (by decide) rfl (fun ls hl => ?_)
    refine lv_aload_n hx hb dJ16_getChars_43 rfl (lv_at hl 3 rfl) ?_
    refine lv_iinc (v := v5 + (-1)) (lv' := [(5, .int (v5 + (-1))), (0, .int x2), (4, .int x4), (3, .int x2), (2, .ref v2), (6, .int v6)]) hx hb dJ16_getChars_44 hl (k := 4) rfl rfl (by decide) rfl (fun ls hl => ?_)
    refine lv_iload hx hb dJ16_getChars_47 (lv_at hl 0 rfl) ?_
    refine h_getsK (i := 5) hx hb hts hown hK hR hS rfl q405 (fun _ h9 => h9) dJ16_getChars_49 ?_
    refine lv_iload hx hb dJ16_getChars_52 (lv_at hl 2 rfl) ?_
    replace h := bo_o h
    obtain ⟨x6, e7, h⟩ := h
    refine h_bald hx hb hK hR hS e7 dJ16_getChars_54 ?_
    replace h := bo_o h
    obtain ⟨w8, e9, h⟩ := h
    refine h_bast hx hb hK hR hS e9 dJ16_getChars_55 (fun H locs hR hS => ?_)
    refine lv_aload_n hx hb dJ16_getChars_56 rfl (lv_at hl 4 rfl) ?_
    refine lv_iinc (v := (v5 + (-1)) + (-1)) (lv' := [(5, .int ((v5 + (-1)) + (-1))), (0, .int x2), (4, .int x4), (3, .int x2), (2, .ref v2), (6, .int v6)]) hx hb dJ16_getChars_57 hl (k := 0) rfl rfl (by decide) rfl (fun ls hl => ?_)
    refine lv_iload hx hb dJ16_getChars_60 (lv_at hl 0 rfl) ?_
    refine h_getsK (i := 4) hx hb hts hown hK hR hS rfl q407 (fun _ h9 => h9) dJ16_getChars_62 ?_
    refine lv_iload hx hb dJ16_getChars_65 (lv_at hl 2 rfl) ?_
    replace h := bo_o h
    obtain ⟨x10, e11, h⟩ := h
    refine h_bald hx hb hK hR hS e11 dJ16_getChars_67 ?_
    replace h := bo_o h
    obtain ⟨w12, e13, h⟩ := h
    refine h_bast hx hb hK hR hS e13 dJ16_getChars_68 (fun H locs hR hS => ?_)
    exact bJ16_getChars_69 B h k22 kR hR hS (lv_sub hl [1, 4, 0, 5] rfl)
noncomputable def fJ16_getChars_l22 (v0 : Int32) (v2 : Nat) (v5 : Int32) (v6 : Int32) (w : WH) : Option ((Int32 × WH)) := whileO (fun q => fJ16_getChars_b22 q.1 v2 q.2.1 v6 q.2.2) (v0, v5, w)
theorem lJ16_getChars_22 {p : Program} {l : Launch} {e : Env} {s : State} {m : MethodId} {args : Array Value} {below : List Frame} {meth : Method} {c : Code} {G : gE} {A : Nat → Prop} {w0 : WH} (B : gB G RJ16 cJ16_getChars 7 (some .int) p s m args meth c) {v2 : Nat} {v6 : Int32} {r : (Int32 × WH)}   : ∀ (v0 : Int32) (v5 : Int32) (w : WH), fJ16_getChars_l22 v0 v2 v5 v6 w = some r → ∀ (H : Heap) (locs : List Loc) (ls : Array Slot), RepH G A w H → Cu A s w0 w H locs → lv_has ls 7 [(0, .int v0), (2, .ref v2), (5, .int v5), (6, .int v6)] → W p l e (hRm 0 0 w0) s m args below meth c H locs (wC w0 - wC w) (wS w0 - wS w) (hZ below args s G A w0 (some (.int r.1)) r.2) (F0 m 22 ls []) := by
  intro v0 v5 w h
  refine wh_walk (body := (fun q => fJ16_getChars_b22 q.1 v2 q.2.1 v6 q.2.2)) (P := (fun q : (Int32 × Int32 × WH) => ∀ (H : Heap) (locs : List Loc) (ls : Array Slot), RepH G A (q.2.2) H → Cu A s w0 (q.2.2) H locs → lv_has ls 7 [(0, .int (q.1)), (2, .ref v2), (5, .int (q.2.1)), (6, .int v6)] → W p l e (hRm 0 0 w0) s m args below meth c H locs (wC w0 - wC (q.2.2)) (wS w0 - wS (q.2.2)) (hZ below args s G A w0 (some (.int r.1)) r.2) (F0 m 22 ls []))) (r := r) ?_ (v0, v5, w) h
  intro q y hy hL hr H locs ls hR hS hl
  exact bJ16_getChars_22 (r := r) B hy (fun a0 a1 a2 e => hL (a0, a1, a2) e) (fun q e => hr q e) hR hS hl
noncomputable def fJ16_getChars_b12 (v0 : Int32) (v2 : Nat) (v5 : Int32) (s0 : Int32) (w : WH) : Option ((Int32 × WH)) :=
  if s0 = 0 then (
    nm_ (-v0) fun x2 =>
    fJ16_getChars_l22 x2 v2 v5 s0 w
  ) else (
    fJ16_getChars_l22 v0 v2 v5 s0 w
  )
theorem bJ16_getChars_12 {p : Program} {l : Launch} {e : Env} {s : State} {m : MethodId} {args : Array Value} {below : List Frame} {meth : Method} {c : Code} {H : Heap} {locs : List Loc} {ls : Array Slot} {G : gE} {A : Nat → Prop} {w0 : WH} (B : gB G RJ16 cJ16_getChars 7 (some .int) p s m args meth c) {v0 : Int32} {v2 : Nat} {v5 : Int32} {s0 : Int32} {w : WH} {r : (Int32 × WH)} (h : fJ16_getChars_b12 v0 v2 v5 s0 w = some r)   (hR : RepH G A w H) (hS : Cu A s w0 w H locs) (hl : lv_has ls 7 [(0, .int v0), (2, .ref v2), (5, .int v5)]) : W p l e (hRm 0 0 w0) s m args below meth c H locs (wC w0 - wC w) (wS w0 - wS w) (hZ below args s G A w0 (some (.int r.1)) r.2) (F0 m 12 ls [.int s0]) := by
  have B0 := B
  obtain ⟨hx, hb, hml, hown, hts, hr, hlk, hK⟩ := B0
  unfold fJ16_getChars_b12 at h
  refine lv_istore (lv' := [(6, .int s0), (0, .int v0), (2, .ref v2), (5, .int v5)]) hx hb dJ16_getChars_12 hl (by decide) rfl (fun ls hl => ?_)
  refine lv_iload hx hb dJ16_getChars_14 (lv_at hl 0 rfl) ?_
  refine lv_if_ne (tgt := 22) hx hb dJ16_getChars_16 (by decide) (fun c1 => ?_) (fun c1 => ?_)
  · replace h := if_o c1 h
    exact lJ16_getChars_22 B _ _ _ h H locs ls hR hS (lv_sub hl [1, 2, 3, 0] rfl)
  · replace h := it_o c1 h
    refine lv_iload_n hx hb dJ16_getChars_19 rfl (lv_at hl 1 rfl) ?_
    refine lv_ineg hx hb dJ16_getChars_20 ?_
    replace h := nm_o h
    obtain ⟨x2, e3, h⟩ := h
    refine lv_istore_n (lv' := [(0, .int x2), (6, .int s0), (2, .ref v2), (5, .int v5)]) hx hb dJ16_getChars_21 rfl hl (by decide) (by subst e3; rfl) (fun ls hl => ?_)
    exact lJ16_getChars_22 B _ _ _ h H locs ls hR hS (lv_sub hl [0, 2, 3, 1] rfl)
noncomputable def fJ16_getChars (v0 : Int32) (v1 : Int32) (v2 : Nat) (w : WH) : Option ((Int32 × WH)) :=
  if 0 ≤ v0 then (
    fJ16_getChars_b12 v0 v2 v1 0 w
  ) else (
    fJ16_getChars_b12 v0 v2 v1 1 w
  )
theorem bJ16_getChars_0 {p : Program} {l : Launch} {e : Env} {s : State} {m : MethodId} {args : Array Value} {below : List Frame} {meth : Method} {c : Code} {H : Heap} {locs : List Loc} {ls : Array Slot} {G : gE} {A : Nat → Prop} {w0 : WH} (B : gB G RJ16 cJ16_getChars 7 (some .int) p s m args meth c) {v0 : Int32} {v1 : Int32} {v2 : Nat} {w : WH} {r : (Int32 × WH)} (h : fJ16_getChars v0 v1 v2 w = some r)   (hR : RepH G A w H) (hS : Cu A s w0 w H locs) (hl : lv_has ls 7 [(0, .int v0), (1, .int v1), (2, .ref v2)]) : W p l e (hRm 0 0 w0) s m args below meth c H locs (wC w0 - wC w) (wS w0 - wS w) (hZ below args s G A w0 (some (.int r.1)) r.2) (F0 m 0 ls []) := by
  have B0 := B
  obtain ⟨hx, hb, hml, hown, hts, hr, hlk, hK⟩ := B0
  unfold fJ16_getChars at h
  refine lv_iload_n hx hb dJ16_getChars_0 rfl (lv_at hl 1 rfl) ?_
  refine lv_istore (lv' := [(5, .int v1), (0, .int v0), (1, .int v1), (2, .ref v2)]) hx hb dJ16_getChars_1 hl (by decide) rfl (fun ls hl => ?_)
  refine lv_iload_n hx hb dJ16_getChars_3 rfl (lv_at hl 1 rfl) ?_
  refine lv_if_ge (tgt := 11) hx hb dJ16_getChars_4 (by decide) (fun c1 => ?_) (fun c1 => ?_)
  · replace h := it_o c1 h
    refine lv_iconst (v := 0) hx hb dJ16_getChars_11 (by decide) ?_
    exact bJ16_getChars_12 B h  hR hS (lv_sub hl [1, 3, 0] rfl)
  · replace h := if_o c1 h
    refine lv_iconst (v := 1) hx hb dJ16_getChars_7 (by decide) ?_
    refine lv_goto (tgt := 12) hx hb dJ16_getChars_8 (by decide) ?_
    exact bJ16_getChars_12 B h  hR hS (lv_sub hl [1, 3, 0] rfl)
theorem mJ16_getChars {l : Launch} {G : gE} {A : Nat → Prop} {v0 : Int32} {v1 : Int32} {v2 : Nat} {w : WH} {r : (Int32 × WH)} (h : fJ16_getChars v0 v1 v2 w = some r) : hM l G A yJ16_getChars cJ16_getChars 7 (some .int) 0 0 [.int v0, .int v1, .ref v2] w (some (.int r.1)) r.2 :=
  h_of (by decide +kernel) (Nat.le_of_ble_eq_true rfl) (fun p e s m args below meth c ls B hnm hR hS hl => bJ16_getChars_0 B h hR hS hl)
noncomputable def fJ7_append_2_b48 (v0 : Nat) (v3 : Int32) (w : WH) : Option ((Option Nat × WH)) :=
  (hPut w v0 15 3 (.int v3)).bind fun w1 =>
  some (some v0, w1)
theorem bJ7_append_2_48 {p : Program} {l : Launch} {e : Env} {s : State} {m : MethodId} {args : Array Value} {below : List Frame} {meth : Method} {c : Code} {H : Heap} {locs : List Loc} {ls : Array Slot} {G : gE} {A : Nat → Prop} {w0 : WH} (B : gB G RJ7 cJ7_append_2 4 (some (.object "java/lang/AbstractStringBuilder")) p s m args meth c) {v0 : Nat} {v3 : Int32} {w : WH} {r : (Option Nat × WH)} (h : fJ7_append_2_b48 v0 v3 w = some r)   (hR : RepH G A w H) (hS : Cu A s w0 w H locs) (hl : lv_has ls 4 [(0, .ref v0), (3, .int v3)]) : W p l e (hRm 4 93 w0) s m args below meth c H locs (wC w0 - wC w) (wS w0 - wS w) (hZ below args s G A w0 (some (va_rf r.1)) r.2) (F0 m 48 ls []) := by
  have B0 := B
  obtain ⟨hx, hb, hml, hown, hts, hr, hlk, hK⟩ := B0
  unfold fJ7_append_2_b48 at h
  refine lv_aload_n hx hb dJ7_append_2_48 rfl (lv_at hl 0 rfl) ?_
  refine lv_iload_n hx hb dJ7_append_2_49 rfl (lv_at hl 1 rfl) ?_
  replace h := bo_o h
  obtain ⟨w1, e2, h⟩ := h
  refine h_put (ci := 15) (k := 3) (ty := tyJ8 3) hx hb hts hown hK hR hS in_J8 tyJ8 tyJ8_ok nmJ8 rfl (by decide) q260 (fun _ h9 => h9) rfl (tyJ8_ok 3 (by decide)) rfl rfl e2 dJ7_append_2_50 (fun H locs hR hS => ?_)
  refine lv_aload_n hx hb dJ7_append_2_53 rfl (lv_at hl 0 rfl) ?_
  have eR := Option.some.inj h
  subst eR
  exact h_afin (x := some v0) hx hb hr hlk (by first | exact Or.inl ⟨_, rfl⟩ | exact Or.inr ⟨_, rfl⟩) hR hS dJ7_append_2_54
noncomputable def fJ7_append_2_b34 (v0 : Nat) (v3 : Int32) (w : WH) : Option ((Option Nat × WH)) :=
  fJ7_append_2_b48 v0 v3 w
theorem bJ7_append_2_34 {p : Program} {l : Launch} {e : Env} {s : State} {m : MethodId} {args : Array Value} {below : List Frame} {meth : Method} {c : Code} {H : Heap} {locs : List Loc} {ls : Array Slot} {G : gE} {A : Nat → Prop} {w0 : WH} (B : gB G RJ7 cJ7_append_2 4 (some (.object "java/lang/AbstractStringBuilder")) p s m args meth c) {v0 : Nat} {v3 : Int32} {w : WH} {r : (Option Nat × WH)} (h : fJ7_append_2_b34 v0 v3 w = some r)   (hR : RepH G A w H) (hS : Cu A s w0 w H locs) (hl : lv_has ls 4 [(0, .ref v0), (3, .int v3)]) : W p l e (hRm 4 93 w0) s m args below meth c H locs (wC w0 - wC w) (wS w0 - wS w) (hZ below args s G A w0 (some (va_rf r.1)) r.2) (F0 m 34 ls []) := by
  have B0 := B
  obtain ⟨hx, hb, hml, hown, hts, hr, hlk, hK⟩ := B0
  unfold fJ7_append_2_b34 at h
  refine lv_goto (tgt := 48) hx hb dJ7_append_2_34 (by decide) ?_
  exact bJ7_append_2_48 B h  hR hS (lv_sub hl [0, 1] rfl)
noncomputable def fJ7_append_2 (v0 : Nat) (v1 : Int32) (w : WH) : Option ((Option Nat × WH)) :=
  (gI w v0 15 3).bind fun x1 =>
  b2_ (fJ16_stringSize v1 w) fun x5 w3 =>
  nm_ (x1 + x5) fun x6 =>
  (hIs w3 v0 15).bind fun _ =>
  (fJ7_ensureCapacityInternal v0 x6 w3).bind fun w8 =>
  (hIs w8 v0 15).bind fun _ =>
  b2_ (fJ7_isLatin1 v0 w8) fun x14 w11 =>
  if x14 = 0 then (
    (gR w11 v0 15 0).bind fun x16 =>
    none
  ) else (
    (gR w11 v0 15 0).bind fun x18 =>
    x18.bind fun a20 =>
    b2_ (fJ16_getChars v1 x6 a20 w11) fun x24 w22 =>
    fJ7_append_2_b34 v0 x6 w22
  )
theorem bJ7_append_2_0 {p : Program} {l : Launch} {e : Env} {s : State} {m : MethodId} {args : Array Value} {below : List Frame} {meth : Method} {c : Code} {H : Heap} {locs : List Loc} {ls : Array Slot} {G : gE} {A : Nat → Prop} {w0 : WH} (B : gB G RJ7 cJ7_append_2 4 (some (.object "java/lang/AbstractStringBuilder")) p s m args meth c) {v0 : Nat} {v1 : Int32} {w : WH} {r : (Option Nat × WH)} (h : fJ7_append_2 v0 v1 w = some r)   (hR : RepH G A w H) (hS : Cu A s w0 w H locs) (hl : lv_has ls 4 [(0, .ref v0), (1, .int v1)]) : W p l e (hRm 4 93 w0) s m args below meth c H locs (wC w0 - wC w) (wS w0 - wS w) (hZ below args s G A w0 (some (va_rf r.1)) r.2) (F0 m 0 ls []) := by
  have B0 := B
  obtain ⟨hx, hb, hml, hown, hts, hr, hlk, hK⟩ := B0
  unfold fJ7_append_2 at h
  refine lv_aload_n hx hb dJ7_append_2_0 rfl (lv_at hl 0 rfl) ?_
  replace h := bo_o h
  obtain ⟨x1, e2, h⟩ := h
  refine h_get (ci := 15) (k := 3) (v := .int x1) hx hb hts hown hK hR in_J8 rfl (by decide) (fun _ _ => rfl) q260 (fun _ h9 => h9) (gI_o e2) dJ7_append_2_1 ?_
  refine lv_istore_n (lv' := [(2, .int x1), (0, .ref v0), (1, .int v1)]) hx hb dJ7_append_2_4 rfl hl (by decide) rfl (fun ls hl => ?_)
  refine lv_iload_n hx hb dJ7_append_2_5 rfl (lv_at hl 0 rfl) ?_
  refine lv_iload_n hx hb dJ7_append_2_6 rfl (lv_at hl 2 rfl) ?_
  replace h := b2_o h
  obtain ⟨x5, w3, e4, h⟩ := h
  refine h_callS 1  (As := [.int v1]) (rest := [.int x1]) (v := (some (.int x5))) (w' := w3) (st1 := [.int x5, .int x1]) hx hb hml hown hts hK hR hS (Nat.le_refl _) (Nat.le_refl _) (mJ16_stringSize e4) (lw_S q399 q400 q133 q401) (by decide +kernel) (Nat.le_of_ble_eq_true rfl) (Nat.le_of_ble_eq_true rfl) rfl hl.1 (Nat.le_of_ble_eq_true rfl) dJ7_append_2_7 rfl rfl (fun H locs hR hS => ?_)
  refine lv_iadd hx hb dJ7_append_2_10 ?_
  replace h := nm_o h
  obtain ⟨x6, e7, h⟩ := h
  refine lv_istore_n (lv' := [(3, .int x6), (2, .int x1), (0, .ref v0), (1, .int v1)]) hx hb dJ7_append_2_11 rfl hl (by decide) (by subst e7; rfl) (fun ls hl => ?_)
  refine lv_aload_n hx hb dJ7_append_2_12 rfl (lv_at hl 2 rfl) ?_
  refine lv_iload_n hx hb dJ7_append_2_13 rfl (lv_at hl 0 rfl) ?_
  replace h := bo_o h
  obtain ⟨_, e9, h⟩ := h
  replace h := bo_o h
  obtain ⟨w8, e10, h⟩ := h
  refine h_callX 1 (ci := 15) (As := [.int x6]) (rest := []) (v := none) (w' := w8) (st1 := []) hx hb hml hown hts hK hR hS (Nat.le_refl _) (Nat.le_refl _) rfl e9 (mJ7_ensureCapacityInternal e10) (lw_meth q286) q122 q283 q285 (hK.sl 0 rfl) (by decide +kernel) (Nat.le_of_ble_eq_true rfl) (Nat.le_of_ble_eq_true rfl) rfl hl.1 (Nat.le_of_ble_eq_true rfl) dJ7_append_2_14 rfl rfl (fun H locs hR hS => ?_)
  refine lv_aload_n hx hb dJ7_append_2_17 rfl (lv_at hl 2 rfl) ?_
  replace h := bo_o h
  obtain ⟨_, e12, h⟩ := h
  replace h := b2_o h
  obtain ⟨x14, w11, e13, h⟩ := h
  refine h_callX 0 (ci := 15) (As := []) (rest := []) (v := (some (.int x14))) (w' := w11) (st1 := [.int x14]) hx hb hml hown hts hK hR hS (Nat.le_refl _) (Nat.le_refl _) rfl e12 (mJ7_isLatin1 e13) (lw_meth q322) q122 q318 q319 (hts _ q321) (by decide +kernel) (Nat.le_of_ble_eq_true rfl) (Nat.le_of_ble_eq_true rfl) rfl hl.1 (Nat.le_of_ble_eq_true rfl) dJ7_append_2_18 rfl rfl (fun H locs hR hS => ?_)
  refine lv_if_eq (tgt := 37) hx hb dJ7_append_2_21 (by decide) (fun c15 => ?_) (fun c15 => ?_)
  · replace h := it_o c15 h
    refine lv_iload_n hx hb dJ7_append_2_37 rfl (lv_at hl 3 rfl) ?_
    refine lv_iload_n hx hb dJ7_append_2_38 rfl (lv_at hl 1 rfl) ?_
    refine lv_iload_n hx hb dJ7_append_2_39 rfl (lv_at hl 0 rfl) ?_
    refine lv_aload_n hx hb dJ7_append_2_40 rfl (lv_at hl 2 rfl) ?_
    replace h := bo_o h
    obtain ⟨x16, e17, h⟩ := h
    refine h_get (ci := 15) (k := 0) (v := va_rf x16) hx hb hts hown hK hR in_J8 rfl (by decide) (fun _ _ => rfl) q256 (fun _ h9 => h9) (gR_o e17) dJ7_append_2_41 ?_
    exact (nomatch h)
  · replace h := if_o c15 h
    refine lv_iload_n hx hb dJ7_append_2_24 rfl (lv_at hl 3 rfl) ?_
    refine lv_iload_n hx hb dJ7_append_2_25 rfl (lv_at hl 0 rfl) ?_
    refine lv_aload_n hx hb dJ7_append_2_26 rfl (lv_at hl 2 rfl) ?_
    replace h := bo_o h
    obtain ⟨x18, e19, h⟩ := h
    refine h_get (ci := 15) (k := 0) (v := va_rf x18) hx hb hts hown hK hR in_J8 rfl (by decide) (fun _ _ => rfl) q256 (fun _ h9 => h9) (gR_o e19) dJ7_append_2_27 ?_
    replace h := bo_o h
    obtain ⟨a20, e21, h⟩ := h
    subst e21
    replace h := b2_o h
    obtain ⟨x24, w22, e23, h⟩ := h
    refine h_callS 3  (As := [.int v1, .int x6, .ref a20]) (rest := []) (v := (some (.int x24))) (w' := w22) (st1 := [.int x24]) hx hb hml hown hts hK hR hS (Nat.le_refl _) (Nat.le_refl _) (mJ16_getChars e23) (lw_S q402 q403 q133 q404) (by decide +kernel) (Nat.le_of_ble_eq_true rfl) (Nat.le_of_ble_eq_true rfl) rfl hl.1 (Nat.le_of_ble_eq_true rfl) dJ7_append_2_30 rfl rfl (fun H locs hR hS => ?_)
    refine lv_pop hx hb dJ7_append_2_33 rfl ?_
    exact bJ7_append_2_34 B h  hR hS (lv_sub hl [2, 0] rfl)
theorem mJ7_append_2 {l : Launch} {G : gE} {A : Nat → Prop} {v0 : Nat} {v1 : Int32} {w : WH} {r : (Option Nat × WH)} (h : fJ7_append_2 v0 v1 w = some r) : hM l G A yJ7_append_2 cJ7_append_2 4 (some (.object "java/lang/AbstractStringBuilder")) 4 93 [.ref v0, .int v1] w (some (va_rf r.1)) r.2 :=
  h_of (by decide +kernel) (Nat.le_of_ble_eq_true rfl) (fun p e s m args below meth c ls B hnm hR hS hl => bJ7_append_2_0 B h hR hS hl)
noncomputable def fJ8_append_2 (v0 : Nat) (v1 : Int32) (w : WH) : Option ((Option Nat × WH)) :=
  (hIs w v0 15).bind fun _ =>
  b2_ (fJ7_append_2 v0 v1 w) fun x4 w1 =>
  some (some v0, w1)
theorem bJ8_append_2_0 {p : Program} {l : Launch} {e : Env} {s : State} {m : MethodId} {args : Array Value} {below : List Frame} {meth : Method} {c : Code} {H : Heap} {locs : List Loc} {ls : Array Slot} {G : gE} {A : Nat → Prop} {w0 : WH} (B : gB G RJ8 cJ8_append_2 2 (some (.object "java/lang/StringBuilder")) p s m args meth c) {v0 : Nat} {v1 : Int32} {w : WH} {r : (Option Nat × WH)} (h : fJ8_append_2 v0 v1 w = some r)   (hR : RepH G A w H) (hS : Cu A s w0 w H locs) (hl : lv_has ls 2 [(0, .ref v0), (1, .int v1)]) : W p l e (hRm 5 116 w0) s m args below meth c H locs (wC w0 - wC w) (wS w0 - wS w) (hZ below args s G A w0 (some (va_rf r.1)) r.2) (F0 m 0 ls []) := by
  have B0 := B
  obtain ⟨hx, hb, hml, hown, hts, hr, hlk, hK⟩ := B0
  unfold fJ8_append_2 at h
  refine lv_aload_n hx hb dJ8_append_2_0 rfl (lv_at hl 0 rfl) ?_
  refine lv_iload_n hx hb dJ8_append_2_1 rfl (lv_at hl 1 rfl) ?_
  replace h := bo_o h
  obtain ⟨_, e2, h⟩ := h
  replace h := b2_o h
  obtain ⟨x4, w1, e3, h⟩ := h
  refine h_callSU 1 (ci := 15) (As := [.int v1]) (rest := []) (v := (some (va_rf x4))) (w' := w1) (st1 := [va_rf x4]) hx hb hml hown hts hK hR hS (Nat.le_refl _) (Nat.le_refl _) rfl e2 (mJ7_append_2 e3) (lw_app (a := [.methodLink _ _ _, .sameMethod _ _ _ _, .superclass _ _, .instanceMethod _, .initialized _]) (lw_5 q396 q3042 q269 q397 q122) (lw_meth q398)) (by decide +kernel) (Nat.le_of_ble_eq_true rfl) (Nat.le_of_ble_eq_true rfl) rfl hl.1 (Nat.le_of_ble_eq_true rfl) dJ8_append_2_2 rfl rfl (fun H locs hR hS => ?_)
  refine lv_pop hx hb dJ8_append_2_5 (rf_cat _) ?_
  refine lv_aload_n hx hb dJ8_append_2_6 rfl (lv_at hl 0 rfl) ?_
  have eR := Option.some.inj h
  subst eR
  exact h_afin (x := some v0) hx hb hr hlk (by first | exact Or.inl ⟨_, rfl⟩ | exact Or.inr ⟨_, rfl⟩) hR hS dJ8_append_2_7
theorem mJ8_append_2 {l : Launch} {G : gE} {A : Nat → Prop} {v0 : Nat} {v1 : Int32} {w : WH} {r : (Option Nat × WH)} (h : fJ8_append_2 v0 v1 w = some r) : hM l G A yJ8_append_2 cJ8_append_2 2 (some (.object "java/lang/StringBuilder")) 5 116 [.ref v0, .int v1] w (some (va_rf r.1)) r.2 :=
  h_of (by decide +kernel) (Nat.le_of_ble_eq_true rfl) (fun p e s m args below meth c ls B hnm hR hS hl => bJ8_append_2_0 B h hR hS hl)
noncomputable def fX1_writeTolls_b108 (v0 : Nat) (w : WH) : Option ((Int32 × WH)) :=
  (gR w v0 17 8).bind fun x1 =>
  x1.bind fun a3 =>
  (hIs w a3 15).bind fun _ =>
  b2_ (fJ8_length a3 w) fun x8 w5 =>
  some (x8, w5)
theorem bX1_writeTolls_108 {p : Program} {l : Launch} {e : Env} {s : State} {m : MethodId} {args : Array Value} {below : List Frame} {meth : Method} {c : Code} {H : Heap} {locs : List Loc} {ls : Array Slot} {G : gE} {A : Nat → Prop} {w0 : WH} (B : gB G RX1 cX1_writeTolls 3 (some .int) p s m args meth c) {v0 : Nat} {w : WH} {r : (Int32 × WH)} (h : fX1_writeTolls_b108 v0 w = some r)   (hR : RepH G A w H) (hS : Cu A s w0 w H locs) (hl : lv_has ls 3 [(0, .ref v0)]) : W p l e (hRm 6 137 w0) s m args below meth c H locs (wC w0 - wC w) (wS w0 - wS w) (hZ below args s G A w0 (some (.int r.1)) r.2) (F0 m 108 ls []) := by
  have B0 := B
  obtain ⟨hx, hb, hml, hown, hts, hr, hlk, hK⟩ := B0
  unfold fX1_writeTolls_b108 at h
  refine lv_aload_n hx hb dX1_writeTolls_108 rfl (lv_at hl 0 rfl) ?_
  replace h := bo_o h
  obtain ⟨x1, e2, h⟩ := h
  refine h_get (ci := 17) (k := 8) (v := va_rf x1) hx hb hts hown hK hR in_X1 rfl (by decide) (fun _ _ => rfl) q673 (fun _ h9 => h9) (gR_o e2) dX1_writeTolls_109 ?_
  replace h := bo_o h
  obtain ⟨a3, e4, h⟩ := h
  subst e4
  replace h := bo_o h
  obtain ⟨_, e6, h⟩ := h
  replace h := b2_o h
  obtain ⟨x8, w5, e7, h⟩ := h
  refine h_callV 0 (ci := 15) (As := []) (rest := []) (v := (some (.int x8))) (w' := w5) (st1 := [.int x8]) hx hb hml hown hts hK hR hS (Nat.le_refl _) (Nat.le_refl _) rfl e6 (mJ8_length e7) (lw_V q1893 q439 q3046 q123 q440) (by decide +kernel) (Nat.le_of_ble_eq_true rfl) (Nat.le_of_ble_eq_true rfl) rfl hl.1 (Nat.le_of_ble_eq_true rfl) dX1_writeTolls_112 rfl rfl (fun H locs hR hS => ?_)
  have eR := Option.some.inj h
  subst eR
  exact h_ifin hx hb hr hlk hR hS dX1_writeTolls_115
noncomputable def fX1_writeTolls_b77 (v0 : Nat) (v1 : Nat) (v2 : Nat) (w : WH) : Option (Sum (WH) ((Int32 × WH))) :=
  (gR w v0 17 8).bind fun x1 =>
  (hIs w v2 27).bind fun _ =>
  b2_ (fX8_number v2 w) fun x6 w3 =>
  x1.bind fun a7 =>
  (hIs w3 a7 15).bind fun _ =>
  b2_ (fJ8_append_2 a7 x6 w3) fun x12 w9 =>
  x12.bind fun a13 =>
  (hIs w9 a13 15).bind fun _ =>
  b2_ (fJ8_append_3 a13 58 w9) fun x18 w15 =>
  (gR w15 v0 17 0).bind fun x19 =>
  x19.bind fun a21 =>
  (hIs w15 a21 21).bind fun _ =>
  b2_ (fX2_toll a21 v2 w15) fun x26 w23 =>
  x18.bind fun a27 =>
  (hIs w23 a27 15).bind fun _ =>
  b2_ (fJ8_append_2 a27 x26 w23) fun x32 w29 =>
  some (.inl w29)
theorem bX1_writeTolls_77 {p : Program} {l : Launch} {e : Env} {s : State} {m : MethodId} {args : Array Value} {below : List Frame} {meth : Method} {c : Code} {H : Heap} {locs : List Loc} {ls : Array Slot} {G : gE} {A : Nat → Prop} {w0 : WH} (B : gB G RX1 cX1_writeTolls 3 (some .int) p s m args meth c) {v0 : Nat} {v1 : Nat} {v2 : Nat} {w : WH} {x : Sum (WH) ((Int32 × WH))} {r : (Int32 × WH)} (h : fX1_writeTolls_b77 v0 v1 v2 w = some x)  (k24 : ∀  (w' : WH), x = (.inl w') → ∀ (H : Heap) (locs : List Loc) (ls : Array Slot), RepH G A w' H → Cu A s w0 w' H locs → lv_has ls 3 [(0, .ref v0), (1, va_rf v1)] → W p l e (hRm 6 137 w0) s m args below meth c H locs (wC w0 - wC w') (wS w0 - wS w') (hZ below args s G A w0 (some (.int r.1)) r.2) (F0 m 24 ls [])) (kR : ∀ q, x = (.inr q) → q = r) (hR : RepH G A w H) (hS : Cu A s w0 w H locs) (hl : lv_has ls 3 [(0, .ref v0), (1, .ref v1), (2, .ref v2)]) : W p l e (hRm 6 137 w0) s m args below meth c H locs (wC w0 - wC w) (wS w0 - wS w) (hZ below args s G A w0 (some (.int r.1)) r.2) (F0 m 77 ls []) := by
  have B0 := B
  obtain ⟨hx, hb, hml, hown, hts, hr, hlk, hK⟩ := B0
  unfold fX1_writeTolls_b77 at h
  refine lv_aload_n hx hb dX1_writeTolls_77 rfl (lv_at hl 0 rfl) ?_
  replace h := bo_o h
  obtain ⟨x1, e2, h⟩ := h
  refine h_get (ci := 17) (k := 8) (v := va_rf x1) hx hb hts hown hK hR in_X1 rfl (by decide) (fun _ _ => rfl) q673 (fun _ h9 => h9) (gR_o e2) dX1_writeTolls_78 ?_
  refine lv_aload_n hx hb dX1_writeTolls_81 rfl (lv_at hl 2 rfl) ?_
  replace h := bo_o h
  obtain ⟨_, e4, h⟩ := h
  replace h := b2_o h
  obtain ⟨x6, w3, e5, h⟩ := h
  refine h_callV 0 (ci := 27) (As := []) (rest := [va_rf x1]) (v := (some (.int x6))) (w' := w3) (st1 := [.int x6, va_rf x1]) hx hb hml hown hts hK hR hS (Nat.le_refl _) (Nat.le_refl _) rfl e4 (mX8_number e5) (lw_V q1791 q1305 q1306 q141 q1307) (by decide +kernel) (Nat.le_of_ble_eq_true rfl) (Nat.le_of_ble_eq_true rfl) rfl hl.1 (cat_le (Nat.le_of_ble_eq_true rfl)) dX1_writeTolls_82 rfl rfl (fun H locs hR hS => ?_)
  replace h := bo_o h
  obtain ⟨a7, e8, h⟩ := h
  subst e8
  replace h := bo_o h
  obtain ⟨_, e10, h⟩ := h
  replace h := b2_o h
  obtain ⟨x12, w9, e11, h⟩ := h
  refine h_callV 1 (ci := 15) (As := [.int x6]) (rest := []) (v := (some (va_rf x12))) (w' := w9) (st1 := [va_rf x12]) hx hb hml hown hts hK hR hS (Nat.le_refl _) (Nat.le_refl _) rfl e10 (mJ8_append_2 e11) (lw_V q1895 q393 q394 q123 q395) (by decide +kernel) (Nat.le_of_ble_eq_true rfl) (Nat.le_of_ble_eq_true rfl) rfl hl.1 (Nat.le_of_ble_eq_true rfl) dX1_writeTolls_85 rfl rfl (fun H locs hR hS => ?_)
  refine lv_bipush (v := 58) hx hb dX1_writeTolls_88 (by decide) ?_
  replace h := bo_o h
  obtain ⟨a13, e14, h⟩ := h
  subst e14
  replace h := bo_o h
  obtain ⟨_, e16, h⟩ := h
  replace h := b2_o h
  obtain ⟨x18, w15, e17, h⟩ := h
  refine h_callV 1 (ci := 15) (As := [.int 58]) (rest := []) (v := (some (va_rf x18))) (w' := w15) (st1 := [va_rf x18]) hx hb hml hown hts hK hR hS (Nat.le_refl _) (Nat.le_refl _) rfl e16 (mJ8_append_3 e17) (lw_V q1894 q784 q785 q123 q786) (by decide +kernel) (Nat.le_of_ble_eq_true rfl) (Nat.le_of_ble_eq_true rfl) rfl hl.1 (Nat.le_of_ble_eq_true rfl) dX1_writeTolls_90 rfl rfl (fun H locs hR hS => ?_)
  refine lv_aload_n hx hb dX1_writeTolls_93 rfl (lv_at hl 0 rfl) ?_
  replace h := bo_o h
  obtain ⟨x19, e20, h⟩ := h
  refine h_get (ci := 17) (k := 0) (v := va_rf x19) hx hb hts hown hK hR in_X1 rfl (by decide) (fun _ _ => rfl) q662 (fun _ h9 => h9) (gR_o e20) dX1_writeTolls_94 ?_
  refine lv_aload_n hx hb dX1_writeTolls_97 rfl (lv_at hl 2 rfl) ?_
  replace h := bo_o h
  obtain ⟨a21, e22, h⟩ := h
  subst e22
  replace h := bo_o h
  obtain ⟨_, e24, h⟩ := h
  replace h := b2_o h
  obtain ⟨x26, w23, e25, h⟩ := h
  refine h_callV 1 (ci := 21) (As := [.ref v2]) (rest := [va_rf x18]) (v := (some (.int x26))) (w' := w23) (st1 := [.int x26, va_rf x18]) hx hb hml hown hts hK hR hS (Nat.le_refl _) (Nat.le_refl _) rfl e24 (mX2_toll e25) (lw_V q1892 q1332 q1333 q113 q1334) (by decide +kernel) (Nat.le_of_ble_eq_true rfl) (Nat.le_of_ble_eq_true rfl) rfl hl.1 (cat_le (Nat.le_of_ble_eq_true rfl)) dX1_writeTolls_98 rfl rfl (fun H locs hR hS => ?_)
  replace h := bo_o h
  obtain ⟨a27, e28, h⟩ := h
  subst e28
  replace h := bo_o h
  obtain ⟨_, e30, h⟩ := h
  replace h := b2_o h
  obtain ⟨x32, w29, e31, h⟩ := h
  refine h_callV 1 (ci := 15) (As := [.int x26]) (rest := []) (v := (some (va_rf x32))) (w' := w29) (st1 := [va_rf x32]) hx hb hml hown hts hK hR hS (Nat.le_refl _) (Nat.le_refl _) rfl e30 (mJ8_append_2 e31) (lw_V q1895 q393 q394 q123 q395) (by decide +kernel) (Nat.le_of_ble_eq_true rfl) (Nat.le_of_ble_eq_true rfl) rfl hl.1 (Nat.le_of_ble_eq_true rfl) dX1_writeTolls_101 rfl rfl (fun H locs hR hS => ?_)
  refine lv_pop hx hb dX1_writeTolls_104 (rf_cat _) ?_
  refine lv_goto (tgt := 24) hx hb dX1_writeTolls_105 (by decide) ?_
  exact k24 _ (Option.some.inj h).symm H locs ls hR hS (lv_sub hl [0, 1] rfl)
noncomputable def fX1_writeTolls_b24 (v0 : Nat) (v1 : Option Nat) (w : WH) : Option (Sum (WH) ((Int32 × WH))) :=
  v1.bind fun a1 =>
  (hIs w a1 4).bind fun _ =>
  b2_ (fJ21_hasNext a1 w) fun x6 w3 =>
  if x6 = 0 then (
    (fX1_writeTolls_b108 v0 w3).map (fun y => (.inr y))
  ) else (
    (hIs w3 a1 4).bind fun _ =>
    b2_ (fJ21_next a1 w3) fun x11 w8 =>
    x11.bind fun a12 =>
    (hIs w8 a12 27).bind fun _ =>
    (gR w8 v0 17 0).bind fun x15 =>
    x15.bind fun a17 =>
    (hIs w8 a17 21).bind fun _ =>
    b2_ (fX2_toll a17 a12 w8) fun x22 w19 =>
    if x22 = 0 then (
      some (.inl w19)
    ) else (
      (gR w19 v0 17 8).bind fun x24 =>
      x24.bind fun a26 =>
      (hIs w19 a26 15).bind fun _ =>
      b2_ (fJ8_length a26 w19) fun x31 w28 =>
      if x31 ≤ 0 then (
        fX1_writeTolls_b77 v0 a1 a12 w28
      ) else (
        (gR w28 v0 17 8).bind fun x33 =>
        x33.bind fun a35 =>
        (hIs w28 a35 15).bind fun _ =>
        b2_ (fJ8_append_3 a35 59 w28) fun x40 w37 =>
        fX1_writeTolls_b77 v0 a1 a12 w37
      )
    )
  )
theorem bX1_writeTolls_24 {p : Program} {l : Launch} {e : Env} {s : State} {m : MethodId} {args : Array Value} {below : List Frame} {meth : Method} {c : Code} {H : Heap} {locs : List Loc} {ls : Array Slot} {G : gE} {A : Nat → Prop} {w0 : WH} (B : gB G RX1 cX1_writeTolls 3 (some .int) p s m args meth c) {v0 : Nat} {v1 : Option Nat} {w : WH} {x : Sum (WH) ((Int32 × WH))} {r : (Int32 × WH)} (h : fX1_writeTolls_b24 v0 v1 w = some x)  (k24 : ∀  (w' : WH), x = (.inl w') → ∀ (H : Heap) (locs : List Loc) (ls : Array Slot), RepH G A w' H → Cu A s w0 w' H locs → lv_has ls 3 [(0, .ref v0), (1, va_rf v1)] → W p l e (hRm 6 137 w0) s m args below meth c H locs (wC w0 - wC w') (wS w0 - wS w') (hZ below args s G A w0 (some (.int r.1)) r.2) (F0 m 24 ls [])) (kR : ∀ q, x = (.inr q) → q = r) (hR : RepH G A w H) (hS : Cu A s w0 w H locs) (hl : lv_has ls 3 [(0, .ref v0), (1, va_rf v1)]) : W p l e (hRm 6 137 w0) s m args below meth c H locs (wC w0 - wC w) (wS w0 - wS w) (hZ below args s G A w0 (some (.int r.1)) r.2) (F0 m 24 ls []) := by
  have B0 := B
  obtain ⟨hx, hb, hml, hown, hts, hr, hlk, hK⟩ := B0
  unfold fX1_writeTolls_b24 at h
  refine lv_aload_nq hx hb dX1_writeTolls_24 rfl (lv_at hl 1 rfl) ?_
  replace h := bo_o h
  obtain ⟨a1, e2, h⟩ := h
  subst e2
  replace h := bo_o h
  obtain ⟨_, e4, h⟩ := h
  replace h := b2_o h
  obtain ⟨x6, w3, e5, h⟩ := h
  refine h_callF 0  (As := []) (rest := []) (v := (some (.int x6))) (w' := w3) (st1 := [.int x6]) hx hb hml hown hts hK hR hS (Nat.le_refl _) (Nat.le_refl _) (h_recv (ci := 4) hK hR hS rfl e4) (mJ21_hasNext e5) (lw_app (a := [.methodLink _ _ _, .selects _ _ _, .instanceMethod _, .initialized _]) (lw_4 q1540 q1569 q1571 q144) (lw_meth q1573)) (hK.fw 4 rfl) (by decide +kernel) (Nat.le_of_ble_eq_true rfl) (Nat.le_of_ble_eq_true rfl) rfl hl.1 (Nat.le_of_ble_eq_true rfl) dX1_writeTolls_25 rfl rfl (fun H locs hR hS => ?_)
  refine lv_if_eq (tgt := 108) hx hb dX1_writeTolls_30 (by decide) (fun c7 => ?_) (fun c7 => ?_)
  · replace h := it_o c7 h
    obtain ⟨y, h, ey⟩ := mp_o h
    have ey := kR _ ey.symm
    subst ey
    exact bX1_writeTolls_108 B h  hR hS (lv_sub hl [0] rfl)
  · replace h := if_o c7 h
    refine lv_aload_n hx hb dX1_writeTolls_33 rfl (lv_at hl 1 rfl) ?_
    replace h := bo_o h
    obtain ⟨_, e9, h⟩ := h
    replace h := b2_o h
    obtain ⟨x11, w8, e10, h⟩ := h
    refine h_callF 0  (As := []) (rest := []) (v := (some (va_rf x11))) (w' := w8) (st1 := [va_rf x11]) hx hb hml hown hts hK hR hS (Nat.le_refl _) (Nat.le_refl _) (h_recv (ci := 4) hK hR hS rfl e9) (mJ21_next e10) (lw_app (a := [.methodLink _ _ _, .selects _ _ _, .instanceMethod _, .initialized _]) (lw_4 q1584 q1681 q1683 q144) (lw_meth q1685)) (hK.fw 5 rfl) (by decide +kernel) (Nat.le_of_ble_eq_true rfl) (Nat.le_of_ble_eq_true rfl) rfl hl.1 (Nat.le_of_ble_eq_true rfl) dX1_writeTolls_34 rfl rfl (fun H locs hR hS => ?_)
    replace h := bo_o h
    obtain ⟨a12, e13, h⟩ := h
    subst e13
    replace h := bo_o h
    obtain ⟨_, e14, h⟩ := h
    refine h_castS (ci := 27) hx hb hts hown hK hR hS rfl e14 q1768 dX1_writeTolls_39 ?_
    refine lv_astore_n (lv' := [(2, .ref a12), (0, .ref v0), (1, .ref a1)]) hx hb dX1_writeTolls_42 rfl hl (by decide) rfl (fun ls hl => ?_)
    refine lv_aload_n hx hb dX1_writeTolls_43 rfl (lv_at hl 1 rfl) ?_
    replace h := bo_o h
    obtain ⟨x15, e16, h⟩ := h
    refine h_get (ci := 17) (k := 0) (v := va_rf x15) hx hb hts hown hK hR in_X1 rfl (by decide) (fun _ _ => rfl) q662 (fun _ h9 => h9) (gR_o e16) dX1_writeTolls_44 ?_
    refine lv_aload_n hx hb dX1_writeTolls_47 rfl (lv_at hl 0 rfl) ?_
    replace h := bo_o h
    obtain ⟨a17, e18, h⟩ := h
    subst e18
    replace h := bo_o h
    obtain ⟨_, e20, h⟩ := h
    replace h := b2_o h
    obtain ⟨x22, w19, e21, h⟩ := h
    refine h_callV 1 (ci := 21) (As := [.ref a12]) (rest := []) (v := (some (.int x22))) (w' := w19) (st1 := [.int x22]) hx hb hml hown hts hK hR hS (Nat.le_refl _) (Nat.le_refl _) rfl e20 (mX2_toll e21) (lw_V q1892 q1332 q1333 q113 q1334) (by decide +kernel) (Nat.le_of_ble_eq_true rfl) (Nat.le_of_ble_eq_true rfl) rfl hl.1 (Nat.le_of_ble_eq_true rfl) dX1_writeTolls_48 rfl rfl (fun H locs hR hS => ?_)
    refine lv_if_ne (tgt := 57) hx hb dX1_writeTolls_51 (by decide) (fun c23 => ?_) (fun c23 => ?_)
    · replace h := if_o c23 h
      refine lv_aload_n hx hb dX1_writeTolls_57 rfl (lv_at hl 1 rfl) ?_
      replace h := bo_o h
      obtain ⟨x24, e25, h⟩ := h
      refine h_get (ci := 17) (k := 8) (v := va_rf x24) hx hb hts hown hK hR in_X1 rfl (by decide) (fun _ _ => rfl) q673 (fun _ h9 => h9) (gR_o e25) dX1_writeTolls_58 ?_
      replace h := bo_o h
      obtain ⟨a26, e27, h⟩ := h
      subst e27
      replace h := bo_o h
      obtain ⟨_, e29, h⟩ := h
      replace h := b2_o h
      obtain ⟨x31, w28, e30, h⟩ := h
      refine h_callV 0 (ci := 15) (As := []) (rest := []) (v := (some (.int x31))) (w' := w28) (st1 := [.int x31]) hx hb hml hown hts hK hR hS (Nat.le_refl _) (Nat.le_refl _) rfl e29 (mJ8_length e30) (lw_V q1893 q439 q3046 q123 q440) (by decide +kernel) (Nat.le_of_ble_eq_true rfl) (Nat.le_of_ble_eq_true rfl) rfl hl.1 (Nat.le_of_ble_eq_true rfl) dX1_writeTolls_61 rfl rfl (fun H locs hR hS => ?_)
      refine lv_if_le (tgt := 77) hx hb dX1_writeTolls_64 (by decide) (fun c32 => ?_) (fun c32 => ?_)
      · replace h := it_o c32 h
        exact bX1_writeTolls_77 B h k24 kR hR hS (lv_sub hl [1, 2, 0] rfl)
      · replace h := if_o c32 h
        refine lv_aload_n hx hb dX1_writeTolls_67 rfl (lv_at hl 1 rfl) ?_
        replace h := bo_o h
        obtain ⟨x33, e34, h⟩ := h
        refine h_get (ci := 17) (k := 8) (v := va_rf x33) hx hb hts hown hK hR in_X1 rfl (by decide) (fun _ _ => rfl) q673 (fun _ h9 => h9) (gR_o e34) dX1_writeTolls_68 ?_
        refine lv_bipush (v := 59) hx hb dX1_writeTolls_71 (by decide) ?_
        replace h := bo_o h
        obtain ⟨a35, e36, h⟩ := h
        subst e36
        replace h := bo_o h
        obtain ⟨_, e38, h⟩ := h
        replace h := b2_o h
        obtain ⟨x40, w37, e39, h⟩ := h
        refine h_callV 1 (ci := 15) (As := [.int 59]) (rest := []) (v := (some (va_rf x40))) (w' := w37) (st1 := [va_rf x40]) hx hb hml hown hts hK hR hS (Nat.le_refl _) (Nat.le_refl _) rfl e38 (mJ8_append_3 e39) (lw_V q1894 q784 q785 q123 q786) (by decide +kernel) (Nat.le_of_ble_eq_true rfl) (Nat.le_of_ble_eq_true rfl) rfl hl.1 (Nat.le_of_ble_eq_true rfl) dX1_writeTolls_73 rfl rfl (fun H locs hR hS => ?_)
        refine lv_pop hx hb dX1_writeTolls_76 (rf_cat _) ?_
        exact bX1_writeTolls_77 B h k24 kR hR hS (lv_sub hl [1, 2, 0] rfl)
    · replace h := it_o c23 h
      refine lv_goto (tgt := 24) hx hb dX1_writeTolls_54 (by decide) ?_
      exact k24 _ (Option.some.inj h).symm H locs ls hR hS (lv_sub hl [1, 2] rfl)
noncomputable def fX1_writeTolls_l24 (v0 : Nat) (v1 : Option Nat) (w : WH) : Option ((Int32 × WH)) := whileO (fun q => fX1_writeTolls_b24 v0 v1 q) w
theorem lX1_writeTolls_24 {p : Program} {l : Launch} {e : Env} {s : State} {m : MethodId} {args : Array Value} {below : List Frame} {meth : Method} {c : Code} {G : gE} {A : Nat → Prop} {w0 : WH} (B : gB G RX1 cX1_writeTolls 3 (some .int) p s m args meth c) {v0 : Nat} {v1 : Option Nat} {r : (Int32 × WH)}   : ∀ (w : WH), fX1_writeTolls_l24 v0 v1 w = some r → ∀ (H : Heap) (locs : List Loc) (ls : Array Slot), RepH G A w H → Cu A s w0 w H locs → lv_has ls 3 [(0, .ref v0), (1, va_rf v1)] → W p l e (hRm 6 137 w0) s m args below meth c H locs (wC w0 - wC w) (wS w0 - wS w) (hZ below args s G A w0 (some (.int r.1)) r.2) (F0 m 24 ls []) := by
  intro  w h
  refine wh_walk (body := (fun q => fX1_writeTolls_b24 v0 v1 q)) (P := (fun q : (WH) => ∀ (H : Heap) (locs : List Loc) (ls : Array Slot), RepH G A q H → Cu A s w0 q H locs → lv_has ls 3 [(0, .ref v0), (1, va_rf v1)] → W p l e (hRm 6 137 w0) s m args below meth c H locs (wC w0 - wC q) (wS w0 - wS q) (hZ below args s G A w0 (some (.int r.1)) r.2) (F0 m 24 ls []))) (r := r) ?_ w h
  intro q y hy hL hr H locs ls hR hS hl
  exact bX1_writeTolls_24 (r := r) B hy (fun a0 e => hL a0 e) (fun q e => hr q e) hR hS hl
noncomputable def fX1_writeTolls (v0 : Nat) (w : WH) : Option ((Int32 × WH)) :=
  (gR w v0 17 8).bind fun x1 =>
  x1.bind fun a3 =>
  (hIs w a3 15).bind fun _ =>
  (fJ8_setLength a3 0 w).bind fun w5 =>
  (gR w5 v0 17 0).bind fun x8 =>
  x8.bind fun a10 =>
  (gR w5 a10 21 0).bind fun x12 =>
  x12.bind fun a14 =>
  (gR w5 a14 22 1).bind fun x16 =>
  x16.bind fun a18 =>
  (hIs w5 a18 2).bind fun _ =>
  b2_ (fJ2_iterator a18 w5) fun x23 w20 =>
  fX1_writeTolls_l24 v0 x23 w20
theorem bX1_writeTolls_0 {p : Program} {l : Launch} {e : Env} {s : State} {m : MethodId} {args : Array Value} {below : List Frame} {meth : Method} {c : Code} {H : Heap} {locs : List Loc} {ls : Array Slot} {G : gE} {A : Nat → Prop} {w0 : WH} (B : gB G RX1 cX1_writeTolls 3 (some .int) p s m args meth c) {v0 : Nat} {w : WH} {r : (Int32 × WH)} (h : fX1_writeTolls v0 w = some r)   (hR : RepH G A w H) (hS : Cu A s w0 w H locs) (hl : lv_has ls 3 [(0, .ref v0)]) : W p l e (hRm 6 137 w0) s m args below meth c H locs (wC w0 - wC w) (wS w0 - wS w) (hZ below args s G A w0 (some (.int r.1)) r.2) (F0 m 0 ls []) := by
  have B0 := B
  obtain ⟨hx, hb, hml, hown, hts, hr, hlk, hK⟩ := B0
  unfold fX1_writeTolls at h
  refine lv_aload_n hx hb dX1_writeTolls_0 rfl (lv_at hl 0 rfl) ?_
  replace h := bo_o h
  obtain ⟨x1, e2, h⟩ := h
  refine h_get (ci := 17) (k := 8) (v := va_rf x1) hx hb hts hown hK hR in_X1 rfl (by decide) (fun _ _ => rfl) q673 (fun _ h9 => h9) (gR_o e2) dX1_writeTolls_1 ?_
  refine lv_iconst (v := 0) hx hb dX1_writeTolls_4 (by decide) ?_
  replace h := bo_o h
  obtain ⟨a3, e4, h⟩ := h
  subst e4
  replace h := bo_o h
  obtain ⟨_, e6, h⟩ := h
  replace h := bo_o h
  obtain ⟨w5, e7, h⟩ := h
  refine h_callV 1 (ci := 15) (As := [.int 0]) (rest := []) (v := none) (w' := w5) (st1 := []) hx hb hml hown hts hK hR hS (Nat.le_refl _) (Nat.le_refl _) rfl e6 (mJ8_setLength e7) (lw_V q1827 q1828 q1829 q123 q1830) (by decide +kernel) (Nat.le_of_ble_eq_true rfl) (Nat.le_of_ble_eq_true rfl) rfl hl.1 (Nat.le_of_ble_eq_true rfl) dX1_writeTolls_5 rfl rfl (fun H locs hR hS => ?_)
  refine lv_aload_n hx hb dX1_writeTolls_8 rfl (lv_at hl 0 rfl) ?_
  replace h := bo_o h
  obtain ⟨x8, e9, h⟩ := h
  refine h_get (ci := 17) (k := 0) (v := va_rf x8) hx hb hts hown hK hR in_X1 rfl (by decide) (fun _ _ => rfl) q662 (fun _ h9 => h9) (gR_o e9) dX1_writeTolls_9 ?_
  replace h := bo_o h
  obtain ⟨a10, e11, h⟩ := h
  subst e11
  replace h := bo_o h
  obtain ⟨x12, e13, h⟩ := h
  refine h_getN (ci := 21) (k := 0) (v := va_rf x12) hx hb hts hown hK hR in_X2 rfl (by decide) (fun _ _ => rfl) (hK.fn 15 rfl) (fun _ h9 => h9) (gR_o e13) dX1_writeTolls_12 ?_
  replace h := bo_o h
  obtain ⟨a14, e15, h⟩ := h
  subst e15
  replace h := bo_o h
  obtain ⟨x16, e17, h⟩ := h
  refine h_getN (ci := 22) (k := 1) (v := va_rf x16) hx hb hts hown hK hR in_X3 rfl (by decide) (fun _ _ => rfl) (hK.fn 6 rfl) (fun _ h9 => h9) (gR_o e17) dX1_writeTolls_15 ?_
  replace h := bo_o h
  obtain ⟨a18, e19, h⟩ := h
  subst e19
  replace h := bo_o h
  obtain ⟨_, e21, h⟩ := h
  replace h := b2_o h
  obtain ⟨x23, w20, e22, h⟩ := h
  refine h_callF 0  (As := []) (rest := []) (v := (some (va_rf x23))) (w' := w20) (st1 := [va_rf x23]) hx hb hml hown hts hK hR hS (Nat.le_refl _) (Nat.le_refl _) (h_recv (ci := 2) hK hR hS rfl e21) (mJ2_iterator e22) (lw_app (a := [.methodLink _ _ _, .selects _ _ _, .instanceMethod _, .initialized _]) (lw_4 q1432 q1435 q1437 q117) (lw_meth q1439)) (hK.fw 3 rfl) (by decide +kernel) (Nat.le_of_ble_eq_true rfl) (Nat.le_of_ble_eq_true rfl) rfl hl.1 (Nat.le_of_ble_eq_true rfl) dX1_writeTolls_18 rfl rfl (fun H locs hR hS => ?_)
  refine lv_astore_nq (lv' := [(1, va_rf x23), (0, .ref v0)]) hx hb dX1_writeTolls_23 rfl hl (by decide) rfl (fun ls hl => ?_)
  exact lX1_writeTolls_24 B _ h H locs ls hR hS (lv_sub hl [1, 0] rfl)
theorem mX1_writeTolls {l : Launch} {G : gE} {A : Nat → Prop} {v0 : Nat} {w : WH} {r : (Int32 × WH)} (h : fX1_writeTolls v0 w = some r) : hM l G A yX1_writeTolls cX1_writeTolls 3 (some .int) 6 137 [.ref v0] w (some (.int r.1)) r.2 :=
  h_of (by decide +kernel) (Nat.le_of_ble_eq_true rfl) (fun p e s m args below meth c ls B hnm hR hS hl => bX1_writeTolls_0 B h hR hS hl)
noncomputable def fJ9_checkIndex (v0 : Int32) (v1 : Int32) (w : WH) : Option (WH) :=
  b2_ (fJ14_checkIndex v0 v1 (oK (wK w 24)) w) fun x3 w1 =>
  some w1
theorem bJ9_checkIndex_0 {p : Program} {l : Launch} {e : Env} {s : State} {m : MethodId} {args : Array Value} {below : List Frame} {meth : Method} {c : Code} {H : Heap} {locs : List Loc} {ls : Array Slot} {G : gE} {A : Nat → Prop} {w0 : WH} (B : gB G RJ9 cJ9_checkIndex 2 none p s m args meth c) {v0 : Int32} {v1 : Int32} {w : WH} {r : WH} (h : fJ9_checkIndex v0 v1 w = some r)   (hR : RepH G A w H) (hS : Cu A s w0 w H locs) (hl : lv_has ls 2 [(0, .int v0), (1, .int v1)]) : W p l e (hRm 1 22 w0) s m args below meth c H locs (wC w0 - wC w) (wS w0 - wS w) (hZ below args s G A w0 none r) (F0 m 0 ls []) := by
  have B0 := B
  obtain ⟨hx, hb, hml, hown, hts, hr, hlk, hK⟩ := B0
  unfold fJ9_checkIndex at h
  refine lv_iload_n hx hb dJ9_checkIndex_0 rfl (lv_at hl 0 rfl) ?_
  refine lv_iload_n hx hb dJ9_checkIndex_1 rfl (lv_at hl 1 rfl) ?_
  refine h_getsQ (i := 2) hx hb hts hown hK hR hS rfl q335 (fun _ h9 => h9) dJ9_checkIndex_2 ?_
  replace h := b2_o h
  obtain ⟨x3, w1, e2, h⟩ := h
  refine h_callS 3  (As := [.int v0, .int v1, va_rf (oK (wK w 24))]) (rest := []) (v := (some (.int x3))) (w' := w1) (st1 := [.int x3]) hx hb hml hown hts hK hR hS (Nat.le_refl _) (Nat.le_refl _) (mJ14_checkIndex e2) (lw_S q802 q803 q130 q804) (by decide +kernel) (Nat.le_of_ble_eq_true rfl) (Nat.le_of_ble_eq_true rfl) rfl hl.1 (Nat.le_of_ble_eq_true rfl) dJ9_checkIndex_5 rfl rfl (fun H locs hR hS => ?_)
  refine lv_pop hx hb dJ9_checkIndex_8 rfl ?_
  have eR := Option.some.inj h
  subst eR
  exact h_vfin hx hb hr hlk hR hS dJ9_checkIndex_9
theorem mJ9_checkIndex {l : Launch} {G : gE} {A : Nat → Prop} {v0 : Int32} {v1 : Int32} {w : WH} {r : WH} (h : fJ9_checkIndex v0 v1 w = some r) : hM l G A yJ9_checkIndex cJ9_checkIndex 2 none 1 22 [.int v0, .int v1] w none r :=
  h_of (by decide +kernel) (Nat.le_of_ble_eq_true rfl) (fun p e s m args below meth c ls B hnm hR hS hl => bJ9_checkIndex_0 B h hR hS hl)
noncomputable def fJ7_charAt_b42 (v1 : Int32) (v3 : Nat) (w : WH) : Option ((Int32 × WH)) :=
  none
theorem bJ7_charAt_42 {p : Program} {l : Launch} {e : Env} {s : State} {m : MethodId} {args : Array Value} {below : List Frame} {meth : Method} {c : Code} {H : Heap} {locs : List Loc} {ls : Array Slot} {G : gE} {A : Nat → Prop} {w0 : WH} (B : gB G RJ7 cJ7_charAt 5 (some .char) p s m args meth c) {v1 : Int32} {v3 : Nat} {w : WH} {r : (Int32 × WH)} (h : fJ7_charAt_b42 v1 v3 w = some r)   (hR : RepH G A w H) (hS : Cu A s w0 w H locs) (hl : lv_has ls 5 [(1, .int v1), (3, .ref v3)]) : W p l e (hRm 2 43 w0) s m args below meth c H locs (wC w0 - wC w) (wS w0 - wS w) (hZ below args s G A w0 (some (.int r.1)) r.2) (F0 m 42 ls []) := by
  have B0 := B
  obtain ⟨hx, hb, hml, hown, hts, hr, hlk, hK⟩ := B0
  unfold fJ7_charAt_b42 at h
  refine lv_aload_n hx hb dJ7_charAt_42 rfl (lv_at hl 1 rfl) ?_
  refine lv_iload_n hx hb dJ7_charAt_43 rfl (lv_at hl 0 rfl) ?_
  exact (nomatch h)
noncomputable def fJ7_charAt (v0 : Nat) (v1 : Int32) (w : WH) : Option ((Int32 × WH)) :=
  (gI w v0 15 1).bind fun x1 =>
  (gR w v0 15 0).bind fun x3 =>
  (gI w v0 15 3).bind fun x5 =>
  x3.bind fun a7 =>
  (aLn w a7).bind fun x9 =>
  nm_ (mnI x5 (x9 >>> (x1 &&& 31))) fun x11 =>
  (fJ9_checkIndex v1 x11 w).bind fun w13 =>
  if x1 = 0 then (
    (ldI w13 a7 2 v1).bind fun x16 =>
    (fz_ .char (((x16 &&& 255).toUInt32 % 65536).toInt32)).bind fun _ =>
    some (((x16 &&& 255).toUInt32 % 65536).toInt32, w13)
  ) else (
    fJ7_charAt_b42 v1 a7 w13
  )
theorem bJ7_charAt_0 {p : Program} {l : Launch} {e : Env} {s : State} {m : MethodId} {args : Array Value} {below : List Frame} {meth : Method} {c : Code} {H : Heap} {locs : List Loc} {ls : Array Slot} {G : gE} {A : Nat → Prop} {w0 : WH} (B : gB G RJ7 cJ7_charAt 5 (some .char) p s m args meth c) {v0 : Nat} {v1 : Int32} {w : WH} {r : (Int32 × WH)} (h : fJ7_charAt v0 v1 w = some r)   (hR : RepH G A w H) (hS : Cu A s w0 w H locs) (hl : lv_has ls 5 [(0, .ref v0), (1, .int v1)]) : W p l e (hRm 2 43 w0) s m args below meth c H locs (wC w0 - wC w) (wS w0 - wS w) (hZ below args s G A w0 (some (.int r.1)) r.2) (F0 m 0 ls []) := by
  have B0 := B
  obtain ⟨hx, hb, hml, hown, hts, hr, hlk, hK⟩ := B0
  unfold fJ7_charAt at h
  refine lv_aload_n hx hb dJ7_charAt_0 rfl (lv_at hl 0 rfl) ?_
  replace h := bo_o h
  obtain ⟨x1, e2, h⟩ := h
  refine h_get (ci := 15) (k := 1) (v := .int x1) hx hb hts hown hK hR in_J8 rfl (by decide) (fun _ _ => rfl) q257 (fun _ h9 => h9) (gI_o e2) dJ7_charAt_1 ?_
  refine lv_istore_n (lv' := [(2, .int x1), (0, .ref v0), (1, .int v1)]) hx hb dJ7_charAt_4 rfl hl (by decide) rfl (fun ls hl => ?_)
  refine lv_aload_n hx hb dJ7_charAt_5 rfl (lv_at hl 1 rfl) ?_
  replace h := bo_o h
  obtain ⟨x3, e4, h⟩ := h
  refine h_get (ci := 15) (k := 0) (v := va_rf x3) hx hb hts hown hK hR in_J8 rfl (by decide) (fun _ _ => rfl) q256 (fun _ h9 => h9) (gR_o e4) dJ7_charAt_6 ?_
  refine lv_astore_nq (lv' := [(3, va_rf x3), (2, .int x1), (0, .ref v0), (1, .int v1)]) hx hb dJ7_charAt_9 rfl hl (by decide) rfl (fun ls hl => ?_)
  refine lv_aload_n hx hb dJ7_charAt_10 rfl (lv_at hl 2 rfl) ?_
  replace h := bo_o h
  obtain ⟨x5, e6, h⟩ := h
  refine h_get (ci := 15) (k := 3) (v := .int x5) hx hb hts hown hK hR in_J8 rfl (by decide) (fun _ _ => rfl) q260 (fun _ h9 => h9) (gI_o e6) dJ7_charAt_11 ?_
  refine lv_aload_nq hx hb dJ7_charAt_14 rfl (lv_at hl 0 rfl) ?_
  replace h := bo_o h
  obtain ⟨a7, e8, h⟩ := h
  subst e8
  replace h := bo_o h
  obtain ⟨x9, e10, h⟩ := h
  refine h_alen hx hb hK hR hS e10 dJ7_charAt_15 ?_
  refine lv_iload_n hx hb dJ7_charAt_16 rfl (lv_at hl 1 rfl) ?_
  refine lv_ishr hx hb dJ7_charAt_17 ?_
  replace h := nm_o h
  obtain ⟨x11, e12, h⟩ := h
  refine va_mmin hx hb (hml.trans hl.1.symm) hown (hts _ q1908) (hts _ q313) (hts _ q127) (hts _ q314) (Nat.le_of_ble_eq_true rfl) (Nat.le_of_ble_eq_true rfl) (Nat.sub_le _ _) (Nat.sub_le _ _) dJ7_charAt_18 ?_
  refine W.eq (g2 := F0 m 21 ls [.int x11]) (by rw [e12]; rfl) ?_
  refine lv_istore (lv' := [(4, .int x11), (3, .ref a7), (2, .int x1), (0, .ref v0), (1, .int v1)]) hx hb dJ7_charAt_21 hl (by decide) rfl (fun ls hl => ?_)
  refine lv_iload_n hx hb dJ7_charAt_23 rfl (lv_at hl 4 rfl) ?_
  refine lv_iload hx hb dJ7_charAt_24 (lv_at hl 0 rfl) ?_
  replace h := bo_o h
  obtain ⟨w13, e14, h⟩ := h
  refine h_callS 2  (As := [.int v1, .int x11]) (rest := []) (v := none) (w' := w13) (st1 := []) hx hb hml hown hts hK hR hS (Nat.le_refl _) (Nat.le_refl _) (mJ9_checkIndex e14) (lw_S q1909 q800 q124 q801) (by decide +kernel) (Nat.le_of_ble_eq_true rfl) (Nat.le_of_ble_eq_true rfl) rfl hl.1 (Nat.le_of_ble_eq_true rfl) dJ7_charAt_26 rfl rfl (fun H locs hR hS => ?_)
  refine lv_iload_n hx hb dJ7_charAt_29 rfl (lv_at hl 2 rfl) ?_
  refine lv_if_ne (tgt := 42) hx hb dJ7_charAt_30 (by decide) (fun c15 => ?_) (fun c15 => ?_)
  · replace h := if_o c15 h
    exact bJ7_charAt_42 B h  hR hS (lv_sub hl [4, 1] rfl)
  · replace h := it_o c15 h
    refine lv_aload_n hx hb dJ7_charAt_33 rfl (lv_at hl 1 rfl) ?_
    refine lv_iload_n hx hb dJ7_charAt_34 rfl (lv_at hl 4 rfl) ?_
    replace h := bo_o h
    obtain ⟨x16, e17, h⟩ := h
    refine h_bald hx hb hK hR hS e17 dJ7_charAt_35 ?_
    refine lv_sipush (v := 255) hx hb dJ7_charAt_36 (by decide) ?_
    refine lv_iand hx hb dJ7_charAt_39 ?_
    refine lv_i2c hx hb dJ7_charAt_40 rfl ?_
    replace h := bo_o h
    obtain ⟨_, e18, h⟩ := h
    have eR := Option.some.inj h
    subst eR
    exact h_zfin hx hb hr hlk (fz_n (fun _ => ⟨_, rfl⟩) e18) hR hS dJ7_charAt_41
theorem mJ7_charAt {l : Launch} {G : gE} {A : Nat → Prop} {v0 : Nat} {v1 : Int32} {w : WH} {r : (Int32 × WH)} (h : fJ7_charAt v0 v1 w = some r) : hM l G A yJ7_charAt cJ7_charAt 5 (some .char) 2 43 [.ref v0, .int v1] w (some (.int r.1)) r.2 :=
  h_of (by decide +kernel) (Nat.le_of_ble_eq_true rfl) (fun p e s m args below meth c ls B hnm hR hS hl => bJ7_charAt_0 B h hR hS hl)
noncomputable def fJ8_charAt (v0 : Nat) (v1 : Int32) (w : WH) : Option ((Int32 × WH)) :=
  (hIs w v0 15).bind fun _ =>
  b2_ (fJ7_charAt v0 v1 w) fun x4 w1 =>
  (fz_ .char x4).bind fun _ =>
  some (x4, w1)
theorem bJ8_charAt_0 {p : Program} {l : Launch} {e : Env} {s : State} {m : MethodId} {args : Array Value} {below : List Frame} {meth : Method} {c : Code} {H : Heap} {locs : List Loc} {ls : Array Slot} {G : gE} {A : Nat → Prop} {w0 : WH} (B : gB G RJ8 cJ8_charAt 2 (some .char) p s m args meth c) {v0 : Nat} {v1 : Int32} {w : WH} {r : (Int32 × WH)} (h : fJ8_charAt v0 v1 w = some r)   (hR : RepH G A w H) (hS : Cu A s w0 w H locs) (hl : lv_has ls 2 [(0, .ref v0), (1, .int v1)]) : W p l e (hRm 3 67 w0) s m args below meth c H locs (wC w0 - wC w) (wS w0 - wS w) (hZ below args s G A w0 (some (.int r.1)) r.2) (F0 m 0 ls []) := by
  have B0 := B
  obtain ⟨hx, hb, hml, hown, hts, hr, hlk, hK⟩ := B0
  unfold fJ8_charAt at h
  refine lv_aload_n hx hb dJ8_charAt_0 rfl (lv_at hl 0 rfl) ?_
  refine lv_iload_n hx hb dJ8_charAt_1 rfl (lv_at hl 1 rfl) ?_
  replace h := bo_o h
  obtain ⟨_, e2, h⟩ := h
  replace h := b2_o h
  obtain ⟨x4, w1, e3, h⟩ := h
  refine h_callSU 1 (ci := 15) (As := [.int v1]) (rest := []) (v := (some (.int x4))) (w' := w1) (st1 := [.int x4]) hx hb hml hown hts hK hR hS (Nat.le_refl _) (Nat.le_refl _) rfl e2 (mJ7_charAt e3) (lw_app (a := [.methodLink _ _ _, .sameMethod _ _ _ _, .superclass _ _, .instanceMethod _, .initialized _]) (lw_5 q1905 q3047 q269 q1906 q122) (lw_meth q1907)) (by decide +kernel) (Nat.le_of_ble_eq_true rfl) (Nat.le_of_ble_eq_true rfl) rfl hl.1 (Nat.le_of_ble_eq_true rfl) dJ8_charAt_2 rfl rfl (fun H locs hR hS => ?_)
  replace h := bo_o h
  obtain ⟨_, e5, h⟩ := h
  have eR := Option.some.inj h
  subst eR
  exact h_zfin hx hb hr hlk (fz_n (fun _ => ⟨_, rfl⟩) e5) hR hS dJ8_charAt_5
theorem mJ8_charAt {l : Launch} {G : gE} {A : Nat → Prop} {v0 : Nat} {v1 : Int32} {w : WH} {r : (Int32 × WH)} (h : fJ8_charAt v0 v1 w = some r) : hM l G A yJ8_charAt cJ8_charAt 2 (some .char) 3 67 [.ref v0, .int v1] w (some (.int r.1)) r.2 :=
  h_of (by decide +kernel) (Nat.le_of_ble_eq_true rfl) (fun p e s m args below meth c ls B hnm hR hS hl => bJ8_charAt_0 B h hR hS hl)
noncomputable def fX1_outputByte (v0 : Nat) (v1 : Int32) (w : WH) : Option ((Int32 × WH)) :=
  (gR w v0 17 8).bind fun x1 =>
  x1.bind fun a3 =>
  (hIs w a3 15).bind fun _ =>
  b2_ (fJ8_length a3 w) fun x8 w5 =>
  b2_ (fX1_inRange (v1.toInt64) 0 ((x8 - 1).toInt64) w5) fun x11 w9 =>
  if x11 = 0 then (
    some ((-1), w9)
  ) else (
    (gR w9 v0 17 8).bind fun x13 =>
    x13.bind fun a15 =>
    (hIs w9 a15 15).bind fun _ =>
    b2_ (fJ8_charAt a15 v1 w9) fun x20 w17 =>
    some (x20, w17)
  )
theorem bX1_outputByte_0 {p : Program} {l : Launch} {e : Env} {s : State} {m : MethodId} {args : Array Value} {below : List Frame} {meth : Method} {c : Code} {H : Heap} {locs : List Loc} {ls : Array Slot} {G : gE} {A : Nat → Prop} {w0 : WH} (B : gB G RX1 cX1_outputByte 2 (some .int) p s m args meth c) {v0 : Nat} {v1 : Int32} {w : WH} {r : (Int32 × WH)} (h : fX1_outputByte v0 v1 w = some r)   (hR : RepH G A w H) (hS : Cu A s w0 w H locs) (hl : lv_has ls 2 [(0, .ref v0), (1, .int v1)]) : W p l e (hRm 4 88 w0) s m args below meth c H locs (wC w0 - wC w) (wS w0 - wS w) (hZ below args s G A w0 (some (.int r.1)) r.2) (F0 m 0 ls []) := by
  have B0 := B
  obtain ⟨hx, hb, hml, hown, hts, hr, hlk, hK⟩ := B0
  unfold fX1_outputByte at h
  refine lv_iload_n hx hb dX1_outputByte_0 rfl (lv_at hl 1 rfl) ?_
  refine lv_i2l hx hb dX1_outputByte_1 rfl ?_
  refine lv_lconst (v := 0) hx hb dX1_outputByte_2 (by decide) ?_
  refine lv_aload_n hx hb dX1_outputByte_3 rfl (lv_at hl 0 rfl) ?_
  replace h := bo_o h
  obtain ⟨x1, e2, h⟩ := h
  refine h_get (ci := 17) (k := 8) (v := va_rf x1) hx hb hts hown hK hR in_X1 rfl (by decide) (fun _ _ => rfl) q673 (fun _ h9 => h9) (gR_o e2) dX1_outputByte_4 ?_
  replace h := bo_o h
  obtain ⟨a3, e4, h⟩ := h
  subst e4
  replace h := bo_o h
  obtain ⟨_, e6, h⟩ := h
  replace h := b2_o h
  obtain ⟨x8, w5, e7, h⟩ := h
  refine h_callV 0 (ci := 15) (As := []) (rest := [.long 0, .long (v1.toInt64)]) (v := (some (.int x8))) (w' := w5) (st1 := [.int x8, .long 0, .long (v1.toInt64)]) hx hb hml hown hts hK hR hS (Nat.le_refl _) (Nat.le_refl _) rfl e6 (mJ8_length e7) (lw_V q1893 q439 q3046 q123 q440) (by decide +kernel) (Nat.le_of_ble_eq_true rfl) (Nat.le_of_ble_eq_true rfl) rfl hl.1 (Nat.le_of_ble_eq_true rfl) dX1_outputByte_7 rfl rfl (fun H locs hR hS => ?_)
  refine lv_iconst (v := 1) hx hb dX1_outputByte_10 (by decide) ?_
  refine lv_isub hx hb dX1_outputByte_11 ?_
  refine lv_i2l hx hb dX1_outputByte_12 rfl ?_
  replace h := b2_o h
  obtain ⟨x11, w9, e10, h⟩ := h
  refine h_callS 3  (As := [.long (v1.toInt64), .long 0, .long ((x8 - 1).toInt64)]) (rest := []) (v := (some (.int x11))) (w' := w9) (st1 := [.int x11]) hx hb hml hown hts hK hR hS (Nat.le_refl _) (Nat.le_refl _) (mX1_inRange e10) (lw_S q1900 q743 q112 q744) (by decide +kernel) (Nat.le_of_ble_eq_true rfl) (Nat.le_of_ble_eq_true rfl) rfl hl.1 (Nat.le_of_ble_eq_true rfl) dX1_outputByte_13 rfl rfl (fun H locs hR hS => ?_)
  refine lv_if_eq (tgt := 30) hx hb dX1_outputByte_16 (by decide) (fun c12 => ?_) (fun c12 => ?_)
  · replace h := it_o c12 h
    refine lv_iconst (v := (-1)) hx hb dX1_outputByte_30 (by decide) ?_
    have eR := Option.some.inj h
    subst eR
    exact h_ifin hx hb hr hlk hR hS dX1_outputByte_31
  · replace h := if_o c12 h
    refine lv_aload_n hx hb dX1_outputByte_19 rfl (lv_at hl 0 rfl) ?_
    replace h := bo_o h
    obtain ⟨x13, e14, h⟩ := h
    refine h_get (ci := 17) (k := 8) (v := va_rf x13) hx hb hts hown hK hR in_X1 rfl (by decide) (fun _ _ => rfl) q673 (fun _ h9 => h9) (gR_o e14) dX1_outputByte_20 ?_
    refine lv_iload_n hx hb dX1_outputByte_23 rfl (lv_at hl 1 rfl) ?_
    replace h := bo_o h
    obtain ⟨a15, e16, h⟩ := h
    subst e16
    replace h := bo_o h
    obtain ⟨_, e18, h⟩ := h
    replace h := b2_o h
    obtain ⟨x20, w17, e19, h⟩ := h
    refine h_callV 1 (ci := 15) (As := [.int v1]) (rest := []) (v := (some (.int x20))) (w' := w17) (st1 := [.int x20]) hx hb hml hown hts hK hR hS (Nat.le_refl _) (Nat.le_refl _) rfl e18 (mJ8_charAt e19) (lw_V q1901 q1902 q1903 q123 q1904) (by decide +kernel) (Nat.le_of_ble_eq_true rfl) (Nat.le_of_ble_eq_true rfl) rfl hl.1 (Nat.le_of_ble_eq_true rfl) dX1_outputByte_24 rfl rfl (fun H locs hR hS => ?_)
    refine lv_goto (tgt := 31) hx hb dX1_outputByte_27 (by decide) ?_
    have eR := Option.some.inj h
    subst eR
    exact h_ifin hx hb hr hlk hR hS dX1_outputByte_31
theorem mX1_outputByte {l : Launch} {G : gE} {A : Nat → Prop} {v0 : Nat} {v1 : Int32} {w : WH} {r : (Int32 × WH)} (h : fX1_outputByte v0 v1 w = some r) : hM l G A yX1_outputByte cX1_outputByte 2 (some .int) 4 88 [.ref v0, .int v1] w (some (.int r.1)) r.2 :=
  h_of (by decide +kernel) (Nat.le_of_ble_eq_true rfl) (fun p e s m args below meth c ls B hnm hR hS hl => bX1_outputByte_0 B h hR hS hl)
