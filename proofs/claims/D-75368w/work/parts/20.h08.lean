set_option maxRecDepth 100000
set_option maxHeartbeats 4000000

noncomputable def fX1_usesIt (v0 : Nat) (v1 : Int32) (v2 : Int32) (w : WH) : Option ((Int32 × WH)) :=
  (gR w v0 17 1).bind fun x1 =>
  (gR w v0 17 0).bind fun x3 =>
  (gR w v0 17 0).bind fun x5 =>
  x5.bind fun a7 =>
  (gR w a7 21 0).bind fun x9 =>
  x9.bind fun a11 =>
  (gR w a11 22 2).bind fun x13 =>
  x13.bind fun a15 =>
  (hIs w a15 2).bind fun _ =>
  b2_ (fJ2_get a15 v1 w) fun x20 w17 =>
  x20.bind fun a21 =>
  (hIs w17 a21 28).bind fun _ =>
  x1.bind fun a24 =>
  x3.bind fun a26 =>
  (hIs w17 a24 23).bind fun _ =>
  b2_ (fX4_walk a24 a26 a21 w17) fun x31 w28 =>
  if x31 = 0 then (
    some (0, w28)
  ) else (
    (gR w28 v0 17 1).bind fun x33 =>
    x33.bind fun a35 =>
    (hIs w28 a35 23).bind fun _ =>
    b2_ (fX4_has a35 v2 w28) fun x40 w37 =>
    if x40 = 0 then (
      some (0, w37)
    ) else (
      some (1, w37)
    )
  )
theorem bX1_usesIt_0 {p : Program} {l : Launch} {e : Env} {s : State} {m : MethodId} {args : Array Value} {below : List Frame} {meth : Method} {c : Code} {H : Heap} {locs : List Loc} {ls : Array Slot} {G : gE} {A : Nat → Prop} {w0 : WH} (B : gB G RX1 cX1_usesIt 3 (some .boolean) p s m args meth c) {v0 : Nat} {v1 : Int32} {v2 : Int32} {w : WH} {r : (Int32 × WH)} (h : fX1_usesIt v0 v1 v2 w = some r)   (hR : RepH G A w H) (hS : Cu A s w0 w H locs) (hl : lv_has ls 3 [(0, .ref v0), (1, .int v1), (2, .int v2)]) : W p l e (hRm 18 410 w0) s m args below meth c H locs (wC w0 - wC w) (wS w0 - wS w) (hZ below args s G A w0 (some (.int r.1)) r.2) (F0 m 0 ls []) := by
  have B0 := B
  obtain ⟨hx, hb, hml, hown, hts, hr, hlk, hK⟩ := B0
  unfold fX1_usesIt at h
  refine lv_aload_n hx hb dX1_usesIt_0 rfl (lv_at hl 0 rfl) ?_
  replace h := bo_o h
  obtain ⟨x1, e2, h⟩ := h
  refine h_get (ci := 17) (k := 1) (v := va_rf x1) hx hb hts hown hK hR in_X1 rfl (by decide) (fun _ _ => rfl) q664 (fun _ h9 => h9) (gR_o e2) dX1_usesIt_1 ?_
  refine lv_aload_n hx hb dX1_usesIt_4 rfl (lv_at hl 0 rfl) ?_
  replace h := bo_o h
  obtain ⟨x3, e4, h⟩ := h
  refine h_get (ci := 17) (k := 0) (v := va_rf x3) hx hb hts hown hK hR in_X1 rfl (by decide) (fun _ _ => rfl) q662 (fun _ h9 => h9) (gR_o e4) dX1_usesIt_5 ?_
  refine lv_aload_n hx hb dX1_usesIt_8 rfl (lv_at hl 0 rfl) ?_
  replace h := bo_o h
  obtain ⟨x5, e6, h⟩ := h
  refine h_get (ci := 17) (k := 0) (v := va_rf x5) hx hb hts hown hK hR in_X1 rfl (by decide) (fun _ _ => rfl) q662 (fun _ h9 => h9) (gR_o e6) dX1_usesIt_9 ?_
  replace h := bo_o h
  obtain ⟨a7, e8, h⟩ := h
  subst e8
  replace h := bo_o h
  obtain ⟨x9, e10, h⟩ := h
  refine h_getN (ci := 21) (k := 0) (v := va_rf x9) hx hb hts hown hK hR in_X2 rfl (by decide) (fun _ _ => rfl) (hK.fn 15 rfl) (fun _ h9 => h9) (gR_o e10) dX1_usesIt_12 ?_
  replace h := bo_o h
  obtain ⟨a11, e12, h⟩ := h
  subst e12
  replace h := bo_o h
  obtain ⟨x13, e14, h⟩ := h
  refine h_getN (ci := 22) (k := 2) (v := va_rf x13) hx hb hts hown hK hR in_X3 rfl (by decide) (fun _ _ => rfl) (hK.fn 10 rfl) (fun _ h9 => h9) (gR_o e14) dX1_usesIt_15 ?_
  refine lv_iload_n hx hb dX1_usesIt_18 rfl (lv_at hl 1 rfl) ?_
  replace h := bo_o h
  obtain ⟨a15, e16, h⟩ := h
  subst e16
  replace h := bo_o h
  obtain ⟨_, e18, h⟩ := h
  replace h := b2_o h
  obtain ⟨x20, w17, e19, h⟩ := h
  refine h_callF 1  (As := [.int v1]) (rest := [va_rf x3, va_rf x1]) (v := (some (va_rf x20))) (w' := w17) (st1 := [va_rf x20, va_rf x3, va_rf x1]) hx hb hml hown hts hK hR hS (Nat.le_refl _) (Nat.le_refl _) (h_recv (ci := 2) hK hR hS rfl e18) (mJ2_get e19) (lw_app (a := [.methodLink _ _ _, .selects _ _ _, .instanceMethod _, .initialized _]) (lw_4 q1205 q1208 q1210 q117) (lw_meth q1212)) (hK.fw 1 rfl) (by decide +kernel) (Nat.le_of_ble_eq_true rfl) (Nat.le_of_ble_eq_true rfl) rfl hl.1 (cat_le (Nat.le_of_ble_eq_true rfl)) dX1_usesIt_19 rfl rfl (fun H locs hR hS => ?_)
  replace h := bo_o h
  obtain ⟨a21, e22, h⟩ := h
  subst e22
  replace h := bo_o h
  obtain ⟨_, e23, h⟩ := h
  refine h_castS (ci := 28) hx hb hts hown hK hR hS rfl e23 q1265 dX1_usesIt_24 ?_
  replace h := bo_o h
  obtain ⟨a24, e25, h⟩ := h
  subst e25
  replace h := bo_o h
  obtain ⟨a26, e27, h⟩ := h
  subst e27
  replace h := bo_o h
  obtain ⟨_, e29, h⟩ := h
  replace h := b2_o h
  obtain ⟨x31, w28, e30, h⟩ := h
  refine h_callV 2 (ci := 23) (As := [.ref a26, .ref a21]) (rest := []) (v := (some (.int x31))) (w' := w28) (st1 := [.int x31]) hx hb hml hown hts hK hR hS (Nat.le_refl _) (Nat.le_refl _) rfl e29 (mX4_walk e30) (lw_V q1266 q1267 q1268 q135 q1269) (by decide +kernel) (Nat.le_of_ble_eq_true rfl) (Nat.le_of_ble_eq_true rfl) rfl hl.1 (Nat.le_of_ble_eq_true rfl) dX1_usesIt_27 rfl rfl (fun H locs hR hS => ?_)
  refine lv_if_eq (tgt := 48) hx hb dX1_usesIt_30 (by decide) (fun c32 => ?_) (fun c32 => ?_)
  · replace h := it_o c32 h
    refine lv_iconst (v := 0) hx hb dX1_usesIt_48 (by decide) ?_
    have eR := Option.some.inj h
    subst eR
    exact h_zfin hx hb hr hlk (by show narrow .boolean (.int 0) = .int 0; decide) hR hS dX1_usesIt_49
  · replace h := if_o c32 h
    refine lv_aload_n hx hb dX1_usesIt_33 rfl (lv_at hl 0 rfl) ?_
    replace h := bo_o h
    obtain ⟨x33, e34, h⟩ := h
    refine h_get (ci := 17) (k := 1) (v := va_rf x33) hx hb hts hown hK hR in_X1 rfl (by decide) (fun _ _ => rfl) q664 (fun _ h9 => h9) (gR_o e34) dX1_usesIt_34 ?_
    refine lv_iload_n hx hb dX1_usesIt_37 rfl (lv_at hl 2 rfl) ?_
    replace h := bo_o h
    obtain ⟨a35, e36, h⟩ := h
    subst e36
    replace h := bo_o h
    obtain ⟨_, e38, h⟩ := h
    replace h := b2_o h
    obtain ⟨x40, w37, e39, h⟩ := h
    refine h_callV 1 (ci := 23) (As := [.int v2]) (rest := []) (v := (some (.int x40))) (w' := w37) (st1 := [.int x40]) hx hb hml hown hts hK hR hS (Nat.le_refl _) (Nat.le_refl _) rfl e38 (mX4_has e39) (lw_V q1404 q1405 q1406 q135 q1407) (by decide +kernel) (Nat.le_of_ble_eq_true rfl) (Nat.le_of_ble_eq_true rfl) rfl hl.1 (Nat.le_of_ble_eq_true rfl) dX1_usesIt_38 rfl rfl (fun H locs hR hS => ?_)
    refine lv_if_eq (tgt := 48) hx hb dX1_usesIt_41 (by decide) (fun c41 => ?_) (fun c41 => ?_)
    · replace h := it_o c41 h
      refine lv_iconst (v := 0) hx hb dX1_usesIt_48 (by decide) ?_
      have eR := Option.some.inj h
      subst eR
      exact h_zfin hx hb hr hlk (by show narrow .boolean (.int 0) = .int 0; decide) hR hS dX1_usesIt_49
    · replace h := if_o c41 h
      refine lv_iconst (v := 1) hx hb dX1_usesIt_44 (by decide) ?_
      refine lv_goto (tgt := 49) hx hb dX1_usesIt_45 (by decide) ?_
      have eR := Option.some.inj h
      subst eR
      exact h_zfin hx hb hr hlk (by show narrow .boolean (.int 1) = .int 1; decide) hR hS dX1_usesIt_49
theorem mX1_usesIt {l : Launch} {G : gE} {A : Nat → Prop} {v0 : Nat} {v1 : Int32} {v2 : Int32} {w : WH} {r : (Int32 × WH)} (h : fX1_usesIt v0 v1 v2 w = some r) : hM l G A yX1_usesIt cX1_usesIt 3 (some .boolean) 18 410 [.ref v0, .int v1, .int v2] w (some (.int r.1)) r.2 :=
  h_of (by decide +kernel) (Nat.le_of_ble_eq_true rfl) (fun p e s m args below meth c ls B hnm hR hS hl => bX1_usesIt_0 B h hR hS hl)
noncomputable def fX1_usersOf_b40 (v0 : Nat) (v1 : Int32) (v3 : Int32) (s0 : Int32) (s1 : Int32) (w : WH) : Option (Sum (Int32 × Int32 × WH) ((Int32 × WH))) :=
  nm_ (s0 ||| s1) fun x1 =>
  some (.inl (x1, v3 + 1, w))
theorem bX1_usersOf_40 {p : Program} {l : Launch} {e : Env} {s : State} {m : MethodId} {args : Array Value} {below : List Frame} {meth : Method} {c : Code} {H : Heap} {locs : List Loc} {ls : Array Slot} {G : gE} {A : Nat → Prop} {w0 : WH} (B : gB G RX1 cX1_usersOf 4 (some .int) p s m args meth c) {v0 : Nat} {v1 : Int32} {v3 : Int32} {s0 : Int32} {s1 : Int32} {w : WH} {x : Sum (Int32 × Int32 × WH) ((Int32 × WH))} {r : (Int32 × WH)} (h : fX1_usersOf_b40 v0 v1 v3 s0 s1 w = some x)  (k4 : ∀ (v2' : Int32) (v3' : Int32) (w' : WH), x = (.inl (v2', v3', w')) → ∀ (H : Heap) (locs : List Loc) (ls : Array Slot), RepH G A w' H → Cu A s w0 w' H locs → lv_has ls 4 [(0, .ref v0), (1, .int v1), (2, .int v2'), (3, .int v3')] → W p l e (hRm 19 432 w0) s m args below meth c H locs (wC w0 - wC w') (wS w0 - wS w') (hZ below args s G A w0 (some (.int r.1)) r.2) (F0 m 4 ls [])) (kR : ∀ q, x = (.inr q) → q = r) (hR : RepH G A w H) (hS : Cu A s w0 w H locs) (hl : lv_has ls 4 [(0, .ref v0), (1, .int v1), (3, .int v3)]) : W p l e (hRm 19 432 w0) s m args below meth c H locs (wC w0 - wC w) (wS w0 - wS w) (hZ below args s G A w0 (some (.int r.1)) r.2) (F0 m 40 ls [.int s1, .int s0]) := by
  have B0 := B
  obtain ⟨hx, hb, hml, hown, hts, hr, hlk, hK⟩ := B0
  unfold fX1_usersOf_b40 at h
  refine lv_ior hx hb dX1_usersOf_40 ?_
  replace h := nm_o h
  obtain ⟨x1, e2, h⟩ := h
  refine lv_istore_n (lv' := [(2, .int x1), (0, .ref v0), (1, .int v1), (3, .int v3)]) hx hb dX1_usersOf_41 rfl hl (by decide) (by subst e2; rfl) (fun ls hl => ?_)
  refine lv_iinc (v := v3 + 1) (lv' := [(3, .int (v3 + 1)), (2, .int x1), (0, .ref v0), (1, .int v1)]) hx hb dX1_usersOf_42 hl (k := 3) rfl rfl (by decide) rfl (fun ls hl => ?_)
  refine lv_goto (tgt := 4) hx hb dX1_usersOf_45 (by decide) ?_
  exact k4 _ _ _ (Option.some.inj h).symm H locs ls hR hS (lv_sub hl [2, 3, 1, 0] rfl)
noncomputable def fX1_usersOf_b4 (v0 : Nat) (v1 : Int32) (v2 : Int32) (v3 : Int32) (w : WH) : Option (Sum (Int32 × Int32 × WH) ((Int32 × WH))) :=
  (gR w v0 17 0).bind fun x1 =>
  x1.bind fun a3 =>
  (gR w a3 21 0).bind fun x5 =>
  x5.bind fun a7 =>
  (gR w a7 22 2).bind fun x9 =>
  x9.bind fun a11 =>
  (hIs w a11 2).bind fun _ =>
  b2_ (fJ2_size a11 w) fun x16 w13 =>
  if x16 ≤ v3 then (
    some (.inr (v2, w13))
  ) else (
    (hIs w13 v0 17).bind fun _ =>
    b2_ (fX1_usesIt v0 v3 v1 w13) fun x21 w18 =>
    if x21 = 0 then (
      fX1_usersOf_b40 v0 v1 v3 v2 0 w18
    ) else (
      fX1_usersOf_b40 v0 v1 v3 v2 ((1 : Int32) <<< (v3 &&& 31)) w18
    )
  )
theorem bX1_usersOf_4 {p : Program} {l : Launch} {e : Env} {s : State} {m : MethodId} {args : Array Value} {below : List Frame} {meth : Method} {c : Code} {H : Heap} {locs : List Loc} {ls : Array Slot} {G : gE} {A : Nat → Prop} {w0 : WH} (B : gB G RX1 cX1_usersOf 4 (some .int) p s m args meth c) {v0 : Nat} {v1 : Int32} {v2 : Int32} {v3 : Int32} {w : WH} {x : Sum (Int32 × Int32 × WH) ((Int32 × WH))} {r : (Int32 × WH)} (h : fX1_usersOf_b4 v0 v1 v2 v3 w = some x)  (k4 : ∀ (v2' : Int32) (v3' : Int32) (w' : WH), x = (.inl (v2', v3', w')) → ∀ (H : Heap) (locs : List Loc) (ls : Array Slot), RepH G A w' H → Cu A s w0 w' H locs → lv_has ls 4 [(0, .ref v0), (1, .int v1), (2, .int v2'), (3, .int v3')] → W p l e (hRm 19 432 w0) s m args below meth c H locs (wC w0 - wC w') (wS w0 - wS w') (hZ below args s G A w0 (some (.int r.1)) r.2) (F0 m 4 ls [])) (kR : ∀ q, x = (.inr q) → q = r) (hR : RepH G A w H) (hS : Cu A s w0 w H locs) (hl : lv_has ls 4 [(0, .ref v0), (1, .int v1), (2, .int v2), (3, .int v3)]) : W p l e (hRm 19 432 w0) s m args below meth c H locs (wC w0 - wC w) (wS w0 - wS w) (hZ below args s G A w0 (some (.int r.1)) r.2) (F0 m 4 ls []) := by
  have B0 := B
  obtain ⟨hx, hb, hml, hown, hts, hr, hlk, hK⟩ := B0
  unfold fX1_usersOf_b4 at h
  refine lv_iload_n hx hb dX1_usersOf_4 rfl (lv_at hl 3 rfl) ?_
  refine lv_aload_n hx hb dX1_usersOf_5 rfl (lv_at hl 0 rfl) ?_
  replace h := bo_o h
  obtain ⟨x1, e2, h⟩ := h
  refine h_get (ci := 17) (k := 0) (v := va_rf x1) hx hb hts hown hK hR in_X1 rfl (by decide) (fun _ _ => rfl) q662 (fun _ h9 => h9) (gR_o e2) dX1_usersOf_6 ?_
  replace h := bo_o h
  obtain ⟨a3, e4, h⟩ := h
  subst e4
  replace h := bo_o h
  obtain ⟨x5, e6, h⟩ := h
  refine h_getN (ci := 21) (k := 0) (v := va_rf x5) hx hb hts hown hK hR in_X2 rfl (by decide) (fun _ _ => rfl) (hK.fn 15 rfl) (fun _ h9 => h9) (gR_o e6) dX1_usersOf_9 ?_
  replace h := bo_o h
  obtain ⟨a7, e8, h⟩ := h
  subst e8
  replace h := bo_o h
  obtain ⟨x9, e10, h⟩ := h
  refine h_getN (ci := 22) (k := 2) (v := va_rf x9) hx hb hts hown hK hR in_X3 rfl (by decide) (fun _ _ => rfl) (hK.fn 10 rfl) (fun _ h9 => h9) (gR_o e10) dX1_usersOf_12 ?_
  replace h := bo_o h
  obtain ⟨a11, e12, h⟩ := h
  subst e12
  replace h := bo_o h
  obtain ⟨_, e14, h⟩ := h
  replace h := b2_o h
  obtain ⟨x16, w13, e15, h⟩ := h
  refine h_callF 0  (As := []) (rest := [.int v3]) (v := (some (.int x16))) (w' := w13) (st1 := [.int x16, .int v3]) hx hb hml hown hts hK hR hS (Nat.le_refl _) (Nat.le_refl _) (h_recv (ci := 2) hK hR hS rfl e14) (mJ2_size e15) (lw_app (a := [.methodLink _ _ _, .selects _ _ _, .instanceMethod _, .initialized _]) (lw_4 q1076 q903 q905 q117) (lw_meth q907)) (hK.fw 0 rfl) (by decide +kernel) (Nat.le_of_ble_eq_true rfl) (Nat.le_of_ble_eq_true rfl) rfl hl.1 (Nat.le_of_ble_eq_true rfl) dX1_usersOf_15 rfl rfl (fun H locs hR hS => ?_)
  refine lv_icmp_ge (tgt := 48) hx hb dX1_usersOf_20 (by decide) (fun c17 => ?_) (fun c17 => ?_)
  · replace h := it_o c17 h
    refine lv_iload_n hx hb dX1_usersOf_48 rfl (lv_at hl 2 rfl) ?_
    have eR := kR _ (Option.some.inj h).symm
    subst eR
    exact h_ifin hx hb hr hlk hR hS dX1_usersOf_49
  · replace h := if_o c17 h
    refine lv_iload_n hx hb dX1_usersOf_23 rfl (lv_at hl 2 rfl) ?_
    refine lv_aload_n hx hb dX1_usersOf_24 rfl (lv_at hl 0 rfl) ?_
    refine lv_iload_n hx hb dX1_usersOf_25 rfl (lv_at hl 3 rfl) ?_
    refine lv_iload_n hx hb dX1_usersOf_26 rfl (lv_at hl 1 rfl) ?_
    replace h := bo_o h
    obtain ⟨_, e19, h⟩ := h
    replace h := b2_o h
    obtain ⟨x21, w18, e20, h⟩ := h
    refine h_callV 2 (ci := 17) (As := [.int v3, .int v1]) (rest := [.int v2]) (v := (some (.int x21))) (w' := w18) (st1 := [.int x21, .int v2]) hx hb hml hown hts hK hR hS (Nat.le_refl _) (Nat.le_refl _) rfl e19 (mX1_usesIt e20) (lw_V q1200 q1202 qs23 q112 q1203) (by decide +kernel) (Nat.le_of_ble_eq_true rfl) (Nat.le_of_ble_eq_true rfl) rfl hl.1 (Nat.le_of_ble_eq_true rfl) dX1_usersOf_27 rfl rfl (fun H locs hR hS => ?_)
    refine lv_if_eq (tgt := 39) hx hb dX1_usersOf_30 (by decide) (fun c22 => ?_) (fun c22 => ?_)
    · replace h := it_o c22 h
      refine lv_iconst (v := 0) hx hb dX1_usersOf_39 (by decide) ?_
      exact bX1_usersOf_40 B h k4 kR hR hS (lv_sub hl [0, 1, 3] rfl)
    · replace h := if_o c22 h
      refine lv_iconst (v := 1) hx hb dX1_usersOf_33 (by decide) ?_
      refine lv_iload_n hx hb dX1_usersOf_34 rfl (lv_at hl 3 rfl) ?_
      refine lv_ishl hx hb dX1_usersOf_35 ?_
      refine lv_goto (tgt := 40) hx hb dX1_usersOf_36 (by decide) ?_
      exact bX1_usersOf_40 B h k4 kR hR hS (lv_sub hl [0, 1, 3] rfl)
noncomputable def fX1_usersOf_l4 (v0 : Nat) (v1 : Int32) (v2 : Int32) (v3 : Int32) (w : WH) : Option ((Int32 × WH)) := whileO (fun q => fX1_usersOf_b4 v0 v1 q.1 q.2.1 q.2.2) (v2, v3, w)
theorem lX1_usersOf_4 {p : Program} {l : Launch} {e : Env} {s : State} {m : MethodId} {args : Array Value} {below : List Frame} {meth : Method} {c : Code} {G : gE} {A : Nat → Prop} {w0 : WH} (B : gB G RX1 cX1_usersOf 4 (some .int) p s m args meth c) {v0 : Nat} {v1 : Int32} {r : (Int32 × WH)}   : ∀ (v2 : Int32) (v3 : Int32) (w : WH), fX1_usersOf_l4 v0 v1 v2 v3 w = some r → ∀ (H : Heap) (locs : List Loc) (ls : Array Slot), RepH G A w H → Cu A s w0 w H locs → lv_has ls 4 [(0, .ref v0), (1, .int v1), (2, .int v2), (3, .int v3)] → W p l e (hRm 19 432 w0) s m args below meth c H locs (wC w0 - wC w) (wS w0 - wS w) (hZ below args s G A w0 (some (.int r.1)) r.2) (F0 m 4 ls []) := by
  intro v2 v3 w h
  refine wh_walk (body := (fun q => fX1_usersOf_b4 v0 v1 q.1 q.2.1 q.2.2)) (P := (fun q : (Int32 × Int32 × WH) => ∀ (H : Heap) (locs : List Loc) (ls : Array Slot), RepH G A (q.2.2) H → Cu A s w0 (q.2.2) H locs → lv_has ls 4 [(0, .ref v0), (1, .int v1), (2, .int (q.1)), (3, .int (q.2.1))] → W p l e (hRm 19 432 w0) s m args below meth c H locs (wC w0 - wC (q.2.2)) (wS w0 - wS (q.2.2)) (hZ below args s G A w0 (some (.int r.1)) r.2) (F0 m 4 ls []))) (r := r) ?_ (v2, v3, w) h
  intro q y hy hL hr H locs ls hR hS hl
  exact bX1_usersOf_4 (r := r) B hy (fun a0 a1 a2 e => hL (a0, a1, a2) e) (fun q e => hr q e) hR hS hl
noncomputable def fX1_usersOf (v0 : Nat) (v1 : Int32) (w : WH) : Option ((Int32 × WH)) :=
  fX1_usersOf_l4 v0 v1 0 0 w
theorem bX1_usersOf_0 {p : Program} {l : Launch} {e : Env} {s : State} {m : MethodId} {args : Array Value} {below : List Frame} {meth : Method} {c : Code} {H : Heap} {locs : List Loc} {ls : Array Slot} {G : gE} {A : Nat → Prop} {w0 : WH} (B : gB G RX1 cX1_usersOf 4 (some .int) p s m args meth c) {v0 : Nat} {v1 : Int32} {w : WH} {r : (Int32 × WH)} (h : fX1_usersOf v0 v1 w = some r)   (hR : RepH G A w H) (hS : Cu A s w0 w H locs) (hl : lv_has ls 4 [(0, .ref v0), (1, .int v1)]) : W p l e (hRm 19 432 w0) s m args below meth c H locs (wC w0 - wC w) (wS w0 - wS w) (hZ below args s G A w0 (some (.int r.1)) r.2) (F0 m 0 ls []) := by
  have B0 := B
  obtain ⟨hx, hb, hml, hown, hts, hr, hlk, hK⟩ := B0
  unfold fX1_usersOf at h
  refine lv_iconst (v := 0) hx hb dX1_usersOf_0 (by decide) ?_
  refine lv_istore_n (lv' := [(2, .int 0), (0, .ref v0), (1, .int v1)]) hx hb dX1_usersOf_1 rfl hl (by decide) rfl (fun ls hl => ?_)
  refine lv_iconst (v := 0) hx hb dX1_usersOf_2 (by decide) ?_
  refine lv_istore_n (lv' := [(3, .int 0), (2, .int 0), (0, .ref v0), (1, .int v1)]) hx hb dX1_usersOf_3 rfl hl (by decide) rfl (fun ls hl => ?_)
  exact lX1_usersOf_4 B _ _ _ h H locs ls hR hS (lv_sub hl [2, 3, 1, 0] rfl)
theorem mX1_usersOf {l : Launch} {G : gE} {A : Nat → Prop} {v0 : Nat} {v1 : Int32} {w : WH} {r : (Int32 × WH)} (h : fX1_usersOf v0 v1 w = some r) : hM l G A yX1_usersOf cX1_usersOf 4 (some .int) 19 432 [.ref v0, .int v1] w (some (.int r.1)) r.2 :=
  h_of (by decide +kernel) (Nat.le_of_ble_eq_true rfl) (fun p e s m args below meth c ls B hnm hR hS hl => bX1_usersOf_0 B h hR hS hl)
noncomputable def fX1_flowOf_b56 (v0 : Nat) (v2 : Int32) (v4 : Int32) (s0 : Int32) (s1 : Int32) (w : WH) : Option (Sum (Int32 × Int32 × WH) ((Int32 × WH))) :=
  nm_ (s0 + s1) fun x1 =>
  some (.inl (x1, v4 + 1, w))
theorem bX1_flowOf_56 {p : Program} {l : Launch} {e : Env} {s : State} {m : MethodId} {args : Array Value} {below : List Frame} {meth : Method} {c : Code} {H : Heap} {locs : List Loc} {ls : Array Slot} {G : gE} {A : Nat → Prop} {w0 : WH} (B : gB G RX1 cX1_flowOf 5 (some .int) p s m args meth c) {v0 : Nat} {v2 : Int32} {v4 : Int32} {s0 : Int32} {s1 : Int32} {w : WH} {x : Sum (Int32 × Int32 × WH) ((Int32 × WH))} {r : (Int32 × WH)} (h : fX1_flowOf_b56 v0 v2 v4 s0 s1 w = some x)  (k11 : ∀ (v3' : Int32) (v4' : Int32) (w' : WH), x = (.inl (v3', v4', w')) → ∀ (H : Heap) (locs : List Loc) (ls : Array Slot), RepH G A w' H → Cu A s w0 w' H locs → lv_has ls 5 [(0, .ref v0), (2, .int v2), (3, .int v3'), (4, .int v4')] → W p l e (hRm 20 455 w0) s m args below meth c H locs (wC w0 - wC w') (wS w0 - wS w') (hZ below args s G A w0 (some (.int r.1)) r.2) (F0 m 11 ls [])) (kR : ∀ q, x = (.inr q) → q = r) (hR : RepH G A w H) (hS : Cu A s w0 w H locs) (hl : lv_has ls 5 [(0, .ref v0), (2, .int v2), (4, .int v4)]) : W p l e (hRm 20 455 w0) s m args below meth c H locs (wC w0 - wC w) (wS w0 - wS w) (hZ below args s G A w0 (some (.int r.1)) r.2) (F0 m 56 ls [.int s1, .int s0]) := by
  have B0 := B
  obtain ⟨hx, hb, hml, hown, hts, hr, hlk, hK⟩ := B0
  unfold fX1_flowOf_b56 at h
  refine lv_iadd hx hb dX1_flowOf_56 ?_
  replace h := nm_o h
  obtain ⟨x1, e2, h⟩ := h
  refine lv_istore_n (lv' := [(3, .int x1), (0, .ref v0), (2, .int v2), (4, .int v4)]) hx hb dX1_flowOf_57 rfl hl (by decide) (by subst e2; rfl) (fun ls hl => ?_)
  refine lv_iinc (v := v4 + 1) (lv' := [(4, .int (v4 + 1)), (3, .int x1), (0, .ref v0), (2, .int v2)]) hx hb dX1_flowOf_58 hl (k := 3) rfl rfl (by decide) rfl (fun ls hl => ?_)
  refine lv_goto (tgt := 11) hx hb dX1_flowOf_61 (by decide) ?_
  exact k11 _ _ _ (Option.some.inj h).symm H locs ls hR hS (lv_sub hl [2, 3, 1, 0] rfl)
noncomputable def fX1_flowOf_b11 (v0 : Nat) (v2 : Int32) (v3 : Int32) (v4 : Int32) (w : WH) : Option (Sum (Int32 × Int32 × WH) ((Int32 × WH))) :=
  (gR w v0 17 0).bind fun x1 =>
  x1.bind fun a3 =>
  (gR w a3 21 0).bind fun x5 =>
  x5.bind fun a7 =>
  (gR w a7 22 2).bind fun x9 =>
  x9.bind fun a11 =>
  (hIs w a11 2).bind fun _ =>
  b2_ (fJ2_size a11 w) fun x16 w13 =>
  if x16 ≤ v4 then (
    some (.inr (v3, w13))
  ) else (
    if (v2 >>> (v4 &&& 31)) &&& 1 = 1 then (
      (gR w13 v0 17 0).bind fun x19 =>
      x19.bind fun a21 =>
      (gR w13 a21 21 2).bind fun x23 =>
      x23.bind fun a25 =>
      (ldI w13 a25 0 v4).bind fun x27 =>
      fX1_flowOf_b56 v0 v2 v4 v3 x27 w13
    ) else (
      fX1_flowOf_b56 v0 v2 v4 v3 0 w13
    )
  )
theorem bX1_flowOf_11 {p : Program} {l : Launch} {e : Env} {s : State} {m : MethodId} {args : Array Value} {below : List Frame} {meth : Method} {c : Code} {H : Heap} {locs : List Loc} {ls : Array Slot} {G : gE} {A : Nat → Prop} {w0 : WH} (B : gB G RX1 cX1_flowOf 5 (some .int) p s m args meth c) {v0 : Nat} {v2 : Int32} {v3 : Int32} {v4 : Int32} {w : WH} {x : Sum (Int32 × Int32 × WH) ((Int32 × WH))} {r : (Int32 × WH)} (h : fX1_flowOf_b11 v0 v2 v3 v4 w = some x)  (k11 : ∀ (v3' : Int32) (v4' : Int32) (w' : WH), x = (.inl (v3', v4', w')) → ∀ (H : Heap) (locs : List Loc) (ls : Array Slot), RepH G A w' H → Cu A s w0 w' H locs → lv_has ls 5 [(0, .ref v0), (2, .int v2), (3, .int v3'), (4, .int v4')] → W p l e (hRm 20 455 w0) s m args below meth c H locs (wC w0 - wC w') (wS w0 - wS w') (hZ below args s G A w0 (some (.int r.1)) r.2) (F0 m 11 ls [])) (kR : ∀ q, x = (.inr q) → q = r) (hR : RepH G A w H) (hS : Cu A s w0 w H locs) (hl : lv_has ls 5 [(0, .ref v0), (2, .int v2), (3, .int v3), (4, .int v4)]) : W p l e (hRm 20 455 w0) s m args below meth c H locs (wC w0 - wC w) (wS w0 - wS w) (hZ below args s G A w0 (some (.int r.1)) r.2) (F0 m 11 ls []) := by
  have B0 := B
  obtain ⟨hx, hb, hml, hown, hts, hr, hlk, hK⟩ := B0
  unfold fX1_flowOf_b11 at h
  refine lv_iload hx hb dX1_flowOf_11 (lv_at hl 3 rfl) ?_
  refine lv_aload_n hx hb dX1_flowOf_13 rfl (lv_at hl 0 rfl) ?_
  replace h := bo_o h
  obtain ⟨x1, e2, h⟩ := h
  refine h_get (ci := 17) (k := 0) (v := va_rf x1) hx hb hts hown hK hR in_X1 rfl (by decide) (fun _ _ => rfl) q662 (fun _ h9 => h9) (gR_o e2) dX1_flowOf_14 ?_
  replace h := bo_o h
  obtain ⟨a3, e4, h⟩ := h
  subst e4
  replace h := bo_o h
  obtain ⟨x5, e6, h⟩ := h
  refine h_getN (ci := 21) (k := 0) (v := va_rf x5) hx hb hts hown hK hR in_X2 rfl (by decide) (fun _ _ => rfl) (hK.fn 15 rfl) (fun _ h9 => h9) (gR_o e6) dX1_flowOf_17 ?_
  replace h := bo_o h
  obtain ⟨a7, e8, h⟩ := h
  subst e8
  replace h := bo_o h
  obtain ⟨x9, e10, h⟩ := h
  refine h_getN (ci := 22) (k := 2) (v := va_rf x9) hx hb hts hown hK hR in_X3 rfl (by decide) (fun _ _ => rfl) (hK.fn 10 rfl) (fun _ h9 => h9) (gR_o e10) dX1_flowOf_20 ?_
  replace h := bo_o h
  obtain ⟨a11, e12, h⟩ := h
  subst e12
  replace h := bo_o h
  obtain ⟨_, e14, h⟩ := h
  replace h := b2_o h
  obtain ⟨x16, w13, e15, h⟩ := h
  refine h_callF 0  (As := []) (rest := [.int v4]) (v := (some (.int x16))) (w' := w13) (st1 := [.int x16, .int v4]) hx hb hml hown hts hK hR hS (Nat.le_refl _) (Nat.le_refl _) (h_recv (ci := 2) hK hR hS rfl e14) (mJ2_size e15) (lw_app (a := [.methodLink _ _ _, .selects _ _ _, .instanceMethod _, .initialized _]) (lw_4 q1076 q903 q905 q117) (lw_meth q907)) (hK.fw 0 rfl) (by decide +kernel) (Nat.le_of_ble_eq_true rfl) (Nat.le_of_ble_eq_true rfl) rfl hl.1 (Nat.le_of_ble_eq_true rfl) dX1_flowOf_23 rfl rfl (fun H locs hR hS => ?_)
  refine lv_icmp_ge (tgt := 64) hx hb dX1_flowOf_28 (by decide) (fun c17 => ?_) (fun c17 => ?_)
  · replace h := it_o c17 h
    refine lv_iload_n hx hb dX1_flowOf_64 rfl (lv_at hl 2 rfl) ?_
    have eR := kR _ (Option.some.inj h).symm
    subst eR
    exact h_ifin hx hb hr hlk hR hS dX1_flowOf_65
  · replace h := if_o c17 h
    refine lv_iload_n hx hb dX1_flowOf_31 rfl (lv_at hl 2 rfl) ?_
    refine lv_iload_n hx hb dX1_flowOf_32 rfl (lv_at hl 1 rfl) ?_
    refine lv_iload hx hb dX1_flowOf_33 (lv_at hl 3 rfl) ?_
    refine lv_ishr hx hb dX1_flowOf_35 ?_
    refine lv_iconst (v := 1) hx hb dX1_flowOf_36 (by decide) ?_
    refine lv_iand hx hb dX1_flowOf_37 ?_
    refine lv_iconst (v := 1) hx hb dX1_flowOf_38 (by decide) ?_
    refine lv_icmp_ne (tgt := 55) hx hb dX1_flowOf_39 (by decide) (fun c18 => ?_) (fun c18 => ?_)
    · replace h := if_o c18 h
      refine lv_iconst (v := 0) hx hb dX1_flowOf_55 (by decide) ?_
      exact bX1_flowOf_56 B h k11 kR hR hS (lv_sub hl [0, 1, 3] rfl)
    · replace h := it_o c18 h
      refine lv_aload_n hx hb dX1_flowOf_42 rfl (lv_at hl 0 rfl) ?_
      replace h := bo_o h
      obtain ⟨x19, e20, h⟩ := h
      refine h_get (ci := 17) (k := 0) (v := va_rf x19) hx hb hts hown hK hR in_X1 rfl (by decide) (fun _ _ => rfl) q662 (fun _ h9 => h9) (gR_o e20) dX1_flowOf_43 ?_
      replace h := bo_o h
      obtain ⟨a21, e22, h⟩ := h
      subst e22
      replace h := bo_o h
      obtain ⟨x23, e24, h⟩ := h
      refine h_getN (ci := 21) (k := 2) (v := va_rf x23) hx hb hts hown hK hR in_X2 rfl (by decide) (fun _ _ => rfl) (hK.fn 19 rfl) (fun _ h9 => h9) (gR_o e24) dX1_flowOf_46 ?_
      refine lv_iload hx hb dX1_flowOf_49 (lv_at hl 3 rfl) ?_
      replace h := bo_o h
      obtain ⟨a25, e26, h⟩ := h
      subst e26
      replace h := bo_o h
      obtain ⟨x27, e28, h⟩ := h
      refine h_iald hx hb hK hR e28 dX1_flowOf_51 ?_
      refine lv_goto (tgt := 56) hx hb dX1_flowOf_52 (by decide) ?_
      exact bX1_flowOf_56 B h k11 kR hR hS (lv_sub hl [0, 1, 3] rfl)
noncomputable def fX1_flowOf_l11 (v0 : Nat) (v2 : Int32) (v3 : Int32) (v4 : Int32) (w : WH) : Option ((Int32 × WH)) := whileO (fun q => fX1_flowOf_b11 v0 v2 q.1 q.2.1 q.2.2) (v3, v4, w)
theorem lX1_flowOf_11 {p : Program} {l : Launch} {e : Env} {s : State} {m : MethodId} {args : Array Value} {below : List Frame} {meth : Method} {c : Code} {G : gE} {A : Nat → Prop} {w0 : WH} (B : gB G RX1 cX1_flowOf 5 (some .int) p s m args meth c) {v0 : Nat} {v2 : Int32} {r : (Int32 × WH)}   : ∀ (v3 : Int32) (v4 : Int32) (w : WH), fX1_flowOf_l11 v0 v2 v3 v4 w = some r → ∀ (H : Heap) (locs : List Loc) (ls : Array Slot), RepH G A w H → Cu A s w0 w H locs → lv_has ls 5 [(0, .ref v0), (2, .int v2), (3, .int v3), (4, .int v4)] → W p l e (hRm 20 455 w0) s m args below meth c H locs (wC w0 - wC w) (wS w0 - wS w) (hZ below args s G A w0 (some (.int r.1)) r.2) (F0 m 11 ls []) := by
  intro v3 v4 w h
  refine wh_walk (body := (fun q => fX1_flowOf_b11 v0 v2 q.1 q.2.1 q.2.2)) (P := (fun q : (Int32 × Int32 × WH) => ∀ (H : Heap) (locs : List Loc) (ls : Array Slot), RepH G A (q.2.2) H → Cu A s w0 (q.2.2) H locs → lv_has ls 5 [(0, .ref v0), (2, .int v2), (3, .int (q.1)), (4, .int (q.2.1))] → W p l e (hRm 20 455 w0) s m args below meth c H locs (wC w0 - wC (q.2.2)) (wS w0 - wS (q.2.2)) (hZ below args s G A w0 (some (.int r.1)) r.2) (F0 m 11 ls []))) (r := r) ?_ (v3, v4, w) h
  intro q y hy hL hr H locs ls hR hS hl
  exact bX1_flowOf_11 (r := r) B hy (fun a0 a1 a2 e => hL (a0, a1, a2) e) (fun q e => hr q e) hR hS hl
noncomputable def fX1_flowOf (v0 : Nat) (v1 : Int32) (w : WH) : Option ((Int32 × WH)) :=
  (hIs w v0 17).bind fun _ =>
  b2_ (fX1_usersOf v0 v1 w) fun x4 w1 =>
  fX1_flowOf_l11 v0 x4 0 0 w1
theorem bX1_flowOf_0 {p : Program} {l : Launch} {e : Env} {s : State} {m : MethodId} {args : Array Value} {below : List Frame} {meth : Method} {c : Code} {H : Heap} {locs : List Loc} {ls : Array Slot} {G : gE} {A : Nat → Prop} {w0 : WH} (B : gB G RX1 cX1_flowOf 5 (some .int) p s m args meth c) {v0 : Nat} {v1 : Int32} {w : WH} {r : (Int32 × WH)} (h : fX1_flowOf v0 v1 w = some r)   (hR : RepH G A w H) (hS : Cu A s w0 w H locs) (hl : lv_has ls 5 [(0, .ref v0), (1, .int v1)]) : W p l e (hRm 20 455 w0) s m args below meth c H locs (wC w0 - wC w) (wS w0 - wS w) (hZ below args s G A w0 (some (.int r.1)) r.2) (F0 m 0 ls []) := by
  have B0 := B
  obtain ⟨hx, hb, hml, hown, hts, hr, hlk, hK⟩ := B0
  unfold fX1_flowOf at h
  refine lv_aload_n hx hb dX1_flowOf_0 rfl (lv_at hl 0 rfl) ?_
  refine lv_iload_n hx hb dX1_flowOf_1 rfl (lv_at hl 1 rfl) ?_
  replace h := bo_o h
  obtain ⟨_, e2, h⟩ := h
  replace h := b2_o h
  obtain ⟨x4, w1, e3, h⟩ := h
  refine h_callV 1 (ci := 17) (As := [.int v1]) (rest := []) (v := (some (.int x4))) (w' := w1) (st1 := [.int x4]) hx hb hml hown hts hK hR hS (Nat.le_refl _) (Nat.le_refl _) rfl e2 (mX1_usersOf e3) (lw_V q1196 q1198 qs22 q112 q1199) (by decide +kernel) (Nat.le_of_ble_eq_true rfl) (Nat.le_of_ble_eq_true rfl) rfl hl.1 (Nat.le_of_ble_eq_true rfl) dX1_flowOf_2 rfl rfl (fun H locs hR hS => ?_)
  refine lv_istore_n (lv' := [(2, .int x4), (0, .ref v0), (1, .int v1)]) hx hb dX1_flowOf_5 rfl hl (by decide) rfl (fun ls hl => ?_)
  refine lv_iconst (v := 0) hx hb dX1_flowOf_6 (by decide) ?_
  refine lv_istore_n (lv' := [(3, .int 0), (2, .int x4), (0, .ref v0), (1, .int v1)]) hx hb dX1_flowOf_7 rfl hl (by decide) rfl (fun ls hl => ?_)
  refine lv_iconst (v := 0) hx hb dX1_flowOf_8 (by decide) ?_
  refine lv_istore (lv' := [(4, .int 0), (3, .int 0), (2, .int x4), (0, .ref v0), (1, .int v1)]) hx hb dX1_flowOf_9 hl (by decide) rfl (fun ls hl => ?_)
  exact lX1_flowOf_11 B _ _ _ h H locs ls hR hS (lv_sub hl [3, 2, 1, 0] rfl)
theorem mX1_flowOf {l : Launch} {G : gE} {A : Nat → Prop} {v0 : Nat} {v1 : Int32} {w : WH} {r : (Int32 × WH)} (h : fX1_flowOf v0 v1 w = some r) : hM l G A yX1_flowOf cX1_flowOf 5 (some .int) 20 455 [.ref v0, .int v1] w (some (.int r.1)) r.2 :=
  h_of (by decide +kernel) (Nat.le_of_ble_eq_true rfl) (fun p e s m args below meth c ls B hnm hR hS hl => bX1_flowOf_0 B h hR hS hl)
noncomputable def fX1_busiest_b43 (v0 : Nat) (v2 : Int32) (v3 : Int32) (v4 : Int32) (s0 : Int32) (w : WH) : Option (Sum (Int32 × Int32 × Int32 × WH) ((Int32 × WH))) :=
  nm_ (mxI v2 v4) fun x1 =>
  some (.inl (s0, x1, v3 + 1, w))
theorem bX1_busiest_43 {p : Program} {l : Launch} {e : Env} {s : State} {m : MethodId} {args : Array Value} {below : List Frame} {meth : Method} {c : Code} {H : Heap} {locs : List Loc} {ls : Array Slot} {G : gE} {A : Nat → Prop} {w0 : WH} (B : gB G RX1 cX1_busiest 5 (some .int) p s m args meth c) {v0 : Nat} {v2 : Int32} {v3 : Int32} {v4 : Int32} {s0 : Int32} {w : WH} {x : Sum (Int32 × Int32 × Int32 × WH) ((Int32 × WH))} {r : (Int32 × WH)} (h : fX1_busiest_b43 v0 v2 v3 v4 s0 w = some x)  (k6 : ∀ (v1' : Int32) (v2' : Int32) (v3' : Int32) (w' : WH), x = (.inl (v1', v2', v3', w')) → ∀ (H : Heap) (locs : List Loc) (ls : Array Slot), RepH G A w' H → Cu A s w0 w' H locs → lv_has ls 5 [(0, .ref v0), (1, .int v1'), (2, .int v2'), (3, .int v3')] → W p l e (hRm 21 479 w0) s m args below meth c H locs (wC w0 - wC w') (wS w0 - wS w') (hZ below args s G A w0 (some (.int r.1)) r.2) (F0 m 6 ls [])) (kR : ∀ q, x = (.inr q) → q = r) (hR : RepH G A w H) (hS : Cu A s w0 w H locs) (hl : lv_has ls 5 [(0, .ref v0), (2, .int v2), (3, .int v3), (4, .int v4)]) : W p l e (hRm 21 479 w0) s m args below meth c H locs (wC w0 - wC w) (wS w0 - wS w) (hZ below args s G A w0 (some (.int r.1)) r.2) (F0 m 43 ls [.int s0]) := by
  have B0 := B
  obtain ⟨hx, hb, hml, hown, hts, hr, hlk, hK⟩ := B0
  unfold fX1_busiest_b43 at h
  refine lv_istore_n (lv' := [(1, .int s0), (0, .ref v0), (2, .int v2), (3, .int v3), (4, .int v4)]) hx hb dX1_busiest_43 rfl hl (by decide) rfl (fun ls hl => ?_)
  refine lv_iload_n hx hb dX1_busiest_44 rfl (lv_at hl 2 rfl) ?_
  refine lv_iload hx hb dX1_busiest_45 (lv_at hl 4 rfl) ?_
  replace h := nm_o h
  obtain ⟨x1, e2, h⟩ := h
  refine va_mmax hx hb (hml.trans hl.1.symm) hown (hts _ q1408) (hts _ q295) (hts _ q127) (hts _ q296) (Nat.le_of_ble_eq_true rfl) (Nat.le_of_ble_eq_true rfl) (Nat.sub_le _ _) (Nat.sub_le _ _) dX1_busiest_47 ?_
  refine W.eq (g2 := F0 m 50 ls [.int x1]) (by rw [e2]; rfl) ?_
  refine lv_istore_n (lv' := [(2, .int x1), (1, .int s0), (0, .ref v0), (3, .int v3), (4, .int v4)]) hx hb dX1_busiest_50 rfl hl (by decide) rfl (fun ls hl => ?_)
  refine lv_iinc (v := v3 + 1) (lv' := [(3, .int (v3 + 1)), (2, .int x1), (1, .int s0), (0, .ref v0), (4, .int v4)]) hx hb dX1_busiest_51 hl (k := 3) rfl rfl (by decide) rfl (fun ls hl => ?_)
  refine lv_goto (tgt := 6) hx hb dX1_busiest_54 (by decide) ?_
  exact k6 _ _ _ _ (Option.some.inj h).symm H locs ls hR hS (lv_sub hl [3, 2, 1, 0] rfl)
noncomputable def fX1_busiest_b6 (v0 : Nat) (v1 : Int32) (v2 : Int32) (v3 : Int32) (w : WH) : Option (Sum (Int32 × Int32 × Int32 × WH) ((Int32 × WH))) :=
  (gR w v0 17 0).bind fun x1 =>
  x1.bind fun a3 =>
  (gR w a3 21 0).bind fun x5 =>
  x5.bind fun a7 =>
  (gR w a7 22 1).bind fun x9 =>
  x9.bind fun a11 =>
  (hIs w a11 2).bind fun _ =>
  b2_ (fJ2_size a11 w) fun x16 w13 =>
  if x16 ≤ v3 then (
    some (.inr (v1, w13))
  ) else (
    (hIs w13 v0 17).bind fun _ =>
    b2_ (fX1_flowOf v0 v3 w13) fun x21 w18 =>
    if x21 ≤ v2 then (
      fX1_busiest_b43 v0 v2 v3 x21 v1 w18
    ) else (
      fX1_busiest_b43 v0 v2 v3 x21 v3 w18
    )
  )
theorem bX1_busiest_6 {p : Program} {l : Launch} {e : Env} {s : State} {m : MethodId} {args : Array Value} {below : List Frame} {meth : Method} {c : Code} {H : Heap} {locs : List Loc} {ls : Array Slot} {G : gE} {A : Nat → Prop} {w0 : WH} (B : gB G RX1 cX1_busiest 5 (some .int) p s m args meth c) {v0 : Nat} {v1 : Int32} {v2 : Int32} {v3 : Int32} {w : WH} {x : Sum (Int32 × Int32 × Int32 × WH) ((Int32 × WH))} {r : (Int32 × WH)} (h : fX1_busiest_b6 v0 v1 v2 v3 w = some x)  (k6 : ∀ (v1' : Int32) (v2' : Int32) (v3' : Int32) (w' : WH), x = (.inl (v1', v2', v3', w')) → ∀ (H : Heap) (locs : List Loc) (ls : Array Slot), RepH G A w' H → Cu A s w0 w' H locs → lv_has ls 5 [(0, .ref v0), (1, .int v1'), (2, .int v2'), (3, .int v3')] → W p l e (hRm 21 479 w0) s m args below meth c H locs (wC w0 - wC w') (wS w0 - wS w') (hZ below args s G A w0 (some (.int r.1)) r.2) (F0 m 6 ls [])) (kR : ∀ q, x = (.inr q) → q = r) (hR : RepH G A w H) (hS : Cu A s w0 w H locs) (hl : lv_has ls 5 [(0, .ref v0), (1, .int v1), (2, .int v2), (3, .int v3)]) : W p l e (hRm 21 479 w0) s m args below meth c H locs (wC w0 - wC w) (wS w0 - wS w) (hZ below args s G A w0 (some (.int r.1)) r.2) (F0 m 6 ls []) := by
  have B0 := B
  obtain ⟨hx, hb, hml, hown, hts, hr, hlk, hK⟩ := B0
  unfold fX1_busiest_b6 at h
  refine lv_iload_n hx hb dX1_busiest_6 rfl (lv_at hl 3 rfl) ?_
  refine lv_aload_n hx hb dX1_busiest_7 rfl (lv_at hl 0 rfl) ?_
  replace h := bo_o h
  obtain ⟨x1, e2, h⟩ := h
  refine h_get (ci := 17) (k := 0) (v := va_rf x1) hx hb hts hown hK hR in_X1 rfl (by decide) (fun _ _ => rfl) q662 (fun _ h9 => h9) (gR_o e2) dX1_busiest_8 ?_
  replace h := bo_o h
  obtain ⟨a3, e4, h⟩ := h
  subst e4
  replace h := bo_o h
  obtain ⟨x5, e6, h⟩ := h
  refine h_getN (ci := 21) (k := 0) (v := va_rf x5) hx hb hts hown hK hR in_X2 rfl (by decide) (fun _ _ => rfl) (hK.fn 15 rfl) (fun _ h9 => h9) (gR_o e6) dX1_busiest_11 ?_
  replace h := bo_o h
  obtain ⟨a7, e8, h⟩ := h
  subst e8
  replace h := bo_o h
  obtain ⟨x9, e10, h⟩ := h
  refine h_getN (ci := 22) (k := 1) (v := va_rf x9) hx hb hts hown hK hR in_X3 rfl (by decide) (fun _ _ => rfl) (hK.fn 6 rfl) (fun _ h9 => h9) (gR_o e10) dX1_busiest_14 ?_
  replace h := bo_o h
  obtain ⟨a11, e12, h⟩ := h
  subst e12
  replace h := bo_o h
  obtain ⟨_, e14, h⟩ := h
  replace h := b2_o h
  obtain ⟨x16, w13, e15, h⟩ := h
  refine h_callF 0  (As := []) (rest := [.int v3]) (v := (some (.int x16))) (w' := w13) (st1 := [.int x16, .int v3]) hx hb hml hown hts hK hR hS (Nat.le_refl _) (Nat.le_refl _) (h_recv (ci := 2) hK hR hS rfl e14) (mJ2_size e15) (lw_app (a := [.methodLink _ _ _, .selects _ _ _, .instanceMethod _, .initialized _]) (lw_4 q1076 q903 q905 q117) (lw_meth q907)) (hK.fw 0 rfl) (by decide +kernel) (Nat.le_of_ble_eq_true rfl) (Nat.le_of_ble_eq_true rfl) rfl hl.1 (Nat.le_of_ble_eq_true rfl) dX1_busiest_17 rfl rfl (fun H locs hR hS => ?_)
  refine lv_icmp_ge (tgt := 57) hx hb dX1_busiest_22 (by decide) (fun c17 => ?_) (fun c17 => ?_)
  · replace h := it_o c17 h
    refine lv_iload_n hx hb dX1_busiest_57 rfl (lv_at hl 1 rfl) ?_
    have eR := kR _ (Option.some.inj h).symm
    subst eR
    exact h_ifin hx hb hr hlk hR hS dX1_busiest_58
  · replace h := if_o c17 h
    refine lv_aload_n hx hb dX1_busiest_25 rfl (lv_at hl 0 rfl) ?_
    refine lv_iload_n hx hb dX1_busiest_26 rfl (lv_at hl 3 rfl) ?_
    replace h := bo_o h
    obtain ⟨_, e19, h⟩ := h
    replace h := b2_o h
    obtain ⟨x21, w18, e20, h⟩ := h
    refine h_callV 1 (ci := 17) (As := [.int v3]) (rest := []) (v := (some (.int x21))) (w' := w18) (st1 := [.int x21]) hx hb hml hown hts hK hR hS (Nat.le_refl _) (Nat.le_refl _) rfl e19 (mX1_flowOf e20) (lw_V q1192 q1194 qs21 q112 q1195) (by decide +kernel) (Nat.le_of_ble_eq_true rfl) (Nat.le_of_ble_eq_true rfl) rfl hl.1 (Nat.le_of_ble_eq_true rfl) dX1_busiest_27 rfl rfl (fun H locs hR hS => ?_)
    refine lv_istore (lv' := [(4, .int x21), (0, .ref v0), (1, .int v1), (2, .int v2), (3, .int v3)]) hx hb dX1_busiest_30 hl (by decide) rfl (fun ls hl => ?_)
    refine lv_iload hx hb dX1_busiest_32 (lv_at hl 0 rfl) ?_
    refine lv_iload_n hx hb dX1_busiest_34 rfl (lv_at hl 3 rfl) ?_
    refine lv_icmp_le (tgt := 42) hx hb dX1_busiest_35 (by decide) (fun c22 => ?_) (fun c22 => ?_)
    · replace h := it_o c22 h
      refine lv_iload_n hx hb dX1_busiest_42 rfl (lv_at hl 2 rfl) ?_
      exact bX1_busiest_43 B h k6 kR hR hS (lv_sub hl [1, 3, 4, 0] rfl)
    · replace h := if_o c22 h
      refine lv_iload_n hx hb dX1_busiest_38 rfl (lv_at hl 4 rfl) ?_
      refine lv_goto (tgt := 43) hx hb dX1_busiest_39 (by decide) ?_
      exact bX1_busiest_43 B h k6 kR hR hS (lv_sub hl [1, 3, 4, 0] rfl)
noncomputable def fX1_busiest_l6 (v0 : Nat) (v1 : Int32) (v2 : Int32) (v3 : Int32) (w : WH) : Option ((Int32 × WH)) := whileO (fun q => fX1_busiest_b6 v0 q.1 q.2.1 q.2.2.1 q.2.2.2) (v1, v2, v3, w)
theorem lX1_busiest_6 {p : Program} {l : Launch} {e : Env} {s : State} {m : MethodId} {args : Array Value} {below : List Frame} {meth : Method} {c : Code} {G : gE} {A : Nat → Prop} {w0 : WH} (B : gB G RX1 cX1_busiest 5 (some .int) p s m args meth c) {v0 : Nat} {r : (Int32 × WH)}   : ∀ (v1 : Int32) (v2 : Int32) (v3 : Int32) (w : WH), fX1_busiest_l6 v0 v1 v2 v3 w = some r → ∀ (H : Heap) (locs : List Loc) (ls : Array Slot), RepH G A w H → Cu A s w0 w H locs → lv_has ls 5 [(0, .ref v0), (1, .int v1), (2, .int v2), (3, .int v3)] → W p l e (hRm 21 479 w0) s m args below meth c H locs (wC w0 - wC w) (wS w0 - wS w) (hZ below args s G A w0 (some (.int r.1)) r.2) (F0 m 6 ls []) := by
  intro v1 v2 v3 w h
  refine wh_walk (body := (fun q => fX1_busiest_b6 v0 q.1 q.2.1 q.2.2.1 q.2.2.2)) (P := (fun q : (Int32 × Int32 × Int32 × WH) => ∀ (H : Heap) (locs : List Loc) (ls : Array Slot), RepH G A (q.2.2.2) H → Cu A s w0 (q.2.2.2) H locs → lv_has ls 5 [(0, .ref v0), (1, .int (q.1)), (2, .int (q.2.1)), (3, .int (q.2.2.1))] → W p l e (hRm 21 479 w0) s m args below meth c H locs (wC w0 - wC (q.2.2.2)) (wS w0 - wS (q.2.2.2)) (hZ below args s G A w0 (some (.int r.1)) r.2) (F0 m 6 ls []))) (r := r) ?_ (v1, v2, v3, w) h
  intro q y hy hL hr H locs ls hR hS hl
  exact bX1_busiest_6 (r := r) B hy (fun a0 a1 a2 a3 e => hL (a0, a1, a2, a3) e) (fun q e => hr q e) hR hS hl
noncomputable def fX1_busiest (v0 : Nat) (w : WH) : Option ((Int32 × WH)) :=
  fX1_busiest_l6 v0 (-1) (-1) 0 w
theorem bX1_busiest_0 {p : Program} {l : Launch} {e : Env} {s : State} {m : MethodId} {args : Array Value} {below : List Frame} {meth : Method} {c : Code} {H : Heap} {locs : List Loc} {ls : Array Slot} {G : gE} {A : Nat → Prop} {w0 : WH} (B : gB G RX1 cX1_busiest 5 (some .int) p s m args meth c) {v0 : Nat} {w : WH} {r : (Int32 × WH)} (h : fX1_busiest v0 w = some r)   (hR : RepH G A w H) (hS : Cu A s w0 w H locs) (hl : lv_has ls 5 [(0, .ref v0)]) : W p l e (hRm 21 479 w0) s m args below meth c H locs (wC w0 - wC w) (wS w0 - wS w) (hZ below args s G A w0 (some (.int r.1)) r.2) (F0 m 0 ls []) := by
  have B0 := B
  obtain ⟨hx, hb, hml, hown, hts, hr, hlk, hK⟩ := B0
  unfold fX1_busiest at h
  refine lv_iconst (v := (-1)) hx hb dX1_busiest_0 (by decide) ?_
  refine lv_istore_n (lv' := [(1, .int (-1)), (0, .ref v0)]) hx hb dX1_busiest_1 rfl hl (by decide) rfl (fun ls hl => ?_)
  refine lv_iconst (v := (-1)) hx hb dX1_busiest_2 (by decide) ?_
  refine lv_istore_n (lv' := [(2, .int (-1)), (1, .int (-1)), (0, .ref v0)]) hx hb dX1_busiest_3 rfl hl (by decide) rfl (fun ls hl => ?_)
  refine lv_iconst (v := 0) hx hb dX1_busiest_4 (by decide) ?_
  refine lv_istore_n (lv' := [(3, .int 0), (2, .int (-1)), (1, .int (-1)), (0, .ref v0)]) hx hb dX1_busiest_5 rfl hl (by decide) rfl (fun ls hl => ?_)
  exact lX1_busiest_6 B _ _ _ _ h H locs ls hR hS (lv_sub hl [3, 2, 1, 0] rfl)
theorem mX1_busiest {l : Launch} {G : gE} {A : Nat → Prop} {v0 : Nat} {w : WH} {r : (Int32 × WH)} (h : fX1_busiest v0 w = some r) : hM l G A yX1_busiest cX1_busiest 5 (some .int) 21 479 [.ref v0] w (some (.int r.1)) r.2 :=
  h_of (by decide +kernel) (Nat.le_of_ble_eq_true rfl) (fun p e s m args below meth c ls B hnm hR hS hl => bX1_busiest_0 B h hR hS hl)
noncomputable def fJ17_checkRange (v0 : Int32) (v1 : Int32) (w : WH) : Option (WH) :=
  if 0 ≤ v0 then (
    if 0 ≤ v1 then (
      if v0 ≤ v1 then (
        some w
      ) else (
        none
      )
    ) else (
      none
    )
  ) else (
    none
  )
theorem bJ17_checkRange_0 {p : Program} {l : Launch} {e : Env} {s : State} {m : MethodId} {args : Array Value} {below : List Frame} {meth : Method} {c : Code} {H : Heap} {locs : List Loc} {ls : Array Slot} {G : gE} {A : Nat → Prop} {w0 : WH} (B : gB G RJ17 cJ17_checkRange 2 none p s m args meth c) {v0 : Int32} {v1 : Int32} {w : WH} {r : WH} (h : fJ17_checkRange v0 v1 w = some r)   (hR : RepH G A w H) (hS : Cu A s w0 w H locs) (hl : lv_has ls 2 [(0, .int v0), (1, .int v1)]) : W p l e (hRm 12 269 w0) s m args below meth c H locs (wC w0 - wC w) (wS w0 - wS w) (hZ below args s G A w0 none r) (F0 m 0 ls []) := by
  have B0 := B
  obtain ⟨hx, hb, hml, hown, hts, hr, hlk, hK⟩ := B0
  unfold fJ17_checkRange at h
  refine lv_iload_n hx hb dJ17_checkRange_0 rfl (lv_at hl 0 rfl) ?_
  refine lv_if_ge (tgt := 31) hx hb dJ17_checkRange_1 (by decide) (fun c1 => ?_) (fun c1 => ?_)
  · replace h := it_o c1 h
    refine lv_iload_n hx hb dJ17_checkRange_31 rfl (lv_at hl 1 rfl) ?_
    refine lv_if_ge (tgt := 62) hx hb dJ17_checkRange_32 (by decide) (fun c2 => ?_) (fun c2 => ?_)
    · replace h := it_o c2 h
      refine lv_iload_n hx hb dJ17_checkRange_62 rfl (lv_at hl 0 rfl) ?_
      refine lv_iload_n hx hb dJ17_checkRange_63 rfl (lv_at hl 1 rfl) ?_
      refine lv_icmp_le (tgt := 103) hx hb dJ17_checkRange_64 (by decide) (fun c3 => ?_) (fun c3 => ?_)
      · replace h := it_o c3 h
        have eR := Option.some.inj h
        subst eR
        exact h_vfin hx hb hr hlk hR hS dJ17_checkRange_103
      · replace h := if_o c3 h
        exact (nomatch h)
    · replace h := if_o c2 h
      exact (nomatch h)
  · replace h := if_o c1 h
    exact (nomatch h)
theorem mJ17_checkRange {l : Launch} {G : gE} {A : Nat → Prop} {v0 : Int32} {v1 : Int32} {w : WH} {r : WH} (h : fJ17_checkRange v0 v1 w = some r) : hM l G A yJ17_checkRange cJ17_checkRange 2 none 12 269 [.int v0, .int v1] w none r :=
  h_of (by decide +kernel) (Nat.le_of_ble_eq_true rfl) (fun p e s m args below meth c ls B hnm hR hS hl => bJ17_checkRange_0 B h hR hS hl)
noncomputable def fJ17_expandTo (v0 : Nat) (v1 : Int32) (w : WH) : Option (WH) :=
  nm_ (v1 + 1) fun x1 =>
  (gI w v0 0 1).bind fun x3 =>
  if x1 ≤ x3 then (
    some w
  ) else (
    (hIs w v0 0).bind fun _ =>
    (fJ17_ensureCapacity v0 x1 w).bind fun w6 =>
    (hPut w6 v0 0 1 (.int x1)).bind fun w9 =>
    some w9
  )
theorem bJ17_expandTo_0 {p : Program} {l : Launch} {e : Env} {s : State} {m : MethodId} {args : Array Value} {below : List Frame} {meth : Method} {c : Code} {H : Heap} {locs : List Loc} {ls : Array Slot} {G : gE} {A : Nat → Prop} {w0 : WH} (B : gB G RJ17 cJ17_expandTo 3 none p s m args meth c) {v0 : Nat} {v1 : Int32} {w : WH} {r : WH} (h : fJ17_expandTo v0 v1 w = some r)   (hR : RepH G A w H) (hS : Cu A s w0 w H locs) (hl : lv_has ls 3 [(0, .ref v0), (1, .int v1)]) : W p l e (hRm 3 84 w0) s m args below meth c H locs (wC w0 - wC w) (wS w0 - wS w) (hZ below args s G A w0 none r) (F0 m 0 ls []) := by
  have B0 := B
  obtain ⟨hx, hb, hml, hown, hts, hr, hlk, hK⟩ := B0
  unfold fJ17_expandTo at h
  refine lv_iload_n hx hb dJ17_expandTo_0 rfl (lv_at hl 1 rfl) ?_
  refine lv_iconst (v := 1) hx hb dJ17_expandTo_1 (by decide) ?_
  refine lv_iadd hx hb dJ17_expandTo_2 ?_
  replace h := nm_o h
  obtain ⟨x1, e2, h⟩ := h
  refine lv_istore_n (lv' := [(2, .int x1), (0, .ref v0), (1, .int v1)]) hx hb dJ17_expandTo_3 rfl hl (by decide) (by subst e2; rfl) (fun ls hl => ?_)
  refine lv_aload_n hx hb dJ17_expandTo_4 rfl (lv_at hl 1 rfl) ?_
  replace h := bo_o h
  obtain ⟨x3, e4, h⟩ := h
  refine h_get (ci := 0) (k := 1) (v := .int x3) hx hb hts hown hK hR in_J17 rfl (by decide) (fun _ _ => rfl) q575 (fun _ h9 => h9) (gI_o e4) dJ17_expandTo_5 ?_
  refine lv_iload_n hx hb dJ17_expandTo_8 rfl (lv_at hl 0 rfl) ?_
  refine lv_icmp_ge (tgt := 22) hx hb dJ17_expandTo_9 (by decide) (fun c5 => ?_) (fun c5 => ?_)
  · replace h := it_o c5 h
    have eR := Option.some.inj h
    subst eR
    exact h_vfin hx hb hr hlk hR hS dJ17_expandTo_22
  · replace h := if_o c5 h
    refine lv_aload_n hx hb dJ17_expandTo_12 rfl (lv_at hl 1 rfl) ?_
    refine lv_iload_n hx hb dJ17_expandTo_13 rfl (lv_at hl 0 rfl) ?_
    replace h := bo_o h
    obtain ⟨_, e7, h⟩ := h
    replace h := bo_o h
    obtain ⟨w6, e8, h⟩ := h
    refine h_callV 1 (ci := 0) (As := [.int x1]) (rest := []) (v := none) (w' := w6) (st1 := []) hx hb hml hown hts hK hR hS (Nat.le_refl _) (Nat.le_refl _) rfl e7 (mJ17_ensureCapacity e8) (lw_V q1122 q1124 qs17 q134 q1125) (by decide +kernel) (Nat.le_of_ble_eq_true rfl) (Nat.le_of_ble_eq_true rfl) rfl hl.1 (Nat.le_of_ble_eq_true rfl) dJ17_expandTo_14 rfl rfl (fun H locs hR hS => ?_)
    refine lv_aload_n hx hb dJ17_expandTo_17 rfl (lv_at hl 1 rfl) ?_
    refine lv_iload_n hx hb dJ17_expandTo_18 rfl (lv_at hl 0 rfl) ?_
    replace h := bo_o h
    obtain ⟨w9, e10, h⟩ := h
    refine h_put (ci := 0) (k := 1) (ty := tyJ17 1) hx hb hts hown hK hR hS in_J17 tyJ17 tyJ17_ok nmJ17 rfl (by decide) q575 (fun _ h9 => h9) rfl (tyJ17_ok 1 (by decide)) rfl rfl e10 dJ17_expandTo_19 (fun H locs hR hS => ?_)
    have eR := Option.some.inj h
    subst eR
    exact h_vfin hx hb hr hlk hR hS dJ17_expandTo_22
theorem mJ17_expandTo {l : Launch} {G : gE} {A : Nat → Prop} {v0 : Nat} {v1 : Int32} {w : WH} {r : WH} (h : fJ17_expandTo v0 v1 w = some r) : hM l G A yJ17_expandTo cJ17_expandTo 3 none 3 84 [.ref v0, .int v1] w none r :=
  h_of (by decide +kernel) (Nat.le_of_ble_eq_true rfl) (fun p e s m args below meth c ls B hnm hR hS hl => bJ17_expandTo_0 B h hR hS hl)
noncomputable def fJ17_set_b119 (v0 : Nat) (w : WH) : Option (WH) :=
  (hIs w v0 0).bind fun _ =>
  (fJ17_checkInvariants v0 w).bind fun w1 =>
  some w1
theorem bJ17_set_119 {p : Program} {l : Launch} {e : Env} {s : State} {m : MethodId} {args : Array Value} {below : List Frame} {meth : Method} {c : Code} {H : Heap} {locs : List Loc} {ls : Array Slot} {G : gE} {A : Nat → Prop} {w0 : WH} (B : gB G RJ17 cJ17_set 10 none p s m args meth c) {v0 : Nat} {w : WH} {r : WH} (h : fJ17_set_b119 v0 w = some r)   (hR : RepH G A w H) (hS : Cu A s w0 w H locs) (hl : lv_has ls 10 [(0, .ref v0)]) : W p l e (hRm 13 290 w0) s m args below meth c H locs (wC w0 - wC w) (wS w0 - wS w) (hZ below args s G A w0 none r) (F0 m 119 ls []) := by
  have B0 := B
  obtain ⟨hx, hb, hml, hown, hts, hr, hlk, hK⟩ := B0
  unfold fJ17_set_b119 at h
  refine lv_aload_n hx hb dJ17_set_119 rfl (lv_at hl 0 rfl) ?_
  replace h := bo_o h
  obtain ⟨_, e2, h⟩ := h
  replace h := bo_o h
  obtain ⟨w1, e3, h⟩ := h
  refine h_callV 0 (ci := 0) (As := []) (rest := []) (v := none) (w' := w1) (st1 := []) hx hb hml hown hts hK hR hS (Nat.le_refl _) (Nat.le_refl _) rfl e2 (mJ17_checkInvariants e3) (lw_V q1136 q1138 qs18 q134 q1139) (by decide +kernel) (Nat.le_of_ble_eq_true rfl) (Nat.le_of_ble_eq_true rfl) rfl hl.1 (Nat.le_of_ble_eq_true rfl) dJ17_set_120 rfl rfl (fun H locs hR hS => ?_)
  have eR := Option.some.inj h
  subst eR
  exact h_vfin hx hb hr hlk hR hS dJ17_set_123
noncomputable def fJ17_set_b107 (v0 : Nat) (v4 : Int32) (v7 : Int64) (w : WH) : Option (WH) :=
  (gR w v0 0 0).bind fun x1 =>
  x1.bind fun a3 =>
  (ldJ w a3 v4).bind fun x5 =>
  (stJ w a3 v4 (x5 ||| v7)).bind fun w7 =>
  fJ17_set_b119 v0 w7
theorem bJ17_set_107 {p : Program} {l : Launch} {e : Env} {s : State} {m : MethodId} {args : Array Value} {below : List Frame} {meth : Method} {c : Code} {H : Heap} {locs : List Loc} {ls : Array Slot} {G : gE} {A : Nat → Prop} {w0 : WH} (B : gB G RJ17 cJ17_set 10 none p s m args meth c) {v0 : Nat} {v4 : Int32} {v7 : Int64} {w : WH} {r : WH} (h : fJ17_set_b107 v0 v4 v7 w = some r)   (hR : RepH G A w H) (hS : Cu A s w0 w H locs) (hl : lv_has ls 10 [(0, .ref v0), (4, .int v4), (7, .long v7)]) : W p l e (hRm 13 290 w0) s m args below meth c H locs (wC w0 - wC w) (wS w0 - wS w) (hZ below args s G A w0 none r) (F0 m 107 ls []) := by
  have B0 := B
  obtain ⟨hx, hb, hml, hown, hts, hr, hlk, hK⟩ := B0
  unfold fJ17_set_b107 at h
  refine lv_aload_n hx hb dJ17_set_107 rfl (lv_at hl 0 rfl) ?_
  replace h := bo_o h
  obtain ⟨x1, e2, h⟩ := h
  refine h_get (ci := 0) (k := 0) (v := va_rf x1) hx hb hts hown hK hR in_J17 rfl (by decide) (fun _ _ => rfl) q574 (fun _ h9 => h9) (gR_o e2) dJ17_set_108 ?_
  refine lv_iload hx hb dJ17_set_111 (lv_at hl 1 rfl) ?_
  refine lv_dup2_11 hx hb dJ17_set_113 (by first | rfl | exact rf_cat _) (by first | rfl | exact rf_cat _) ?_
  replace h := bo_o h
  obtain ⟨a3, e4, h⟩ := h
  subst e4
  replace h := bo_o h
  obtain ⟨x5, e6, h⟩ := h
  refine h_lald hx hb hK hR e6 dJ17_set_114 ?_
  refine lv_lload hx hb dJ17_set_115 (lv_at hl 2 rfl) ?_
  refine lv_lor hx hb dJ17_set_117 ?_
  replace h := bo_o h
  obtain ⟨w7, e8, h⟩ := h
  refine h_last hx hb hK hR hS e8 dJ17_set_118 (fun H locs hR hS => ?_)
  exact bJ17_set_119 B h  hR hS (lv_sub hl [0] rfl)
noncomputable def fJ17_set_b84 (v0 : Nat) (v4 : Int32) (v7 : Int64) (v9 : Int32) (w : WH) : Option (Sum (Int32 × WH) (WH)) :=
  if v4 ≤ v9 then (
    (fJ17_set_b107 v0 v4 v7 w).map (fun y => (.inr y))
  ) else (
    (gR w v0 0 0).bind fun x2 =>
    x2.bind fun a4 =>
    (stJ w a4 v9 (-1)).bind fun w6 =>
    some (.inl (v9 + 1, w6))
  )
theorem bJ17_set_84 {p : Program} {l : Launch} {e : Env} {s : State} {m : MethodId} {args : Array Value} {below : List Frame} {meth : Method} {c : Code} {H : Heap} {locs : List Loc} {ls : Array Slot} {G : gE} {A : Nat → Prop} {w0 : WH} (B : gB G RJ17 cJ17_set 10 none p s m args meth c) {v0 : Nat} {v4 : Int32} {v7 : Int64} {v9 : Int32} {w : WH} {x : Sum (Int32 × WH) (WH)} {r : WH} (h : fJ17_set_b84 v0 v4 v7 v9 w = some x)  (k84 : ∀ (v9' : Int32) (w' : WH), x = (.inl (v9', w')) → ∀ (H : Heap) (locs : List Loc) (ls : Array Slot), RepH G A w' H → Cu A s w0 w' H locs → lv_has ls 10 [(0, .ref v0), (4, .int v4), (7, .long v7), (9, .int v9')] → W p l e (hRm 13 290 w0) s m args below meth c H locs (wC w0 - wC w') (wS w0 - wS w') (hZ below args s G A w0 none r) (F0 m 84 ls [])) (kR : ∀ q, x = (.inr q) → q = r) (hR : RepH G A w H) (hS : Cu A s w0 w H locs) (hl : lv_has ls 10 [(0, .ref v0), (4, .int v4), (7, .long v7), (9, .int v9)]) : W p l e (hRm 13 290 w0) s m args below meth c H locs (wC w0 - wC w) (wS w0 - wS w) (hZ below args s G A w0 none r) (F0 m 84 ls []) := by
  have B0 := B
  obtain ⟨hx, hb, hml, hown, hts, hr, hlk, hK⟩ := B0
  unfold fJ17_set_b84 at h
  refine lv_iload hx hb dJ17_set_84 (lv_at hl 3 rfl) ?_
  refine lv_iload hx hb dJ17_set_86 (lv_at hl 1 rfl) ?_
  refine lv_icmp_ge (tgt := 107) hx hb dJ17_set_88 (by decide) (fun c1 => ?_) (fun c1 => ?_)
  · replace h := it_o c1 h
    obtain ⟨y, h, ey⟩ := mp_o h
    have ey := kR _ ey.symm
    subst ey
    exact bJ17_set_107 B h  hR hS (lv_sub hl [0, 1, 2] rfl)
  · replace h := if_o c1 h
    refine lv_aload_n hx hb dJ17_set_91 rfl (lv_at hl 0 rfl) ?_
    replace h := bo_o h
    obtain ⟨x2, e3, h⟩ := h
    refine h_get (ci := 0) (k := 0) (v := va_rf x2) hx hb hts hown hK hR in_J17 rfl (by decide) (fun _ _ => rfl) q574 (fun _ h9 => h9) (gR_o e3) dJ17_set_92 ?_
    refine lv_iload hx hb dJ17_set_95 (lv_at hl 3 rfl) ?_
    refine lv_ldc2 (v := (-1)) hx hb hown (hts _ q1430) dJ17_set_97 ?_
    replace h := bo_o h
    obtain ⟨a4, e5, h⟩ := h
    subst e5
    replace h := bo_o h
    obtain ⟨w6, e7, h⟩ := h
    refine h_last hx hb hK hR hS e7 dJ17_set_100 (fun H locs hR hS => ?_)
    refine lv_iinc (v := v9 + 1) (lv' := [(9, .int (v9 + 1)), (0, .ref v0), (4, .int v4), (7, .long v7)]) hx hb dJ17_set_101 hl (k := 3) rfl rfl (by decide) rfl (fun ls hl => ?_)
    refine lv_goto (tgt := 84) hx hb dJ17_set_104 (by decide) ?_
    exact k84 _ _ (Option.some.inj h).symm H locs ls hR hS (lv_sub hl [1, 2, 3, 0] rfl)
noncomputable def fJ17_set_l84 (v0 : Nat) (v4 : Int32) (v7 : Int64) (v9 : Int32) (w : WH) : Option (WH) := whileO (fun q => fJ17_set_b84 v0 v4 v7 q.1 q.2) (v9, w)
theorem lJ17_set_84 {p : Program} {l : Launch} {e : Env} {s : State} {m : MethodId} {args : Array Value} {below : List Frame} {meth : Method} {c : Code} {G : gE} {A : Nat → Prop} {w0 : WH} (B : gB G RJ17 cJ17_set 10 none p s m args meth c) {v0 : Nat} {v4 : Int32} {v7 : Int64} {r : WH}   : ∀ (v9 : Int32) (w : WH), fJ17_set_l84 v0 v4 v7 v9 w = some r → ∀ (H : Heap) (locs : List Loc) (ls : Array Slot), RepH G A w H → Cu A s w0 w H locs → lv_has ls 10 [(0, .ref v0), (4, .int v4), (7, .long v7), (9, .int v9)] → W p l e (hRm 13 290 w0) s m args below meth c H locs (wC w0 - wC w) (wS w0 - wS w) (hZ below args s G A w0 none r) (F0 m 84 ls []) := by
  intro v9 w h
  refine wh_walk (body := (fun q => fJ17_set_b84 v0 v4 v7 q.1 q.2)) (P := (fun q : (Int32 × WH) => ∀ (H : Heap) (locs : List Loc) (ls : Array Slot), RepH G A (q.2) H → Cu A s w0 (q.2) H locs → lv_has ls 10 [(0, .ref v0), (4, .int v4), (7, .long v7), (9, .int (q.1))] → W p l e (hRm 13 290 w0) s m args below meth c H locs (wC w0 - wC (q.2)) (wS w0 - wS (q.2)) (hZ below args s G A w0 none r) (F0 m 84 ls []))) (r := r) ?_ (v9, w) h
  intro q y hy hL hr H locs ls hR hS hl
  exact bJ17_set_84 (r := r) B hy (fun a0 a1 e => hL (a0, a1) e) (fun q e => hr q e) hR hS hl
noncomputable def fJ17_set_b45 (v0 : Nat) (v3 : Int32) (v4 : Int32) (v5 : Int64) (v7 : Int64) (w : WH) : Option (WH) :=
  if v3 = v4 then (
    (gR w v0 0 0).bind fun x2 =>
    x2.bind fun a4 =>
    (ldJ w a4 v3).bind fun x6 =>
    (stJ w a4 v3 (x6 ||| (v5 &&& v7))).bind fun w8 =>
    fJ17_set_b119 v0 w8
  ) else (
    (gR w v0 0 0).bind fun x10 =>
    x10.bind fun a12 =>
    (ldJ w a12 v3).bind fun x14 =>
    (stJ w a12 v3 (x14 ||| v5)).bind fun w16 =>
    nm_ (v3 + 1) fun x18 =>
    fJ17_set_l84 v0 v4 v7 x18 w16
  )
theorem bJ17_set_45 {p : Program} {l : Launch} {e : Env} {s : State} {m : MethodId} {args : Array Value} {below : List Frame} {meth : Method} {c : Code} {H : Heap} {locs : List Loc} {ls : Array Slot} {G : gE} {A : Nat → Prop} {w0 : WH} (B : gB G RJ17 cJ17_set 10 none p s m args meth c) {v0 : Nat} {v3 : Int32} {v4 : Int32} {v5 : Int64} {v7 : Int64} {w : WH} {r : WH} (h : fJ17_set_b45 v0 v3 v4 v5 v7 w = some r)   (hR : RepH G A w H) (hS : Cu A s w0 w H locs) (hl : lv_has ls 10 [(0, .ref v0), (3, .int v3), (4, .int v4), (5, .long v5), (7, .long v7)]) : W p l e (hRm 13 290 w0) s m args below meth c H locs (wC w0 - wC w) (wS w0 - wS w) (hZ below args s G A w0 none r) (F0 m 45 ls []) := by
  have B0 := B
  obtain ⟨hx, hb, hml, hown, hts, hr, hlk, hK⟩ := B0
  unfold fJ17_set_b45 at h
  refine lv_iload_n hx hb dJ17_set_45 rfl (lv_at hl 1 rfl) ?_
  refine lv_iload hx hb dJ17_set_46 (lv_at hl 2 rfl) ?_
  refine lv_icmp_ne (tgt := 68) hx hb dJ17_set_48 (by decide) (fun c1 => ?_) (fun c1 => ?_)
  · replace h := if_o c1 h
    refine lv_aload_n hx hb dJ17_set_68 rfl (lv_at hl 0 rfl) ?_
    replace h := bo_o h
    obtain ⟨x10, e11, h⟩ := h
    refine h_get (ci := 0) (k := 0) (v := va_rf x10) hx hb hts hown hK hR in_J17 rfl (by decide) (fun _ _ => rfl) q574 (fun _ h9 => h9) (gR_o e11) dJ17_set_69 ?_
    refine lv_iload_n hx hb dJ17_set_72 rfl (lv_at hl 1 rfl) ?_
    refine lv_dup2_11 hx hb dJ17_set_73 (by first | rfl | exact rf_cat _) (by first | rfl | exact rf_cat _) ?_
    replace h := bo_o h
    obtain ⟨a12, e13, h⟩ := h
    subst e13
    replace h := bo_o h
    obtain ⟨x14, e15, h⟩ := h
    refine h_lald hx hb hK hR e15 dJ17_set_74 ?_
    refine lv_lload hx hb dJ17_set_75 (lv_at hl 3 rfl) ?_
    refine lv_lor hx hb dJ17_set_77 ?_
    replace h := bo_o h
    obtain ⟨w16, e17, h⟩ := h
    refine h_last hx hb hK hR hS e17 dJ17_set_78 (fun H locs hR hS => ?_)
    refine lv_iload_n hx hb dJ17_set_79 rfl (lv_at hl 1 rfl) ?_
    refine lv_iconst (v := 1) hx hb dJ17_set_80 (by decide) ?_
    refine lv_iadd hx hb dJ17_set_81 ?_
    replace h := nm_o h
    obtain ⟨x18, e19, h⟩ := h
    refine lv_istore (lv' := [(9, .int x18), (0, .ref v0), (3, .int v3), (4, .int v4), (5, .long v5), (7, .long v7)]) hx hb dJ17_set_82 hl (by decide) (by subst e19; rfl) (fun ls hl => ?_)
    exact lJ17_set_84 B _ _ h H locs ls hR hS (lv_sub hl [1, 3, 5, 0] rfl)
  · replace h := it_o c1 h
    refine lv_aload_n hx hb dJ17_set_51 rfl (lv_at hl 0 rfl) ?_
    replace h := bo_o h
    obtain ⟨x2, e3, h⟩ := h
    refine h_get (ci := 0) (k := 0) (v := va_rf x2) hx hb hts hown hK hR in_J17 rfl (by decide) (fun _ _ => rfl) q574 (fun _ h9 => h9) (gR_o e3) dJ17_set_52 ?_
    refine lv_iload_n hx hb dJ17_set_55 rfl (lv_at hl 1 rfl) ?_
    refine lv_dup2_11 hx hb dJ17_set_56 (by first | rfl | exact rf_cat _) (by first | rfl | exact rf_cat _) ?_
    replace h := bo_o h
    obtain ⟨a4, e5, h⟩ := h
    subst e5
    replace h := bo_o h
    obtain ⟨x6, e7, h⟩ := h
    refine h_lald hx hb hK hR e7 dJ17_set_57 ?_
    refine lv_lload hx hb dJ17_set_58 (lv_at hl 3 rfl) ?_
    refine lv_lload hx hb dJ17_set_60 (lv_at hl 4 rfl) ?_
    refine lv_land hx hb dJ17_set_62 ?_
    refine lv_lor hx hb dJ17_set_63 ?_
    replace h := bo_o h
    obtain ⟨w8, e9, h⟩ := h
    refine h_last hx hb hK hR hS e9 dJ17_set_64 (fun H locs hR hS => ?_)
    refine lv_goto (tgt := 119) hx hb dJ17_set_65 (by decide) ?_
    exact bJ17_set_119 B h  hR hS (lv_sub hl [0] rfl)
noncomputable def fJ17_set (v0 : Nat) (v1 : Int32) (v2 : Int32) (w : WH) : Option (WH) :=
  (fJ17_checkRange v1 v2 w).bind fun w1 =>
  if v1 = v2 then (
    some w1
  ) else (
    b2_ (fJ17_wordIndex v1 w1) fun x6 w4 =>
    b2_ (fJ17_wordIndex (v2 - 1) w4) fun x9 w7 =>
    (hIs w7 v0 0).bind fun _ =>
    (fJ17_expandTo v0 x9 w7).bind fun w10 =>
    nm_ (((-1) : Int64) <<< (v1.toInt64 &&& 63)) fun x13 =>
    nm_ ((((-1) : Int64).toUInt64 >>> ((-v2).toInt64.toUInt64 &&& Int64.toUInt64 63)).toInt64) fun x15 =>
    fJ17_set_b45 v0 x6 x9 x13 x15 w10
  )
theorem bJ17_set_0 {p : Program} {l : Launch} {e : Env} {s : State} {m : MethodId} {args : Array Value} {below : List Frame} {meth : Method} {c : Code} {H : Heap} {locs : List Loc} {ls : Array Slot} {G : gE} {A : Nat → Prop} {w0 : WH} (B : gB G RJ17 cJ17_set 10 none p s m args meth c) {v0 : Nat} {v1 : Int32} {v2 : Int32} {w : WH} {r : WH} (h : fJ17_set v0 v1 v2 w = some r)   (hR : RepH G A w H) (hS : Cu A s w0 w H locs) (hl : lv_has ls 10 [(0, .ref v0), (1, .int v1), (2, .int v2)]) : W p l e (hRm 13 290 w0) s m args below meth c H locs (wC w0 - wC w) (wS w0 - wS w) (hZ below args s G A w0 none r) (F0 m 0 ls []) := by
  have B0 := B
  obtain ⟨hx, hb, hml, hown, hts, hr, hlk, hK⟩ := B0
  unfold fJ17_set at h
  refine lv_iload_n hx hb dJ17_set_0 rfl (lv_at hl 1 rfl) ?_
  refine lv_iload_n hx hb dJ17_set_1 rfl (lv_at hl 2 rfl) ?_
  replace h := bo_o h
  obtain ⟨w1, e2, h⟩ := h
  refine h_callS 2  (As := [.int v1, .int v2]) (rest := []) (v := none) (w' := w1) (st1 := []) hx hb hml hown hts hK hR hS (Nat.le_refl _) (Nat.le_refl _) (mJ17_checkRange e2) (lw_S q1419 q1420 q134 q1421) (by decide +kernel) (Nat.le_of_ble_eq_true rfl) (Nat.le_of_ble_eq_true rfl) rfl hl.1 (Nat.le_of_ble_eq_true rfl) dJ17_set_2 rfl rfl (fun H locs hR hS => ?_)
  refine lv_iload_n hx hb dJ17_set_5 rfl (lv_at hl 1 rfl) ?_
  refine lv_iload_n hx hb dJ17_set_6 rfl (lv_at hl 2 rfl) ?_
  refine lv_icmp_ne (tgt := 11) hx hb dJ17_set_7 (by decide) (fun c3 => ?_) (fun c3 => ?_)
  · replace h := if_o c3 h
    refine lv_iload_n hx hb dJ17_set_11 rfl (lv_at hl 1 rfl) ?_
    replace h := b2_o h
    obtain ⟨x6, w4, e5, h⟩ := h
    refine h_callS 1  (As := [.int v1]) (rest := []) (v := (some (.int x6))) (w' := w4) (st1 := [.int x6]) hx hb hml hown hts hK hR hS (Nat.le_refl _) (Nat.le_refl _) (mJ17_wordIndex e5) (lw_S q571 q572 q134 q573) (by decide +kernel) (Nat.le_of_ble_eq_true rfl) (Nat.le_of_ble_eq_true rfl) rfl hl.1 (Nat.le_of_ble_eq_true rfl) dJ17_set_12 rfl rfl (fun H locs hR hS => ?_)
    refine lv_istore_n (lv' := [(3, .int x6), (0, .ref v0), (1, .int v1), (2, .int v2)]) hx hb dJ17_set_15 rfl hl (by decide) rfl (fun ls hl => ?_)
    refine lv_iload_n hx hb dJ17_set_16 rfl (lv_at hl 3 rfl) ?_
    refine lv_iconst (v := 1) hx hb dJ17_set_17 (by decide) ?_
    refine lv_isub hx hb dJ17_set_18 ?_
    replace h := b2_o h
    obtain ⟨x9, w7, e8, h⟩ := h
    refine h_callS 1  (As := [.int (v2 - 1)]) (rest := []) (v := (some (.int x9))) (w' := w7) (st1 := [.int x9]) hx hb hml hown hts hK hR hS (Nat.le_refl _) (Nat.le_refl _) (mJ17_wordIndex e8) (lw_S q571 q572 q134 q573) (by decide +kernel) (Nat.le_of_ble_eq_true rfl) (Nat.le_of_ble_eq_true rfl) rfl hl.1 (Nat.le_of_ble_eq_true rfl) dJ17_set_19 rfl rfl (fun H locs hR hS => ?_)
    refine lv_istore (lv' := [(4, .int x9), (3, .int x6), (0, .ref v0), (1, .int v1), (2, .int v2)]) hx hb dJ17_set_22 hl (by decide) rfl (fun ls hl => ?_)
    refine lv_aload_n hx hb dJ17_set_24 rfl (lv_at hl 2 rfl) ?_
    refine lv_iload hx hb dJ17_set_25 (lv_at hl 0 rfl) ?_
    replace h := bo_o h
    obtain ⟨_, e11, h⟩ := h
    replace h := bo_o h
    obtain ⟨w10, e12, h⟩ := h
    refine h_callV 1 (ci := 0) (As := [.int x9]) (rest := []) (v := none) (w' := w10) (st1 := []) hx hb hml hown hts hK hR hS (Nat.le_refl _) (Nat.le_refl _) rfl e11 (mJ17_expandTo e12) (lw_V q1426 q1428 qs30 q134 q1429) (by decide +kernel) (Nat.le_of_ble_eq_true rfl) (Nat.le_of_ble_eq_true rfl) rfl hl.1 (Nat.le_of_ble_eq_true rfl) dJ17_set_27 rfl rfl (fun H locs hR hS => ?_)
    refine lv_ldc2 (v := (-1)) hx hb hown (hts _ q1430) dJ17_set_30 ?_
    refine lv_iload_n hx hb dJ17_set_33 rfl (lv_at hl 3 rfl) ?_
    refine lv_lshl hx hb dJ17_set_34 rfl ?_
    replace h := nm_o h
    obtain ⟨x13, e14, h⟩ := h
    refine lv_lstore (lv' := [(5, .long x13), (4, .int x9), (3, .int x6), (0, .ref v0), (1, .int v1), (2, .int v2)]) hx hb dJ17_set_35 hl (by decide) (by subst e14; rfl) (fun ls hl => ?_)
    refine lv_ldc2 (v := (-1)) hx hb hown (hts _ q1430) dJ17_set_37 ?_
    refine lv_iload_n hx hb dJ17_set_40 rfl (lv_at hl 5 rfl) ?_
    refine lv_ineg hx hb dJ17_set_41 ?_
    refine lv_lushr hx hb dJ17_set_42 rfl ?_
    replace h := nm_o h
    obtain ⟨x15, e16, h⟩ := h
    refine lv_lstore (lv' := [(7, .long x15), (5, .long x13), (4, .int x9), (3, .int x6), (0, .ref v0), (1, .int v1), (2, .int v2)]) hx hb dJ17_set_43 hl (by decide) (by subst e16; rfl) (fun ls hl => ?_)
    exact bJ17_set_45 B h  hR hS (lv_sub hl [4, 3, 2, 1, 0] rfl)
  · replace h := it_o c3 h
    have eR := Option.some.inj h
    subst eR
    exact h_vfin hx hb hr hlk hR hS dJ17_set_10
theorem mJ17_set {l : Launch} {G : gE} {A : Nat → Prop} {v0 : Nat} {v1 : Int32} {v2 : Int32} {w : WH} {r : WH} (h : fJ17_set v0 v1 v2 w = some r) : hM l G A yJ17_set cJ17_set 10 none 13 290 [.ref v0, .int v1, .int v2] w none r :=
  h_of (by decide +kernel) (Nat.le_of_ble_eq_true rfl) (fun p e s m args below meth c ls B hnm hR hS hl => bJ17_set_0 B h hR hS hl)
noncomputable def fJ21_init (v0 : Nat) (v1 : Nat) (w : WH) : Option (WH) :=
  (hPut w v0 4 3 (.ref v1)).bind fun w1 =>
  (hPut w1 v0 4 1 (.int (-1))).bind fun w3 =>
  (gR w3 v0 4 3).bind fun x5 =>
  x5.bind fun a7 =>
  (gI w3 a7 2 0).bind fun x9 =>
  (hPut w3 v0 4 2 (.int x9)).bind fun w11 =>
  some w11
theorem bJ21_init_0 {p : Program} {l : Launch} {e : Env} {s : State} {m : MethodId} {args : Array Value} {below : List Frame} {meth : Method} {c : Code} {H : Heap} {locs : List Loc} {ls : Array Slot} {G : gE} {A : Nat → Prop} {w0 : WH} (B : gB G RJ21 cJ21_init 2 none p s m args meth c) (hnm : meth.name = "<init>") {v0 : Nat} {v1 : Nat} {w : WH} {r : WH} (h : fJ21_init v0 v1 w = some r)   (hR : RepH G A w H) (hS : Cu A s w0 w H locs) (hl : lv_has ls 2 [(0, .ref v0), (1, .ref v1)]) : W p l e (hRm 1 20 w0) s m args below meth c H locs (wC w0 - wC w) (wS w0 - wS w) (hZ below args s G A w0 none r) (F0 m 0 ls []) := by
  have B0 := B
  obtain ⟨hx, hb, hml, hown, hts, hr, hlk, hK⟩ := B0
  unfold fJ21_init at h
  refine lv_aload_n hx hb dJ21_init_0 rfl (lv_at hl 0 rfl) ?_
  refine lv_aload_n hx hb dJ21_init_1 rfl (lv_at hl 1 rfl) ?_
  replace h := bo_o h
  obtain ⟨w1, e2, h⟩ := h
  refine h_putF (ci := 4) (k := 3) (ty := tyJ21 3) hx hb hts hown hK hR hS in_J21 tyJ21 tyJ21_ok nmJ21 rfl (by decide) q1451 (fun _ h9 => h9) rfl hnm rfl (tyJ21_ok 3 (by decide)) rfl rfl e2 dJ21_init_2 (fun H locs hR hS => ?_)
  refine lv_aload_n hx hb dJ21_init_5 rfl (lv_at hl 0 rfl) ?_
  refine W.objInit hx hb hown (hts _ q1445) (hts _ q168) (hts _ q169) rfl (by rw [hml]; exact hl.1) rfl dJ21_init_6 (Nat.le_of_ble_eq_true rfl) (Nat.le_of_ble_eq_true rfl) ?_
  refine W.eq (g2 := F0 m 9 ls []) rfl ?_
  refine lv_aload_n hx hb dJ21_init_9 rfl (lv_at hl 0 rfl) ?_
  refine lv_iconst (v := (-1)) hx hb dJ21_init_10 (by decide) ?_
  replace h := bo_o h
  obtain ⟨w3, e4, h⟩ := h
  refine h_put (ci := 4) (k := 1) (ty := tyJ21 1) hx hb hts hown hK hR hS in_J21 tyJ21 tyJ21_ok nmJ21 rfl (by decide) q1449 (fun _ h9 => h9) rfl (tyJ21_ok 1 (by decide)) rfl rfl e4 dJ21_init_11 (fun H locs hR hS => ?_)
  refine lv_aload_n hx hb dJ21_init_14 rfl (lv_at hl 0 rfl) ?_
  refine lv_aload_n hx hb dJ21_init_15 rfl (lv_at hl 0 rfl) ?_
  replace h := bo_o h
  obtain ⟨x5, e6, h⟩ := h
  refine h_get (ci := 4) (k := 3) (v := va_rf x5) hx hb hts hown hK hR in_J21 rfl (by decide) (fun _ _ => rfl) q1451 (fun _ h9 => h9) (gR_o e6) dJ21_init_16 ?_
  replace h := bo_o h
  obtain ⟨a7, e8, h⟩ := h
  subst e8
  replace h := bo_o h
  obtain ⟨x9, e10, h⟩ := h
  refine h_get (ci := 2) (k := 0) (v := .int x9) hx hb hts hown hK hR in_J2 rfl (by decide) (fun _ _ => rfl) q519 (fun x9 h9 => u_same (hts _ q520) x9 h9) (gI_o e10) dJ21_init_19 ?_
  replace h := bo_o h
  obtain ⟨w11, e12, h⟩ := h
  refine h_put (ci := 4) (k := 2) (ty := tyJ21 2) hx hb hts hown hK hR hS in_J21 tyJ21 tyJ21_ok nmJ21 rfl (by decide) q1450 (fun _ h9 => h9) rfl (tyJ21_ok 2 (by decide)) rfl rfl e12 dJ21_init_22 (fun H locs hR hS => ?_)
  have eR := Option.some.inj h
  subst eR
  exact h_vfin hx hb hr hlk hR hS dJ21_init_25
theorem mJ21_init {l : Launch} {G : gE} {A : Nat → Prop} {v0 : Nat} {v1 : Nat} {w : WH} {r : WH} (h : fJ21_init v0 v1 w = some r) : hM l G A yJ21_init cJ21_init 2 none 1 20 [.ref v0, .ref v1] w none r :=
  h_of (by decide +kernel) (Nat.le_of_ble_eq_true rfl) (fun p e s m args below meth c ls B hnm hR hS hl => bJ21_init_0 B hnm h hR hS hl)
noncomputable def fJ2_iterator (v0 : Nat) (w : WH) : Option ((Option Nat × WH)) :=
  b2_ (hNw w 4 4 [.int 0, .int 0, .int 0, .null]) fun a1 w2 =>
  (fJ21_init a1 v0 w2).bind fun w4 =>
  some (some a1, w4)
theorem bJ2_iterator_0 {p : Program} {l : Launch} {e : Env} {s : State} {m : MethodId} {args : Array Value} {below : List Frame} {meth : Method} {c : Code} {H : Heap} {locs : List Loc} {ls : Array Slot} {G : gE} {A : Nat → Prop} {w0 : WH} (B : gB G RJ2 cJ2_iterator 1 (some (.object "java/util/Iterator")) p s m args meth c) {v0 : Nat} {w : WH} {r : (Option Nat × WH)} (h : fJ2_iterator v0 w = some r)   (hR : RepH G A w H) (hS : Cu A s w0 w H locs) (hl : lv_has ls 1 [(0, .ref v0)]) : W p l e (hRm 2 41 w0) s m args below meth c H locs (wC w0 - wC w) (wS w0 - wS w) (hZ below args s G A w0 (some (va_rf r.1)) r.2) (F0 m 0 ls []) := by
  have B0 := B
  obtain ⟨hx, hb, hml, hown, hts, hr, hlk, hK⟩ := B0
  unfold fJ2_iterator at h
  replace h := b2_o h
  obtain ⟨a1, w2, e3, h⟩ := h
  refine h_new (ci := 4) (fs := [.int 0, .int 0, .int 0, .null]) hx hb hts hown hK hR hS (Nat.le_refl _) (Nat.le_refl _) in_J21 tyJ21 tyJ21_ok rfl (by decide +kernel) q1440 q1441 q144 e3 dJ2_iterator_0 (fun H locs hR hS => ?_)
  refine lv_dup hx hb dJ2_iterator_3 rfl ?_
  refine lv_aload_n hx hb dJ2_iterator_4 rfl (lv_at hl 0 rfl) ?_
  replace h := bo_o h
  obtain ⟨w4, e5, h⟩ := h
  refine h_callI 1  (As := [.ref v0]) (rest := [.ref a1]) (w' := w4) hx hb hml hown hts hK hR hS (Nat.le_refl _) (Nat.le_refl _) (mJ21_init e5) (lw_meth q1444) q144 q1442 q1443 rfl (by decide +kernel) (Nat.le_of_ble_eq_true rfl) (Nat.le_of_ble_eq_true rfl) rfl hl.1 (Nat.le_of_ble_eq_true rfl) dJ2_iterator_5 rfl (fun H locs hR hS => ?_)
  have eR := Option.some.inj h
  subst eR
  exact h_afin (x := some a1) hx hb hr hlk (by first | exact Or.inl ⟨_, rfl⟩ | exact Or.inr ⟨_, rfl⟩) hR hS dJ2_iterator_8
theorem mJ2_iterator {l : Launch} {G : gE} {A : Nat → Prop} {v0 : Nat} {w : WH} {r : (Option Nat × WH)} (h : fJ2_iterator v0 w = some r) : hM l G A yJ2_iterator cJ2_iterator 1 (some (.object "java/util/Iterator")) 2 41 [.ref v0] w (some (va_rf r.1)) r.2 :=
  h_of (by decide +kernel) (Nat.le_of_ble_eq_true rfl) (fun p e s m args below meth c ls B hnm hR hS hl => bJ2_iterator_0 B h hR hS hl)
noncomputable def fJ21_hasNext (v0 : Nat) (w : WH) : Option ((Int32 × WH)) :=
  (gI w v0 4 0).bind fun x1 =>
  (gR w v0 4 3).bind fun x3 =>
  x3.bind fun a5 =>
  (gI w a5 2 2).bind fun x7 =>
  if x1 = x7 then (
    some (0, w)
  ) else (
    some (1, w)
  )
theorem bJ21_hasNext_0 {p : Program} {l : Launch} {e : Env} {s : State} {m : MethodId} {args : Array Value} {below : List Frame} {meth : Method} {c : Code} {H : Heap} {locs : List Loc} {ls : Array Slot} {G : gE} {A : Nat → Prop} {w0 : WH} (B : gB G RJ21 cJ21_hasNext 1 (some .boolean) p s m args meth c) {v0 : Nat} {w : WH} {r : (Int32 × WH)} (h : fJ21_hasNext v0 w = some r)   (hR : RepH G A w H) (hS : Cu A s w0 w H locs) (hl : lv_has ls 1 [(0, .ref v0)]) : W p l e (hRm 0 0 w0) s m args below meth c H locs (wC w0 - wC w) (wS w0 - wS w) (hZ below args s G A w0 (some (.int r.1)) r.2) (F0 m 0 ls []) := by
  have B0 := B
  obtain ⟨hx, hb, hml, hown, hts, hr, hlk, hK⟩ := B0
  unfold fJ21_hasNext at h
  refine lv_aload_n hx hb dJ21_hasNext_0 rfl (lv_at hl 0 rfl) ?_
  replace h := bo_o h
  obtain ⟨x1, e2, h⟩ := h
  refine h_get (ci := 4) (k := 0) (v := .int x1) hx hb hts hown hK hR in_J21 rfl (by decide) (fun _ _ => rfl) q1448 (fun _ h9 => h9) (gI_o e2) dJ21_hasNext_1 ?_
  refine lv_aload_n hx hb dJ21_hasNext_4 rfl (lv_at hl 0 rfl) ?_
  replace h := bo_o h
  obtain ⟨x3, e4, h⟩ := h
  refine h_get (ci := 4) (k := 3) (v := va_rf x3) hx hb hts hown hK hR in_J21 rfl (by decide) (fun _ _ => rfl) q1451 (fun _ h9 => h9) (gR_o e4) dJ21_hasNext_5 ?_
  replace h := bo_o h
  obtain ⟨a5, e6, h⟩ := h
  subst e6
  replace h := bo_o h
  obtain ⟨x7, e8, h⟩ := h
  refine h_getN (ci := 2) (k := 2) (v := .int x7) hx hb hts hown hK hR in_J2 rfl (by decide) (fun _ _ => rfl) (hK.fn 0 rfl) (fun _ h9 => h9) (gI_o e8) dJ21_hasNext_8 ?_
  refine lv_icmp_eq (tgt := 18) hx hb dJ21_hasNext_11 (by decide) (fun c9 => ?_) (fun c9 => ?_)
  · replace h := it_o c9 h
    refine lv_iconst (v := 0) hx hb dJ21_hasNext_18 (by decide) ?_
    have eR := Option.some.inj h
    subst eR
    exact h_zfin hx hb hr hlk (by show narrow .boolean (.int 0) = .int 0; decide) hR hS dJ21_hasNext_19
  · replace h := if_o c9 h
    refine lv_iconst (v := 1) hx hb dJ21_hasNext_14 (by decide) ?_
    refine lv_goto (tgt := 19) hx hb dJ21_hasNext_15 (by decide) ?_
    have eR := Option.some.inj h
    subst eR
    exact h_zfin hx hb hr hlk (by show narrow .boolean (.int 1) = .int 1; decide) hR hS dJ21_hasNext_19
theorem mJ21_hasNext {l : Launch} {G : gE} {A : Nat → Prop} {v0 : Nat} {w : WH} {r : (Int32 × WH)} (h : fJ21_hasNext v0 w = some r) : hM l G A yJ21_hasNext cJ21_hasNext 1 (some .boolean) 0 0 [.ref v0] w (some (.int r.1)) r.2 :=
  h_of (by decide +kernel) (Nat.le_of_ble_eq_true rfl) (fun p e s m args below meth c ls B hnm hR hS hl => bJ21_hasNext_0 B h hR hS hl)
noncomputable def fJ16_numberOfTrailingZeros_b74 (v0 : Int32) (v1 : Int32) (w : WH) : Option ((Int32 × WH)) :=
  some (v1 + ((v0.toUInt32 >>> ((1 : Int32).toUInt32 &&& Int32.toUInt32 31)).toInt32), w)
theorem bJ16_numberOfTrailingZeros_74 {p : Program} {l : Launch} {e : Env} {s : State} {m : MethodId} {args : Array Value} {below : List Frame} {meth : Method} {c : Code} {H : Heap} {locs : List Loc} {ls : Array Slot} {G : gE} {A : Nat → Prop} {w0 : WH} (B : gB G RJ16 cJ16_numberOfTrailingZeros 2 (some .int) p s m args meth c) {v0 : Int32} {v1 : Int32} {w : WH} {r : (Int32 × WH)} (h : fJ16_numberOfTrailingZeros_b74 v0 v1 w = some r)   (hR : RepH G A w H) (hS : Cu A s w0 w H locs) (hl : lv_has ls 2 [(0, .int v0), (1, .int v1)]) : W p l e (hRm 0 0 w0) s m args below meth c H locs (wC w0 - wC w) (wS w0 - wS w) (hZ below args s G A w0 (some (.int r.1)) r.2) (F0 m 74 ls []) := by
  have B0 := B
  obtain ⟨hx, hb, hml, hown, hts, hr, hlk, hK⟩ := B0
  unfold fJ16_numberOfTrailingZeros_b74 at h
  refine lv_iload_n hx hb dJ16_numberOfTrailingZeros_74 rfl (lv_at hl 1 rfl) ?_
  refine lv_iload_n hx hb dJ16_numberOfTrailingZeros_75 rfl (lv_at hl 0 rfl) ?_
  refine lv_iconst (v := 1) hx hb dJ16_numberOfTrailingZeros_76 (by decide) ?_
  refine lv_iushr hx hb dJ16_numberOfTrailingZeros_77 rfl ?_
  refine lv_iadd hx hb dJ16_numberOfTrailingZeros_78 ?_
  have eR := Option.some.inj h
  subst eR
  exact h_ifin hx hb hr hlk hR hS dJ16_numberOfTrailingZeros_79
noncomputable def fJ16_numberOfTrailingZeros_b62 (v0 : Int32) (v1 : Int32) (w : WH) : Option ((Int32 × WH)) :=
  if v0 ≤ 4 then (
    fJ16_numberOfTrailingZeros_b74 v0 v1 w
  ) else (
    nm_ ((v0.toUInt32 >>> ((2 : Int32).toUInt32 &&& Int32.toUInt32 31)).toInt32) fun x2 =>
    fJ16_numberOfTrailingZeros_b74 x2 (v1 + 2) w
  )
theorem bJ16_numberOfTrailingZeros_62 {p : Program} {l : Launch} {e : Env} {s : State} {m : MethodId} {args : Array Value} {below : List Frame} {meth : Method} {c : Code} {H : Heap} {locs : List Loc} {ls : Array Slot} {G : gE} {A : Nat → Prop} {w0 : WH} (B : gB G RJ16 cJ16_numberOfTrailingZeros 2 (some .int) p s m args meth c) {v0 : Int32} {v1 : Int32} {w : WH} {r : (Int32 × WH)} (h : fJ16_numberOfTrailingZeros_b62 v0 v1 w = some r)   (hR : RepH G A w H) (hS : Cu A s w0 w H locs) (hl : lv_has ls 2 [(0, .int v0), (1, .int v1)]) : W p l e (hRm 0 0 w0) s m args below meth c H locs (wC w0 - wC w) (wS w0 - wS w) (hZ below args s G A w0 (some (.int r.1)) r.2) (F0 m 62 ls []) := by
  have B0 := B
  obtain ⟨hx, hb, hml, hown, hts, hr, hlk, hK⟩ := B0
  unfold fJ16_numberOfTrailingZeros_b62 at h
  refine lv_iload_n hx hb dJ16_numberOfTrailingZeros_62 rfl (lv_at hl 0 rfl) ?_
  refine lv_iconst (v := 4) hx hb dJ16_numberOfTrailingZeros_63 (by decide) ?_
  refine lv_icmp_le (tgt := 74) hx hb dJ16_numberOfTrailingZeros_64 (by decide) (fun c1 => ?_) (fun c1 => ?_)
  · replace h := it_o c1 h
    exact bJ16_numberOfTrailingZeros_74 B h  hR hS (lv_sub hl [0, 1] rfl)
  · replace h := if_o c1 h
    refine lv_iinc (v := v1 + 2) (lv' := [(1, .int (v1 + 2)), (0, .int v0)]) hx hb dJ16_numberOfTrailingZeros_67 hl (k := 1) rfl rfl (by decide) rfl (fun ls hl => ?_)
    refine lv_iload_n hx hb dJ16_numberOfTrailingZeros_70 rfl (lv_at hl 1 rfl) ?_
    refine lv_iconst (v := 2) hx hb dJ16_numberOfTrailingZeros_71 (by decide) ?_
    refine lv_iushr hx hb dJ16_numberOfTrailingZeros_72 rfl ?_
    replace h := nm_o h
    obtain ⟨x2, e3, h⟩ := h
    refine lv_istore_n (lv' := [(0, .int x2), (1, .int (v1 + 2))]) hx hb dJ16_numberOfTrailingZeros_73 rfl hl (by decide) (by subst e3; rfl) (fun ls hl => ?_)
    exact bJ16_numberOfTrailingZeros_74 B h  hR hS (lv_sub hl [0, 1] rfl)
noncomputable def fJ16_numberOfTrailingZeros_b49 (v0 : Int32) (v1 : Int32) (w : WH) : Option ((Int32 × WH)) :=
  if v0 ≤ 16 then (
    fJ16_numberOfTrailingZeros_b62 v0 v1 w
  ) else (
    nm_ ((v0.toUInt32 >>> ((4 : Int32).toUInt32 &&& Int32.toUInt32 31)).toInt32) fun x2 =>
    fJ16_numberOfTrailingZeros_b62 x2 (v1 + 4) w
  )
theorem bJ16_numberOfTrailingZeros_49 {p : Program} {l : Launch} {e : Env} {s : State} {m : MethodId} {args : Array Value} {below : List Frame} {meth : Method} {c : Code} {H : Heap} {locs : List Loc} {ls : Array Slot} {G : gE} {A : Nat → Prop} {w0 : WH} (B : gB G RJ16 cJ16_numberOfTrailingZeros 2 (some .int) p s m args meth c) {v0 : Int32} {v1 : Int32} {w : WH} {r : (Int32 × WH)} (h : fJ16_numberOfTrailingZeros_b49 v0 v1 w = some r)   (hR : RepH G A w H) (hS : Cu A s w0 w H locs) (hl : lv_has ls 2 [(0, .int v0), (1, .int v1)]) : W p l e (hRm 0 0 w0) s m args below meth c H locs (wC w0 - wC w) (wS w0 - wS w) (hZ below args s G A w0 (some (.int r.1)) r.2) (F0 m 49 ls []) := by
  have B0 := B
  obtain ⟨hx, hb, hml, hown, hts, hr, hlk, hK⟩ := B0
  unfold fJ16_numberOfTrailingZeros_b49 at h
  refine lv_iload_n hx hb dJ16_numberOfTrailingZeros_49 rfl (lv_at hl 0 rfl) ?_
  refine lv_bipush (v := 16) hx hb dJ16_numberOfTrailingZeros_50 (by decide) ?_
  refine lv_icmp_le (tgt := 62) hx hb dJ16_numberOfTrailingZeros_52 (by decide) (fun c1 => ?_) (fun c1 => ?_)
  · replace h := it_o c1 h
    exact bJ16_numberOfTrailingZeros_62 B h  hR hS (lv_sub hl [0, 1] rfl)
  · replace h := if_o c1 h
    refine lv_iinc (v := v1 + 4) (lv' := [(1, .int (v1 + 4)), (0, .int v0)]) hx hb dJ16_numberOfTrailingZeros_55 hl (k := 1) rfl rfl (by decide) rfl (fun ls hl => ?_)
    refine lv_iload_n hx hb dJ16_numberOfTrailingZeros_58 rfl (lv_at hl 1 rfl) ?_
    refine lv_iconst (v := 4) hx hb dJ16_numberOfTrailingZeros_59 (by decide) ?_
    refine lv_iushr hx hb dJ16_numberOfTrailingZeros_60 rfl ?_
    replace h := nm_o h
    obtain ⟨x2, e3, h⟩ := h
    refine lv_istore_n (lv' := [(0, .int x2), (1, .int (v1 + 4))]) hx hb dJ16_numberOfTrailingZeros_61 rfl hl (by decide) (by subst e3; rfl) (fun ls hl => ?_)
    exact bJ16_numberOfTrailingZeros_62 B h  hR hS (lv_sub hl [0, 1] rfl)
noncomputable def fJ16_numberOfTrailingZeros_b34 (v0 : Int32) (v1 : Int32) (w : WH) : Option ((Int32 × WH)) :=
  if v0 ≤ 256 then (
    fJ16_numberOfTrailingZeros_b49 v0 v1 w
  ) else (
    nm_ ((v0.toUInt32 >>> ((8 : Int32).toUInt32 &&& Int32.toUInt32 31)).toInt32) fun x2 =>
    fJ16_numberOfTrailingZeros_b49 x2 (v1 + 8) w
  )
theorem bJ16_numberOfTrailingZeros_34 {p : Program} {l : Launch} {e : Env} {s : State} {m : MethodId} {args : Array Value} {below : List Frame} {meth : Method} {c : Code} {H : Heap} {locs : List Loc} {ls : Array Slot} {G : gE} {A : Nat → Prop} {w0 : WH} (B : gB G RJ16 cJ16_numberOfTrailingZeros 2 (some .int) p s m args meth c) {v0 : Int32} {v1 : Int32} {w : WH} {r : (Int32 × WH)} (h : fJ16_numberOfTrailingZeros_b34 v0 v1 w = some r)   (hR : RepH G A w H) (hS : Cu A s w0 w H locs) (hl : lv_has ls 2 [(0, .int v0), (1, .int v1)]) : W p l e (hRm 0 0 w0) s m args below meth c H locs (wC w0 - wC w) (wS w0 - wS w) (hZ below args s G A w0 (some (.int r.1)) r.2) (F0 m 34 ls []) := by
  have B0 := B
  obtain ⟨hx, hb, hml, hown, hts, hr, hlk, hK⟩ := B0
  unfold fJ16_numberOfTrailingZeros_b34 at h
  refine lv_iload_n hx hb dJ16_numberOfTrailingZeros_34 rfl (lv_at hl 0 rfl) ?_
  refine lv_sipush (v := 256) hx hb dJ16_numberOfTrailingZeros_35 (by decide) ?_
  refine lv_icmp_le (tgt := 49) hx hb dJ16_numberOfTrailingZeros_38 (by decide) (fun c1 => ?_) (fun c1 => ?_)
  · replace h := it_o c1 h
    exact bJ16_numberOfTrailingZeros_49 B h  hR hS (lv_sub hl [0, 1] rfl)
  · replace h := if_o c1 h
    refine lv_iinc (v := v1 + 8) (lv' := [(1, .int (v1 + 8)), (0, .int v0)]) hx hb dJ16_numberOfTrailingZeros_41 hl (k := 1) rfl rfl (by decide) rfl (fun ls hl => ?_)
    refine lv_iload_n hx hb dJ16_numberOfTrailingZeros_44 rfl (lv_at hl 1 rfl) ?_
    refine lv_bipush (v := 8) hx hb dJ16_numberOfTrailingZeros_45 (by decide) ?_
    refine lv_iushr hx hb dJ16_numberOfTrailingZeros_47 rfl ?_
    replace h := nm_o h
    obtain ⟨x2, e3, h⟩ := h
    refine lv_istore_n (lv' := [(0, .int x2), (1, .int (v1 + 8))]) hx hb dJ16_numberOfTrailingZeros_48 rfl hl (by decide) (by subst e3; rfl) (fun ls hl => ?_)
    exact bJ16_numberOfTrailingZeros_49 B h  hR hS (lv_sub hl [0, 1] rfl)
noncomputable def fJ16_numberOfTrailingZeros (v0 : Int32) (w : WH) : Option ((Int32 × WH)) :=
  nm_ ((v0 ^^^ (-1)) &&& (v0 - 1)) fun x1 =>
  if 0 < x1 then (
    if x1 ≤ 65536 then (
      fJ16_numberOfTrailingZeros_b34 x1 1 w
    ) else (
      nm_ ((x1.toUInt32 >>> ((16 : Int32).toUInt32 &&& Int32.toUInt32 31)).toInt32) fun x5 =>
      fJ16_numberOfTrailingZeros_b34 x5 ((1 : Int32) + 16) w
    )
  ) else (
    some (x1 &&& 32, w)
  )
theorem bJ16_numberOfTrailingZeros_0 {p : Program} {l : Launch} {e : Env} {s : State} {m : MethodId} {args : Array Value} {below : List Frame} {meth : Method} {c : Code} {H : Heap} {locs : List Loc} {ls : Array Slot} {G : gE} {A : Nat → Prop} {w0 : WH} (B : gB G RJ16 cJ16_numberOfTrailingZeros 2 (some .int) p s m args meth c) {v0 : Int32} {w : WH} {r : (Int32 × WH)} (h : fJ16_numberOfTrailingZeros v0 w = some r)   (hR : RepH G A w H) (hS : Cu A s w0 w H locs) (hl : lv_has ls 2 [(0, .int v0)]) : W p l e (hRm 0 0 w0) s m args below meth c H locs (wC w0 - wC w) (wS w0 - wS w) (hZ below args s G A w0 (some (.int r.1)) r.2) (F0 m 0 ls []) := by
  have B0 := B
  obtain ⟨hx, hb, hml, hown, hts, hr, hlk, hK⟩ := B0
  unfold fJ16_numberOfTrailingZeros at h
  refine lv_iload_n hx hb dJ16_numberOfTrailingZeros_0 rfl (lv_at hl 0 rfl) ?_
  refine lv_iconst (v := (-1)) hx hb dJ16_numberOfTrailingZeros_1 (by decide) ?_
  refine lv_ixor hx hb dJ16_numberOfTrailingZeros_2 ?_
  refine lv_iload_n hx hb dJ16_numberOfTrailingZeros_3 rfl (lv_at hl 0 rfl) ?_
  refine lv_iconst (v := 1) hx hb dJ16_numberOfTrailingZeros_4 (by decide) ?_
  refine lv_isub hx hb dJ16_numberOfTrailingZeros_5 ?_
  refine lv_iand hx hb dJ16_numberOfTrailingZeros_6 ?_
  replace h := nm_o h
  obtain ⟨x1, e2, h⟩ := h
  refine lv_istore_n (lv' := [(0, .int x1)]) hx hb dJ16_numberOfTrailingZeros_7 rfl hl (by decide) (by subst e2; rfl) (fun ls hl => ?_)
  refine lv_iload_n hx hb dJ16_numberOfTrailingZeros_8 rfl (lv_at hl 0 rfl) ?_
  refine lv_if_gt (tgt := 17) hx hb dJ16_numberOfTrailingZeros_9 (by decide) (fun c3 => ?_) (fun c3 => ?_)
  · replace h := it_o c3 h
    refine lv_iconst (v := 1) hx hb dJ16_numberOfTrailingZeros_17 (by decide) ?_
    refine lv_istore_n (lv' := [(1, .int 1), (0, .int x1)]) hx hb dJ16_numberOfTrailingZeros_18 rfl hl (by decide) rfl (fun ls hl => ?_)
    refine lv_iload_n hx hb dJ16_numberOfTrailingZeros_19 rfl (lv_at hl 1 rfl) ?_
    refine lv_ldcw (v := 65536) hx hb hown (hts _ q1722) dJ16_numberOfTrailingZeros_20 ?_
    refine lv_icmp_le (tgt := 34) hx hb dJ16_numberOfTrailingZeros_23 (by decide) (fun c4 => ?_) (fun c4 => ?_)
    · replace h := it_o c4 h
      exact bJ16_numberOfTrailingZeros_34 B h  hR hS (lv_sub hl [1, 0] rfl)
    · replace h := if_o c4 h
      refine lv_iinc (v := (1 : Int32) + 16) (lv' := [(1, .int ((1 : Int32) + 16)), (0, .int x1)]) hx hb dJ16_numberOfTrailingZeros_26 hl (k := 0) rfl rfl (by decide) rfl (fun ls hl => ?_)
      refine lv_iload_n hx hb dJ16_numberOfTrailingZeros_29 rfl (lv_at hl 1 rfl) ?_
      refine lv_bipush (v := 16) hx hb dJ16_numberOfTrailingZeros_30 (by decide) ?_
      refine lv_iushr hx hb dJ16_numberOfTrailingZeros_32 rfl ?_
      replace h := nm_o h
      obtain ⟨x5, e6, h⟩ := h
      refine lv_istore_n (lv' := [(0, .int x5), (1, .int ((1 : Int32) + 16))]) hx hb dJ16_numberOfTrailingZeros_33 rfl hl (by decide) (by subst e6; rfl) (fun ls hl => ?_)
      exact bJ16_numberOfTrailingZeros_34 B h  hR hS (lv_sub hl [0, 1] rfl)
  · replace h := if_o c3 h
    refine lv_iload_n hx hb dJ16_numberOfTrailingZeros_12 rfl (lv_at hl 0 rfl) ?_
    refine lv_bipush (v := 32) hx hb dJ16_numberOfTrailingZeros_13 (by decide) ?_
    refine lv_iand hx hb dJ16_numberOfTrailingZeros_15 ?_
    have eR := Option.some.inj h
    subst eR
    exact h_ifin hx hb hr hlk hR hS dJ16_numberOfTrailingZeros_16
theorem mJ16_numberOfTrailingZeros {l : Launch} {G : gE} {A : Nat → Prop} {v0 : Int32} {w : WH} {r : (Int32 × WH)} (h : fJ16_numberOfTrailingZeros v0 w = some r) : hM l G A yJ16_numberOfTrailingZeros cJ16_numberOfTrailingZeros 2 (some .int) 0 0 [.int v0] w (some (.int r.1)) r.2 :=
  h_of (by decide +kernel) (Nat.le_of_ble_eq_true rfl) (fun p e s m args below meth c ls B hnm hR hS hl => bJ16_numberOfTrailingZeros_0 B h hR hS hl)
noncomputable def fJ28_numberOfTrailingZeros (v0 : Int64) (w : WH) : Option ((Int32 × WH)) :=
  nm_ (v0.toInt32) fun x1 =>
  if x1 = 0 then (
    b2_ (fJ16_numberOfTrailingZeros (((v0.toUInt64 >>> ((32 : Int32).toInt64.toUInt64 &&& Int64.toUInt64 63)).toInt64).toInt32) w) fun x6 w4 =>
    some (32 + x6, w4)
  ) else (
    b2_ (fJ16_numberOfTrailingZeros x1 w) fun x9 w7 =>
    some (x9, w7)
  )
theorem bJ28_numberOfTrailingZeros_0 {p : Program} {l : Launch} {e : Env} {s : State} {m : MethodId} {args : Array Value} {below : List Frame} {meth : Method} {c : Code} {H : Heap} {locs : List Loc} {ls : Array Slot} {G : gE} {A : Nat → Prop} {w0 : WH} (B : gB G RJ28 cJ28_numberOfTrailingZeros 3 (some .int) p s m args meth c) {v0 : Int64} {w : WH} {r : (Int32 × WH)} (h : fJ28_numberOfTrailingZeros v0 w = some r)   (hR : RepH G A w H) (hS : Cu A s w0 w H locs) (hl : lv_has ls 3 [(0, .long v0)]) : W p l e (hRm 1 21 w0) s m args below meth c H locs (wC w0 - wC w) (wS w0 - wS w) (hZ below args s G A w0 (some (.int r.1)) r.2) (F0 m 0 ls []) := by
  have B0 := B
  obtain ⟨hx, hb, hml, hown, hts, hr, hlk, hK⟩ := B0
  unfold fJ28_numberOfTrailingZeros at h
  refine lv_lload_n hx hb dJ28_numberOfTrailingZeros_0 rfl (lv_at hl 0 rfl) ?_
  refine lv_l2i hx hb dJ28_numberOfTrailingZeros_1 rfl ?_
  replace h := nm_o h
  obtain ⟨x1, e2, h⟩ := h
  refine lv_istore_n (lv' := [(2, .int x1), (0, .long v0)]) hx hb dJ28_numberOfTrailingZeros_2 rfl hl (by decide) (by subst e2; rfl) (fun ls hl => ?_)
  refine lv_iload_n hx hb dJ28_numberOfTrailingZeros_3 rfl (lv_at hl 0 rfl) ?_
  refine lv_if_ne (tgt := 21) hx hb dJ28_numberOfTrailingZeros_4 (by decide) (fun c3 => ?_) (fun c3 => ?_)
  · replace h := if_o c3 h
    refine lv_iload_n hx hb dJ28_numberOfTrailingZeros_21 rfl (lv_at hl 0 rfl) ?_
    replace h := b2_o h
    obtain ⟨x9, w7, e8, h⟩ := h
    refine h_callS 1  (As := [.int x1]) (rest := []) (v := (some (.int x9))) (w' := w7) (st1 := [.int x9]) hx hb hml hown hts hK hR hS (Nat.le_refl _) (Nat.le_refl _) (mJ16_numberOfTrailingZeros e8) (lw_S q1719 q1720 q133 q1721) (by decide +kernel) (Nat.le_of_ble_eq_true rfl) (Nat.le_of_ble_eq_true rfl) rfl hl.1 (Nat.le_of_ble_eq_true rfl) dJ28_numberOfTrailingZeros_22 rfl rfl (fun H locs hR hS => ?_)
    have eR := Option.some.inj h
    subst eR
    exact h_ifin hx hb hr hlk hR hS dJ28_numberOfTrailingZeros_25
  · replace h := it_o c3 h
    refine lv_bipush (v := 32) hx hb dJ28_numberOfTrailingZeros_7 (by decide) ?_
    refine lv_lload_n hx hb dJ28_numberOfTrailingZeros_9 rfl (lv_at hl 1 rfl) ?_
    refine lv_bipush (v := 32) hx hb dJ28_numberOfTrailingZeros_10 (by decide) ?_
    refine lv_lushr hx hb dJ28_numberOfTrailingZeros_12 rfl ?_
    refine lv_l2i hx hb dJ28_numberOfTrailingZeros_13 rfl ?_
    replace h := b2_o h
    obtain ⟨x6, w4, e5, h⟩ := h
    refine h_callS 1  (As := [.int (((v0.toUInt64 >>> ((32 : Int32).toInt64.toUInt64 &&& Int64.toUInt64 63)).toInt64).toInt32)]) (rest := [.int 32]) (v := (some (.int x6))) (w' := w4) (st1 := [.int x6, .int 32]) hx hb hml hown hts hK hR hS (Nat.le_refl _) (Nat.le_refl _) (mJ16_numberOfTrailingZeros e5) (lw_S q1719 q1720 q133 q1721) (by decide +kernel) (Nat.le_of_ble_eq_true rfl) (Nat.le_of_ble_eq_true rfl) rfl hl.1 (Nat.le_of_ble_eq_true rfl) dJ28_numberOfTrailingZeros_14 rfl rfl (fun H locs hR hS => ?_)
    refine lv_iadd hx hb dJ28_numberOfTrailingZeros_17 ?_
    refine lv_goto (tgt := 25) hx hb dJ28_numberOfTrailingZeros_18 (by decide) ?_
    have eR := Option.some.inj h
    subst eR
    exact h_ifin hx hb hr hlk hR hS dJ28_numberOfTrailingZeros_25
theorem mJ28_numberOfTrailingZeros {l : Launch} {G : gE} {A : Nat → Prop} {v0 : Int64} {w : WH} {r : (Int32 × WH)} (h : fJ28_numberOfTrailingZeros v0 w = some r) : hM l G A yJ28_numberOfTrailingZeros cJ28_numberOfTrailingZeros 3 (some .int) 1 21 [.long v0] w (some (.int r.1)) r.2 :=
  h_of (by decide +kernel) (Nat.le_of_ble_eq_true rfl) (fun p e s m args below meth c ls B hnm hR hS hl => bJ28_numberOfTrailingZeros_0 B h hR hS hl)
noncomputable def fJ17_nextSetBit_b69 (v2 : Int32) (v3 : Int64) (w : WH) : Option ((Int32 × WH)) :=
  b2_ (fJ28_numberOfTrailingZeros v3 w) fun x3 w1 =>
  some ((v2 * 64) + x3, w1)
theorem bJ17_nextSetBit_69 {p : Program} {l : Launch} {e : Env} {s : State} {m : MethodId} {args : Array Value} {below : List Frame} {meth : Method} {c : Code} {H : Heap} {locs : List Loc} {ls : Array Slot} {G : gE} {A : Nat → Prop} {w0 : WH} (B : gB G RJ17 cJ17_nextSetBit 5 (some .int) p s m args meth c) {v2 : Int32} {v3 : Int64} {w : WH} {r : (Int32 × WH)} (h : fJ17_nextSetBit_b69 v2 v3 w = some r)   (hR : RepH G A w H) (hS : Cu A s w0 w H locs) (hl : lv_has ls 5 [(2, .int v2), (3, .long v3)]) : W p l e (hRm 12 269 w0) s m args below meth c H locs (wC w0 - wC w) (wS w0 - wS w) (hZ below args s G A w0 (some (.int r.1)) r.2) (F0 m 69 ls []) := by
  have B0 := B
  obtain ⟨hx, hb, hml, hown, hts, hr, hlk, hK⟩ := B0
  unfold fJ17_nextSetBit_b69 at h
  refine lv_iload_n hx hb dJ17_nextSetBit_69 rfl (lv_at hl 0 rfl) ?_
  refine lv_bipush (v := 64) hx hb dJ17_nextSetBit_70 (by decide) ?_
  refine lv_imul hx hb dJ17_nextSetBit_72 ?_
  refine lv_lload_n hx hb dJ17_nextSetBit_73 rfl (lv_at hl 1 rfl) ?_
  replace h := b2_o h
  obtain ⟨x3, w1, e2, h⟩ := h
  refine h_callS 1  (As := [.long v3]) (rest := [.int (v2 * 64)]) (v := (some (.int x3))) (w' := w1) (st1 := [.int x3, .int (v2 * 64)]) hx hb hml hown hts hK hR hS (Nat.le_refl _) (Nat.le_refl _) (mJ28_numberOfTrailingZeros e2) (lw_S q1716 q1717 q152 q1718) (by decide +kernel) (Nat.le_of_ble_eq_true rfl) (Nat.le_of_ble_eq_true rfl) rfl hl.1 (Nat.le_of_ble_eq_true rfl) dJ17_nextSetBit_74 rfl rfl (fun H locs hR hS => ?_)
  refine lv_iadd hx hb dJ17_nextSetBit_77 ?_
  have eR := Option.some.inj h
  subst eR
  exact h_ifin hx hb hr hlk hR hS dJ17_nextSetBit_78
noncomputable def fJ17_nextSetBit_b63 (v0 : Nat) (v2 : Int32) (v3 : Int64) (w : WH) : Option (Sum (Int32 × Int64 × WH) ((Int32 × WH))) :=
  if lg_cmp v3 0 = 0 then (
    (gI w v0 0 1).bind fun x2 =>
    if v2 + 1 = x2 then (
      some (.inr ((-1), w))
    ) else (
      (gR w v0 0 0).bind fun x5 =>
      x5.bind fun a7 =>
      (ldJ w a7 (v2 + 1)).bind fun x9 =>
      some (.inl (v2 + 1, x9, w))
    )
  ) else (
    (fJ17_nextSetBit_b69 v2 v3 w).map (fun y => (.inr y))
  )
theorem bJ17_nextSetBit_63 {p : Program} {l : Launch} {e : Env} {s : State} {m : MethodId} {args : Array Value} {below : List Frame} {meth : Method} {c : Code} {H : Heap} {locs : List Loc} {ls : Array Slot} {G : gE} {A : Nat → Prop} {w0 : WH} (B : gB G RJ17 cJ17_nextSetBit 5 (some .int) p s m args meth c) {v0 : Nat} {v2 : Int32} {v3 : Int64} {w : WH} {x : Sum (Int32 × Int64 × WH) ((Int32 × WH))} {r : (Int32 × WH)} (h : fJ17_nextSetBit_b63 v0 v2 v3 w = some x)  (k63 : ∀ (v2' : Int32) (v3' : Int64) (w' : WH), x = (.inl (v2', v3', w')) → ∀ (H : Heap) (locs : List Loc) (ls : Array Slot), RepH G A w' H → Cu A s w0 w' H locs → lv_has ls 5 [(0, .ref v0), (2, .int v2'), (3, .long v3')] → W p l e (hRm 12 269 w0) s m args below meth c H locs (wC w0 - wC w') (wS w0 - wS w') (hZ below args s G A w0 (some (.int r.1)) r.2) (F0 m 63 ls [])) (kR : ∀ q, x = (.inr q) → q = r) (hR : RepH G A w H) (hS : Cu A s w0 w H locs) (hl : lv_has ls 5 [(0, .ref v0), (2, .int v2), (3, .long v3)]) : W p l e (hRm 12 269 w0) s m args below meth c H locs (wC w0 - wC w) (wS w0 - wS w) (hZ below args s G A w0 (some (.int r.1)) r.2) (F0 m 63 ls []) := by
  have B0 := B
  obtain ⟨hx, hb, hml, hown, hts, hr, hlk, hK⟩ := B0
  unfold fJ17_nextSetBit_b63 at h
  refine lv_lload_n hx hb dJ17_nextSetBit_63 rfl (lv_at hl 2 rfl) ?_
  refine lv_lconst (v := 0) hx hb dJ17_nextSetBit_64 (by decide) ?_
  refine W.lcmp hx hb dJ17_nextSetBit_65 ?_
  refine lv_if_eq (tgt := 79) hx hb dJ17_nextSetBit_66 (by decide) (fun c1 => ?_) (fun c1 => ?_)
  · replace h := it_o c1 h
    refine lv_iinc (v := v2 + 1) (lv' := [(2, .int (v2 + 1)), (0, .ref v0), (3, .long v3)]) hx hb dJ17_nextSetBit_79 hl (k := 1) rfl rfl (by decide) rfl (fun ls hl => ?_)
    refine lv_iload_n hx hb dJ17_nextSetBit_82 rfl (lv_at hl 0 rfl) ?_
    refine lv_aload_n hx hb dJ17_nextSetBit_83 rfl (lv_at hl 1 rfl) ?_
    replace h := bo_o h
    obtain ⟨x2, e3, h⟩ := h
    refine h_get (ci := 0) (k := 1) (v := .int x2) hx hb hts hown hK hR in_J17 rfl (by decide) (fun _ _ => rfl) q575 (fun _ h9 => h9) (gI_o e3) dJ17_nextSetBit_84 ?_
    refine lv_icmp_ne (tgt := 92) hx hb dJ17_nextSetBit_87 (by decide) (fun c4 => ?_) (fun c4 => ?_)
    · replace h := if_o c4 h
      refine lv_aload_n hx hb dJ17_nextSetBit_92 rfl (lv_at hl 1 rfl) ?_
      replace h := bo_o h
      obtain ⟨x5, e6, h⟩ := h
      refine h_get (ci := 0) (k := 0) (v := va_rf x5) hx hb hts hown hK hR in_J17 rfl (by decide) (fun _ _ => rfl) q574 (fun _ h9 => h9) (gR_o e6) dJ17_nextSetBit_93 ?_
      refine lv_iload_n hx hb dJ17_nextSetBit_96 rfl (lv_at hl 0 rfl) ?_
      replace h := bo_o h
      obtain ⟨a7, e8, h⟩ := h
      subst e8
      replace h := bo_o h
      obtain ⟨x9, e10, h⟩ := h
      refine h_lald hx hb hK hR e10 dJ17_nextSetBit_97 ?_
      refine lv_lstore_n (lv' := [(3, .long x9), (2, .int (v2 + 1)), (0, .ref v0)]) hx hb dJ17_nextSetBit_98 rfl hl (by decide) rfl (fun ls hl => ?_)
      refine lv_goto (tgt := 63) hx hb dJ17_nextSetBit_99 (by decide) ?_
      exact k63 _ _ _ (Option.some.inj h).symm H locs ls hR hS (lv_sub hl [2, 1, 0] rfl)
    · replace h := it_o c4 h
      refine lv_iconst (v := (-1)) hx hb dJ17_nextSetBit_90 (by decide) ?_
      have eR := kR _ (Option.some.inj h).symm
      subst eR
      exact h_ifin hx hb hr hlk hR hS dJ17_nextSetBit_91
  · replace h := if_o c1 h
    obtain ⟨y, h, ey⟩ := mp_o h
    have ey := kR _ ey.symm
    subst ey
    exact bJ17_nextSetBit_69 B h  hR hS (lv_sub hl [1, 2] rfl)
noncomputable def fJ17_nextSetBit_l63 (v0 : Nat) (v2 : Int32) (v3 : Int64) (w : WH) : Option ((Int32 × WH)) := whileO (fun q => fJ17_nextSetBit_b63 v0 q.1 q.2.1 q.2.2) (v2, v3, w)
theorem lJ17_nextSetBit_63 {p : Program} {l : Launch} {e : Env} {s : State} {m : MethodId} {args : Array Value} {below : List Frame} {meth : Method} {c : Code} {G : gE} {A : Nat → Prop} {w0 : WH} (B : gB G RJ17 cJ17_nextSetBit 5 (some .int) p s m args meth c) {v0 : Nat} {r : (Int32 × WH)}   : ∀ (v2 : Int32) (v3 : Int64) (w : WH), fJ17_nextSetBit_l63 v0 v2 v3 w = some r → ∀ (H : Heap) (locs : List Loc) (ls : Array Slot), RepH G A w H → Cu A s w0 w H locs → lv_has ls 5 [(0, .ref v0), (2, .int v2), (3, .long v3)] → W p l e (hRm 12 269 w0) s m args below meth c H locs (wC w0 - wC w) (wS w0 - wS w) (hZ below args s G A w0 (some (.int r.1)) r.2) (F0 m 63 ls []) := by
  intro v2 v3 w h
  refine wh_walk (body := (fun q => fJ17_nextSetBit_b63 v0 q.1 q.2.1 q.2.2)) (P := (fun q : (Int32 × Int64 × WH) => ∀ (H : Heap) (locs : List Loc) (ls : Array Slot), RepH G A (q.2.2) H → Cu A s w0 (q.2.2) H locs → lv_has ls 5 [(0, .ref v0), (2, .int (q.1)), (3, .long (q.2.1))] → W p l e (hRm 12 269 w0) s m args below meth c H locs (wC w0 - wC (q.2.2)) (wS w0 - wS (q.2.2)) (hZ below args s G A w0 (some (.int r.1)) r.2) (F0 m 63 ls []))) (r := r) ?_ (v2, v3, w) h
  intro q y hy hL hr H locs ls hR hS hl
  exact bJ17_nextSetBit_63 (r := r) B hy (fun a0 a1 a2 e => hL (a0, a1, a2) e) (fun q e => hr q e) hR hS hl
noncomputable def fJ17_nextSetBit (v0 : Nat) (v1 : Int32) (w : WH) : Option ((Int32 × WH)) :=
  if 0 ≤ v1 then (
    (hIs w v0 0).bind fun _ =>
    (fJ17_checkInvariants v0 w).bind fun w2 =>
    b2_ (fJ17_wordIndex v1 w2) fun x7 w5 =>
    (gI w5 v0 0 1).bind fun x8 =>
    if x7 < x8 then (
      (gR w5 v0 0 0).bind fun x11 =>
      x11.bind fun a13 =>
      (ldJ w5 a13 x7).bind fun x15 =>
      nm_ (x15 &&& (((-1) : Int64) <<< (v1.toInt64 &&& 63))) fun x17 =>
      fJ17_nextSetBit_l63 v0 x7 x17 w5
    ) else (
      some ((-1), w5)
    )
  ) else (
    none
  )
theorem bJ17_nextSetBit_0 {p : Program} {l : Launch} {e : Env} {s : State} {m : MethodId} {args : Array Value} {below : List Frame} {meth : Method} {c : Code} {H : Heap} {locs : List Loc} {ls : Array Slot} {G : gE} {A : Nat → Prop} {w0 : WH} (B : gB G RJ17 cJ17_nextSetBit 5 (some .int) p s m args meth c) {v0 : Nat} {v1 : Int32} {w : WH} {r : (Int32 × WH)} (h : fJ17_nextSetBit v0 v1 w = some r)   (hR : RepH G A w H) (hS : Cu A s w0 w H locs) (hl : lv_has ls 5 [(0, .ref v0), (1, .int v1)]) : W p l e (hRm 12 269 w0) s m args below meth c H locs (wC w0 - wC w) (wS w0 - wS w) (hZ below args s G A w0 (some (.int r.1)) r.2) (F0 m 0 ls []) := by
  have B0 := B
  obtain ⟨hx, hb, hml, hown, hts, hr, hlk, hK⟩ := B0
  unfold fJ17_nextSetBit at h
  refine lv_iload_n hx hb dJ17_nextSetBit_0 rfl (lv_at hl 1 rfl) ?_
  refine lv_if_ge (tgt := 31) hx hb dJ17_nextSetBit_1 (by decide) (fun c1 => ?_) (fun c1 => ?_)
  · replace h := it_o c1 h
    refine lv_aload_n hx hb dJ17_nextSetBit_31 rfl (lv_at hl 0 rfl) ?_
    replace h := bo_o h
    obtain ⟨_, e3, h⟩ := h
    replace h := bo_o h
    obtain ⟨w2, e4, h⟩ := h
    refine h_callV 0 (ci := 0) (As := []) (rest := []) (v := none) (w' := w2) (st1 := []) hx hb hml hown hts hK hR hS (Nat.le_refl _) (Nat.le_refl _) rfl e3 (mJ17_checkInvariants e4) (lw_V q1136 q1138 qs18 q134 q1139) (by decide +kernel) (Nat.le_of_ble_eq_true rfl) (Nat.le_of_ble_eq_true rfl) rfl hl.1 (Nat.le_of_ble_eq_true rfl) dJ17_nextSetBit_32 rfl rfl (fun H locs hR hS => ?_)
    refine lv_iload_n hx hb dJ17_nextSetBit_35 rfl (lv_at hl 1 rfl) ?_
    replace h := b2_o h
    obtain ⟨x7, w5, e6, h⟩ := h
    refine h_callS 1  (As := [.int v1]) (rest := []) (v := (some (.int x7))) (w' := w5) (st1 := [.int x7]) hx hb hml hown hts hK hR hS (Nat.le_refl _) (Nat.le_refl _) (mJ17_wordIndex e6) (lw_S q571 q572 q134 q573) (by decide +kernel) (Nat.le_of_ble_eq_true rfl) (Nat.le_of_ble_eq_true rfl) rfl hl.1 (Nat.le_of_ble_eq_true rfl) dJ17_nextSetBit_36 rfl rfl (fun H locs hR hS => ?_)
    refine lv_istore_n (lv' := [(2, .int x7), (0, .ref v0), (1, .int v1)]) hx hb dJ17_nextSetBit_39 rfl hl (by decide) rfl (fun ls hl => ?_)
    refine lv_iload_n hx hb dJ17_nextSetBit_40 rfl (lv_at hl 0 rfl) ?_
    refine lv_aload_n hx hb dJ17_nextSetBit_41 rfl (lv_at hl 1 rfl) ?_
    replace h := bo_o h
    obtain ⟨x8, e9, h⟩ := h
    refine h_get (ci := 0) (k := 1) (v := .int x8) hx hb hts hown hK hR in_J17 rfl (by decide) (fun _ _ => rfl) q575 (fun _ h9 => h9) (gI_o e9) dJ17_nextSetBit_42 ?_
    refine lv_icmp_lt (tgt := 50) hx hb dJ17_nextSetBit_45 (by decide) (fun c10 => ?_) (fun c10 => ?_)
    · replace h := it_o c10 h
      refine lv_aload_n hx hb dJ17_nextSetBit_50 rfl (lv_at hl 1 rfl) ?_
      replace h := bo_o h
      obtain ⟨x11, e12, h⟩ := h
      refine h_get (ci := 0) (k := 0) (v := va_rf x11) hx hb hts hown hK hR in_J17 rfl (by decide) (fun _ _ => rfl) q574 (fun _ h9 => h9) (gR_o e12) dJ17_nextSetBit_51 ?_
      refine lv_iload_n hx hb dJ17_nextSetBit_54 rfl (lv_at hl 0 rfl) ?_
      replace h := bo_o h
      obtain ⟨a13, e14, h⟩ := h
      subst e14
      replace h := bo_o h
      obtain ⟨x15, e16, h⟩ := h
      refine h_lald hx hb hK hR e16 dJ17_nextSetBit_55 ?_
      refine lv_ldc2 (v := (-1)) hx hb hown (hts _ q1430) dJ17_nextSetBit_56 ?_
      refine lv_iload_n hx hb dJ17_nextSetBit_59 rfl (lv_at hl 2 rfl) ?_
      refine lv_lshl hx hb dJ17_nextSetBit_60 rfl ?_
      refine lv_land hx hb dJ17_nextSetBit_61 ?_
      replace h := nm_o h
      obtain ⟨x17, e18, h⟩ := h
      refine lv_lstore_n (lv' := [(3, .long x17), (2, .int x7), (0, .ref v0), (1, .int v1)]) hx hb dJ17_nextSetBit_62 rfl hl (by decide) (by subst e18; rfl) (fun ls hl => ?_)
      exact lJ17_nextSetBit_63 B _ _ _ h H locs ls hR hS (lv_sub hl [2, 1, 0] rfl)
    · replace h := if_o c10 h
      refine lv_iconst (v := (-1)) hx hb dJ17_nextSetBit_48 (by decide) ?_
      have eR := Option.some.inj h
      subst eR
      exact h_ifin hx hb hr hlk hR hS dJ17_nextSetBit_49
  · replace h := if_o c1 h
    exact (nomatch h)
theorem mJ17_nextSetBit {l : Launch} {G : gE} {A : Nat → Prop} {v0 : Nat} {v1 : Int32} {w : WH} {r : (Int32 × WH)} (h : fJ17_nextSetBit v0 v1 w = some r) : hM l G A yJ17_nextSetBit cJ17_nextSetBit 5 (some .int) 12 269 [.ref v0, .int v1] w (some (.int r.1)) r.2 :=
  h_of (by decide +kernel) (Nat.le_of_ble_eq_true rfl) (fun p e s m args below meth c ls B hnm hR hS hl => bJ17_nextSetBit_0 B h hR hS hl)
noncomputable def fJ21_checkForComodification (v0 : Nat) (w : WH) : Option (WH) :=
  (gR w v0 4 3).bind fun x1 =>
  x1.bind fun a3 =>
  (gI w a3 2 0).bind fun x5 =>
  (gI w v0 4 2).bind fun x7 =>
  if x5 = x7 then (
    some w
  ) else (
    none
  )
theorem bJ21_checkForComodification_0 {p : Program} {l : Launch} {e : Env} {s : State} {m : MethodId} {args : Array Value} {below : List Frame} {meth : Method} {c : Code} {H : Heap} {locs : List Loc} {ls : Array Slot} {G : gE} {A : Nat → Prop} {w0 : WH} (B : gB G RJ21 cJ21_checkForComodification 1 none p s m args meth c) {v0 : Nat} {w : WH} {r : WH} (h : fJ21_checkForComodification v0 w = some r)   (hR : RepH G A w H) (hS : Cu A s w0 w H locs) (hl : lv_has ls 1 [(0, .ref v0)]) : W p l e (hRm 0 0 w0) s m args below meth c H locs (wC w0 - wC w) (wS w0 - wS w) (hZ below args s G A w0 none r) (F0 m 0 ls []) := by
  have B0 := B
  obtain ⟨hx, hb, hml, hown, hts, hr, hlk, hK⟩ := B0
  unfold fJ21_checkForComodification at h
  refine lv_aload_n hx hb dJ21_checkForComodification_0 rfl (lv_at hl 0 rfl) ?_
  replace h := bo_o h
  obtain ⟨x1, e2, h⟩ := h
  refine h_get (ci := 4) (k := 3) (v := va_rf x1) hx hb hts hown hK hR in_J21 rfl (by decide) (fun _ _ => rfl) q1451 (fun _ h9 => h9) (gR_o e2) dJ21_checkForComodification_1 ?_
  replace h := bo_o h
  obtain ⟨a3, e4, h⟩ := h
  subst e4
  replace h := bo_o h
  obtain ⟨x5, e6, h⟩ := h
  refine h_get (ci := 2) (k := 0) (v := .int x5) hx hb hts hown hK hR in_J2 rfl (by decide) (fun _ _ => rfl) q519 (fun x9 h9 => u_same (hts _ q520) x9 h9) (gI_o e6) dJ21_checkForComodification_4 ?_
  refine lv_aload_n hx hb dJ21_checkForComodification_7 rfl (lv_at hl 0 rfl) ?_
  replace h := bo_o h
  obtain ⟨x7, e8, h⟩ := h
  refine h_get (ci := 4) (k := 2) (v := .int x7) hx hb hts hown hK hR in_J21 rfl (by decide) (fun _ _ => rfl) q1450 (fun _ h9 => h9) (gI_o e8) dJ21_checkForComodification_8 ?_
  refine lv_icmp_eq (tgt := 22) hx hb dJ21_checkForComodification_11 (by decide) (fun c9 => ?_) (fun c9 => ?_)
  · replace h := it_o c9 h
    have eR := Option.some.inj h
    subst eR
    exact h_vfin hx hb hr hlk hR hS dJ21_checkForComodification_22
  · replace h := if_o c9 h
    exact (nomatch h)
theorem mJ21_checkForComodification {l : Launch} {G : gE} {A : Nat → Prop} {v0 : Nat} {w : WH} {r : WH} (h : fJ21_checkForComodification v0 w = some r) : hM l G A yJ21_checkForComodification cJ21_checkForComodification 1 none 0 0 [.ref v0] w none r :=
  h_of (by decide +kernel) (Nat.le_of_ble_eq_true rfl) (fun p e s m args below meth c ls B hnm hR hS hl => bJ21_checkForComodification_0 B h hR hS hl)
noncomputable def fJ21_next_b57 (v0 : Nat) (v1 : Int32) (v2 : Nat) (w : WH) : Option ((Option Nat × WH)) :=
  (hPut w v0 4 1 (.int v1)).bind fun w1 =>
  (ldR w1 v2 4 v1).bind fun x3 =>
  some (x3, w1)
theorem bJ21_next_57 {p : Program} {l : Launch} {e : Env} {s : State} {m : MethodId} {args : Array Value} {below : List Frame} {meth : Method} {c : Code} {H : Heap} {locs : List Loc} {ls : Array Slot} {G : gE} {A : Nat → Prop} {w0 : WH} (B : gB G RJ21 cJ21_next 3 (some (.object "java/lang/Object")) p s m args meth c) {v0 : Nat} {v1 : Int32} {v2 : Nat} {w : WH} {r : (Option Nat × WH)} (h : fJ21_next_b57 v0 v1 v2 w = some r)   (hR : RepH G A w H) (hS : Cu A s w0 w H locs) (hl : lv_has ls 3 [(0, .ref v0), (1, .int v1), (2, .ref v2)]) : W p l e (hRm 1 20 w0) s m args below meth c H locs (wC w0 - wC w) (wS w0 - wS w) (hZ below args s G A w0 (some (va_rf r.1)) r.2) (F0 m 57 ls []) := by
  have B0 := B
  obtain ⟨hx, hb, hml, hown, hts, hr, hlk, hK⟩ := B0
  unfold fJ21_next_b57 at h
  refine lv_aload_n hx hb dJ21_next_57 rfl (lv_at hl 2 rfl) ?_
  refine lv_aload_n hx hb dJ21_next_58 rfl (lv_at hl 0 rfl) ?_
  refine lv_iload_n hx hb dJ21_next_59 rfl (lv_at hl 1 rfl) ?_
  refine lv_dup_x1 hx hb dJ21_next_60 rfl rfl ?_
  replace h := bo_o h
  obtain ⟨w1, e2, h⟩ := h
  refine h_put (ci := 4) (k := 1) (ty := tyJ21 1) hx hb hts hown hK hR hS in_J21 tyJ21 tyJ21_ok nmJ21 rfl (by decide) q1449 (fun _ h9 => h9) rfl (tyJ21_ok 1 (by decide)) rfl rfl e2 dJ21_next_61 (fun H locs hR hS => ?_)
  replace h := bo_o h
  obtain ⟨x3, e4, h⟩ := h
  refine h_aald hx hb hK hR 4 e4 rfl dJ21_next_64 ?_
  have eR := Option.some.inj h
  subst eR
  exact h_afin (x := x3) hx hb hr hlk (by first | exact Or.inl ⟨_, rfl⟩ | exact Or.inr ⟨_, rfl⟩) hR hS dJ21_next_65
noncomputable def fJ21_next_b42  (w : WH) : Option ((Option Nat × WH)) :=
  none
theorem bJ21_next_42 {p : Program} {l : Launch} {e : Env} {s : State} {m : MethodId} {args : Array Value} {below : List Frame} {meth : Method} {c : Code} {H : Heap} {locs : List Loc} {ls : Array Slot} {G : gE} {A : Nat → Prop} {w0 : WH} (B : gB G RJ21 cJ21_next 3 (some (.object "java/lang/Object")) p s m args meth c)  {w : WH} {r : (Option Nat × WH)} (h : fJ21_next_b42 w = some r)   (hR : RepH G A w H) (hS : Cu A s w0 w H locs) (hl : lv_has ls 3 []) : W p l e (hRm 1 20 w0) s m args below meth c H locs (wC w0 - wC w) (wS w0 - wS w) (hZ below args s G A w0 (some (va_rf r.1)) r.2) (F0 m 42 ls []) := by
  have B0 := B
  obtain ⟨hx, hb, hml, hown, hts, hr, hlk, hK⟩ := B0
  unfold fJ21_next_b42 at h
  exact (nomatch h)
noncomputable def fJ21_next_b20  (w : WH) : Option ((Option Nat × WH)) :=
  none
theorem bJ21_next_20 {p : Program} {l : Launch} {e : Env} {s : State} {m : MethodId} {args : Array Value} {below : List Frame} {meth : Method} {c : Code} {H : Heap} {locs : List Loc} {ls : Array Slot} {G : gE} {A : Nat → Prop} {w0 : WH} (B : gB G RJ21 cJ21_next 3 (some (.object "java/lang/Object")) p s m args meth c)  {w : WH} {r : (Option Nat × WH)} (h : fJ21_next_b20 w = some r)   (hR : RepH G A w H) (hS : Cu A s w0 w H locs) (hl : lv_has ls 3 []) : W p l e (hRm 1 20 w0) s m args below meth c H locs (wC w0 - wC w) (wS w0 - wS w) (hZ below args s G A w0 (some (va_rf r.1)) r.2) (F0 m 20 ls []) := by
  have B0 := B
  obtain ⟨hx, hb, hml, hown, hts, hr, hlk, hK⟩ := B0
  unfold fJ21_next_b20 at h
  exact (nomatch h)
noncomputable def fJ21_next (v0 : Nat) (w : WH) : Option ((Option Nat × WH)) :=
  (hIs w v0 4).bind fun _ =>
  (fJ21_checkForComodification v0 w).bind fun w1 =>
  (gI w1 v0 4 0).bind fun x4 =>
  (gR w1 v0 4 3).bind fun x6 =>
  x6.bind fun a8 =>
  (gI w1 a8 2 2).bind fun x10 =>
  if x4 < x10 then (
    (gR w1 v0 4 3).bind fun x13 =>
    x13.bind fun a15 =>
    (gR w1 a15 2 1).bind fun x17 =>
    x17.bind fun a19 =>
    (aLn w1 a19).bind fun x21 =>
    if x4 < x21 then (
      (hPut w1 v0 4 0 (.int (x4 + 1))).bind fun w24 =>
      fJ21_next_b57 v0 x4 a19 w24
    ) else (
      fJ21_next_b42 w1
    )
  ) else (
    fJ21_next_b20 w1
  )
theorem bJ21_next_0 {p : Program} {l : Launch} {e : Env} {s : State} {m : MethodId} {args : Array Value} {below : List Frame} {meth : Method} {c : Code} {H : Heap} {locs : List Loc} {ls : Array Slot} {G : gE} {A : Nat → Prop} {w0 : WH} (B : gB G RJ21 cJ21_next 3 (some (.object "java/lang/Object")) p s m args meth c) {v0 : Nat} {w : WH} {r : (Option Nat × WH)} (h : fJ21_next v0 w = some r)   (hR : RepH G A w H) (hS : Cu A s w0 w H locs) (hl : lv_has ls 3 [(0, .ref v0)]) : W p l e (hRm 1 20 w0) s m args below meth c H locs (wC w0 - wC w) (wS w0 - wS w) (hZ below args s G A w0 (some (va_rf r.1)) r.2) (F0 m 0 ls []) := by
  have B0 := B
  obtain ⟨hx, hb, hml, hown, hts, hr, hlk, hK⟩ := B0
  unfold fJ21_next at h
  refine lv_aload_n hx hb dJ21_next_0 rfl (lv_at hl 0 rfl) ?_
  replace h := bo_o h
  obtain ⟨_, e2, h⟩ := h
  replace h := bo_o h
  obtain ⟨w1, e3, h⟩ := h
  refine h_callV 0 (ci := 4) (As := []) (rest := []) (v := none) (w' := w1) (st1 := []) hx hb hml hown hts hK hR hS (Nat.le_refl _) (Nat.le_refl _) rfl e2 (mJ21_checkForComodification e3) (lw_V q1686 q1687 q1688 q144 q1691) (by decide +kernel) (Nat.le_of_ble_eq_true rfl) (Nat.le_of_ble_eq_true rfl) rfl hl.1 (Nat.le_of_ble_eq_true rfl) dJ21_next_1 rfl rfl (fun H locs hR hS => ?_)
  refine lv_aload_n hx hb dJ21_next_4 rfl (lv_at hl 0 rfl) ?_
  replace h := bo_o h
  obtain ⟨x4, e5, h⟩ := h
  refine h_get (ci := 4) (k := 0) (v := .int x4) hx hb hts hown hK hR in_J21 rfl (by decide) (fun _ _ => rfl) q1448 (fun _ h9 => h9) (gI_o e5) dJ21_next_5 ?_
  refine lv_istore_n (lv' := [(1, .int x4), (0, .ref v0)]) hx hb dJ21_next_8 rfl hl (by decide) rfl (fun ls hl => ?_)
  refine lv_iload_n hx hb dJ21_next_9 rfl (lv_at hl 0 rfl) ?_
  refine lv_aload_n hx hb dJ21_next_10 rfl (lv_at hl 1 rfl) ?_
  replace h := bo_o h
  obtain ⟨x6, e7, h⟩ := h
  refine h_get (ci := 4) (k := 3) (v := va_rf x6) hx hb hts hown hK hR in_J21 rfl (by decide) (fun _ _ => rfl) q1451 (fun _ h9 => h9) (gR_o e7) dJ21_next_11 ?_
  replace h := bo_o h
  obtain ⟨a8, e9, h⟩ := h
  subst e9
  replace h := bo_o h
  obtain ⟨x10, e11, h⟩ := h
  refine h_getN (ci := 2) (k := 2) (v := .int x10) hx hb hts hown hK hR in_J2 rfl (by decide) (fun _ _ => rfl) (hK.fn 0 rfl) (fun _ h9 => h9) (gI_o e11) dJ21_next_14 ?_
  refine lv_icmp_lt (tgt := 28) hx hb dJ21_next_17 (by decide) (fun c12 => ?_) (fun c12 => ?_)
  · replace h := it_o c12 h
    refine lv_aload_n hx hb dJ21_next_28 rfl (lv_at hl 1 rfl) ?_
    replace h := bo_o h
    obtain ⟨x13, e14, h⟩ := h
    refine h_get (ci := 4) (k := 3) (v := va_rf x13) hx hb hts hown hK hR in_J21 rfl (by decide) (fun _ _ => rfl) q1451 (fun _ h9 => h9) (gR_o e14) dJ21_next_29 ?_
    replace h := bo_o h
    obtain ⟨a15, e16, h⟩ := h
    subst e16
    replace h := bo_o h
    obtain ⟨x17, e18, h⟩ := h
    refine h_get (ci := 2) (k := 1) (v := va_rf x17) hx hb hts hown hK hR in_J2 rfl (by decide) (fun _ _ => rfl) q513 (fun _ h9 => h9) (gR_o e18) dJ21_next_32 ?_
    refine lv_astore_nq (lv' := [(2, va_rf x17), (1, .int x4), (0, .ref v0)]) hx hb dJ21_next_35 rfl hl (by decide) rfl (fun ls hl => ?_)
    refine lv_iload_n hx hb dJ21_next_36 rfl (lv_at hl 1 rfl) ?_
    refine lv_aload_nq hx hb dJ21_next_37 rfl (lv_at hl 0 rfl) ?_
    replace h := bo_o h
    obtain ⟨a19, e20, h⟩ := h
    subst e20
    replace h := bo_o h
    obtain ⟨x21, e22, h⟩ := h
    refine h_alen hx hb hK hR hS e22 dJ21_next_38 ?_
    refine lv_icmp_lt (tgt := 50) hx hb dJ21_next_39 (by decide) (fun c23 => ?_) (fun c23 => ?_)
    · replace h := it_o c23 h
      refine lv_aload_n hx hb dJ21_next_50 rfl (lv_at hl 2 rfl) ?_
      refine lv_iload_n hx hb dJ21_next_51 rfl (lv_at hl 1 rfl) ?_
      refine lv_iconst (v := 1) hx hb dJ21_next_52 (by decide) ?_
      refine lv_iadd hx hb dJ21_next_53 ?_
      replace h := bo_o h
      obtain ⟨w24, e25, h⟩ := h
      refine h_put (ci := 4) (k := 0) (ty := tyJ21 0) hx hb hts hown hK hR hS in_J21 tyJ21 tyJ21_ok nmJ21 rfl (by decide) q1448 (fun _ h9 => h9) rfl (tyJ21_ok 0 (by decide)) rfl rfl e25 dJ21_next_54 (fun H locs hR hS => ?_)
      exact bJ21_next_57 B h  hR hS (lv_sub hl [2, 1, 0] rfl)
    · replace h := if_o c23 h
      exact bJ21_next_42 B h  hR hS (lv_sub hl [] rfl)
  · replace h := if_o c12 h
    exact bJ21_next_20 B h  hR hS (lv_sub hl [] rfl)
theorem mJ21_next {l : Launch} {G : gE} {A : Nat → Prop} {v0 : Nat} {w : WH} {r : (Option Nat × WH)} (h : fJ21_next v0 w = some r) : hM l G A yJ21_next cJ21_next 3 (some (.object "java/lang/Object")) 1 20 [.ref v0] w (some (va_rf r.1)) r.2 :=
  h_of (by decide +kernel) (Nat.le_of_ble_eq_true rfl) (fun p e s m args below meth c ls B hnm hR hS hl => bJ21_next_0 B h hR hS hl)
