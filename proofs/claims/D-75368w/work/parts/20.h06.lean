set_option maxRecDepth 100000
set_option maxHeartbeats 4000000

noncomputable def fJ18_pollLast_b34 (v3 : Option Nat) (w : WH) : Option ((Option Nat × WH)) :=
  some (v3, w)
theorem bJ18_pollLast_34 {p : Program} {l : Launch} {e : Env} {s : State} {m : MethodId} {args : Array Value} {below : List Frame} {meth : Method} {c : Code} {H : Heap} {locs : List Loc} {ls : Array Slot} {G : gE} {A : Nat → Prop} {w0 : WH} (B : gB G RJ18 cJ18_pollLast 4 (some (.object "java/lang/Object")) p s m args meth c) {v3 : Option Nat} {w : WH} {r : (Option Nat × WH)} (h : fJ18_pollLast_b34 v3 w = some r)   (hR : RepH G A w H) (hS : Cu A s w0 w H locs) (hl : lv_has ls 4 [(3, va_rf v3)]) : W p l e (hRm 1 21 w0) s m args below meth c H locs (wC w0 - wC w) (wS w0 - wS w) (hZ below args s G A w0 (some (va_rf r.1)) r.2) (F0 m 34 ls []) := by
  have B0 := B
  obtain ⟨hx, hb, hml, hown, hts, hr, hlk, hK⟩ := B0
  unfold fJ18_pollLast_b34 at h
  refine lv_aload_nq hx hb dJ18_pollLast_34 rfl (lv_at hl 0 rfl) ?_
  have eR := Option.some.inj h
  subst eR
  exact h_afin (x := v3) hx hb hr hlk (by first | exact Or.inl ⟨_, rfl⟩ | exact Or.inr ⟨_, rfl⟩) hR hS dJ18_pollLast_35
noncomputable def fJ18_pollLast (v0 : Nat) (w : WH) : Option ((Option Nat × WH)) :=
  (gR w v0 1 0).bind fun x1 =>
  (gI w v0 1 2).bind fun x3 =>
  x1.bind fun a5 =>
  (aLn w a5).bind fun x7 =>
  b2_ (fJ18_dec x3 x7 w) fun x11 w9 =>
  b2_ (fJ18_elementAt a5 x11 w9) fun x14 w12 =>
  if x14 = none then (
    some (x14, w12)
  ) else (
    (hPut w12 v0 1 2 (.int x11)).bind fun w16 =>
    (stR w16 a5 4 x11 none).bind fun w18 =>
    fJ18_pollLast_b34 x14 w18
  )
theorem bJ18_pollLast_0 {p : Program} {l : Launch} {e : Env} {s : State} {m : MethodId} {args : Array Value} {below : List Frame} {meth : Method} {c : Code} {H : Heap} {locs : List Loc} {ls : Array Slot} {G : gE} {A : Nat → Prop} {w0 : WH} (B : gB G RJ18 cJ18_pollLast 4 (some (.object "java/lang/Object")) p s m args meth c) {v0 : Nat} {w : WH} {r : (Option Nat × WH)} (h : fJ18_pollLast v0 w = some r)   (hR : RepH G A w H) (hS : Cu A s w0 w H locs) (hl : lv_has ls 4 [(0, .ref v0)]) : W p l e (hRm 1 21 w0) s m args below meth c H locs (wC w0 - wC w) (wS w0 - wS w) (hZ below args s G A w0 (some (va_rf r.1)) r.2) (F0 m 0 ls []) := by
  have B0 := B
  obtain ⟨hx, hb, hml, hown, hts, hr, hlk, hK⟩ := B0
  unfold fJ18_pollLast at h
  refine lv_aload_n hx hb dJ18_pollLast_0 rfl (lv_at hl 0 rfl) ?_
  replace h := bo_o h
  obtain ⟨x1, e2, h⟩ := h
  refine h_get (ci := 1) (k := 0) (v := va_rf x1) hx hb hts hown hK hR in_J18 rfl (by decide) (fun _ _ => rfl) q647 (fun _ h9 => h9) (gR_o e2) dJ18_pollLast_1 ?_
  refine lv_dup hx hb dJ18_pollLast_4 (by first | rfl | exact rf_cat _) ?_
  refine lv_astore_nq (lv' := [(1, va_rf x1), (0, .ref v0)]) hx hb dJ18_pollLast_5 rfl hl (by decide) rfl (fun ls hl => ?_)
  refine lv_aload_n hx hb dJ18_pollLast_6 rfl (lv_at hl 1 rfl) ?_
  replace h := bo_o h
  obtain ⟨x3, e4, h⟩ := h
  refine h_get (ci := 1) (k := 2) (v := .int x3) hx hb hts hown hK hR in_J18 rfl (by decide) (fun _ _ => rfl) q651 (fun _ h9 => h9) (gI_o e4) dJ18_pollLast_7 ?_
  refine lv_aload_nq hx hb dJ18_pollLast_10 rfl (lv_at hl 0 rfl) ?_
  replace h := bo_o h
  obtain ⟨a5, e6, h⟩ := h
  subst e6
  replace h := bo_o h
  obtain ⟨x7, e8, h⟩ := h
  refine h_alen hx hb hK hR hS e8 dJ18_pollLast_11 ?_
  replace h := b2_o h
  obtain ⟨x11, w9, e10, h⟩ := h
  refine h_callS 2  (As := [.int x3, .int x7]) (rest := [.ref a5]) (v := (some (.int x11))) (w' := w9) (st1 := [.int x11, .ref a5]) hx hb hml hown hts hK hR hS (Nat.le_refl _) (Nat.le_refl _) (mJ18_dec e10) (lw_S q1181 q1182 q136 q1183) (by decide +kernel) (Nat.le_of_ble_eq_true rfl) (Nat.le_of_ble_eq_true rfl) rfl hl.1 (Nat.le_of_ble_eq_true rfl) dJ18_pollLast_12 rfl rfl (fun H locs hR hS => ?_)
  refine lv_dup hx hb dJ18_pollLast_15 rfl ?_
  refine lv_istore_n (lv' := [(2, .int x11), (1, .ref a5), (0, .ref v0)]) hx hb dJ18_pollLast_16 rfl hl (by decide) rfl (fun ls hl => ?_)
  replace h := b2_o h
  obtain ⟨x14, w12, e13, h⟩ := h
  refine h_callS 2  (As := [.ref a5, .int x11]) (rest := []) (v := (some (va_rf x14))) (w' := w12) (st1 := [va_rf x14]) hx hb hml hown hts hK hR hS (Nat.le_refl _) (Nat.le_refl _) (mJ18_elementAt e13) (lw_S q1108 q1109 q136 q1110) (by decide +kernel) (Nat.le_of_ble_eq_true rfl) (Nat.le_of_ble_eq_true rfl) rfl hl.1 (Nat.le_of_ble_eq_true rfl) dJ18_pollLast_17 rfl rfl (fun H locs hR hS => ?_)
  refine lv_astore_nq (lv' := [(3, va_rf x14), (2, .int x11), (1, .ref a5), (0, .ref v0)]) hx hb dJ18_pollLast_20 rfl hl (by decide) rfl (fun ls hl => ?_)
  refine lv_aload_nq hx hb dJ18_pollLast_21 rfl (lv_at hl 0 rfl) ?_
  refine lv_ifnullq (tgt := 34) hx hb dJ18_pollLast_22 (by decide) (fun c15 => ?_) (fun c15 => ?_)
  · replace h := it_o c15 h
    refine lv_aload_nq hx hb dJ18_pollLast_34 rfl (lv_at hl 0 rfl) ?_
    have eR := Option.some.inj h
    subst eR
    exact h_afin (x := x14) hx hb hr hlk (by first | exact Or.inl ⟨_, rfl⟩ | exact Or.inr ⟨_, rfl⟩) hR hS dJ18_pollLast_35
  · replace h := if_o c15 h
    refine lv_aload_n hx hb dJ18_pollLast_25 rfl (lv_at hl 2 rfl) ?_
    refine lv_aload_n hx hb dJ18_pollLast_26 rfl (lv_at hl 3 rfl) ?_
    refine lv_iload_n hx hb dJ18_pollLast_27 rfl (lv_at hl 1 rfl) ?_
    refine lv_dup_x1 hx hb dJ18_pollLast_28 rfl rfl ?_
    replace h := bo_o h
    obtain ⟨w16, e17, h⟩ := h
    refine h_put (ci := 1) (k := 2) (ty := tyJ18 2) hx hb hts hown hK hR hS in_J18 tyJ18 tyJ18_ok nmJ18 rfl (by decide) q651 (fun _ h9 => h9) rfl (tyJ18_ok 2 (by decide)) rfl rfl e17 dJ18_pollLast_29 (fun H locs hR hS => ?_)
    refine lv_null hx hb dJ18_pollLast_32 ?_
    replace h := bo_o h
    obtain ⟨w18, e19, h⟩ := h
    refine h_aastN hx hb hK hR hS 4 e19 rfl dJ18_pollLast_33 (fun H locs hR hS => ?_)
    exact bJ18_pollLast_34 B h  hR hS (lv_sub hl [0] rfl)
theorem mJ18_pollLast {l : Launch} {G : gE} {A : Nat → Prop} {v0 : Nat} {w : WH} {r : (Option Nat × WH)} (h : fJ18_pollLast v0 w = some r) : hM l G A yJ18_pollLast cJ18_pollLast 4 (some (.object "java/lang/Object")) 1 21 [.ref v0] w (some (va_rf r.1)) r.2 :=
  h_of (by decide +kernel) (Nat.le_of_ble_eq_true rfl) (fun p e s m args below meth c ls B hnm hR hS hl => bJ18_pollLast_0 B h hR hS hl)
noncomputable def fJ18_removeLast (v0 : Nat) (w : WH) : Option ((Option Nat × WH)) :=
  (hIs w v0 1).bind fun _ =>
  b2_ (fJ18_pollLast v0 w) fun x4 w1 =>
  if x4 = none then (
    none
  ) else (
    some (x4, w1)
  )
theorem bJ18_removeLast_0 {p : Program} {l : Launch} {e : Env} {s : State} {m : MethodId} {args : Array Value} {below : List Frame} {meth : Method} {c : Code} {H : Heap} {locs : List Loc} {ls : Array Slot} {G : gE} {A : Nat → Prop} {w0 : WH} (B : gB G RJ18 cJ18_removeLast 2 (some (.object "java/lang/Object")) p s m args meth c) {v0 : Nat} {w : WH} {r : (Option Nat × WH)} (h : fJ18_removeLast v0 w = some r)   (hR : RepH G A w H) (hS : Cu A s w0 w H locs) (hl : lv_has ls 2 [(0, .ref v0)]) : W p l e (hRm 2 44 w0) s m args below meth c H locs (wC w0 - wC w) (wS w0 - wS w) (hZ below args s G A w0 (some (va_rf r.1)) r.2) (F0 m 0 ls []) := by
  have B0 := B
  obtain ⟨hx, hb, hml, hown, hts, hr, hlk, hK⟩ := B0
  unfold fJ18_removeLast at h
  refine lv_aload_n hx hb dJ18_removeLast_0 rfl (lv_at hl 0 rfl) ?_
  replace h := bo_o h
  obtain ⟨_, e2, h⟩ := h
  replace h := b2_o h
  obtain ⟨x4, w1, e3, h⟩ := h
  refine h_callV 0 (ci := 1) (As := []) (rest := []) (v := (some (va_rf x4))) (w' := w1) (st1 := [va_rf x4]) hx hb hml hown hts hK hR hS (Nat.le_refl _) (Nat.le_refl _) rfl e2 (mJ18_pollLast e3) (lw_V q1177 q1178 q1179 q136 q1180) (by decide +kernel) (Nat.le_of_ble_eq_true rfl) (Nat.le_of_ble_eq_true rfl) rfl hl.1 (Nat.le_of_ble_eq_true rfl) dJ18_removeLast_1 rfl rfl (fun H locs hR hS => ?_)
  refine lv_astore_nq (lv' := [(1, va_rf x4), (0, .ref v0)]) hx hb dJ18_removeLast_4 rfl hl (by decide) rfl (fun ls hl => ?_)
  refine lv_aload_nq hx hb dJ18_removeLast_5 rfl (lv_at hl 0 rfl) ?_
  refine lv_ifnonnullq (tgt := 17) hx hb dJ18_removeLast_6 (by decide) (fun c5 => ?_) (fun c5 => ?_)
  · replace h := if_o c5 h
    refine lv_aload_nq hx hb dJ18_removeLast_17 rfl (lv_at hl 0 rfl) ?_
    have eR := Option.some.inj h
    subst eR
    exact h_afin (x := x4) hx hb hr hlk (by first | exact Or.inl ⟨_, rfl⟩ | exact Or.inr ⟨_, rfl⟩) hR hS dJ18_removeLast_18
  · replace h := it_o c5 h
    exact (nomatch h)
theorem mJ18_removeLast {l : Launch} {G : gE} {A : Nat → Prop} {v0 : Nat} {w : WH} {r : (Option Nat × WH)} (h : fJ18_removeLast v0 w = some r) : hM l G A yJ18_removeLast cJ18_removeLast 2 (some (.object "java/lang/Object")) 2 44 [.ref v0] w (some (va_rf r.1)) r.2 :=
  h_of (by decide +kernel) (Nat.le_of_ble_eq_true rfl) (fun p e s m args below meth c ls B hnm hR hS hl => bJ18_removeLast_0 B h hR hS hl)
noncomputable def fX1_undo (v0 : Nat) (w : WH) : Option ((Int32 × WH)) :=
  (gR w v0 17 2).bind fun x1 =>
  x1.bind fun a3 =>
  (hIs w a3 1).bind fun _ =>
  b2_ (fJ18_isEmpty a3 w) fun x8 w5 =>
  if x8 = 0 then (
    (gR w5 v0 17 2).bind fun x10 =>
    x10.bind fun a12 =>
    (hIs w5 a12 1).bind fun _ =>
    b2_ (fJ18_removeLast a12 w5) fun x17 w14 =>
    x17.bind fun a18 =>
    (hIs w14 a18 21).bind fun _ =>
    (hPut w14 v0 17 0 (.ref a18)).bind fun w21 =>
    (gR w21 v0 17 2).bind fun x23 =>
    x23.bind fun a25 =>
    (hIs w21 a25 1).bind fun _ =>
    b2_ (fJ18_size a25 w21) fun x30 w27 =>
    some (x30, w27)
  ) else (
    some ((-1), w5)
  )
theorem bX1_undo_0 {p : Program} {l : Launch} {e : Env} {s : State} {m : MethodId} {args : Array Value} {below : List Frame} {meth : Method} {c : Code} {H : Heap} {locs : List Loc} {ls : Array Slot} {G : gE} {A : Nat → Prop} {w0 : WH} (B : gB G RX1 cX1_undo 1 (some .int) p s m args meth c) {v0 : Nat} {w : WH} {r : (Int32 × WH)} (h : fX1_undo v0 w = some r)   (hR : RepH G A w H) (hS : Cu A s w0 w H locs) (hl : lv_has ls 1 [(0, .ref v0)]) : W p l e (hRm 3 65 w0) s m args below meth c H locs (wC w0 - wC w) (wS w0 - wS w) (hZ below args s G A w0 (some (.int r.1)) r.2) (F0 m 0 ls []) := by
  have B0 := B
  obtain ⟨hx, hb, hml, hown, hts, hr, hlk, hK⟩ := B0
  unfold fX1_undo at h
  refine lv_aload_n hx hb dX1_undo_0 rfl (lv_at hl 0 rfl) ?_
  replace h := bo_o h
  obtain ⟨x1, e2, h⟩ := h
  refine h_get (ci := 17) (k := 2) (v := va_rf x1) hx hb hts hown hK hR in_X1 rfl (by decide) (fun _ _ => rfl) q665 (fun _ h9 => h9) (gR_o e2) dX1_undo_1 ?_
  replace h := bo_o h
  obtain ⟨a3, e4, h⟩ := h
  subst e4
  replace h := bo_o h
  obtain ⟨_, e6, h⟩ := h
  replace h := b2_o h
  obtain ⟨x8, w5, e7, h⟩ := h
  refine h_callV 0 (ci := 1) (As := []) (rest := []) (v := (some (.int x8))) (w' := w5) (st1 := [.int x8]) hx hb hml hown hts hK hR hS (Nat.le_refl _) (Nat.le_refl _) rfl e6 (mJ18_isEmpty e7) (lw_V q1169 q1170 q1171 q136 q1172) (by decide +kernel) (Nat.le_of_ble_eq_true rfl) (Nat.le_of_ble_eq_true rfl) rfl hl.1 (Nat.le_of_ble_eq_true rfl) dX1_undo_4 rfl rfl (fun H locs hR hS => ?_)
  refine lv_if_eq (tgt := 12) hx hb dX1_undo_7 (by decide) (fun c9 => ?_) (fun c9 => ?_)
  · replace h := it_o c9 h
    refine lv_aload_n hx hb dX1_undo_12 rfl (lv_at hl 0 rfl) ?_
    refine lv_aload_n hx hb dX1_undo_13 rfl (lv_at hl 0 rfl) ?_
    replace h := bo_o h
    obtain ⟨x10, e11, h⟩ := h
    refine h_get (ci := 17) (k := 2) (v := va_rf x10) hx hb hts hown hK hR in_X1 rfl (by decide) (fun _ _ => rfl) q665 (fun _ h9 => h9) (gR_o e11) dX1_undo_14 ?_
    replace h := bo_o h
    obtain ⟨a12, e13, h⟩ := h
    subst e13
    replace h := bo_o h
    obtain ⟨_, e15, h⟩ := h
    replace h := b2_o h
    obtain ⟨x17, w14, e16, h⟩ := h
    refine h_callV 0 (ci := 1) (As := []) (rest := [.ref v0]) (v := (some (va_rf x17))) (w' := w14) (st1 := [va_rf x17, .ref v0]) hx hb hml hown hts hK hR hS (Nat.le_refl _) (Nat.le_refl _) rfl e15 (mJ18_removeLast e16) (lw_V q1173 q1174 q1175 q136 q1176) (by decide +kernel) (Nat.le_of_ble_eq_true rfl) (Nat.le_of_ble_eq_true rfl) rfl hl.1 (Nat.le_of_ble_eq_true rfl) dX1_undo_17 rfl rfl (fun H locs hR hS => ?_)
    replace h := bo_o h
    obtain ⟨a18, e19, h⟩ := h
    subst e19
    replace h := bo_o h
    obtain ⟨_, e20, h⟩ := h
    refine h_castS (ci := 21) hx hb hts hown hK hR hS rfl e20 q170 dX1_undo_20 ?_
    replace h := bo_o h
    obtain ⟨w21, e22, h⟩ := h
    refine h_put (ci := 17) (k := 0) (ty := tyX1 0) hx hb hts hown hK hR hS in_X1 tyX1 tyX1_ok nmX1 rfl (by decide) q662 (fun _ h9 => h9) rfl (tyX1_ok 0 (by decide)) rfl rfl e22 dX1_undo_23 (fun H locs hR hS => ?_)
    refine lv_aload_n hx hb dX1_undo_26 rfl (lv_at hl 0 rfl) ?_
    replace h := bo_o h
    obtain ⟨x23, e24, h⟩ := h
    refine h_get (ci := 17) (k := 2) (v := va_rf x23) hx hb hts hown hK hR in_X1 rfl (by decide) (fun _ _ => rfl) q665 (fun _ h9 => h9) (gR_o e24) dX1_undo_27 ?_
    replace h := bo_o h
    obtain ⟨a25, e26, h⟩ := h
    subst e26
    replace h := bo_o h
    obtain ⟨_, e28, h⟩ := h
    replace h := b2_o h
    obtain ⟨x30, w27, e29, h⟩ := h
    refine h_callV 0 (ci := 1) (As := []) (rest := []) (v := (some (.int x30))) (w' := w27) (st1 := [.int x30]) hx hb hml hown hts hK hR hS (Nat.le_refl _) (Nat.le_refl _) rfl e28 (mJ18_size e29) (lw_V q1093 q1094 q1095 q136 q1096) (by decide +kernel) (Nat.le_of_ble_eq_true rfl) (Nat.le_of_ble_eq_true rfl) rfl hl.1 (Nat.le_of_ble_eq_true rfl) dX1_undo_30 rfl rfl (fun H locs hR hS => ?_)
    have eR := Option.some.inj h
    subst eR
    exact h_ifin hx hb hr hlk hR hS dX1_undo_33
  · replace h := if_o c9 h
    refine lv_iconst (v := (-1)) hx hb dX1_undo_10 (by decide) ?_
    have eR := Option.some.inj h
    subst eR
    exact h_ifin hx hb hr hlk hR hS dX1_undo_11
theorem mX1_undo {l : Launch} {G : gE} {A : Nat → Prop} {v0 : Nat} {w : WH} {r : (Int32 × WH)} (h : fX1_undo v0 w = some r) : hM l G A yX1_undo cX1_undo 1 (some .int) 3 65 [.ref v0] w (some (.int r.1)) r.2 :=
  h_of (by decide +kernel) (Nat.le_of_ble_eq_true rfl) (fun p e s m args below meth c ls B hnm hR hS hl => bX1_undo_0 B h hR hS hl)
noncomputable def fX1_undoCount (v0 : Nat) (w : WH) : Option ((Int32 × WH)) :=
  (gR w v0 17 2).bind fun x1 =>
  x1.bind fun a3 =>
  (hIs w a3 1).bind fun _ =>
  b2_ (fJ18_size a3 w) fun x8 w5 =>
  some (x8, w5)
theorem bX1_undoCount_0 {p : Program} {l : Launch} {e : Env} {s : State} {m : MethodId} {args : Array Value} {below : List Frame} {meth : Method} {c : Code} {H : Heap} {locs : List Loc} {ls : Array Slot} {G : gE} {A : Nat → Prop} {w0 : WH} (B : gB G RX1 cX1_undoCount 1 (some .int) p s m args meth c) {v0 : Nat} {w : WH} {r : (Int32 × WH)} (h : fX1_undoCount v0 w = some r)   (hR : RepH G A w H) (hS : Cu A s w0 w H locs) (hl : lv_has ls 1 [(0, .ref v0)]) : W p l e (hRm 2 42 w0) s m args below meth c H locs (wC w0 - wC w) (wS w0 - wS w) (hZ below args s G A w0 (some (.int r.1)) r.2) (F0 m 0 ls []) := by
  have B0 := B
  obtain ⟨hx, hb, hml, hown, hts, hr, hlk, hK⟩ := B0
  unfold fX1_undoCount at h
  refine lv_aload_n hx hb dX1_undoCount_0 rfl (lv_at hl 0 rfl) ?_
  replace h := bo_o h
  obtain ⟨x1, e2, h⟩ := h
  refine h_get (ci := 17) (k := 2) (v := va_rf x1) hx hb hts hown hK hR in_X1 rfl (by decide) (fun _ _ => rfl) q665 (fun _ h9 => h9) (gR_o e2) dX1_undoCount_1 ?_
  replace h := bo_o h
  obtain ⟨a3, e4, h⟩ := h
  subst e4
  replace h := bo_o h
  obtain ⟨_, e6, h⟩ := h
  replace h := b2_o h
  obtain ⟨x8, w5, e7, h⟩ := h
  refine h_callV 0 (ci := 1) (As := []) (rest := []) (v := (some (.int x8))) (w' := w5) (st1 := [.int x8]) hx hb hml hown hts hK hR hS (Nat.le_refl _) (Nat.le_refl _) rfl e6 (mJ18_size e7) (lw_V q1093 q1094 q1095 q136 q1096) (by decide +kernel) (Nat.le_of_ble_eq_true rfl) (Nat.le_of_ble_eq_true rfl) rfl hl.1 (Nat.le_of_ble_eq_true rfl) dX1_undoCount_4 rfl rfl (fun H locs hR hS => ?_)
  have eR := Option.some.inj h
  subst eR
  exact h_ifin hx hb hr hlk hR hS dX1_undoCount_7
theorem mX1_undoCount {l : Launch} {G : gE} {A : Nat → Prop} {v0 : Nat} {w : WH} {r : (Int32 × WH)} (h : fX1_undoCount v0 w = some r) : hM l G A yX1_undoCount cX1_undoCount 1 (some .int) 2 42 [.ref v0] w (some (.int r.1)) r.2 :=
  h_of (by decide +kernel) (Nat.le_of_ble_eq_true rfl) (fun p e s m args below meth c ls B hnm hR hS hl => bX1_undoCount_0 B h hR hS hl)
noncomputable def fJ14_checkIndex_b9 (v0 : Int32) (v1 : Int32) (v2 : Option Nat) (w : WH) : Option ((Int32 × WH)) :=
  none
theorem bJ14_checkIndex_9 {p : Program} {l : Launch} {e : Env} {s : State} {m : MethodId} {args : Array Value} {below : List Frame} {meth : Method} {c : Code} {H : Heap} {locs : List Loc} {ls : Array Slot} {G : gE} {A : Nat → Prop} {w0 : WH} (B : gB G RJ14 cJ14_checkIndex 3 (some .int) p s m args meth c) {v0 : Int32} {v1 : Int32} {v2 : Option Nat} {w : WH} {r : (Int32 × WH)} (h : fJ14_checkIndex_b9 v0 v1 v2 w = some r)   (hR : RepH G A w H) (hS : Cu A s w0 w H locs) (hl : lv_has ls 3 [(0, .int v0), (1, .int v1), (2, va_rf v2)]) : W p l e (hRm 0 0 w0) s m args below meth c H locs (wC w0 - wC w) (wS w0 - wS w) (hZ below args s G A w0 (some (.int r.1)) r.2) (F0 m 9 ls []) := by
  have B0 := B
  obtain ⟨hx, hb, hml, hown, hts, hr, hlk, hK⟩ := B0
  unfold fJ14_checkIndex_b9 at h
  refine lv_aload_nq hx hb dJ14_checkIndex_9 rfl (lv_at hl 2 rfl) ?_
  refine lv_iload_n hx hb dJ14_checkIndex_10 rfl (lv_at hl 0 rfl) ?_
  refine lv_iload_n hx hb dJ14_checkIndex_11 rfl (lv_at hl 1 rfl) ?_
  exact (nomatch h)
noncomputable def fJ14_checkIndex (v0 : Int32) (v1 : Int32) (v2 : Option Nat) (w : WH) : Option ((Int32 × WH)) :=
  if v0 < 0 then (
    fJ14_checkIndex_b9 v0 v1 v2 w
  ) else (
    if v0 < v1 then (
      some (v0, w)
    ) else (
      fJ14_checkIndex_b9 v0 v1 v2 w
    )
  )
theorem bJ14_checkIndex_0 {p : Program} {l : Launch} {e : Env} {s : State} {m : MethodId} {args : Array Value} {below : List Frame} {meth : Method} {c : Code} {H : Heap} {locs : List Loc} {ls : Array Slot} {G : gE} {A : Nat → Prop} {w0 : WH} (B : gB G RJ14 cJ14_checkIndex 3 (some .int) p s m args meth c) {v0 : Int32} {v1 : Int32} {v2 : Option Nat} {w : WH} {r : (Int32 × WH)} (h : fJ14_checkIndex v0 v1 v2 w = some r)   (hR : RepH G A w H) (hS : Cu A s w0 w H locs) (hl : lv_has ls 3 [(0, .int v0), (1, .int v1), (2, va_rf v2)]) : W p l e (hRm 0 0 w0) s m args below meth c H locs (wC w0 - wC w) (wS w0 - wS w) (hZ below args s G A w0 (some (.int r.1)) r.2) (F0 m 0 ls []) := by
  have B0 := B
  obtain ⟨hx, hb, hml, hown, hts, hr, hlk, hK⟩ := B0
  unfold fJ14_checkIndex at h
  refine lv_iload_n hx hb dJ14_checkIndex_0 rfl (lv_at hl 0 rfl) ?_
  refine lv_if_lt (tgt := 9) hx hb dJ14_checkIndex_1 (by decide) (fun c1 => ?_) (fun c1 => ?_)
  · replace h := it_o c1 h
    exact bJ14_checkIndex_9 B h  hR hS (lv_sub hl [0, 1, 2] rfl)
  · replace h := if_o c1 h
    refine lv_iload_n hx hb dJ14_checkIndex_4 rfl (lv_at hl 0 rfl) ?_
    refine lv_iload_n hx hb dJ14_checkIndex_5 rfl (lv_at hl 1 rfl) ?_
    refine lv_icmp_lt (tgt := 16) hx hb dJ14_checkIndex_6 (by decide) (fun c2 => ?_) (fun c2 => ?_)
    · replace h := it_o c2 h
      refine lv_iload_n hx hb dJ14_checkIndex_16 rfl (lv_at hl 0 rfl) ?_
      have eR := Option.some.inj h
      subst eR
      exact h_ifin hx hb hr hlk hR hS dJ14_checkIndex_17
    · replace h := if_o c2 h
      exact bJ14_checkIndex_9 B h  hR hS (lv_sub hl [0, 1, 2] rfl)
theorem mJ14_checkIndex {l : Launch} {G : gE} {A : Nat → Prop} {v0 : Int32} {v1 : Int32} {v2 : Option Nat} {w : WH} {r : (Int32 × WH)} (h : fJ14_checkIndex v0 v1 v2 w = some r) : hM l G A yJ14_checkIndex cJ14_checkIndex 3 (some .int) 0 0 [.int v0, .int v1, va_rf v2] w (some (.int r.1)) r.2 :=
  h_of (by decide +kernel) (by cases v2 <;> exact Nat.le_of_ble_eq_true rfl) (fun p e s m args below meth c ls B hnm hR hS hl => bJ14_checkIndex_0 B h hR hS (Eq.mp (congrArg (lv_has ls 3) (by cases v2 <;> rfl)) hl))
noncomputable def fJ27_checkIndex (v0 : Int32) (v1 : Int32) (w : WH) : Option ((Int32 × WH)) :=
  b2_ (fJ14_checkIndex v0 v1 none w) fun x3 w1 =>
  some (x3, w1)
theorem bJ27_checkIndex_0 {p : Program} {l : Launch} {e : Env} {s : State} {m : MethodId} {args : Array Value} {below : List Frame} {meth : Method} {c : Code} {H : Heap} {locs : List Loc} {ls : Array Slot} {G : gE} {A : Nat → Prop} {w0 : WH} (B : gB G RJ27 cJ27_checkIndex 2 (some .int) p s m args meth c) {v0 : Int32} {v1 : Int32} {w : WH} {r : (Int32 × WH)} (h : fJ27_checkIndex v0 v1 w = some r)   (hR : RepH G A w H) (hS : Cu A s w0 w H locs) (hl : lv_has ls 2 [(0, .int v0), (1, .int v1)]) : W p l e (hRm 1 22 w0) s m args below meth c H locs (wC w0 - wC w) (wS w0 - wS w) (hZ below args s G A w0 (some (.int r.1)) r.2) (F0 m 0 ls []) := by
  have B0 := B
  obtain ⟨hx, hb, hml, hown, hts, hr, hlk, hK⟩ := B0
  unfold fJ27_checkIndex at h
  refine lv_iload_n hx hb dJ27_checkIndex_0 rfl (lv_at hl 0 rfl) ?_
  refine lv_iload_n hx hb dJ27_checkIndex_1 rfl (lv_at hl 1 rfl) ?_
  refine lv_null hx hb dJ27_checkIndex_2 ?_
  replace h := b2_o h
  obtain ⟨x3, w1, e2, h⟩ := h
  refine h_callS 3  (As := [.int v0, .int v1, .null]) (rest := []) (v := (some (.int x3))) (w' := w1) (st1 := [.int x3]) hx hb hml hown hts hK hR hS (Nat.le_refl _) (Nat.le_refl _) (mJ14_checkIndex e2) (lw_S q1216 q803 q130 q804) (by decide +kernel) (Nat.le_of_ble_eq_true rfl) (Nat.le_of_ble_eq_true rfl) rfl hl.1 (Nat.le_of_ble_eq_true rfl) dJ27_checkIndex_3 rfl rfl (fun H locs hR hS => ?_)
  have eR := Option.some.inj h
  subst eR
  exact h_ifin hx hb hr hlk hR hS dJ27_checkIndex_6
theorem mJ27_checkIndex {l : Launch} {G : gE} {A : Nat → Prop} {v0 : Int32} {v1 : Int32} {w : WH} {r : (Int32 × WH)} (h : fJ27_checkIndex v0 v1 w = some r) : hM l G A yJ27_checkIndex cJ27_checkIndex 2 (some .int) 1 22 [.int v0, .int v1] w (some (.int r.1)) r.2 :=
  h_of (by decide +kernel) (Nat.le_of_ble_eq_true rfl) (fun p e s m args below meth c ls B hnm hR hS hl => bJ27_checkIndex_0 B h hR hS hl)
noncomputable def fJ2_elementData (v0 : Nat) (v1 : Int32) (w : WH) : Option ((Option Nat × WH)) :=
  (gR w v0 2 1).bind fun x1 =>
  x1.bind fun a3 =>
  (ldR w a3 4 v1).bind fun x5 =>
  some (x5, w)
theorem bJ2_elementData_0 {p : Program} {l : Launch} {e : Env} {s : State} {m : MethodId} {args : Array Value} {below : List Frame} {meth : Method} {c : Code} {H : Heap} {locs : List Loc} {ls : Array Slot} {G : gE} {A : Nat → Prop} {w0 : WH} (B : gB G RJ2 cJ2_elementData 2 (some (.object "java/lang/Object")) p s m args meth c) {v0 : Nat} {v1 : Int32} {w : WH} {r : (Option Nat × WH)} (h : fJ2_elementData v0 v1 w = some r)   (hR : RepH G A w H) (hS : Cu A s w0 w H locs) (hl : lv_has ls 2 [(0, .ref v0), (1, .int v1)]) : W p l e (hRm 0 0 w0) s m args below meth c H locs (wC w0 - wC w) (wS w0 - wS w) (hZ below args s G A w0 (some (va_rf r.1)) r.2) (F0 m 0 ls []) := by
  have B0 := B
  obtain ⟨hx, hb, hml, hown, hts, hr, hlk, hK⟩ := B0
  unfold fJ2_elementData at h
  refine lv_aload_n hx hb dJ2_elementData_0 rfl (lv_at hl 0 rfl) ?_
  replace h := bo_o h
  obtain ⟨x1, e2, h⟩ := h
  refine h_get (ci := 2) (k := 1) (v := va_rf x1) hx hb hts hown hK hR in_J2 rfl (by decide) (fun _ _ => rfl) q512 (fun _ h9 => h9) (gR_o e2) dJ2_elementData_1 ?_
  refine lv_iload_n hx hb dJ2_elementData_4 rfl (lv_at hl 1 rfl) ?_
  replace h := bo_o h
  obtain ⟨a3, e4, h⟩ := h
  subst e4
  replace h := bo_o h
  obtain ⟨x5, e6, h⟩ := h
  refine h_aald hx hb hK hR 4 e6 rfl dJ2_elementData_5 ?_
  have eR := Option.some.inj h
  subst eR
  exact h_afin (x := x5) hx hb hr hlk (by first | exact Or.inl ⟨_, rfl⟩ | exact Or.inr ⟨_, rfl⟩) hR hS dJ2_elementData_6
theorem mJ2_elementData {l : Launch} {G : gE} {A : Nat → Prop} {v0 : Nat} {v1 : Int32} {w : WH} {r : (Option Nat × WH)} (h : fJ2_elementData v0 v1 w = some r) : hM l G A yJ2_elementData cJ2_elementData 2 (some (.object "java/lang/Object")) 0 0 [.ref v0, .int v1] w (some (va_rf r.1)) r.2 :=
  h_of (by decide +kernel) (Nat.le_of_ble_eq_true rfl) (fun p e s m args below meth c ls B hnm hR hS hl => bJ2_elementData_0 B h hR hS hl)
noncomputable def fJ2_get (v0 : Nat) (v1 : Int32) (w : WH) : Option ((Option Nat × WH)) :=
  (gI w v0 2 2).bind fun x1 =>
  b2_ (fJ27_checkIndex v1 x1 w) fun x5 w3 =>
  (hIs w3 v0 2).bind fun _ =>
  b2_ (fJ2_elementData v0 v1 w3) fun x9 w6 =>
  some (x9, w6)
theorem bJ2_get_0 {p : Program} {l : Launch} {e : Env} {s : State} {m : MethodId} {args : Array Value} {below : List Frame} {meth : Method} {c : Code} {H : Heap} {locs : List Loc} {ls : Array Slot} {G : gE} {A : Nat → Prop} {w0 : WH} (B : gB G RJ2 cJ2_get 2 (some (.object "java/lang/Object")) p s m args meth c) {v0 : Nat} {v1 : Int32} {w : WH} {r : (Option Nat × WH)} (h : fJ2_get v0 v1 w = some r)   (hR : RepH G A w H) (hS : Cu A s w0 w H locs) (hl : lv_has ls 2 [(0, .ref v0), (1, .int v1)]) : W p l e (hRm 2 43 w0) s m args below meth c H locs (wC w0 - wC w) (wS w0 - wS w) (hZ below args s G A w0 (some (va_rf r.1)) r.2) (F0 m 0 ls []) := by
  have B0 := B
  obtain ⟨hx, hb, hml, hown, hts, hr, hlk, hK⟩ := B0
  unfold fJ2_get at h
  refine lv_iload_n hx hb dJ2_get_0 rfl (lv_at hl 1 rfl) ?_
  refine lv_aload_n hx hb dJ2_get_1 rfl (lv_at hl 0 rfl) ?_
  replace h := bo_o h
  obtain ⟨x1, e2, h⟩ := h
  refine h_get (ci := 2) (k := 2) (v := .int x1) hx hb hts hown hK hR in_J2 rfl (by decide) (fun _ _ => rfl) q515 (fun _ h9 => h9) (gI_o e2) dJ2_get_2 ?_
  replace h := b2_o h
  obtain ⟨x5, w3, e4, h⟩ := h
  refine h_callS 2  (As := [.int v1, .int x1]) (rest := []) (v := (some (.int x5))) (w' := w3) (st1 := [.int x5]) hx hb hml hown hts hK hR hS (Nat.le_refl _) (Nat.le_refl _) (mJ27_checkIndex e4) (lw_S q1213 q1214 q151 q1215) (by decide +kernel) (Nat.le_of_ble_eq_true rfl) (Nat.le_of_ble_eq_true rfl) rfl hl.1 (Nat.le_of_ble_eq_true rfl) dJ2_get_5 rfl rfl (fun H locs hR hS => ?_)
  refine lv_pop hx hb dJ2_get_8 rfl ?_
  refine lv_aload_n hx hb dJ2_get_9 rfl (lv_at hl 0 rfl) ?_
  refine lv_iload_n hx hb dJ2_get_10 rfl (lv_at hl 1 rfl) ?_
  replace h := bo_o h
  obtain ⟨_, e7, h⟩ := h
  replace h := b2_o h
  obtain ⟨x9, w6, e8, h⟩ := h
  refine h_callV 1 (ci := 2) (As := [.int v1]) (rest := []) (v := (some (va_rf x9))) (w' := w6) (st1 := [va_rf x9]) hx hb hml hown hts hK hR hS (Nat.le_refl _) (Nat.le_refl _) rfl e7 (mJ2_elementData e8) (lw_V q1217 q1218 q1219 q117 q1220) (by decide +kernel) (Nat.le_of_ble_eq_true rfl) (Nat.le_of_ble_eq_true rfl) rfl hl.1 (Nat.le_of_ble_eq_true rfl) dJ2_get_11 rfl rfl (fun H locs hR hS => ?_)
  have eR := Option.some.inj h
  subst eR
  exact h_afin (x := x9) hx hb hr hlk (by first | exact Or.inl ⟨_, rfl⟩ | exact Or.inr ⟨_, rfl⟩) hR hS dJ2_get_14
theorem mJ2_get {l : Launch} {G : gE} {A : Nat → Prop} {v0 : Nat} {v1 : Int32} {w : WH} {r : (Option Nat × WH)} (h : fJ2_get v0 v1 w = some r) : hM l G A yJ2_get cJ2_get 2 (some (.object "java/lang/Object")) 2 43 [.ref v0, .int v1] w (some (va_rf r.1)) r.2 :=
  h_of (by decide +kernel) (Nat.le_of_ble_eq_true rfl) (fun p e s m args below meth c ls B hnm hR hS hl => bJ2_get_0 B h hR hS hl)
noncomputable def fX9_to (v0 : Nat) (w : WH) : Option ((Int32 × WH)) :=
  (gI w v0 28 1).bind fun x1 =>
  some (x1, w)
theorem bX9_to_0 {p : Program} {l : Launch} {e : Env} {s : State} {m : MethodId} {args : Array Value} {below : List Frame} {meth : Method} {c : Code} {H : Heap} {locs : List Loc} {ls : Array Slot} {G : gE} {A : Nat → Prop} {w0 : WH} (B : gB G RX9 cX9_to 1 (some .int) p s m args meth c) {v0 : Nat} {w : WH} {r : (Int32 × WH)} (h : fX9_to v0 w = some r)   (hR : RepH G A w H) (hS : Cu A s w0 w H locs) (hl : lv_has ls 1 [(0, .ref v0)]) : W p l e (hRm 0 0 w0) s m args below meth c H locs (wC w0 - wC w) (wS w0 - wS w) (hZ below args s G A w0 (some (.int r.1)) r.2) (F0 m 0 ls []) := by
  have B0 := B
  obtain ⟨hx, hb, hml, hown, hts, hr, hlk, hK⟩ := B0
  unfold fX9_to at h
  refine lv_aload_n hx hb dX9_to_0 rfl (lv_at hl 0 rfl) ?_
  replace h := bo_o h
  obtain ⟨x1, e2, h⟩ := h
  refine h_get (ci := 28) (k := 1) (v := .int x1) hx hb hts hown hK hR in_X9 rfl (by decide) (fun _ _ => rfl) q1059 (fun _ h9 => h9) (gI_o e2) dX9_to_1 ?_
  have eR := Option.some.inj h
  subst eR
  exact h_ifin hx hb hr hlk hR hS dX9_to_4
theorem mX9_to {l : Launch} {G : gE} {A : Nat → Prop} {v0 : Nat} {w : WH} {r : (Int32 × WH)} (h : fX9_to v0 w = some r) : hM l G A yX9_to cX9_to 1 (some .int) 0 0 [.ref v0] w (some (.int r.1)) r.2 :=
  h_of (by decide +kernel) (Nat.le_of_ble_eq_true rfl) (fun p e s m args below meth c ls B hnm hR hS hl => bX9_to_0 B h hR hS hl)
noncomputable def fX9_from (v0 : Nat) (w : WH) : Option ((Int32 × WH)) :=
  (gI w v0 28 0).bind fun x1 =>
  some (x1, w)
theorem bX9_from_0 {p : Program} {l : Launch} {e : Env} {s : State} {m : MethodId} {args : Array Value} {below : List Frame} {meth : Method} {c : Code} {H : Heap} {locs : List Loc} {ls : Array Slot} {G : gE} {A : Nat → Prop} {w0 : WH} (B : gB G RX9 cX9_from 1 (some .int) p s m args meth c) {v0 : Nat} {w : WH} {r : (Int32 × WH)} (h : fX9_from v0 w = some r)   (hR : RepH G A w H) (hS : Cu A s w0 w H locs) (hl : lv_has ls 1 [(0, .ref v0)]) : W p l e (hRm 0 0 w0) s m args below meth c H locs (wC w0 - wC w) (wS w0 - wS w) (hZ below args s G A w0 (some (.int r.1)) r.2) (F0 m 0 ls []) := by
  have B0 := B
  obtain ⟨hx, hb, hml, hown, hts, hr, hlk, hK⟩ := B0
  unfold fX9_from at h
  refine lv_aload_n hx hb dX9_from_0 rfl (lv_at hl 0 rfl) ?_
  replace h := bo_o h
  obtain ⟨x1, e2, h⟩ := h
  refine h_get (ci := 28) (k := 0) (v := .int x1) hx hb hts hown hK hR in_X9 rfl (by decide) (fun _ _ => rfl) q1058 (fun _ h9 => h9) (gI_o e2) dX9_from_1 ?_
  have eR := Option.some.inj h
  subst eR
  exact h_ifin hx hb hr hlk hR hS dX9_from_4
theorem mX9_from {l : Launch} {G : gE} {A : Nat → Prop} {v0 : Nat} {w : WH} {r : (Int32 × WH)} (h : fX9_from v0 w = some r) : hM l G A yX9_from cX9_from 1 (some .int) 0 0 [.ref v0] w (some (.int r.1)) r.2 :=
  h_of (by decide +kernel) (Nat.le_of_ble_eq_true rfl) (fun p e s m args below meth c ls B hnm hR hS hl => bX9_from_0 B h hR hS hl)
noncomputable def fX8_number (v0 : Nat) (w : WH) : Option ((Int32 × WH)) :=
  (gI w v0 27 0).bind fun x1 =>
  some (x1, w)
theorem bX8_number_0 {p : Program} {l : Launch} {e : Env} {s : State} {m : MethodId} {args : Array Value} {below : List Frame} {meth : Method} {c : Code} {H : Heap} {locs : List Loc} {ls : Array Slot} {G : gE} {A : Nat → Prop} {w0 : WH} (B : gB G RX8 cX8_number 1 (some .int) p s m args meth c) {v0 : Nat} {w : WH} {r : (Int32 × WH)} (h : fX8_number v0 w = some r)   (hR : RepH G A w H) (hS : Cu A s w0 w H locs) (hl : lv_has ls 1 [(0, .ref v0)]) : W p l e (hRm 0 0 w0) s m args below meth c H locs (wC w0 - wC w) (wS w0 - wS w) (hZ below args s G A w0 (some (.int r.1)) r.2) (F0 m 0 ls []) := by
  have B0 := B
  obtain ⟨hx, hb, hml, hown, hts, hr, hlk, hK⟩ := B0
  unfold fX8_number at h
  refine lv_aload_n hx hb dX8_number_0 rfl (lv_at hl 0 rfl) ?_
  replace h := bo_o h
  obtain ⟨x1, e2, h⟩ := h
  refine h_get (ci := 27) (k := 0) (v := .int x1) hx hb hts hown hK hR in_X8 rfl (by decide) (fun _ _ => rfl) q932 (fun _ h9 => h9) (gI_o e2) dX8_number_1 ?_
  have eR := Option.some.inj h
  subst eR
  exact h_ifin hx hb hr hlk hR hS dX8_number_4
theorem mX8_number {l : Launch} {G : gE} {A : Nat → Prop} {v0 : Nat} {w : WH} {r : (Int32 × WH)} (h : fX8_number v0 w = some r) : hM l G A yX8_number cX8_number 1 (some .int) 0 0 [.ref v0] w (some (.int r.1)) r.2 :=
  h_of (by decide +kernel) (Nat.le_of_ble_eq_true rfl) (fun p e s m args below meth c ls B hnm hR hS hl => bX8_number_0 B h hR hS hl)
noncomputable def fJ17_get_b67  (w : WH) : Option ((Int32 × WH)) :=
  some (0, w)
theorem bJ17_get_67 {p : Program} {l : Launch} {e : Env} {s : State} {m : MethodId} {args : Array Value} {below : List Frame} {meth : Method} {c : Code} {H : Heap} {locs : List Loc} {ls : Array Slot} {G : gE} {A : Nat → Prop} {w0 : WH} (B : gB G RJ17 cJ17_get 3 (some .boolean) p s m args meth c)  {w : WH} {r : (Int32 × WH)} (h : fJ17_get_b67 w = some r)   (hR : RepH G A w H) (hS : Cu A s w0 w H locs) (hl : lv_has ls 3 []) : W p l e (hRm 12 269 w0) s m args below meth c H locs (wC w0 - wC w) (wS w0 - wS w) (hZ below args s G A w0 (some (.int r.1)) r.2) (F0 m 67 ls []) := by
  have B0 := B
  obtain ⟨hx, hb, hml, hown, hts, hr, hlk, hK⟩ := B0
  unfold fJ17_get_b67 at h
  refine lv_iconst (v := 0) hx hb dJ17_get_67 (by decide) ?_
  have eR := Option.some.inj h
  subst eR
  exact h_zfin hx hb hr hlk (by show narrow .boolean (.int 0) = .int 0; decide) hR hS dJ17_get_68
noncomputable def fJ17_get_b63  (w : WH) : Option ((Int32 × WH)) :=
  some (1, w)
theorem bJ17_get_63 {p : Program} {l : Launch} {e : Env} {s : State} {m : MethodId} {args : Array Value} {below : List Frame} {meth : Method} {c : Code} {H : Heap} {locs : List Loc} {ls : Array Slot} {G : gE} {A : Nat → Prop} {w0 : WH} (B : gB G RJ17 cJ17_get 3 (some .boolean) p s m args meth c)  {w : WH} {r : (Int32 × WH)} (h : fJ17_get_b63 w = some r)   (hR : RepH G A w H) (hS : Cu A s w0 w H locs) (hl : lv_has ls 3 []) : W p l e (hRm 12 269 w0) s m args below meth c H locs (wC w0 - wC w) (wS w0 - wS w) (hZ below args s G A w0 (some (.int r.1)) r.2) (F0 m 63 ls []) := by
  have B0 := B
  obtain ⟨hx, hb, hml, hown, hts, hr, hlk, hK⟩ := B0
  unfold fJ17_get_b63 at h
  refine lv_iconst (v := 1) hx hb dJ17_get_63 (by decide) ?_
  refine lv_goto (tgt := 68) hx hb dJ17_get_64 (by decide) ?_
  have eR := Option.some.inj h
  subst eR
  exact h_zfin hx hb hr hlk (by show narrow .boolean (.int 1) = .int 1; decide) hR hS dJ17_get_68
noncomputable def fJ17_get_b4 (v1 : Int32) (w : WH) : Option ((Int32 × WH)) :=
  none
theorem bJ17_get_4 {p : Program} {l : Launch} {e : Env} {s : State} {m : MethodId} {args : Array Value} {below : List Frame} {meth : Method} {c : Code} {H : Heap} {locs : List Loc} {ls : Array Slot} {G : gE} {A : Nat → Prop} {w0 : WH} (B : gB G RJ17 cJ17_get 3 (some .boolean) p s m args meth c) {v1 : Int32} {w : WH} {r : (Int32 × WH)} (h : fJ17_get_b4 v1 w = some r)   (hR : RepH G A w H) (hS : Cu A s w0 w H locs) (hl : lv_has ls 3 [(1, .int v1)]) : W p l e (hRm 12 269 w0) s m args below meth c H locs (wC w0 - wC w) (wS w0 - wS w) (hZ below args s G A w0 (some (.int r.1)) r.2) (F0 m 4 ls []) := by
  have B0 := B
  obtain ⟨hx, hb, hml, hown, hts, hr, hlk, hK⟩ := B0
  unfold fJ17_get_b4 at h
  exact (nomatch h)
noncomputable def fJ17_get (v0 : Nat) (v1 : Int32) (w : WH) : Option ((Int32 × WH)) :=
  if 0 ≤ v1 then (
    (hIs w v0 0).bind fun _ =>
    (fJ17_checkInvariants v0 w).bind fun w2 =>
    b2_ (fJ17_wordIndex v1 w2) fun x7 w5 =>
    (gI w5 v0 0 1).bind fun x8 =>
    if x8 ≤ x7 then (
      some (0, w5)
    ) else (
      (gR w5 v0 0 0).bind fun x11 =>
      x11.bind fun a13 =>
      (ldJ w5 a13 x7).bind fun x15 =>
      if lg_cmp (x15 &&& ((1 : Int64) <<< (v1.toInt64 &&& 63))) 0 = 0 then (
        fJ17_get_b67 w5
      ) else (
        fJ17_get_b63 w5
      )
    )
  ) else (
    fJ17_get_b4 v1 w
  )
theorem bJ17_get_0 {p : Program} {l : Launch} {e : Env} {s : State} {m : MethodId} {args : Array Value} {below : List Frame} {meth : Method} {c : Code} {H : Heap} {locs : List Loc} {ls : Array Slot} {G : gE} {A : Nat → Prop} {w0 : WH} (B : gB G RJ17 cJ17_get 3 (some .boolean) p s m args meth c) {v0 : Nat} {v1 : Int32} {w : WH} {r : (Int32 × WH)} (h : fJ17_get v0 v1 w = some r)   (hR : RepH G A w H) (hS : Cu A s w0 w H locs) (hl : lv_has ls 3 [(0, .ref v0), (1, .int v1)]) : W p l e (hRm 12 269 w0) s m args below meth c H locs (wC w0 - wC w) (wS w0 - wS w) (hZ below args s G A w0 (some (.int r.1)) r.2) (F0 m 0 ls []) := by
  have B0 := B
  obtain ⟨hx, hb, hml, hown, hts, hr, hlk, hK⟩ := B0
  unfold fJ17_get at h
  refine lv_iload_n hx hb dJ17_get_0 rfl (lv_at hl 1 rfl) ?_
  refine lv_if_ge (tgt := 31) hx hb dJ17_get_1 (by decide) (fun c1 => ?_) (fun c1 => ?_)
  · replace h := it_o c1 h
    refine lv_aload_n hx hb dJ17_get_31 rfl (lv_at hl 0 rfl) ?_
    replace h := bo_o h
    obtain ⟨_, e3, h⟩ := h
    replace h := bo_o h
    obtain ⟨w2, e4, h⟩ := h
    refine h_callV 0 (ci := 0) (As := []) (rest := []) (v := none) (w' := w2) (st1 := []) hx hb hml hown hts hK hR hS (Nat.le_refl _) (Nat.le_refl _) rfl e3 (mJ17_checkInvariants e4) (lw_V q1136 q1138 qs18 q134 q1139) (by decide +kernel) (Nat.le_of_ble_eq_true rfl) (Nat.le_of_ble_eq_true rfl) rfl hl.1 (Nat.le_of_ble_eq_true rfl) dJ17_get_32 rfl rfl (fun H locs hR hS => ?_)
    refine lv_iload_n hx hb dJ17_get_35 rfl (lv_at hl 1 rfl) ?_
    replace h := b2_o h
    obtain ⟨x7, w5, e6, h⟩ := h
    refine h_callS 1  (As := [.int v1]) (rest := []) (v := (some (.int x7))) (w' := w5) (st1 := [.int x7]) hx hb hml hown hts hK hR hS (Nat.le_refl _) (Nat.le_refl _) (mJ17_wordIndex e6) (lw_S q571 q572 q134 q573) (by decide +kernel) (Nat.le_of_ble_eq_true rfl) (Nat.le_of_ble_eq_true rfl) rfl hl.1 (Nat.le_of_ble_eq_true rfl) dJ17_get_36 rfl rfl (fun H locs hR hS => ?_)
    refine lv_istore_n (lv' := [(2, .int x7), (0, .ref v0), (1, .int v1)]) hx hb dJ17_get_39 rfl hl (by decide) rfl (fun ls hl => ?_)
    refine lv_iload_n hx hb dJ17_get_40 rfl (lv_at hl 0 rfl) ?_
    refine lv_aload_n hx hb dJ17_get_41 rfl (lv_at hl 1 rfl) ?_
    replace h := bo_o h
    obtain ⟨x8, e9, h⟩ := h
    refine h_get (ci := 0) (k := 1) (v := .int x8) hx hb hts hown hK hR in_J17 rfl (by decide) (fun _ _ => rfl) q575 (fun _ h9 => h9) (gI_o e9) dJ17_get_42 ?_
    refine lv_icmp_ge (tgt := 67) hx hb dJ17_get_45 (by decide) (fun c10 => ?_) (fun c10 => ?_)
    · replace h := it_o c10 h
      refine lv_iconst (v := 0) hx hb dJ17_get_67 (by decide) ?_
      have eR := Option.some.inj h
      subst eR
      exact h_zfin hx hb hr hlk (by show narrow .boolean (.int 0) = .int 0; decide) hR hS dJ17_get_68
    · replace h := if_o c10 h
      refine lv_aload_n hx hb dJ17_get_48 rfl (lv_at hl 1 rfl) ?_
      replace h := bo_o h
      obtain ⟨x11, e12, h⟩ := h
      refine h_get (ci := 0) (k := 0) (v := va_rf x11) hx hb hts hown hK hR in_J17 rfl (by decide) (fun _ _ => rfl) q574 (fun _ h9 => h9) (gR_o e12) dJ17_get_49 ?_
      refine lv_iload_n hx hb dJ17_get_52 rfl (lv_at hl 0 rfl) ?_
      replace h := bo_o h
      obtain ⟨a13, e14, h⟩ := h
      subst e14
      replace h := bo_o h
      obtain ⟨x15, e16, h⟩ := h
      refine h_lald hx hb hK hR e16 dJ17_get_53 ?_
      refine lv_lconst (v := 1) hx hb dJ17_get_54 (by decide) ?_
      refine lv_iload_n hx hb dJ17_get_55 rfl (lv_at hl 2 rfl) ?_
      refine lv_lshl hx hb dJ17_get_56 rfl ?_
      refine lv_land hx hb dJ17_get_57 ?_
      refine lv_lconst (v := 0) hx hb dJ17_get_58 (by decide) ?_
      refine W.lcmp hx hb dJ17_get_59 ?_
      refine lv_if_eq (tgt := 67) hx hb dJ17_get_60 (by decide) (fun c17 => ?_) (fun c17 => ?_)
      · replace h := it_o c17 h
        exact bJ17_get_67 B h  hR hS (lv_sub hl [] rfl)
      · replace h := if_o c17 h
        exact bJ17_get_63 B h  hR hS (lv_sub hl [] rfl)
  · replace h := if_o c1 h
    exact bJ17_get_4 B h  hR hS (lv_sub hl [1] rfl)
theorem mJ17_get {l : Launch} {G : gE} {A : Nat → Prop} {v0 : Nat} {v1 : Int32} {w : WH} {r : (Int32 × WH)} (h : fJ17_get v0 v1 w = some r) : hM l G A yJ17_get cJ17_get 3 (some .boolean) 12 269 [.ref v0, .int v1] w (some (.int r.1)) r.2 :=
  h_of (by decide +kernel) (Nat.le_of_ble_eq_true rfl) (fun p e s m args below meth c ls B hnm hR hS hl => bJ17_get_0 B h hR hS hl)
noncomputable def fX2_isOpen (v0 : Nat) (v1 : Nat) (w : WH) : Option ((Int32 × WH)) :=
  (gR w v0 21 3).bind fun x1 =>
  (hIs w v1 27).bind fun _ =>
  b2_ (fX8_number v1 w) fun x6 w3 =>
  x1.bind fun a7 =>
  (hIs w3 a7 0).bind fun _ =>
  b2_ (fJ17_get a7 x6 w3) fun x12 w9 =>
  if x12 = 0 then (
    some (1, w9)
  ) else (
    some (0, w9)
  )
theorem bX2_isOpen_0 {p : Program} {l : Launch} {e : Env} {s : State} {m : MethodId} {args : Array Value} {below : List Frame} {meth : Method} {c : Code} {H : Heap} {locs : List Loc} {ls : Array Slot} {G : gE} {A : Nat → Prop} {w0 : WH} (B : gB G RX2 cX2_isOpen 2 (some .boolean) p s m args meth c) {v0 : Nat} {v1 : Nat} {w : WH} {r : (Int32 × WH)} (h : fX2_isOpen v0 v1 w = some r)   (hR : RepH G A w H) (hS : Cu A s w0 w H locs) (hl : lv_has ls 2 [(0, .ref v0), (1, .ref v1)]) : W p l e (hRm 13 291 w0) s m args below meth c H locs (wC w0 - wC w) (wS w0 - wS w) (hZ below args s G A w0 (some (.int r.1)) r.2) (F0 m 0 ls []) := by
  have B0 := B
  obtain ⟨hx, hb, hml, hown, hts, hr, hlk, hK⟩ := B0
  unfold fX2_isOpen at h
  refine lv_aload_n hx hb dX2_isOpen_0 rfl (lv_at hl 0 rfl) ?_
  replace h := bo_o h
  obtain ⟨x1, e2, h⟩ := h
  refine h_get (ci := 21) (k := 3) (v := va_rf x1) hx hb hts hown hK hR in_X2 rfl (by decide) (fun _ _ => rfl) q596 (fun _ h9 => h9) (gR_o e2) dX2_isOpen_1 ?_
  refine lv_aload_n hx hb dX2_isOpen_4 rfl (lv_at hl 1 rfl) ?_
  replace h := bo_o h
  obtain ⟨_, e4, h⟩ := h
  replace h := b2_o h
  obtain ⟨x6, w3, e5, h⟩ := h
  refine h_callV 0 (ci := 27) (As := []) (rest := [va_rf x1]) (v := (some (.int x6))) (w' := w3) (st1 := [.int x6, va_rf x1]) hx hb hml hown hts hK hR hS (Nat.le_refl _) (Nat.le_refl _) rfl e4 (mX8_number e5) (lw_V q1304 q1305 q1306 q141 q1307) (by decide +kernel) (Nat.le_of_ble_eq_true rfl) (Nat.le_of_ble_eq_true rfl) rfl hl.1 (cat_le (Nat.le_of_ble_eq_true rfl)) dX2_isOpen_5 rfl rfl (fun H locs hR hS => ?_)
  replace h := bo_o h
  obtain ⟨a7, e8, h⟩ := h
  subst e8
  replace h := bo_o h
  obtain ⟨_, e10, h⟩ := h
  replace h := b2_o h
  obtain ⟨x12, w9, e11, h⟩ := h
  refine h_callV 1 (ci := 0) (As := [.int x6]) (rest := []) (v := (some (.int x12))) (w' := w9) (st1 := [.int x12]) hx hb hml hown hts hK hR hS (Nat.le_refl _) (Nat.le_refl _) rfl e10 (mJ17_get e11) (lw_V q1308 q1309 q1310 q134 q1311) (by decide +kernel) (Nat.le_of_ble_eq_true rfl) (Nat.le_of_ble_eq_true rfl) rfl hl.1 (Nat.le_of_ble_eq_true rfl) dX2_isOpen_8 rfl rfl (fun H locs hR hS => ?_)
  refine lv_if_ne (tgt := 18) hx hb dX2_isOpen_11 (by decide) (fun c13 => ?_) (fun c13 => ?_)
  · replace h := if_o c13 h
    refine lv_iconst (v := 0) hx hb dX2_isOpen_18 (by decide) ?_
    have eR := Option.some.inj h
    subst eR
    exact h_zfin hx hb hr hlk (by show narrow .boolean (.int 0) = .int 0; decide) hR hS dX2_isOpen_19
  · replace h := it_o c13 h
    refine lv_iconst (v := 1) hx hb dX2_isOpen_14 (by decide) ?_
    refine lv_goto (tgt := 19) hx hb dX2_isOpen_15 (by decide) ?_
    have eR := Option.some.inj h
    subst eR
    exact h_zfin hx hb hr hlk (by show narrow .boolean (.int 1) = .int 1; decide) hR hS dX2_isOpen_19
theorem mX2_isOpen {l : Launch} {G : gE} {A : Nat → Prop} {v0 : Nat} {v1 : Nat} {w : WH} {r : (Int32 × WH)} (h : fX2_isOpen v0 v1 w = some r) : hM l G A yX2_isOpen cX2_isOpen 2 (some .boolean) 13 291 [.ref v0, .ref v1] w (some (.int r.1)) r.2 :=
  h_of (by decide +kernel) (Nat.le_of_ble_eq_true rfl) (fun p e s m args below meth c ls B hnm hR hS hl => bX2_isOpen_0 B h hR hS hl)
noncomputable def fX9_value (v0 : Nat) (w : WH) : Option ((Int32 × WH)) :=
  (gI w v0 28 2).bind fun x1 =>
  some (x1, w)
theorem bX9_value_0 {p : Program} {l : Launch} {e : Env} {s : State} {m : MethodId} {args : Array Value} {below : List Frame} {meth : Method} {c : Code} {H : Heap} {locs : List Loc} {ls : Array Slot} {G : gE} {A : Nat → Prop} {w0 : WH} (B : gB G RX9 cX9_value 1 (some .int) p s m args meth c) {v0 : Nat} {w : WH} {r : (Int32 × WH)} (h : fX9_value v0 w = some r)   (hR : RepH G A w H) (hS : Cu A s w0 w H locs) (hl : lv_has ls 1 [(0, .ref v0)]) : W p l e (hRm 0 0 w0) s m args below meth c H locs (wC w0 - wC w) (wS w0 - wS w) (hZ below args s G A w0 (some (.int r.1)) r.2) (F0 m 0 ls []) := by
  have B0 := B
  obtain ⟨hx, hb, hml, hown, hts, hr, hlk, hK⟩ := B0
  unfold fX9_value at h
  refine lv_aload_n hx hb dX9_value_0 rfl (lv_at hl 0 rfl) ?_
  replace h := bo_o h
  obtain ⟨x1, e2, h⟩ := h
  refine h_get (ci := 28) (k := 2) (v := .int x1) hx hb hts hown hK hR in_X9 rfl (by decide) (fun _ _ => rfl) q1060 (fun _ h9 => h9) (gI_o e2) dX9_value_1 ?_
  have eR := Option.some.inj h
  subst eR
  exact h_ifin hx hb hr hlk hR hS dX9_value_4
theorem mX9_value {l : Launch} {G : gE} {A : Nat → Prop} {v0 : Nat} {w : WH} {r : (Int32 × WH)} (h : fX9_value v0 w = some r) : hM l G A yX9_value cX9_value 1 (some .int) 0 0 [.ref v0] w (some (.int r.1)) r.2 :=
  h_of (by decide +kernel) (Nat.le_of_ble_eq_true rfl) (fun p e s m args below meth c ls B hnm hR hS hl => bX9_value_0 B h hR hS hl)
noncomputable def fX8_cost (v0 : Nat) (w : WH) : Option ((Int32 × WH)) :=
  (gI w v0 27 3).bind fun x1 =>
  some (x1, w)
theorem bX8_cost_0 {p : Program} {l : Launch} {e : Env} {s : State} {m : MethodId} {args : Array Value} {below : List Frame} {meth : Method} {c : Code} {H : Heap} {locs : List Loc} {ls : Array Slot} {G : gE} {A : Nat → Prop} {w0 : WH} (B : gB G RX8 cX8_cost 1 (some .int) p s m args meth c) {v0 : Nat} {w : WH} {r : (Int32 × WH)} (h : fX8_cost v0 w = some r)   (hR : RepH G A w H) (hS : Cu A s w0 w H locs) (hl : lv_has ls 1 [(0, .ref v0)]) : W p l e (hRm 0 0 w0) s m args below meth c H locs (wC w0 - wC w) (wS w0 - wS w) (hZ below args s G A w0 (some (.int r.1)) r.2) (F0 m 0 ls []) := by
  have B0 := B
  obtain ⟨hx, hb, hml, hown, hts, hr, hlk, hK⟩ := B0
  unfold fX8_cost at h
  refine lv_aload_n hx hb dX8_cost_0 rfl (lv_at hl 0 rfl) ?_
  replace h := bo_o h
  obtain ⟨x1, e2, h⟩ := h
  refine h_get (ci := 27) (k := 3) (v := .int x1) hx hb hts hown hK hR in_X8 rfl (by decide) (fun _ _ => rfl) q935 (fun _ h9 => h9) (gI_o e2) dX8_cost_1 ?_
  have eR := Option.some.inj h
  subst eR
  exact h_ifin hx hb hr hlk hR hS dX8_cost_4
theorem mX8_cost {l : Launch} {G : gE} {A : Nat → Prop} {v0 : Nat} {w : WH} {r : (Int32 × WH)} (h : fX8_cost v0 w = some r) : hM l G A yX8_cost cX8_cost 1 (some .int) 0 0 [.ref v0] w (some (.int r.1)) r.2 :=
  h_of (by decide +kernel) (Nat.le_of_ble_eq_true rfl) (fun p e s m args below meth c ls B hnm hR hS hl => bX8_cost_0 B h hR hS hl)
