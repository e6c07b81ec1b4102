set_option maxRecDepth 100000
set_option maxHeartbeats 4000000

noncomputable def fJ25_hasNext (v0 : Nat) (w : WH) : Option ((Int32 × WH)) :=
  (gI w v0 7 2).bind fun x1 =>
  (gR w v0 7 4).bind fun x3 =>
  x3.bind fun a5 =>
  (gI w a5 11 1).bind fun x7 =>
  if x7 ≤ x1 then (
    some (0, w)
  ) else (
    some (1, w)
  )
theorem bJ25_hasNext_0 {p : Program} {l : Launch} {e : Env} {s : State} {m : MethodId} {args : Array Value} {below : List Frame} {meth : Method} {c : Code} {H : Heap} {locs : List Loc} {ls : Array Slot} {G : gE} {A : Nat → Prop} {w0 : WH} (B : gB G RJ25 cJ25_hasNext 1 (some .boolean) p s m args meth c) {v0 : Nat} {w : WH} {r : (Int32 × WH)} (h : fJ25_hasNext v0 w = some r)   (hR : RepH G A w H) (hS : Cu A s w0 w H locs) (hl : lv_has ls 1 [(0, .ref v0)]) : W p l e (hRm 0 0 w0) s m args below meth c H locs (wC w0 - wC w) (wS w0 - wS w) (hZ below args s G A w0 (some (.int r.1)) r.2) (F0 m 0 ls []) := by
  have B0 := B
  obtain ⟨hx, hb, hml, hown, hts, hr, hlk, hK⟩ := B0
  unfold fJ25_hasNext at h
  refine lv_aload_n hx hb dJ25_hasNext_0 rfl (lv_at hl 0 rfl) ?_
  replace h := bo_o h
  obtain ⟨x1, e2, h⟩ := h
  refine h_get (ci := 7) (k := 2) (v := .int x1) hx hb hts hown hK hR in_J25 rfl (by decide) (fun _ _ => rfl) q1524 (fun _ h9 => h9) (gI_o e2) dJ25_hasNext_1 ?_
  refine lv_aload_n hx hb dJ25_hasNext_4 rfl (lv_at hl 0 rfl) ?_
  replace h := bo_o h
  obtain ⟨x3, e4, h⟩ := h
  refine h_get (ci := 7) (k := 4) (v := va_rf x3) hx hb hts hown hK hR in_J25 rfl (by decide) (fun _ _ => rfl) q1526 (fun _ h9 => h9) (gR_o e4) dJ25_hasNext_5 ?_
  replace h := bo_o h
  obtain ⟨a5, e6, h⟩ := h
  subst e6
  replace h := bo_o h
  obtain ⟨x7, e8, h⟩ := h
  refine h_get (ci := 11) (k := 1) (v := .int x7) hx hb hts hown hK hR in_J31 rfl (by decide) (fun _ _ => rfl) q2058 (fun _ h9 => h9) (gI_o e8) dJ25_hasNext_8 ?_
  refine lv_icmp_ge (tgt := 18) hx hb dJ25_hasNext_11 (by decide) (fun c9 => ?_) (fun c9 => ?_)
  · replace h := it_o c9 h
    refine lv_iconst (v := 0) hx hb dJ25_hasNext_18 (by decide) ?_
    have eR := Option.some.inj h
    subst eR
    exact h_zfin hx hb hr hlk (by show narrow .boolean (.int 0) = .int 0; decide) hR hS dJ25_hasNext_19
  · replace h := if_o c9 h
    refine lv_iconst (v := 1) hx hb dJ25_hasNext_14 (by decide) ?_
    refine lv_goto (tgt := 19) hx hb dJ25_hasNext_15 (by decide) ?_
    have eR := Option.some.inj h
    subst eR
    exact h_zfin hx hb hr hlk (by show narrow .boolean (.int 1) = .int 1; decide) hR hS dJ25_hasNext_19
theorem mJ25_hasNext {l : Launch} {G : gE} {A : Nat → Prop} {v0 : Nat} {w : WH} {r : (Int32 × WH)} (h : fJ25_hasNext v0 w = some r) : hM l G A yJ25_hasNext cJ25_hasNext 1 (some .boolean) 0 0 [.ref v0] w (some (.int r.1)) r.2 :=
  h_of (by decide +kernel) (Nat.le_of_ble_eq_true rfl) (fun p e s m args below meth c ls B hnm hR hS hl => bJ25_hasNext_0 B h hR hS hl)
noncomputable def fJ25_checkForComodification (v0 : Nat) (w : WH) : Option (WH) :=
  (gR w v0 7 4).bind fun x1 =>
  x1.bind fun a3 =>
  (gI w a3 11 0).bind fun x5 =>
  (gI w v0 7 3).bind fun x7 =>
  if x5 = x7 then (
    some w
  ) else (
    none
  )
theorem bJ25_checkForComodification_0 {p : Program} {l : Launch} {e : Env} {s : State} {m : MethodId} {args : Array Value} {below : List Frame} {meth : Method} {c : Code} {H : Heap} {locs : List Loc} {ls : Array Slot} {G : gE} {A : Nat → Prop} {w0 : WH} (B : gB G RJ25 cJ25_checkForComodification 1 none p s m args meth c) {v0 : Nat} {w : WH} {r : WH} (h : fJ25_checkForComodification v0 w = some r)   (hR : RepH G A w H) (hS : Cu A s w0 w H locs) (hl : lv_has ls 1 [(0, .ref v0)]) : W p l e (hRm 0 0 w0) s m args below meth c H locs (wC w0 - wC w) (wS w0 - wS w) (hZ below args s G A w0 none r) (F0 m 0 ls []) := by
  have B0 := B
  obtain ⟨hx, hb, hml, hown, hts, hr, hlk, hK⟩ := B0
  unfold fJ25_checkForComodification at h
  refine lv_aload_n hx hb dJ25_checkForComodification_0 rfl (lv_at hl 0 rfl) ?_
  replace h := bo_o h
  obtain ⟨x1, e2, h⟩ := h
  refine h_get (ci := 7) (k := 4) (v := va_rf x1) hx hb hts hown hK hR in_J25 rfl (by decide) (fun _ _ => rfl) q1526 (fun _ h9 => h9) (gR_o e2) dJ25_checkForComodification_1 ?_
  replace h := bo_o h
  obtain ⟨a3, e4, h⟩ := h
  subst e4
  replace h := bo_o h
  obtain ⟨x5, e6, h⟩ := h
  refine h_get (ci := 11) (k := 0) (v := .int x5) hx hb hts hown hK hR in_J31 rfl (by decide) (fun _ _ => rfl) q517 (fun x9 h9 => u_same (hts _ q518) x9 h9) (gI_o e6) dJ25_checkForComodification_4 ?_
  refine lv_aload_n hx hb dJ25_checkForComodification_7 rfl (lv_at hl 0 rfl) ?_
  replace h := bo_o h
  obtain ⟨x7, e8, h⟩ := h
  refine h_get (ci := 7) (k := 3) (v := .int x7) hx hb hts hown hK hR in_J25 rfl (by decide) (fun _ _ => rfl) q1525 (fun _ h9 => h9) (gI_o e8) dJ25_checkForComodification_8 ?_
  refine lv_icmp_eq (tgt := 22) hx hb dJ25_checkForComodification_11 (by decide) (fun c9 => ?_) (fun c9 => ?_)
  · replace h := it_o c9 h
    have eR := Option.some.inj h
    subst eR
    exact h_vfin hx hb hr hlk hR hS dJ25_checkForComodification_22
  · replace h := if_o c9 h
    exact (nomatch h)
theorem mJ25_checkForComodification {l : Launch} {G : gE} {A : Nat → Prop} {v0 : Nat} {w : WH} {r : WH} (h : fJ25_checkForComodification v0 w = some r) : hM l G A yJ25_checkForComodification cJ25_checkForComodification 1 none 0 0 [.ref v0] w none r :=
  h_of (by decide +kernel) (Nat.le_of_ble_eq_true rfl) (fun p e s m args below meth c ls B hnm hR hS hl => bJ25_checkForComodification_0 B h hR hS hl)
noncomputable def fJ25_next (v0 : Nat) (w : WH) : Option ((Option Nat × WH)) :=
  (hIs w v0 7).bind fun _ =>
  (fJ25_checkForComodification v0 w).bind fun w1 =>
  (hIs w1 v0 7).bind fun _ =>
  b2_ (fJ25_hasNext v0 w1) fun x7 w4 =>
  if x7 = 0 then (
    none
  ) else (
    (gR w4 v0 7 1).bind fun x9 =>
    (hPut w4 v0 7 0 (va_rf x9)).bind fun w11 =>
    (gR w11 v0 7 1).bind fun x13 =>
    x13.bind fun a15 =>
    (gR w11 a15 3 1).bind fun x17 =>
    (hPut w11 v0 7 1 (va_rf x17)).bind fun w19 =>
    (gI w19 v0 7 2).bind fun x21 =>
    (hPut w19 v0 7 2 (.int (x21 + 1))).bind fun w23 =>
    (gR w23 v0 7 0).bind fun x25 =>
    x25.bind fun a27 =>
    (gR w23 a27 3 0).bind fun x29 =>
    some (x29, w23)
  )
theorem bJ25_next_0 {p : Program} {l : Launch} {e : Env} {s : State} {m : MethodId} {args : Array Value} {below : List Frame} {meth : Method} {c : Code} {H : Heap} {locs : List Loc} {ls : Array Slot} {G : gE} {A : Nat → Prop} {w0 : WH} (B : gB G RJ25 cJ25_next 1 (some (.object "java/lang/Object")) p s m args meth c) {v0 : Nat} {w : WH} {r : (Option Nat × WH)} (h : fJ25_next v0 w = some r)   (hR : RepH G A w H) (hS : Cu A s w0 w H locs) (hl : lv_has ls 1 [(0, .ref v0)]) : W p l e (hRm 1 20 w0) s m args below meth c H locs (wC w0 - wC w) (wS w0 - wS w) (hZ below args s G A w0 (some (va_rf r.1)) r.2) (F0 m 0 ls []) := by
  have B0 := B
  obtain ⟨hx, hb, hml, hown, hts, hr, hlk, hK⟩ := B0
  unfold fJ25_next at h
  refine lv_aload_n hx hb dJ25_next_0 rfl (lv_at hl 0 rfl) ?_
  replace h := bo_o h
  obtain ⟨_, e2, h⟩ := h
  replace h := bo_o h
  obtain ⟨w1, e3, h⟩ := h
  refine h_callV 0 (ci := 7) (As := []) (rest := []) (v := none) (w' := w1) (st1 := []) hx hb hml hown hts hK hR hS (Nat.le_refl _) (Nat.le_refl _) rfl e2 (mJ25_checkForComodification e3) (lw_V q1699 q1700 q1701 q149 q1702) (by decide +kernel) (Nat.le_of_ble_eq_true rfl) (Nat.le_of_ble_eq_true rfl) rfl hl.1 (Nat.le_of_ble_eq_true rfl) dJ25_next_1 rfl rfl (fun H locs hR hS => ?_)
  refine lv_aload_n hx hb dJ25_next_4 rfl (lv_at hl 0 rfl) ?_
  replace h := bo_o h
  obtain ⟨_, e5, h⟩ := h
  replace h := b2_o h
  obtain ⟨x7, w4, e6, h⟩ := h
  refine h_callV 0 (ci := 7) (As := []) (rest := []) (v := (some (.int x7))) (w' := w4) (st1 := [.int x7]) hx hb hml hown hts hK hR hS (Nat.le_refl _) (Nat.le_refl _) rfl e5 (mJ25_hasNext e6) (lw_V q1703 q1580 q3044 q149 q1582) (by decide +kernel) (Nat.le_of_ble_eq_true rfl) (Nat.le_of_ble_eq_true rfl) rfl hl.1 (Nat.le_of_ble_eq_true rfl) dJ25_next_5 rfl rfl (fun H locs hR hS => ?_)
  refine lv_if_ne (tgt := 19) hx hb dJ25_next_8 (by decide) (fun c8 => ?_) (fun c8 => ?_)
  · replace h := if_o c8 h
    refine lv_aload_n hx hb dJ25_next_19 rfl (lv_at hl 0 rfl) ?_
    refine lv_aload_n hx hb dJ25_next_20 rfl (lv_at hl 0 rfl) ?_
    replace h := bo_o h
    obtain ⟨x9, e10, h⟩ := h
    refine h_get (ci := 7) (k := 1) (v := va_rf x9) hx hb hts hown hK hR in_J25 rfl (by decide) (fun _ _ => rfl) q1523 (fun _ h9 => h9) (gR_o e10) dJ25_next_21 ?_
    replace h := bo_o h
    obtain ⟨w11, e12, h⟩ := h
    refine h_put (ci := 7) (k := 0) (ty := tyJ25 0) hx hb hts hown hK hR hS in_J25 tyJ25 tyJ25_ok nmJ25 rfl (by decide) q1522 (fun _ h9 => h9) rfl (tyJ25_ok 0 (by decide)) (by cases x9 <;> rfl) (by cases x9 <;> rfl) e12 dJ25_next_24 (fun H locs hR hS => ?_)
    refine lv_aload_n hx hb dJ25_next_27 rfl (lv_at hl 0 rfl) ?_
    refine lv_aload_n hx hb dJ25_next_28 rfl (lv_at hl 0 rfl) ?_
    replace h := bo_o h
    obtain ⟨x13, e14, h⟩ := h
    refine h_get (ci := 7) (k := 1) (v := va_rf x13) hx hb hts hown hK hR in_J25 rfl (by decide) (fun _ _ => rfl) q1523 (fun _ h9 => h9) (gR_o e14) dJ25_next_29 ?_
    replace h := bo_o h
    obtain ⟨a15, e16, h⟩ := h
    subst e16
    replace h := bo_o h
    obtain ⟨x17, e18, h⟩ := h
    refine h_get (ci := 3) (k := 1) (v := va_rf x17) hx hb hts hown hK hR in_J20 rfl (by decide) (fun _ _ => rfl) q1037 (fun _ h9 => h9) (gR_o e18) dJ25_next_32 ?_
    replace h := bo_o h
    obtain ⟨w19, e20, h⟩ := h
    refine h_put (ci := 7) (k := 1) (ty := tyJ25 1) hx hb hts hown hK hR hS in_J25 tyJ25 tyJ25_ok nmJ25 rfl (by decide) q1523 (fun _ h9 => h9) rfl (tyJ25_ok 1 (by decide)) (by cases x17 <;> rfl) (by cases x17 <;> rfl) e20 dJ25_next_35 (fun H locs hR hS => ?_)
    refine lv_aload_n hx hb dJ25_next_38 rfl (lv_at hl 0 rfl) ?_
    refine lv_dup hx hb dJ25_next_39 rfl ?_
    replace h := bo_o h
    obtain ⟨x21, e22, h⟩ := h
    refine h_get (ci := 7) (k := 2) (v := .int x21) hx hb hts hown hK hR in_J25 rfl (by decide) (fun _ _ => rfl) q1524 (fun _ h9 => h9) (gI_o e22) dJ25_next_40 ?_
    refine lv_iconst (v := 1) hx hb dJ25_next_43 (by decide) ?_
    refine lv_iadd hx hb dJ25_next_44 ?_
    replace h := bo_o h
    obtain ⟨w23, e24, h⟩ := h
    refine h_put (ci := 7) (k := 2) (ty := tyJ25 2) hx hb hts hown hK hR hS in_J25 tyJ25 tyJ25_ok nmJ25 rfl (by decide) q1524 (fun _ h9 => h9) rfl (tyJ25_ok 2 (by decide)) rfl rfl e24 dJ25_next_45 (fun H locs hR hS => ?_)
    refine lv_aload_n hx hb dJ25_next_48 rfl (lv_at hl 0 rfl) ?_
    replace h := bo_o h
    obtain ⟨x25, e26, h⟩ := h
    refine h_get (ci := 7) (k := 0) (v := va_rf x25) hx hb hts hown hK hR in_J25 rfl (by decide) (fun _ _ => rfl) q1522 (fun _ h9 => h9) (gR_o e26) dJ25_next_49 ?_
    replace h := bo_o h
    obtain ⟨a27, e28, h⟩ := h
    subst e28
    replace h := bo_o h
    obtain ⟨x29, e30, h⟩ := h
    refine h_get (ci := 3) (k := 0) (v := va_rf x29) hx hb hts hown hK hR in_J20 rfl (by decide) (fun _ _ => rfl) q1034 (fun _ h9 => h9) (gR_o e30) dJ25_next_52 ?_
    have eR := Option.some.inj h
    subst eR
    exact h_afin (x := x29) hx hb hr hlk (by first | exact Or.inl ⟨_, rfl⟩ | exact Or.inr ⟨_, rfl⟩) hR hS dJ25_next_55
  · replace h := it_o c8 h
    exact (nomatch h)
theorem mJ25_next {l : Launch} {G : gE} {A : Nat → Prop} {v0 : Nat} {w : WH} {r : (Option Nat × WH)} (h : fJ25_next v0 w = some r) : hM l G A yJ25_next cJ25_next 1 (some (.object "java/lang/Object")) 1 20 [.ref v0] w (some (va_rf r.1)) r.2 :=
  h_of (by decide +kernel) (Nat.le_of_ble_eq_true rfl) (fun p e s m args below meth c ls B hnm hR hS hl => bJ25_next_0 B h hR hS hl)
noncomputable def fX1_writePath_b135 (v0 : Nat) (w : WH) : Option (((Sum (Int32) (Nat × Nat)) × WH)) :=
  (gR w v0 17 8).bind fun x1 =>
  x1.bind fun a3 =>
  (hIs w a3 15).bind fun _ =>
  b2_ (fJ8_length a3 w) fun x8 w5 =>
  some (.inl x8, w5)
theorem bX1_writePath_135 {p : Program} {l : Launch} {e : Env} {s : State} {m : MethodId} {args : Array Value} {below : List Frame} {meth : Method} {c : Code} {H : Heap} {locs : List Loc} {ls : Array Slot} {G : gE} {A : Nat → Prop} {w0 : WH} (B : gB G RX1 cX1_writePath 5 (some .int) p s m args meth c) (hT : ∀ x ∈ c.exceptionTable.toList, False) (hl0 : l.stackTraces = false) {v0 : Nat} {w : WH} {r : ((Sum (Int32) (Nat × Nat)) × WH)} (h : fX1_writePath_b135 v0 w = some r)   (hR : RepH G A w H) (hS : Cu A s w0 w H locs) (hl : lv_has ls 5 [(0, .ref v0)]) : W p l e (hRm 19 433 w0) s m args below meth c H locs (wC w0 - wC w) (wS w0 - wS w) (hZX below args s G A w0 (oI r.1) r.2) (F0 m 135 ls []) := by
  have B0 := B
  obtain ⟨hx, hb, hml, hown, hts, hr, hlk, hK⟩ := B0
  unfold fX1_writePath_b135 at h
  refine lv_aload_n hx hb dX1_writePath_135 rfl (lv_at hl 0 rfl) ?_
  replace h := bo_o h
  obtain ⟨x1, e2, h⟩ := h
  refine h_get (ci := 17) (k := 8) (v := va_rf x1) hx hb hts hown hK hR in_X1 rfl (by decide) (fun _ _ => rfl) q673 (fun _ h9 => h9) (gR_o e2) dX1_writePath_136 ?_
  replace h := bo_o h
  obtain ⟨a3, e4, h⟩ := h
  subst e4
  replace h := bo_o h
  obtain ⟨_, e6, h⟩ := h
  replace h := b2_o h
  obtain ⟨x8, w5, e7, h⟩ := h
  refine h_callV 0 (ci := 15) (As := []) (rest := []) (v := (some (.int x8))) (w' := w5) (st1 := [.int x8]) hx hb hml hown hts hK hR hS (Nat.le_refl _) (Nat.le_refl _) rfl e6 (mJ8_length e7) (lw_V q1893 q439 q3046 q123 q440) (by decide +kernel) (Nat.le_of_ble_eq_true rfl) (Nat.le_of_ble_eq_true rfl) rfl hl.1 (Nat.le_of_ble_eq_true rfl) dX1_writePath_139 rfl rfl (fun H locs hR hS => ?_)
  have eR := Option.some.inj h
  subst eR
  exact h_ifinX hx hb hr hlk hR hS dX1_writePath_142
noncomputable def fX1_writePath_b114 (v0 : Nat) (v3 : Nat) (v4 : Nat) (w : WH) : Option (Sum (WH) (((Sum (Int32) (Nat × Nat)) × WH))) :=
  (gR w v0 17 8).bind fun x1 =>
  x1.bind fun a3 =>
  (hIs w a3 15).bind fun _ =>
  b2_ (fJ8_append_3 a3 62 w) fun x8 w5 =>
  (hIs w5 v4 27).bind fun _ =>
  b2_ (fX8_to v4 w5) fun x12 w9 =>
  x8.bind fun a13 =>
  (hIs w9 a13 15).bind fun _ =>
  b2_ (fJ8_append_2 a13 x12 w9) fun x18 w15 =>
  some (.inl w15)
theorem bX1_writePath_114 {p : Program} {l : Launch} {e : Env} {s : State} {m : MethodId} {args : Array Value} {below : List Frame} {meth : Method} {c : Code} {H : Heap} {locs : List Loc} {ls : Array Slot} {G : gE} {A : Nat → Prop} {w0 : WH} (B : gB G RX1 cX1_writePath 5 (some .int) p s m args meth c) (hT : ∀ x ∈ c.exceptionTable.toList, False) (hl0 : l.stackTraces = false) {v0 : Nat} {v3 : Nat} {v4 : Nat} {w : WH} {x : Sum (WH) (((Sum (Int32) (Nat × Nat)) × WH))} {r : ((Sum (Int32) (Nat × Nat)) × WH)} (h : fX1_writePath_b114 v0 v3 v4 w = some x)  (k60 : ∀  (w' : WH), x = (.inl w') → ∀ (H : Heap) (locs : List Loc) (ls : Array Slot), RepH G A w' H → Cu A s w0 w' H locs → lv_has ls 5 [(0, .ref v0), (3, va_rf v3)] → W p l e (hRm 19 433 w0) s m args below meth c H locs (wC w0 - wC w') (wS w0 - wS w') (hZX below args s G A w0 (oI r.1) r.2) (F0 m 60 ls [])) (kR : ∀ q, x = (.inr q) → q = r) (hR : RepH G A w H) (hS : Cu A s w0 w H locs) (hl : lv_has ls 5 [(0, .ref v0), (3, .ref v3), (4, .ref v4)]) : W p l e (hRm 19 433 w0) s m args below meth c H locs (wC w0 - wC w) (wS w0 - wS w) (hZX below args s G A w0 (oI r.1) r.2) (F0 m 114 ls []) := by
  have B0 := B
  obtain ⟨hx, hb, hml, hown, hts, hr, hlk, hK⟩ := B0
  unfold fX1_writePath_b114 at h
  refine lv_aload_n hx hb dX1_writePath_114 rfl (lv_at hl 0 rfl) ?_
  replace h := bo_o h
  obtain ⟨x1, e2, h⟩ := h
  refine h_get (ci := 17) (k := 8) (v := va_rf x1) hx hb hts hown hK hR in_X1 rfl (by decide) (fun _ _ => rfl) q673 (fun _ h9 => h9) (gR_o e2) dX1_writePath_115 ?_
  refine lv_bipush (v := 62) hx hb dX1_writePath_118 (by decide) ?_
  replace h := bo_o h
  obtain ⟨a3, e4, h⟩ := h
  subst e4
  replace h := bo_o h
  obtain ⟨_, e6, h⟩ := h
  replace h := b2_o h
  obtain ⟨x8, w5, e7, h⟩ := h
  refine h_callV 1 (ci := 15) (As := [.int 62]) (rest := []) (v := (some (va_rf x8))) (w' := w5) (st1 := [va_rf x8]) hx hb hml hown hts hK hR hS (Nat.le_refl _) (Nat.le_refl _) rfl e6 (mJ8_append_3 e7) (lw_V q1894 q784 q785 q123 q786) (by decide +kernel) (Nat.le_of_ble_eq_true rfl) (Nat.le_of_ble_eq_true rfl) rfl hl.1 (Nat.le_of_ble_eq_true rfl) dX1_writePath_120 rfl rfl (fun H locs hR hS => ?_)
  refine lv_aload hx hb dX1_writePath_123 (lv_at hl 2 rfl) ?_
  replace h := bo_o h
  obtain ⟨_, e10, h⟩ := h
  replace h := b2_o h
  obtain ⟨x12, w9, e11, h⟩ := h
  refine h_callV 0 (ci := 27) (As := []) (rest := [va_rf x8]) (v := (some (.int x12))) (w' := w9) (st1 := [.int x12, va_rf x8]) hx hb hml hown hts hK hR hS (Nat.le_refl _) (Nat.le_refl _) rfl e10 (mX8_to e11) (lw_V q1965 q1363 q1364 q141 q1365) (by decide +kernel) (Nat.le_of_ble_eq_true rfl) (Nat.le_of_ble_eq_true rfl) rfl hl.1 (cat_le (Nat.le_of_ble_eq_true rfl)) dX1_writePath_125 rfl rfl (fun H locs hR hS => ?_)
  replace h := bo_o h
  obtain ⟨a13, e14, h⟩ := h
  subst e14
  replace h := bo_o h
  obtain ⟨_, e16, h⟩ := h
  replace h := b2_o h
  obtain ⟨x18, w15, e17, h⟩ := h
  refine h_callV 1 (ci := 15) (As := [.int x12]) (rest := []) (v := (some (va_rf x18))) (w' := w15) (st1 := [va_rf x18]) hx hb hml hown hts hK hR hS (Nat.le_refl _) (Nat.le_refl _) rfl e16 (mJ8_append_2 e17) (lw_V q1895 q393 q394 q123 q395) (by decide +kernel) (Nat.le_of_ble_eq_true rfl) (Nat.le_of_ble_eq_true rfl) rfl hl.1 (Nat.le_of_ble_eq_true rfl) dX1_writePath_128 rfl rfl (fun H locs hR hS => ?_)
  refine lv_pop hx hb dX1_writePath_131 (rf_cat _) ?_
  refine lv_goto (tgt := 60) hx hb dX1_writePath_132 (by decide) ?_
  exact k60 _ (Option.some.inj h).symm H locs ls hR hS (lv_sub hl [0, 1] rfl)
noncomputable def fX1_writePath_b60 (v0 : Nat) (v3 : Option Nat) (w : WH) : Option (Sum (WH) (((Sum (Int32) (Nat × Nat)) × WH))) :=
  v3.bind fun a1 =>
  (hIs w a1 7).bind fun _ =>
  b2_ (fJ25_hasNext a1 w) fun x6 w3 =>
  if x6 = 0 then (
    (fX1_writePath_b135 v0 w3).map (fun y => (.inr y))
  ) else (
    (hIs w3 a1 7).bind fun _ =>
    b2_ (fJ25_next a1 w3) fun x11 w8 =>
    x11.bind fun a12 =>
    (hIs w8 a12 27).bind fun _ =>
    (gR w8 v0 17 0).bind fun x15 =>
    x15.bind fun a17 =>
    (hIs w8 a17 21).bind fun _ =>
    b2_ (fX2_toll a17 a12 w8) fun x22 w19 =>
    if x22 ≤ 0 then (
      fX1_writePath_b114 v0 a1 a12 w19
    ) else (
      (gR w19 v0 17 8).bind fun x24 =>
      x24.bind fun a26 =>
      (hIs w19 a26 15).bind fun _ =>
      b2_ (fJ8_append_3 a26 61 w19) fun x31 w28 =>
      (gR w28 v0 17 0).bind fun x32 =>
      x32.bind fun a34 =>
      (hIs w28 a34 21).bind fun _ =>
      b2_ (fX2_toll a34 a12 w28) fun x39 w36 =>
      x31.bind fun a40 =>
      (hIs w36 a40 15).bind fun _ =>
      b2_ (fJ8_append_2 a40 x39 w36) fun x45 w42 =>
      fX1_writePath_b114 v0 a1 a12 w42
    )
  )
theorem bX1_writePath_60 {p : Program} {l : Launch} {e : Env} {s : State} {m : MethodId} {args : Array Value} {below : List Frame} {meth : Method} {c : Code} {H : Heap} {locs : List Loc} {ls : Array Slot} {G : gE} {A : Nat → Prop} {w0 : WH} (B : gB G RX1 cX1_writePath 5 (some .int) p s m args meth c) (hT : ∀ x ∈ c.exceptionTable.toList, False) (hl0 : l.stackTraces = false) {v0 : Nat} {v3 : Option Nat} {w : WH} {x : Sum (WH) (((Sum (Int32) (Nat × Nat)) × WH))} {r : ((Sum (Int32) (Nat × Nat)) × WH)} (h : fX1_writePath_b60 v0 v3 w = some x)  (k60 : ∀  (w' : WH), x = (.inl w') → ∀ (H : Heap) (locs : List Loc) (ls : Array Slot), RepH G A w' H → Cu A s w0 w' H locs → lv_has ls 5 [(0, .ref v0), (3, va_rf v3)] → W p l e (hRm 19 433 w0) s m args below meth c H locs (wC w0 - wC w') (wS w0 - wS w') (hZX below args s G A w0 (oI r.1) r.2) (F0 m 60 ls [])) (kR : ∀ q, x = (.inr q) → q = r) (hR : RepH G A w H) (hS : Cu A s w0 w H locs) (hl : lv_has ls 5 [(0, .ref v0), (3, va_rf v3)]) : W p l e (hRm 19 433 w0) s m args below meth c H locs (wC w0 - wC w) (wS w0 - wS w) (hZX below args s G A w0 (oI r.1) r.2) (F0 m 60 ls []) := by
  have B0 := B
  obtain ⟨hx, hb, hml, hown, hts, hr, hlk, hK⟩ := B0
  unfold fX1_writePath_b60 at h
  refine lv_aload_nq hx hb dX1_writePath_60 rfl (lv_at hl 1 rfl) ?_
  replace h := bo_o h
  obtain ⟨a1, e2, h⟩ := h
  subst e2
  replace h := bo_o h
  obtain ⟨_, e4, h⟩ := h
  replace h := b2_o h
  obtain ⟨x6, w3, e5, h⟩ := h
  refine h_callF 0  (As := []) (rest := []) (v := (some (.int x6))) (w' := w3) (st1 := [.int x6]) hx hb hml hown hts hK hR hS (Nat.le_refl _) (Nat.le_refl _) (h_recv (ci := 7) hK hR hS rfl e4) (mJ25_hasNext e5) (lw_app (a := [.methodLink _ _ _, .selects _ _ _, .instanceMethod _, .initialized _]) (lw_4 q1540 q1578 q1580 q149) (lw_meth q1582)) (hK.fw 8 rfl) (by decide +kernel) (Nat.le_of_ble_eq_true rfl) (Nat.le_of_ble_eq_true rfl) rfl hl.1 (Nat.le_of_ble_eq_true rfl) dX1_writePath_61 rfl rfl (fun H locs hR hS => ?_)
  refine lv_if_eq (tgt := 135) hx hb dX1_writePath_66 (by decide) (fun c7 => ?_) (fun c7 => ?_)
  · replace h := it_o c7 h
    obtain ⟨y, h, ey⟩ := mp_o h
    have ey := kR _ ey.symm
    subst ey
    exact bX1_writePath_135 B hT hl0 h  hR hS (lv_sub hl [0] rfl)
  · replace h := if_o c7 h
    refine lv_aload_n hx hb dX1_writePath_69 rfl (lv_at hl 1 rfl) ?_
    replace h := bo_o h
    obtain ⟨_, e9, h⟩ := h
    replace h := b2_o h
    obtain ⟨x11, w8, e10, h⟩ := h
    refine h_callF 0  (As := []) (rest := []) (v := (some (va_rf x11))) (w' := w8) (st1 := [va_rf x11]) hx hb hml hown hts hK hR hS (Nat.le_refl _) (Nat.le_refl _) (h_recv (ci := 7) hK hR hS rfl e9) (mJ25_next e10) (lw_app (a := [.methodLink _ _ _, .selects _ _ _, .instanceMethod _, .initialized _]) (lw_4 q1584 q1694 q1696 q149) (lw_meth q1698)) (hK.fw 9 rfl) (by decide +kernel) (Nat.le_of_ble_eq_true rfl) (Nat.le_of_ble_eq_true rfl) rfl hl.1 (Nat.le_of_ble_eq_true rfl) dX1_writePath_70 rfl rfl (fun H locs hR hS => ?_)
    replace h := bo_o h
    obtain ⟨a12, e13, h⟩ := h
    subst e13
    replace h := bo_o h
    obtain ⟨_, e14, h⟩ := h
    refine h_castS (ci := 27) hx hb hts hown hK hR hS rfl e14 q1768 dX1_writePath_75 ?_
    refine lv_astore (lv' := [(4, .ref a12), (0, .ref v0), (3, .ref a1)]) hx hb dX1_writePath_78 hl (by decide) rfl (fun ls hl => ?_)
    refine lv_aload_n hx hb dX1_writePath_80 rfl (lv_at hl 1 rfl) ?_
    replace h := bo_o h
    obtain ⟨x15, e16, h⟩ := h
    refine h_get (ci := 17) (k := 0) (v := va_rf x15) hx hb hts hown hK hR in_X1 rfl (by decide) (fun _ _ => rfl) q662 (fun _ h9 => h9) (gR_o e16) dX1_writePath_81 ?_
    refine lv_aload hx hb dX1_writePath_84 (lv_at hl 0 rfl) ?_
    replace h := bo_o h
    obtain ⟨a17, e18, h⟩ := h
    subst e18
    replace h := bo_o h
    obtain ⟨_, e20, h⟩ := h
    replace h := b2_o h
    obtain ⟨x22, w19, e21, h⟩ := h
    refine h_callV 1 (ci := 21) (As := [.ref a12]) (rest := []) (v := (some (.int x22))) (w' := w19) (st1 := [.int x22]) hx hb hml hown hts hK hR hS (Nat.le_refl _) (Nat.le_refl _) rfl e20 (mX2_toll e21) (lw_V q1892 q1332 q1333 q113 q1334) (by decide +kernel) (Nat.le_of_ble_eq_true rfl) (Nat.le_of_ble_eq_true rfl) rfl hl.1 (Nat.le_of_ble_eq_true rfl) dX1_writePath_86 rfl rfl (fun H locs hR hS => ?_)
    refine lv_if_le (tgt := 114) hx hb dX1_writePath_89 (by decide) (fun c23 => ?_) (fun c23 => ?_)
    · replace h := it_o c23 h
      exact bX1_writePath_114 B hT hl0 h k60 kR hR hS (lv_sub hl [1, 2, 0] rfl)
    · replace h := if_o c23 h
      refine lv_aload_n hx hb dX1_writePath_92 rfl (lv_at hl 1 rfl) ?_
      replace h := bo_o h
      obtain ⟨x24, e25, h⟩ := h
      refine h_get (ci := 17) (k := 8) (v := va_rf x24) hx hb hts hown hK hR in_X1 rfl (by decide) (fun _ _ => rfl) q673 (fun _ h9 => h9) (gR_o e25) dX1_writePath_93 ?_
      refine lv_bipush (v := 61) hx hb dX1_writePath_96 (by decide) ?_
      replace h := bo_o h
      obtain ⟨a26, e27, h⟩ := h
      subst e27
      replace h := bo_o h
      obtain ⟨_, e29, h⟩ := h
      replace h := b2_o h
      obtain ⟨x31, w28, e30, h⟩ := h
      refine h_callV 1 (ci := 15) (As := [.int 61]) (rest := []) (v := (some (va_rf x31))) (w' := w28) (st1 := [va_rf x31]) hx hb hml hown hts hK hR hS (Nat.le_refl _) (Nat.le_refl _) rfl e29 (mJ8_append_3 e30) (lw_V q1894 q784 q785 q123 q786) (by decide +kernel) (Nat.le_of_ble_eq_true rfl) (Nat.le_of_ble_eq_true rfl) rfl hl.1 (Nat.le_of_ble_eq_true rfl) dX1_writePath_98 rfl rfl (fun H locs hR hS => ?_)
      refine lv_aload_n hx hb dX1_writePath_101 rfl (lv_at hl 1 rfl) ?_
      replace h := bo_o h
      obtain ⟨x32, e33, h⟩ := h
      refine h_get (ci := 17) (k := 0) (v := va_rf x32) hx hb hts hown hK hR in_X1 rfl (by decide) (fun _ _ => rfl) q662 (fun _ h9 => h9) (gR_o e33) dX1_writePath_102 ?_
      refine lv_aload hx hb dX1_writePath_105 (lv_at hl 0 rfl) ?_
      replace h := bo_o h
      obtain ⟨a34, e35, h⟩ := h
      subst e35
      replace h := bo_o h
      obtain ⟨_, e37, h⟩ := h
      replace h := b2_o h
      obtain ⟨x39, w36, e38, h⟩ := h
      refine h_callV 1 (ci := 21) (As := [.ref a12]) (rest := [va_rf x31]) (v := (some (.int x39))) (w' := w36) (st1 := [.int x39, va_rf x31]) hx hb hml hown hts hK hR hS (Nat.le_refl _) (Nat.le_refl _) rfl e37 (mX2_toll e38) (lw_V q1892 q1332 q1333 q113 q1334) (by decide +kernel) (Nat.le_of_ble_eq_true rfl) (Nat.le_of_ble_eq_true rfl) rfl hl.1 (cat_le (Nat.le_of_ble_eq_true rfl)) dX1_writePath_107 rfl rfl (fun H locs hR hS => ?_)
      replace h := bo_o h
      obtain ⟨a40, e41, h⟩ := h
      subst e41
      replace h := bo_o h
      obtain ⟨_, e43, h⟩ := h
      replace h := b2_o h
      obtain ⟨x45, w42, e44, h⟩ := h
      refine h_callV 1 (ci := 15) (As := [.int x39]) (rest := []) (v := (some (va_rf x45))) (w' := w42) (st1 := [va_rf x45]) hx hb hml hown hts hK hR hS (Nat.le_refl _) (Nat.le_refl _) rfl e43 (mJ8_append_2 e44) (lw_V q1895 q393 q394 q123 q395) (by decide +kernel) (Nat.le_of_ble_eq_true rfl) (Nat.le_of_ble_eq_true rfl) rfl hl.1 (Nat.le_of_ble_eq_true rfl) dX1_writePath_110 rfl rfl (fun H locs hR hS => ?_)
      refine lv_pop hx hb dX1_writePath_113 (rf_cat _) ?_
      exact bX1_writePath_114 B hT hl0 h k60 kR hR hS (lv_sub hl [1, 2, 0] rfl)
noncomputable def fX1_writePath_l60 (v0 : Nat) (v3 : Option Nat) (w : WH) : Option (((Sum (Int32) (Nat × Nat)) × WH)) := whileO (fun q => fX1_writePath_b60 v0 v3 q) w
theorem lX1_writePath_60 {p : Program} {l : Launch} {e : Env} {s : State} {m : MethodId} {args : Array Value} {below : List Frame} {meth : Method} {c : Code} {G : gE} {A : Nat → Prop} {w0 : WH} (B : gB G RX1 cX1_writePath 5 (some .int) p s m args meth c) (hT : ∀ x ∈ c.exceptionTable.toList, False) (hl0 : l.stackTraces = false) {v0 : Nat} {v3 : Option Nat} {r : ((Sum (Int32) (Nat × Nat)) × WH)}   : ∀ (w : WH), fX1_writePath_l60 v0 v3 w = some r → ∀ (H : Heap) (locs : List Loc) (ls : Array Slot), RepH G A w H → Cu A s w0 w H locs → lv_has ls 5 [(0, .ref v0), (3, va_rf v3)] → W p l e (hRm 19 433 w0) s m args below meth c H locs (wC w0 - wC w) (wS w0 - wS w) (hZX below args s G A w0 (oI r.1) r.2) (F0 m 60 ls []) := by
  intro  w h
  refine wh_walk (body := (fun q => fX1_writePath_b60 v0 v3 q)) (P := (fun q : (WH) => ∀ (H : Heap) (locs : List Loc) (ls : Array Slot), RepH G A q H → Cu A s w0 q H locs → lv_has ls 5 [(0, .ref v0), (3, va_rf v3)] → W p l e (hRm 19 433 w0) s m args below meth c H locs (wC w0 - wC q) (wS w0 - wS q) (hZX below args s G A w0 (oI r.1) r.2) (F0 m 60 ls []))) (r := r) ?_ w h
  intro q y hy hL hr H locs ls hR hS hl
  exact bX1_writePath_60 (r := r) B hT hl0 hy (fun a0 e => hL a0 e) (fun q e => hr q e) hR hS hl
noncomputable def fX1_writePath_b55 (v0 : Nat) (v2 : Nat) (w : WH) : Option (((Sum (Int32) (Nat × Nat)) × WH)) :=
  (hIs w v2 11).bind fun _ =>
  b2_ (fJ30_iterator v2 w) fun x4 w1 =>
  fX1_writePath_l60 v0 x4 w1
theorem bX1_writePath_55 {p : Program} {l : Launch} {e : Env} {s : State} {m : MethodId} {args : Array Value} {below : List Frame} {meth : Method} {c : Code} {H : Heap} {locs : List Loc} {ls : Array Slot} {G : gE} {A : Nat → Prop} {w0 : WH} (B : gB G RX1 cX1_writePath 5 (some .int) p s m args meth c) (hT : ∀ x ∈ c.exceptionTable.toList, False) (hl0 : l.stackTraces = false) {v0 : Nat} {v2 : Nat} {w : WH} {r : ((Sum (Int32) (Nat × Nat)) × WH)} (h : fX1_writePath_b55 v0 v2 w = some r)   (hR : RepH G A w H) (hS : Cu A s w0 w H locs) (hl : lv_has ls 5 [(0, .ref v0), (2, .ref v2)]) : W p l e (hRm 19 433 w0) s m args below meth c H locs (wC w0 - wC w) (wS w0 - wS w) (hZX below args s G A w0 (oI r.1) r.2) (F0 m 55 ls []) := by
  have B0 := B
  obtain ⟨hx, hb, hml, hown, hts, hr, hlk, hK⟩ := B0
  unfold fX1_writePath_b55 at h
  refine lv_aload_n hx hb dX1_writePath_55 rfl (lv_at hl 1 rfl) ?_
  replace h := bo_o h
  obtain ⟨_, e2, h⟩ := h
  replace h := b2_o h
  obtain ⟨x4, w1, e3, h⟩ := h
  refine h_callU 0 (ci := 11) (owner := "java/util/AbstractSequentialList") (x := ⟨"java/util/LinkedList", "iterator", "()Ljava/util/Iterator;"⟩) (As := []) (rest := []) (v := (some (va_rf x4))) (w' := w1) (st1 := [va_rf x4]) hx hb hml hown hts hK hR hS (Nat.le_refl _) (Nat.le_refl _) rfl e2 (mJ30_iterator e3) (lw_app (a := [.methodLink _ _ _, .sameMethod _ _ _ _, .selects _ _ _, .instanceMethod _, .initialized _]) (lw_5 q2403 q2404 q2406 q1463 q155) (lw_meth q1465)) rfl (by decide +kernel) (Nat.le_of_ble_eq_true rfl) (Nat.le_of_ble_eq_true rfl) rfl hl.1 (Nat.le_of_ble_eq_true rfl) dX1_writePath_56 rfl rfl (fun H locs hR hS => ?_)
  refine lv_astore_nq (lv' := [(3, va_rf x4), (0, .ref v0), (2, .ref v2)]) hx hb dX1_writePath_59 rfl hl (by decide) rfl (fun ls hl => ?_)
  exact lX1_writePath_60 B hT hl0 _ h H locs ls hR hS (lv_sub hl [1, 0] rfl)
noncomputable def fX1_writePath (v0 : Nat) (v1 : Int32) (w : WH) : Option (((Sum (Int32) (Nat × Nat)) × WH)) :=
  (hIs w v0 17).bind fun _ =>
  b2_ (fX1_pathOf v0 v1 w) fun o3 w1 => ex_ o3 (fun x5 =>
    (gR w1 v0 17 8).bind fun x7 =>
    x7.bind fun a9 =>
    (hIs w1 a9 15).bind fun _ =>
    (fJ8_setLength a9 0 w1).bind fun w11 =>
    if x5 = none then (
      (gR w11 v0 17 8).bind fun x15 =>
      x15.bind fun a17 =>
      (hIs w11 a17 15).bind fun _ =>
      b2_ (fJ8_append a17 (wK w11 4) w11) fun x22 w19 =>
      (gR w19 v0 17 8).bind fun x23 =>
      x23.bind fun a25 =>
      (hIs w19 a25 15).bind fun _ =>
      b2_ (fJ8_length a25 w19) fun x30 w27 =>
      some (.inl x30, w27)
    ) else (
      (gR w11 v0 17 8).bind fun x31 =>
      x5.bind fun a33 =>
      (hIs w11 a33 11).bind fun _ =>
      b2_ (fJ31_getFirst a33 w11) fun x38 w35 =>
      x38.bind fun a39 =>
      (hIs w35 a39 27).bind fun _ =>
      (hIs w35 a39 27).bind fun _ =>
      b2_ (fX8_from a39 w35) fun x45 w42 =>
      x31.bind fun a46 =>
      (hIs w42 a46 15).bind fun _ =>
      b2_ (fJ8_append_2 a46 x45 w42) fun x51 w48 =>
      fX1_writePath_b55 v0 a33 w48
    )) (fun q6 =>
    some (.inr q6, w1))
theorem bX1_writePath_0 {p : Program} {l : Launch} {e : Env} {s : State} {m : MethodId} {args : Array Value} {below : List Frame} {meth : Method} {c : Code} {H : Heap} {locs : List Loc} {ls : Array Slot} {G : gE} {A : Nat → Prop} {w0 : WH} (B : gB G RX1 cX1_writePath 5 (some .int) p s m args meth c) (hT : ∀ x ∈ c.exceptionTable.toList, False) (hl0 : l.stackTraces = false) {v0 : Nat} {v1 : Int32} {w : WH} {r : ((Sum (Int32) (Nat × Nat)) × WH)} (h : fX1_writePath v0 v1 w = some r)   (hR : RepH G A w H) (hS : Cu A s w0 w H locs) (hl : lv_has ls 5 [(0, .ref v0), (1, .int v1)]) : W p l e (hRm 19 433 w0) s m args below meth c H locs (wC w0 - wC w) (wS w0 - wS w) (hZX below args s G A w0 (oI r.1) r.2) (F0 m 0 ls []) := by
  have B0 := B
  obtain ⟨hx, hb, hml, hown, hts, hr, hlk, hK⟩ := B0
  unfold fX1_writePath at h
  refine lv_aload_n hx hb dX1_writePath_0 rfl (lv_at hl 0 rfl) ?_
  refine lv_iload_n hx hb dX1_writePath_1 rfl (lv_at hl 1 rfl) ?_
  replace h := bo_o h
  obtain ⟨_, e2, h⟩ := h
  replace h := b2_o h
  obtain ⟨o3, w1, e4, h⟩ := h
  refine h_callVX 1 (ci := 17) (As := [.int v1]) (rest := []) (o := oR o3) (w' := w1) hx hb hml hown hts hK hR hS (Nat.le_refl _) (Nat.le_refl _) rfl e2 (mX1_pathOf hl0 e4) (lw_V q2045 q2047 qs50 q112 q2048) (by decide +kernel) (Nat.le_of_ble_eq_true rfl) (Nat.le_of_ble_eq_true rfl) rfl hl.1 (Nat.le_of_ble_eq_true rfl) dX1_writePath_2 rfl (fun v9 hv9 H locs hR hS => ?_) (fun E9 q9 hq9 H locs hR hS hce => ?_)
  · cases o3 with
    | inr q => cases hv9
    | inl x5 =>
      cases hv9
      replace h := exl_o h
      refine W.eq (g2 := F0 m 5 ls [va_rf x5]) rfl ?_
      refine lv_astore_nq (lv' := [(2, va_rf x5), (0, .ref v0), (1, .int v1)]) hx hb dX1_writePath_5 rfl hl (by decide) rfl (fun ls hl => ?_)
      refine lv_aload_n hx hb dX1_writePath_6 rfl (lv_at hl 1 rfl) ?_
      replace h := bo_o h
      obtain ⟨x7, e8, h⟩ := h
      refine h_get (ci := 17) (k := 8) (v := va_rf x7) hx hb hts hown hK hR in_X1 rfl (by decide) (fun _ _ => rfl) q673 (fun _ h9 => h9) (gR_o e8) dX1_writePath_7 ?_
      refine lv_iconst (v := 0) hx hb dX1_writePath_10 (by decide) ?_
      replace h := bo_o h
      obtain ⟨a9, e10, h⟩ := h
      subst e10
      replace h := bo_o h
      obtain ⟨_, e12, h⟩ := h
      replace h := bo_o h
      obtain ⟨w11, e13, h⟩ := h
      refine h_callV 1 (ci := 15) (As := [.int 0]) (rest := []) (v := none) (w' := w11) (st1 := []) hx hb hml hown hts hK hR hS (Nat.le_refl _) (Nat.le_refl _) rfl e12 (mJ8_setLength e13) (lw_V q1827 q1828 q1829 q123 q1830) (by decide +kernel) (Nat.le_of_ble_eq_true rfl) (Nat.le_of_ble_eq_true rfl) rfl hl.1 (Nat.le_of_ble_eq_true rfl) dX1_writePath_11 rfl rfl (fun H locs hR hS => ?_)
      refine lv_aload_nq hx hb dX1_writePath_14 rfl (lv_at hl 0 rfl) ?_
      refine lv_ifnonnullq (tgt := 37) hx hb dX1_writePath_15 (by decide) (fun c14 => ?_) (fun c14 => ?_)
      · replace h := if_o c14 h
        refine lv_aload_n hx hb dX1_writePath_37 rfl (lv_at hl 1 rfl) ?_
        replace h := bo_o h
        obtain ⟨x31, e32, h⟩ := h
        refine h_get (ci := 17) (k := 8) (v := va_rf x31) hx hb hts hown hK hR in_X1 rfl (by decide) (fun _ _ => rfl) q673 (fun _ h9 => h9) (gR_o e32) dX1_writePath_38 ?_
        refine lv_aload_nq hx hb dX1_writePath_41 rfl (lv_at hl 0 rfl) ?_
        replace h := bo_o h
        obtain ⟨a33, e34, h⟩ := h
        subst e34
        replace h := bo_o h
        obtain ⟨_, e36, h⟩ := h
        replace h := b2_o h
        obtain ⟨x38, w35, e37, h⟩ := h
        refine h_callV 0 (ci := 11) (As := []) (rest := [va_rf x31]) (v := (some (va_rf x38))) (w' := w35) (st1 := [va_rf x38, va_rf x31]) hx hb hml hown hts hK hR hS (Nat.le_refl _) (Nat.le_refl _) rfl e36 (mJ31_getFirst e37) (lw_V q2399 q2400 q2401 q156 q2402) (by decide +kernel) (Nat.le_of_ble_eq_true rfl) (Nat.le_of_ble_eq_true rfl) rfl hl.1 (cat_le (Nat.le_of_ble_eq_true rfl)) dX1_writePath_42 rfl rfl (fun H locs hR hS => ?_)
        replace h := bo_o h
        obtain ⟨a39, e40, h⟩ := h
        subst e40
        replace h := bo_o h
        obtain ⟨_, e41, h⟩ := h
        refine h_castS (ci := 27) hx hb hts hown hK hR hS rfl e41 q1768 dX1_writePath_45 ?_
        replace h := bo_o h
        obtain ⟨_, e43, h⟩ := h
        replace h := b2_o h
        obtain ⟨x45, w42, e44, h⟩ := h
        refine h_callV 0 (ci := 27) (As := []) (rest := [va_rf x31]) (v := (some (.int x45))) (w' := w42) (st1 := [.int x45, va_rf x31]) hx hb hml hown hts hK hR hS (Nat.le_refl _) (Nat.le_refl _) rfl e43 (mX8_from e44) (lw_V q1964 q1367 q1368 q141 q1369) (by decide +kernel) (Nat.le_of_ble_eq_true rfl) (Nat.le_of_ble_eq_true rfl) rfl hl.1 (cat_le (Nat.le_of_ble_eq_true rfl)) dX1_writePath_48 rfl rfl (fun H locs hR hS => ?_)
        replace h := bo_o h
        obtain ⟨a46, e47, h⟩ := h
        subst e47
        replace h := bo_o h
        obtain ⟨_, e49, h⟩ := h
        replace h := b2_o h
        obtain ⟨x51, w48, e50, h⟩ := h
        refine h_callV 1 (ci := 15) (As := [.int x45]) (rest := []) (v := (some (va_rf x51))) (w' := w48) (st1 := [va_rf x51]) hx hb hml hown hts hK hR hS (Nat.le_refl _) (Nat.le_refl _) rfl e49 (mJ8_append_2 e50) (lw_V q1895 q393 q394 q123 q395) (by decide +kernel) (Nat.le_of_ble_eq_true rfl) (Nat.le_of_ble_eq_true rfl) rfl hl.1 (Nat.le_of_ble_eq_true rfl) dX1_writePath_51 rfl rfl (fun H locs hR hS => ?_)
        refine lv_pop hx hb dX1_writePath_54 (rf_cat _) ?_
        exact bX1_writePath_55 B hT hl0 h  hR hS (lv_sub hl [1, 0] rfl)
      · replace h := it_o c14 h
        refine lv_aload_n hx hb dX1_writePath_18 rfl (lv_at hl 1 rfl) ?_
        replace h := bo_o h
        obtain ⟨x15, e16, h⟩ := h
        refine h_get (ci := 17) (k := 8) (v := va_rf x15) hx hb hts hown hK hR in_X1 rfl (by decide) (fun _ _ => rfl) q673 (fun _ h9 => h9) (gR_o e16) dX1_writePath_19 ?_
        refine h_ldcSW (i := 4) hx hb hown hK hR rfl dX1_writePath_22 ?_
        replace h := bo_o h
        obtain ⟨a17, e18, h⟩ := h
        subst e18
        replace h := bo_o h
        obtain ⟨_, e20, h⟩ := h
        replace h := b2_o h
        obtain ⟨x22, w19, e21, h⟩ := h
        refine h_callV 1 (ci := 15) (As := [.ref (wK w11 4)]) (rest := []) (v := (some (va_rf x22))) (w' := w19) (st1 := [va_rf x22]) hx hb hml hown hts hK hR hS (Nat.le_refl _) (Nat.le_refl _) rfl e20 (mJ8_append e21) (lw_V q2398 q273 q274 q123 q275) (by decide +kernel) (Nat.le_of_ble_eq_true rfl) (Nat.le_of_ble_eq_true rfl) rfl hl.1 (Nat.le_of_ble_eq_true rfl) dX1_writePath_25 rfl rfl (fun H locs hR hS => ?_)
        refine lv_pop hx hb dX1_writePath_28 (rf_cat _) ?_
        refine lv_aload_n hx hb dX1_writePath_29 rfl (lv_at hl 1 rfl) ?_
        replace h := bo_o h
        obtain ⟨x23, e24, h⟩ := h
        refine h_get (ci := 17) (k := 8) (v := va_rf x23) hx hb hts hown hK hR in_X1 rfl (by decide) (fun _ _ => rfl) q673 (fun _ h9 => h9) (gR_o e24) dX1_writePath_30 ?_
        replace h := bo_o h
        obtain ⟨a25, e26, h⟩ := h
        subst e26
        replace h := bo_o h
        obtain ⟨_, e28, h⟩ := h
        replace h := b2_o h
        obtain ⟨x30, w27, e29, h⟩ := h
        refine h_callV 0 (ci := 15) (As := []) (rest := []) (v := (some (.int x30))) (w' := w27) (st1 := [.int x30]) hx hb hml hown hts hK hR hS (Nat.le_refl _) (Nat.le_refl _) rfl e28 (mJ8_length e29) (lw_V q1893 q439 q3046 q123 q440) (by decide +kernel) (Nat.le_of_ble_eq_true rfl) (Nat.le_of_ble_eq_true rfl) rfl hl.1 (Nat.le_of_ble_eq_true rfl) dX1_writePath_33 rfl rfl (fun H locs hR hS => ?_)
        have eR := Option.some.inj h
        subst eR
        exact h_ifinX hx hb hr hlk hR hS dX1_writePath_36
  · cases o3 with
    | inl q => cases hq9
    | inr q6 =>
      cases hq9
      replace h := exr_o h
      have eR := Option.some.inj h
      subst eR
      exact h_out hT hlk hR hS hce
theorem mX1_writePath {l : Launch} {G : gE} {A : Nat → Prop} {v0 : Nat} {v1 : Int32} {w : WH} {r : ((Sum (Int32) (Nat × Nat)) × WH)} (hl0 : l.stackTraces = false) (h : fX1_writePath v0 v1 w = some r) : hMX l G A yX1_writePath cX1_writePath 5 (some .int) 19 433 [.ref v0, .int v1] w (oI r.1) r.2 :=
  h_ofX (by decide +kernel) (Nat.le_of_ble_eq_true rfl) (fun p e s m args below meth c ls B hnm hT hR hS hl => bX1_writePath_0 B hT hl0 h hR hS hl)
noncomputable def fX1_requireSlot (v0 : Int32) (w : WH) : Option (((Sum Unit (Nat × Nat)) × WH)) :=
  b2_ (fX1_inRange (v0.toInt64) 0 1 w) fun x3 w1 =>
  b2_ (fX1_requireArgument x3 w1) fun o5 w4 => ex_ o5 (fun _ =>
    some (.inl (), w4)) (fun q8 =>
    some (.inr q8, w4))
theorem bX1_requireSlot_0 {p : Program} {l : Launch} {e : Env} {s : State} {m : MethodId} {args : Array Value} {below : List Frame} {meth : Method} {c : Code} {H : Heap} {locs : List Loc} {ls : Array Slot} {G : gE} {A : Nat → Prop} {w0 : WH} (B : gB G RX1 cX1_requireSlot 1 none p s m args meth c) (hT : ∀ x ∈ c.exceptionTable.toList, False) (hl0 : l.stackTraces = false) {v0 : Int32} {w : WH} {r : ((Sum Unit (Nat × Nat)) × WH)} (h : fX1_requireSlot v0 w = some r)   (hR : RepH G A w H) (hS : Cu A s w0 w H locs) (hl : lv_has ls 1 [(0, .int v0)]) : W p l e (hRm 7 120 w0) s m args below meth c H locs (wC w0 - wC w) (wS w0 - wS w) (hZX below args s G A w0 (oV r.1) r.2) (F0 m 0 ls []) := by
  have B0 := B
  obtain ⟨hx, hb, hml, hown, hts, hr, hlk, hK⟩ := B0
  unfold fX1_requireSlot at h
  refine lv_iload_n hx hb dX1_requireSlot_0 rfl (lv_at hl 0 rfl) ?_
  refine lv_i2l hx hb dX1_requireSlot_1 rfl ?_
  refine lv_lconst (v := 0) hx hb dX1_requireSlot_2 (by decide) ?_
  refine lv_lconst (v := 1) hx hb dX1_requireSlot_3 (by decide) ?_
  replace h := b2_o h
  obtain ⟨x3, w1, e2, h⟩ := h
  refine h_callS 3  (As := [.long (v0.toInt64), .long 0, .long 1]) (rest := []) (v := (some (.int x3))) (w' := w1) (st1 := [.int x3]) hx hb hml hown hts hK hR hS (Nat.le_refl _) (Nat.le_refl _) (mX1_inRange e2) (lw_S q1900 q743 q112 q744) (by decide +kernel) (Nat.le_of_ble_eq_true rfl) (Nat.le_of_ble_eq_true rfl) rfl hl.1 (Nat.le_of_ble_eq_true rfl) dX1_requireSlot_4 rfl rfl (fun H locs hR hS => ?_)
  replace h := b2_o h
  obtain ⟨o5, w4, e6, h⟩ := h
  refine h_callSX 1 (As := [.int x3]) (rest := []) (o := oV o5) (w' := w4)  hx hb hml hown hts hK hR hS (Nat.le_refl _) (Nat.le_refl _) (mX1_requireArgument hl0 e6) (lw_S q1993 q1994 q112 q1995) (by decide +kernel) (Nat.le_of_ble_eq_true rfl) (Nat.le_of_ble_eq_true rfl) rfl hl.1 (Nat.le_of_ble_eq_true rfl) dX1_requireSlot_7 rfl (fun v9 hv9 H locs hR hS => ?_) (fun E9 q9 hq9 H locs hR hS hce => ?_)
  · cases o5 with
    | inr q => cases hv9
    | inl x7 =>
      cases hv9
      replace h := exl_o h
      refine W.eq (g2 := F0 m 10 ls []) rfl ?_
      have eR := Option.some.inj h
      subst eR
      exact h_vfinX hx hb hr hlk hR hS dX1_requireSlot_10
  · cases o5 with
    | inl q => cases hq9
    | inr q8 =>
      cases hq9
      replace h := exr_o h
      have eR := Option.some.inj h
      subst eR
      exact h_out hT hlk hR hS hce
theorem mX1_requireSlot {l : Launch} {G : gE} {A : Nat → Prop} {v0 : Int32} {w : WH} {r : ((Sum Unit (Nat × Nat)) × WH)} (hl0 : l.stackTraces = false) (h : fX1_requireSlot v0 w = some r) : hMX l G A yX1_requireSlot cX1_requireSlot 1 none 7 120 [.int v0] w (oV r.1) r.2 :=
  h_ofX (by decide +kernel) (Nat.le_of_ble_eq_true rfl) (fun p e s m args below meth c ls B hnm hT hR hS hl => bX1_requireSlot_0 B hT hl0 h hR hS hl)
noncomputable def fX1_saveSnapshot (v0 : Nat) (v1 : Int32) (w : WH) : Option (((Sum (Int32) (Nat × Nat)) × WH)) :=
  b2_ (fX1_requireSlot v1 w) fun o2 w1 => ex_ o2 (fun _ =>
    (gR w1 v0 17 3).bind fun x6 =>
    b2_ (hNw w1 5 21 [.null, .null, .null, .null, .int 0]) fun a8 w9 =>
    (gR w9 v0 17 0).bind fun x11 =>
    x11.bind fun a13 =>
    (fX2_init_2 a8 a13 w9).bind fun w15 =>
    x6.bind fun a17 =>
    (hIs w15 a8 21).bind fun _ =>
    (stR w15 a17 5 v1 (some a8)).bind fun w19 =>
    (gR w19 v0 17 0).bind fun x22 =>
    x22.bind fun a24 =>
    (gR w19 a24 21 0).bind fun x26 =>
    x26.bind fun a28 =>
    (gR w19 a28 22 1).bind fun x30 =>
    x30.bind fun a32 =>
    (hIs w19 a32 2).bind fun _ =>
    b2_ (fJ2_size a32 w19) fun x37 w34 =>
    some (.inl x37, w34)) (fun q5 =>
    some (.inr q5, w1))
theorem bX1_saveSnapshot_0 {p : Program} {l : Launch} {e : Env} {s : State} {m : MethodId} {args : Array Value} {below : List Frame} {meth : Method} {c : Code} {H : Heap} {locs : List Loc} {ls : Array Slot} {G : gE} {A : Nat → Prop} {w0 : WH} (B : gB G RX1 cX1_saveSnapshot 2 (some .int) p s m args meth c) (hT : ∀ x ∈ c.exceptionTable.toList, False) (hl0 : l.stackTraces = false) {v0 : Nat} {v1 : Int32} {w : WH} {r : ((Sum (Int32) (Nat × Nat)) × WH)} (h : fX1_saveSnapshot v0 v1 w = some r)   (hR : RepH G A w H) (hS : Cu A s w0 w H locs) (hl : lv_has ls 2 [(0, .ref v0), (1, .int v1)]) : W p l e (hRm 14 311 w0) s m args below meth c H locs (wC w0 - wC w) (wS w0 - wS w) (hZX below args s G A w0 (oI r.1) r.2) (F0 m 0 ls []) := by
  have B0 := B
  obtain ⟨hx, hb, hml, hown, hts, hr, hlk, hK⟩ := B0
  unfold fX1_saveSnapshot at h
  refine lv_iload_n hx hb dX1_saveSnapshot_0 rfl (lv_at hl 1 rfl) ?_
  replace h := b2_o h
  obtain ⟨o2, w1, e3, h⟩ := h
  refine h_callSX 1 (As := [.int v1]) (rest := []) (o := oV o2) (w' := w1)  hx hb hml hown hts hK hR hS (Nat.le_refl _) (Nat.le_refl _) (mX1_requireSlot hl0 e3) (lw_S q2414 q2415 q112 q2416) (by decide +kernel) (Nat.le_of_ble_eq_true rfl) (Nat.le_of_ble_eq_true rfl) rfl hl.1 (Nat.le_of_ble_eq_true rfl) dX1_saveSnapshot_1 rfl (fun v9 hv9 H locs hR hS => ?_) (fun E9 q9 hq9 H locs hR hS hce => ?_)
  · cases o2 with
    | inr q => cases hv9
    | inl x4 =>
      cases hv9
      replace h := exl_o h
      refine W.eq (g2 := F0 m 4 ls []) rfl ?_
      refine lv_aload_n hx hb dX1_saveSnapshot_4 rfl (lv_at hl 0 rfl) ?_
      replace h := bo_o h
      obtain ⟨x6, e7, h⟩ := h
      refine h_get (ci := 17) (k := 3) (v := va_rf x6) hx hb hts hown hK hR in_X1 rfl (by decide) (fun _ _ => rfl) q666 (fun _ h9 => h9) (gR_o e7) dX1_saveSnapshot_5 ?_
      refine lv_iload_n hx hb dX1_saveSnapshot_8 rfl (lv_at hl 1 rfl) ?_
      replace h := b2_o h
      obtain ⟨a8, w9, e10, h⟩ := h
      refine h_new (ci := 21) (fs := [.null, .null, .null, .null, .int 0]) hx hb hts hown hK hR hS (Nat.le_refl _) (Nat.le_refl _) in_X2 tyX2 tyX2_ok rfl (by decide +kernel) q170 q171 q113 e10 dX1_saveSnapshot_9 (fun H locs hR hS => ?_)
      refine lv_dup hx hb dX1_saveSnapshot_12 rfl ?_
      refine lv_aload_n hx hb dX1_saveSnapshot_13 rfl (lv_at hl 0 rfl) ?_
      replace h := bo_o h
      obtain ⟨x11, e12, h⟩ := h
      refine h_get (ci := 17) (k := 0) (v := va_rf x11) hx hb hts hown hK hR in_X1 rfl (by decide) (fun _ _ => rfl) q662 (fun _ h9 => h9) (gR_o e12) dX1_saveSnapshot_14 ?_
      replace h := bo_o h
      obtain ⟨a13, e14, h⟩ := h
      subst e14
      replace h := bo_o h
      obtain ⟨w15, e16, h⟩ := h
      refine h_callI 1  (As := [.ref a13]) (rest := [.ref a8, .int v1, va_rf x6]) (w' := w15) hx hb hml hown hts hK hR hS (Nat.le_refl _) (Nat.le_refl _) (mX2_init_2 e16) (lw_meth q1116) q113 q1114 q1115 rfl (by decide +kernel) (Nat.le_of_ble_eq_true rfl) (Nat.le_of_ble_eq_true rfl) rfl hl.1 (cat_le (Nat.le_of_ble_eq_true rfl)) dX1_saveSnapshot_17 rfl (fun H locs hR hS => ?_)
      replace h := bo_o h
      obtain ⟨a17, e18, h⟩ := h
      subst e18
      replace h := bo_o h
      obtain ⟨_, e21, h⟩ := h
      replace h := bo_o h
      obtain ⟨w19, e20, h⟩ := h
      refine h_aastS hx hb hK hR hS (hIs_c (by decide) e21) e20 dX1_saveSnapshot_20 (fun H locs hR hS => ?_)
      refine lv_aload_n hx hb dX1_saveSnapshot_21 rfl (lv_at hl 0 rfl) ?_
      replace h := bo_o h
      obtain ⟨x22, e23, h⟩ := h
      refine h_get (ci := 17) (k := 0) (v := va_rf x22) hx hb hts hown hK hR in_X1 rfl (by decide) (fun _ _ => rfl) q662 (fun _ h9 => h9) (gR_o e23) dX1_saveSnapshot_22 ?_
      replace h := bo_o h
      obtain ⟨a24, e25, h⟩ := h
      subst e25
      replace h := bo_o h
      obtain ⟨x26, e27, h⟩ := h
      refine h_getN (ci := 21) (k := 0) (v := va_rf x26) hx hb hts hown hK hR in_X2 rfl (by decide) (fun _ _ => rfl) (hK.fn 15 rfl) (fun _ h9 => h9) (gR_o e27) dX1_saveSnapshot_25 ?_
      replace h := bo_o h
      obtain ⟨a28, e29, h⟩ := h
      subst e29
      replace h := bo_o h
      obtain ⟨x30, e31, h⟩ := h
      refine h_getN (ci := 22) (k := 1) (v := va_rf x30) hx hb hts hown hK hR in_X3 rfl (by decide) (fun _ _ => rfl) (hK.fn 6 rfl) (fun _ h9 => h9) (gR_o e31) dX1_saveSnapshot_28 ?_
      replace h := bo_o h
      obtain ⟨a32, e33, h⟩ := h
      subst e33
      replace h := bo_o h
      obtain ⟨_, e35, h⟩ := h
      replace h := b2_o h
      obtain ⟨x37, w34, e36, h⟩ := h
      refine h_callF 0  (As := []) (rest := []) (v := (some (.int x37))) (w' := w34) (st1 := [.int x37]) hx hb hml hown hts hK hR hS (Nat.le_refl _) (Nat.le_refl _) (h_recv (ci := 2) hK hR hS rfl e35) (mJ2_size e36) (lw_app (a := [.methodLink _ _ _, .selects _ _ _, .instanceMethod _, .initialized _]) (lw_4 q1076 q903 q905 q117) (lw_meth q907)) (hK.fw 0 rfl) (by decide +kernel) (Nat.le_of_ble_eq_true rfl) (Nat.le_of_ble_eq_true rfl) rfl hl.1 (Nat.le_of_ble_eq_true rfl) dX1_saveSnapshot_31 rfl rfl (fun H locs hR hS => ?_)
      have eR := Option.some.inj h
      subst eR
      exact h_ifinX hx hb hr hlk hR hS dX1_saveSnapshot_36
  · cases o2 with
    | inl q => cases hq9
    | inr q5 =>
      cases hq9
      replace h := exr_o h
      have eR := Option.some.inj h
      subst eR
      exact h_out hT hlk hR hS hce
theorem mX1_saveSnapshot {l : Launch} {G : gE} {A : Nat → Prop} {v0 : Nat} {v1 : Int32} {w : WH} {r : ((Sum (Int32) (Nat × Nat)) × WH)} (hl0 : l.stackTraces = false) (h : fX1_saveSnapshot v0 v1 w = some r) : hMX l G A yX1_saveSnapshot cX1_saveSnapshot 2 (some .int) 14 311 [.ref v0, .int v1] w (oI r.1) r.2 :=
  h_ofX (by decide +kernel) (Nat.le_of_ble_eq_true rfl) (fun p e s m args below meth c ls B hnm hT hR hS hl => bX1_saveSnapshot_0 B hT hl0 h hR hS hl)
noncomputable def fX1_restoreSnapshot (v0 : Nat) (v1 : Int32) (w : WH) : Option (((Sum (Int32) (Nat × Nat)) × WH)) :=
  b2_ (fX1_requireSlot v1 w) fun o2 w1 => ex_ o2 (fun _ =>
    (gR w1 v0 17 3).bind fun x6 =>
    x6.bind fun a8 =>
    (ldR w1 a8 5 v1).bind fun x10 =>
    if x10 = none then (
      some (.inl (-1), w1)
    ) else (
      b2_ (hNw w1 5 21 [.null, .null, .null, .null, .int 0]) fun a13 w14 =>
      (gR w14 v0 17 3).bind fun x16 =>
      x16.bind fun a18 =>
      (ldR w14 a18 5 v1).bind fun x20 =>
      x20.bind fun a22 =>
      (fX2_init_2 a13 a22 w14).bind fun w24 =>
      (hPut w24 v0 17 0 (.ref a13)).bind fun w26 =>
      (gR w26 v0 17 2).bind fun x28 =>
      x28.bind fun a30 =>
      (hIs w26 a30 1).bind fun _ =>
      (fJ18_clear a30 w26).bind fun w32 =>
      (gR w32 v0 17 0).bind fun x35 =>
      x35.bind fun a37 =>
      (gR w32 a37 21 0).bind fun x39 =>
      x39.bind fun a41 =>
      (gR w32 a41 22 1).bind fun x43 =>
      x43.bind fun a45 =>
      (hIs w32 a45 2).bind fun _ =>
      b2_ (fJ2_size a45 w32) fun x50 w47 =>
      some (.inl x50, w47)
    )) (fun q5 =>
    some (.inr q5, w1))
theorem bX1_restoreSnapshot_0 {p : Program} {l : Launch} {e : Env} {s : State} {m : MethodId} {args : Array Value} {below : List Frame} {meth : Method} {c : Code} {H : Heap} {locs : List Loc} {ls : Array Slot} {G : gE} {A : Nat → Prop} {w0 : WH} (B : gB G RX1 cX1_restoreSnapshot 2 (some .int) p s m args meth c) (hT : ∀ x ∈ c.exceptionTable.toList, False) (hl0 : l.stackTraces = false) {v0 : Nat} {v1 : Int32} {w : WH} {r : ((Sum (Int32) (Nat × Nat)) × WH)} (h : fX1_restoreSnapshot v0 v1 w = some r)   (hR : RepH G A w H) (hS : Cu A s w0 w H locs) (hl : lv_has ls 2 [(0, .ref v0), (1, .int v1)]) : W p l e (hRm 14 311 w0) s m args below meth c H locs (wC w0 - wC w) (wS w0 - wS w) (hZX below args s G A w0 (oI r.1) r.2) (F0 m 0 ls []) := by
  have B0 := B
  obtain ⟨hx, hb, hml, hown, hts, hr, hlk, hK⟩ := B0
  unfold fX1_restoreSnapshot at h
  refine lv_iload_n hx hb dX1_restoreSnapshot_0 rfl (lv_at hl 1 rfl) ?_
  replace h := b2_o h
  obtain ⟨o2, w1, e3, h⟩ := h
  refine h_callSX 1 (As := [.int v1]) (rest := []) (o := oV o2) (w' := w1)  hx hb hml hown hts hK hR hS (Nat.le_refl _) (Nat.le_refl _) (mX1_requireSlot hl0 e3) (lw_S q2414 q2415 q112 q2416) (by decide +kernel) (Nat.le_of_ble_eq_true rfl) (Nat.le_of_ble_eq_true rfl) rfl hl.1 (Nat.le_of_ble_eq_true rfl) dX1_restoreSnapshot_1 rfl (fun v9 hv9 H locs hR hS => ?_) (fun E9 q9 hq9 H locs hR hS hce => ?_)
  · cases o2 with
    | inr q => cases hv9
    | inl x4 =>
      cases hv9
      replace h := exl_o h
      refine W.eq (g2 := F0 m 4 ls []) rfl ?_
      refine lv_aload_n hx hb dX1_restoreSnapshot_4 rfl (lv_at hl 0 rfl) ?_
      replace h := bo_o h
      obtain ⟨x6, e7, h⟩ := h
      refine h_get (ci := 17) (k := 3) (v := va_rf x6) hx hb hts hown hK hR in_X1 rfl (by decide) (fun _ _ => rfl) q666 (fun _ h9 => h9) (gR_o e7) dX1_restoreSnapshot_5 ?_
      refine lv_iload_n hx hb dX1_restoreSnapshot_8 rfl (lv_at hl 1 rfl) ?_
      replace h := bo_o h
      obtain ⟨a8, e9, h⟩ := h
      subst e9
      replace h := bo_o h
      obtain ⟨x10, e11, h⟩ := h
      refine h_aald hx hb hK hR 5 e11 rfl dX1_restoreSnapshot_9 ?_
      refine lv_ifnonnullq (tgt := 15) hx hb dX1_restoreSnapshot_10 (by decide) (fun c12 => ?_) (fun c12 => ?_)
      · replace h := if_o c12 h
        refine lv_aload_n hx hb dX1_restoreSnapshot_15 rfl (lv_at hl 0 rfl) ?_
        replace h := b2_o h
        obtain ⟨a13, w14, e15, h⟩ := h
        refine h_new (ci := 21) (fs := [.null, .null, .null, .null, .int 0]) hx hb hts hown hK hR hS (Nat.le_refl _) (Nat.le_refl _) in_X2 tyX2 tyX2_ok rfl (by decide +kernel) q170 q171 q113 e15 dX1_restoreSnapshot_16 (fun H locs hR hS => ?_)
        refine lv_dup hx hb dX1_restoreSnapshot_19 rfl ?_
        refine lv_aload_n hx hb dX1_restoreSnapshot_20 rfl (lv_at hl 0 rfl) ?_
        replace h := bo_o h
        obtain ⟨x16, e17, h⟩ := h
        refine h_get (ci := 17) (k := 3) (v := va_rf x16) hx hb hts hown hK hR in_X1 rfl (by decide) (fun _ _ => rfl) q666 (fun _ h9 => h9) (gR_o e17) dX1_restoreSnapshot_21 ?_
        refine lv_iload_n hx hb dX1_restoreSnapshot_24 rfl (lv_at hl 1 rfl) ?_
        replace h := bo_o h
        obtain ⟨a18, e19, h⟩ := h
        subst e19
        replace h := bo_o h
        obtain ⟨x20, e21, h⟩ := h
        refine h_aald hx hb hK hR 5 e21 rfl dX1_restoreSnapshot_25 ?_
        replace h := bo_o h
        obtain ⟨a22, e23, h⟩ := h
        subst e23
        replace h := bo_o h
        obtain ⟨w24, e25, h⟩ := h
        refine h_callI 1  (As := [.ref a22]) (rest := [.ref a13, .ref v0]) (w' := w24) hx hb hml hown hts hK hR hS (Nat.le_refl _) (Nat.le_refl _) (mX2_init_2 e25) (lw_meth q1116) q113 q1114 q1115 rfl (by decide +kernel) (Nat.le_of_ble_eq_true rfl) (Nat.le_of_ble_eq_true rfl) rfl hl.1 (Nat.le_of_ble_eq_true rfl) dX1_restoreSnapshot_26 rfl (fun H locs hR hS => ?_)
        replace h := bo_o h
        obtain ⟨w26, e27, h⟩ := h
        refine h_put (ci := 17) (k := 0) (ty := tyX1 0) hx hb hts hown hK hR hS in_X1 tyX1 tyX1_ok nmX1 rfl (by decide) q662 (fun _ h9 => h9) rfl (tyX1_ok 0 (by decide)) rfl rfl e27 dX1_restoreSnapshot_29 (fun H locs hR hS => ?_)
        refine lv_aload_n hx hb dX1_restoreSnapshot_32 rfl (lv_at hl 0 rfl) ?_
        replace h := bo_o h
        obtain ⟨x28, e29, h⟩ := h
        refine h_get (ci := 17) (k := 2) (v := va_rf x28) hx hb hts hown hK hR in_X1 rfl (by decide) (fun _ _ => rfl) q665 (fun _ h9 => h9) (gR_o e29) dX1_restoreSnapshot_33 ?_
        replace h := bo_o h
        obtain ⟨a30, e31, h⟩ := h
        subst e31
        replace h := bo_o h
        obtain ⟨_, e33, h⟩ := h
        replace h := bo_o h
        obtain ⟨w32, e34, h⟩ := h
        refine h_callV 0 (ci := 1) (As := []) (rest := []) (v := none) (w' := w32) (st1 := []) hx hb hml hown hts hK hR hS (Nat.le_refl _) (Nat.le_refl _) rfl e33 (mJ18_clear e34) (lw_V q1068 q1069 q1070 q136 q1071) (by decide +kernel) (Nat.le_of_ble_eq_true rfl) (Nat.le_of_ble_eq_true rfl) rfl hl.1 (Nat.le_of_ble_eq_true rfl) dX1_restoreSnapshot_36 rfl rfl (fun H locs hR hS => ?_)
        refine lv_aload_n hx hb dX1_restoreSnapshot_39 rfl (lv_at hl 0 rfl) ?_
        replace h := bo_o h
        obtain ⟨x35, e36, h⟩ := h
        refine h_get (ci := 17) (k := 0) (v := va_rf x35) hx hb hts hown hK hR in_X1 rfl (by decide) (fun _ _ => rfl) q662 (fun _ h9 => h9) (gR_o e36) dX1_restoreSnapshot_40 ?_
        replace h := bo_o h
        obtain ⟨a37, e38, h⟩ := h
        subst e38
        replace h := bo_o h
        obtain ⟨x39, e40, h⟩ := h
        refine h_getN (ci := 21) (k := 0) (v := va_rf x39) hx hb hts hown hK hR in_X2 rfl (by decide) (fun _ _ => rfl) (hK.fn 15 rfl) (fun _ h9 => h9) (gR_o e40) dX1_restoreSnapshot_43 ?_
        replace h := bo_o h
        obtain ⟨a41, e42, h⟩ := h
        subst e42
        replace h := bo_o h
        obtain ⟨x43, e44, h⟩ := h
        refine h_getN (ci := 22) (k := 1) (v := va_rf x43) hx hb hts hown hK hR in_X3 rfl (by decide) (fun _ _ => rfl) (hK.fn 6 rfl) (fun _ h9 => h9) (gR_o e44) dX1_restoreSnapshot_46 ?_
        replace h := bo_o h
        obtain ⟨a45, e46, h⟩ := h
        subst e46
        replace h := bo_o h
        obtain ⟨_, e48, h⟩ := h
        replace h := b2_o h
        obtain ⟨x50, w47, e49, h⟩ := h
        refine h_callF 0  (As := []) (rest := []) (v := (some (.int x50))) (w' := w47) (st1 := [.int x50]) hx hb hml hown hts hK hR hS (Nat.le_refl _) (Nat.le_refl _) (h_recv (ci := 2) hK hR hS rfl e48) (mJ2_size e49) (lw_app (a := [.methodLink _ _ _, .selects _ _ _, .instanceMethod _, .initialized _]) (lw_4 q1076 q903 q905 q117) (lw_meth q907)) (hK.fw 0 rfl) (by decide +kernel) (Nat.le_of_ble_eq_true rfl) (Nat.le_of_ble_eq_true rfl) rfl hl.1 (Nat.le_of_ble_eq_true rfl) dX1_restoreSnapshot_49 rfl rfl (fun H locs hR hS => ?_)
        have eR := Option.some.inj h
        subst eR
        exact h_ifinX hx hb hr hlk hR hS dX1_restoreSnapshot_54
      · replace h := it_o c12 h
        refine lv_iconst (v := (-1)) hx hb dX1_restoreSnapshot_13 (by decide) ?_
        have eR := Option.some.inj h
        subst eR
        exact h_ifinX hx hb hr hlk hR hS dX1_restoreSnapshot_14
  · cases o2 with
    | inl q => cases hq9
    | inr q5 =>
      cases hq9
      replace h := exr_o h
      have eR := Option.some.inj h
      subst eR
      exact h_out hT hlk hR hS hce
theorem mX1_restoreSnapshot {l : Launch} {G : gE} {A : Nat → Prop} {v0 : Nat} {v1 : Int32} {w : WH} {r : ((Sum (Int32) (Nat × Nat)) × WH)} (hl0 : l.stackTraces = false) (h : fX1_restoreSnapshot v0 v1 w = some r) : hMX l G A yX1_restoreSnapshot cX1_restoreSnapshot 2 (some .int) 14 311 [.ref v0, .int v1] w (oI r.1) r.2 :=
  h_ofX (by decide +kernel) (Nat.le_of_ble_eq_true rfl) (fun p e s m args below meth c ls B hnm hT hR hS hl => bX1_restoreSnapshot_0 B hT hl0 h hR hS hl)
noncomputable def fX5_begins__h_b19 (v0 : Nat) (w : WH) : Option (WH) :=
  (stI w v0 0 3 1).bind fun w1 =>
  some w1
theorem bX5_begins__h_19 {p : Program} {l : Launch} {e : Env} {s : State} {m : MethodId} {args : Array Value} {below : List Frame} {meth : Method} {c : Code} {H : Heap} {locs : List Loc} {ls : Array Slot} {G : gE} {A : Nat → Prop} {w0 : WH} (B : gB G RX5 cX5_begins 2 none p s m args meth c) {v0 : Nat} {w : WH} {r : WH} (h : fX5_begins__h_b19 v0 w = some r)   (hR : RepH G A w H) (hS : Cu A s w0 w H locs) (hl : lv_has ls 2 [(0, .ref v0)]) : W p l e (hRm 0 0 w0) s m args below meth c H locs (wC w0 - wC w) (wS w0 - wS w) (hZ below args s G A w0 none r) (F0 m 19 ls []) := by
  have B0 := B
  obtain ⟨hx, hb, hml, hown, hts, hr, hlk, hK⟩ := B0
  unfold fX5_begins__h_b19 at h
  refine lv_aload_n hx hb dX5_begins_19 rfl (lv_at hl 0 rfl) ?_
  refine lv_iconst (v := 3) hx hb dX5_begins_20 (by decide) ?_
  refine lv_iconst (v := 1) hx hb dX5_begins_21 (by decide) ?_
  replace h := bo_o h
  obtain ⟨w1, e2, h⟩ := h
  refine h_iast hx hb hK hR hS e2 dX5_begins_22 (fun H locs hR hS => ?_)
  have eR := Option.some.inj h
  subst eR
  exact h_vfin hx hb hr hlk hR hS dX5_begins_23
noncomputable def fX5_begins__h_b2 (v0 : Nat) (v1 : Int32) (w : WH) : Option (Sum (Int32 × WH) (WH)) :=
  if 172 ≤ v1 then (
    (fX5_begins__h_b19 v0 w).map (fun y => (.inr y))
  ) else (
    (stI w v0 0 v1 0).bind fun w2 =>
    some (.inl (v1 + 1, w2))
  )
theorem bX5_begins__h_2 {p : Program} {l : Launch} {e : Env} {s : State} {m : MethodId} {args : Array Value} {below : List Frame} {meth : Method} {c : Code} {H : Heap} {locs : List Loc} {ls : Array Slot} {G : gE} {A : Nat → Prop} {w0 : WH} (B : gB G RX5 cX5_begins 2 none p s m args meth c) {v0 : Nat} {v1 : Int32} {w : WH} {x : Sum (Int32 × WH) (WH)} {r : WH} (h : fX5_begins__h_b2 v0 v1 w = some x)  (k2 : ∀ (v1' : Int32) (w' : WH), x = (.inl (v1', w')) → ∀ (H : Heap) (locs : List Loc) (ls : Array Slot), RepH G A w' H → Cu A s w0 w' H locs → lv_has ls 2 [(0, .ref v0), (1, .int v1')] → W p l e (hRm 0 0 w0) s m args below meth c H locs (wC w0 - wC w') (wS w0 - wS w') (hZ below args s G A w0 none r) (F0 m 2 ls [])) (kR : ∀ q, x = (.inr q) → q = r) (hR : RepH G A w H) (hS : Cu A s w0 w H locs) (hl : lv_has ls 2 [(0, .ref v0), (1, .int v1)]) : W p l e (hRm 0 0 w0) s m args below meth c H locs (wC w0 - wC w) (wS w0 - wS w) (hZ below args s G A w0 none r) (F0 m 2 ls []) := by
  have B0 := B
  obtain ⟨hx, hb, hml, hown, hts, hr, hlk, hK⟩ := B0
  unfold fX5_begins__h_b2 at h
  refine lv_iload_n hx hb dX5_begins_2 rfl (lv_at hl 1 rfl) ?_
  refine lv_sipush (v := 172) hx hb dX5_begins_3 (by decide) ?_
  refine lv_icmp_ge (tgt := 19) hx hb dX5_begins_6 (by decide) (fun c1 => ?_) (fun c1 => ?_)
  · replace h := it_o c1 h
    obtain ⟨y, h, ey⟩ := mp_o h
    have ey := kR _ ey.symm
    subst ey
    exact bX5_begins__h_19 B h  hR hS (lv_sub hl [0] rfl)
  · replace h := if_o c1 h
    refine lv_aload_n hx hb dX5_begins_9 rfl (lv_at hl 0 rfl) ?_
    refine lv_iload_n hx hb dX5_begins_10 rfl (lv_at hl 1 rfl) ?_
    refine lv_iconst (v := 0) hx hb dX5_begins_11 (by decide) ?_
    replace h := bo_o h
    obtain ⟨w2, e3, h⟩ := h
    refine h_iast hx hb hK hR hS e3 dX5_begins_12 (fun H locs hR hS => ?_)
    refine lv_iinc (v := v1 + 1) (lv' := [(1, .int (v1 + 1)), (0, .ref v0)]) hx hb dX5_begins_13 hl (k := 1) rfl rfl (by decide) rfl (fun ls hl => ?_)
    refine lv_goto (tgt := 2) hx hb dX5_begins_16 (by decide) ?_
    exact k2 _ _ (Option.some.inj h).symm H locs ls hR hS (lv_sub hl [1, 0] rfl)
noncomputable def fX5_begins__h_l2 (v0 : Nat) (v1 : Int32) (w : WH) : Option (WH) := whileO (fun q => fX5_begins__h_b2 v0 q.1 q.2) (v1, w)
theorem lX5_begins__h_2 {p : Program} {l : Launch} {e : Env} {s : State} {m : MethodId} {args : Array Value} {below : List Frame} {meth : Method} {c : Code} {G : gE} {A : Nat → Prop} {w0 : WH} (B : gB G RX5 cX5_begins 2 none p s m args meth c) {v0 : Nat} {r : WH}   : ∀ (v1 : Int32) (w : WH), fX5_begins__h_l2 v0 v1 w = some r → ∀ (H : Heap) (locs : List Loc) (ls : Array Slot), RepH G A w H → Cu A s w0 w H locs → lv_has ls 2 [(0, .ref v0), (1, .int v1)] → W p l e (hRm 0 0 w0) s m args below meth c H locs (wC w0 - wC w) (wS w0 - wS w) (hZ below args s G A w0 none r) (F0 m 2 ls []) := by
  intro v1 w h
  refine wh_walk (body := (fun q => fX5_begins__h_b2 v0 q.1 q.2)) (P := (fun q : (Int32 × WH) => ∀ (H : Heap) (locs : List Loc) (ls : Array Slot), RepH G A (q.2) H → Cu A s w0 (q.2) H locs → lv_has ls 2 [(0, .ref v0), (1, .int (q.1))] → W p l e (hRm 0 0 w0) s m args below meth c H locs (wC w0 - wC (q.2)) (wS w0 - wS (q.2)) (hZ below args s G A w0 none r) (F0 m 2 ls []))) (r := r) ?_ (v1, w) h
  intro q y hy hL hr H locs ls hR hS hl
  exact bX5_begins__h_2 (r := r) B hy (fun a0 a1 e => hL (a0, a1) e) (fun q e => hr q e) hR hS hl
noncomputable def fX5_begins__h (v0 : Nat) (w : WH) : Option (WH) :=
  fX5_begins__h_l2 v0 0 w
theorem bX5_begins__h_0 {p : Program} {l : Launch} {e : Env} {s : State} {m : MethodId} {args : Array Value} {below : List Frame} {meth : Method} {c : Code} {H : Heap} {locs : List Loc} {ls : Array Slot} {G : gE} {A : Nat → Prop} {w0 : WH} (B : gB G RX5 cX5_begins 2 none p s m args meth c) {v0 : Nat} {w : WH} {r : WH} (h : fX5_begins__h v0 w = some r)   (hR : RepH G A w H) (hS : Cu A s w0 w H locs) (hl : lv_has ls 2 [(0, .ref v0)]) : W p l e (hRm 0 0 w0) s m args below meth c H locs (wC w0 - wC w) (wS w0 - wS w) (hZ below args s G A w0 none r) (F0 m 0 ls []) := by
  have B0 := B
  obtain ⟨hx, hb, hml, hown, hts, hr, hlk, hK⟩ := B0
  unfold fX5_begins__h at h
  refine lv_iconst (v := 0) hx hb dX5_begins_0 (by decide) ?_
  refine lv_istore_n (lv' := [(1, .int 0), (0, .ref v0)]) hx hb dX5_begins_1 rfl hl (by decide) rfl (fun ls hl => ?_)
  exact lX5_begins__h_2 B _ _ h H locs ls hR hS (lv_sub hl [1, 0] rfl)
theorem mX5_begins__h {l : Launch} {G : gE} {A : Nat → Prop} {v0 : Nat} {w : WH} {r : WH} (h : fX5_begins__h v0 w = some r) : hM l G A yX5_begins cX5_begins 2 none 0 0 [.ref v0] w none r :=
  h_of (by decide +kernel) (Nat.le_of_ble_eq_true rfl) (fun p e s m args below meth c ls B hnm hR hS hl => bX5_begins__h_0 B h hR hS hl)
noncomputable def fX5_init__h_b154 (v0 : Nat) (w : WH) : Option (WH) :=
  (gR w v0 24 0).bind fun x1 =>
  x1.bind fun a3 =>
  (stI w a3 0 0 2).bind fun w5 =>
  some w5
theorem bX5_init__h_154 {p : Program} {l : Launch} {e : Env} {s : State} {m : MethodId} {args : Array Value} {below : List Frame} {meth : Method} {c : Code} {H : Heap} {locs : List Loc} {ls : Array Slot} {G : gE} {A : Nat → Prop} {w0 : WH} (B : gB G RX5 cX5_init 1 none p s m args meth c) (hnm : meth.name = "<init>") {v0 : Nat} {w : WH} {r : WH} (h : fX5_init__h_b154 v0 w = some r)   (hR : RepH G A w H) (hS : Cu A s w0 w H locs) (hl : lv_has ls 1 [(0, .ref v0)]) : W p l e (hRm 1 21 w0) s m args below meth c H locs (wC w0 - wC w) (wS w0 - wS w) (hZ below args s G A w0 none r) (F0 m 154 ls []) := by
  have B0 := B
  obtain ⟨hx, hb, hml, hown, hts, hr, hlk, hK⟩ := B0
  unfold fX5_init__h_b154 at h
  refine lv_aload_n hx hb dX5_init_154 rfl (lv_at hl 0 rfl) ?_
  replace h := bo_o h
  obtain ⟨x1, e2, h⟩ := h
  refine h_get (ci := 24) (k := 0) (v := va_rf x1) hx hb hts hown hK hR in_X5 rfl (by decide) (fun _ _ => rfl) q2433 (fun _ h9 => h9) (gR_o e2) dX5_init_155 ?_
  refine lv_iconst (v := 0) hx hb dX5_init_158 (by decide) ?_
  refine lv_iconst (v := 2) hx hb dX5_init_159 (by decide) ?_
  replace h := bo_o h
  obtain ⟨a3, e4, h⟩ := h
  subst e4
  replace h := bo_o h
  obtain ⟨w5, e6, h⟩ := h
  refine h_iast hx hb hK hR hS e6 dX5_init_160 (fun H locs hR hS => ?_)
  have eR := Option.some.inj h
  subst eR
  exact h_vfin hx hb hr hlk hR hS dX5_init_161
noncomputable def fX5_init__h_b106 (v0 : Nat) (w : WH) : Option (WH) :=
  b2_ (hNa w 1 10) fun a1 w2 =>
  (hPut w2 v0 24 25 (.ref a1)).bind fun w4 =>
  b2_ (hNa w4 0 24) fun a6 w7 =>
  (hPut w7 v0 24 26 (.ref a6)).bind fun w9 =>
  b2_ (hNa w9 0 14) fun a11 w12 =>
  (hPut w12 v0 24 27 (.ref a11)).bind fun w14 =>
  b2_ (hNa w14 0 10) fun a16 w17 =>
  (hPut w17 v0 24 30 (.ref a16)).bind fun w19 =>
  b2_ (hNa w19 2 256) fun a21 w22 =>
  (hPut w22 v0 24 31 (.ref a21)).bind fun w24 =>
  (gR w24 v0 24 0).bind fun x26 =>
  x26.bind fun a28 =>
  (fX5_begins__h a28 w24).bind fun w30 =>
  fX5_init__h_b154 v0 w30
theorem bX5_init__h_106 {p : Program} {l : Launch} {e : Env} {s : State} {m : MethodId} {args : Array Value} {below : List Frame} {meth : Method} {c : Code} {H : Heap} {locs : List Loc} {ls : Array Slot} {G : gE} {A : Nat → Prop} {w0 : WH} (B : gB G RX5 cX5_init 1 none p s m args meth c) (hnm : meth.name = "<init>") {v0 : Nat} {w : WH} {r : WH} (h : fX5_init__h_b106 v0 w = some r)   (hR : RepH G A w H) (hS : Cu A s w0 w H locs) (hl : lv_has ls 1 [(0, .ref v0)]) : W p l e (hRm 1 21 w0) s m args below meth c H locs (wC w0 - wC w) (wS w0 - wS w) (hZ below args s G A w0 none r) (F0 m 106 ls []) := by
  have B0 := B
  obtain ⟨hx, hb, hml, hown, hts, hr, hlk, hK⟩ := B0
  unfold fX5_init__h_b106 at h
  refine lv_aload_n hx hb dX5_init_106 rfl (lv_at hl 0 rfl) ?_
  refine lv_bipush (v := 10) hx hb dX5_init_107 (by decide) ?_
  replace h := b2_o h
  obtain ⟨a1, w2, e3, h⟩ := h
  refine h_newa (atype := .long) (t := 1) hx hb hts hK hR hS (Nat.le_refl _) (Nat.le_refl _) q584 rfl (by decide) (fun _ _ => rfl) e3 dX5_init_109 (fun H locs hR hS => ?_)
  replace h := bo_o h
  obtain ⟨w4, e5, h⟩ := h
  refine h_putF (ci := 24) (k := 25) (ty := tyX5 25) hx hb hts hown hK hR hS in_X5 tyX5 tyX5_ok nmX5 rfl (by decide) q2458 (fun _ h9 => h9) rfl hnm rfl (tyX5_ok 25 (by decide)) rfl rfl e5 dX5_init_111 (fun H locs hR hS => ?_)
  refine lv_aload_n hx hb dX5_init_114 rfl (lv_at hl 0 rfl) ?_
  refine lv_bipush (v := 24) hx hb dX5_init_115 (by decide) ?_
  replace h := b2_o h
  obtain ⟨a6, w7, e8, h⟩ := h
  refine h_newa (atype := .int) (t := 0) hx hb hts hK hR hS (Nat.le_refl _) (Nat.le_refl _) q556 rfl (by decide) (fun _ _ => rfl) e8 dX5_init_117 (fun H locs hR hS => ?_)
  replace h := bo_o h
  obtain ⟨w9, e10, h⟩ := h
  refine h_putF (ci := 24) (k := 26) (ty := tyX5 26) hx hb hts hown hK hR hS in_X5 tyX5 tyX5_ok nmX5 rfl (by decide) q2459 (fun _ h9 => h9) rfl hnm rfl (tyX5_ok 26 (by decide)) rfl rfl e10 dX5_init_119 (fun H locs hR hS => ?_)
  refine lv_aload_n hx hb dX5_init_122 rfl (lv_at hl 0 rfl) ?_
  refine lv_bipush (v := 14) hx hb dX5_init_123 (by decide) ?_
  replace h := b2_o h
  obtain ⟨a11, w12, e13, h⟩ := h
  refine h_newa (atype := .int) (t := 0) hx hb hts hK hR hS (Nat.le_refl _) (Nat.le_refl _) q556 rfl (by decide) (fun _ _ => rfl) e13 dX5_init_125 (fun H locs hR hS => ?_)
  replace h := bo_o h
  obtain ⟨w14, e15, h⟩ := h
  refine h_putF (ci := 24) (k := 27) (ty := tyX5 27) hx hb hts hown hK hR hS in_X5 tyX5 tyX5_ok nmX5 rfl (by decide) q2460 (fun _ h9 => h9) rfl hnm rfl (tyX5_ok 27 (by decide)) rfl rfl e15 dX5_init_127 (fun H locs hR hS => ?_)
  refine lv_aload_n hx hb dX5_init_130 rfl (lv_at hl 0 rfl) ?_
  refine lv_bipush (v := 10) hx hb dX5_init_131 (by decide) ?_
  replace h := b2_o h
  obtain ⟨a16, w17, e18, h⟩ := h
  refine h_newa (atype := .int) (t := 0) hx hb hts hK hR hS (Nat.le_refl _) (Nat.le_refl _) q556 rfl (by decide) (fun _ _ => rfl) e18 dX5_init_133 (fun H locs hR hS => ?_)
  replace h := bo_o h
  obtain ⟨w19, e20, h⟩ := h
  refine h_putF (ci := 24) (k := 30) (ty := tyX5 30) hx hb hts hown hK hR hS in_X5 tyX5 tyX5_ok nmX5 rfl (by decide) q2463 (fun _ h9 => h9) rfl hnm rfl (tyX5_ok 30 (by decide)) rfl rfl e20 dX5_init_135 (fun H locs hR hS => ?_)
  refine lv_aload_n hx hb dX5_init_138 rfl (lv_at hl 0 rfl) ?_
  refine lv_sipush (v := 256) hx hb dX5_init_139 (by decide) ?_
  replace h := b2_o h
  obtain ⟨a21, w22, e23, h⟩ := h
  refine h_newa (atype := .byte) (t := 2) hx hb hts hK hR hS (Nat.le_refl _) (Nat.le_refl _) q270 rfl (by decide) (fun _ _ => rfl) e23 dX5_init_142 (fun H locs hR hS => ?_)
  replace h := bo_o h
  obtain ⟨w24, e25, h⟩ := h
  refine h_putF (ci := 24) (k := 31) (ty := tyX5 31) hx hb hts hown hK hR hS in_X5 tyX5 tyX5_ok nmX5 rfl (by decide) q2464 (fun _ h9 => h9) rfl hnm rfl (tyX5_ok 31 (by decide)) rfl rfl e25 dX5_init_144 (fun H locs hR hS => ?_)
  refine lv_aload_n hx hb dX5_init_147 rfl (lv_at hl 0 rfl) ?_
  replace h := bo_o h
  obtain ⟨x26, e27, h⟩ := h
  refine h_get (ci := 24) (k := 0) (v := va_rf x26) hx hb hts hown hK hR in_X5 rfl (by decide) (fun _ _ => rfl) q2433 (fun _ h9 => h9) (gR_o e27) dX5_init_148 ?_
  replace h := bo_o h
  obtain ⟨a28, e29, h⟩ := h
  subst e29
  replace h := bo_o h
  obtain ⟨w30, e31, h⟩ := h
  refine h_callS 1  (As := [.ref a28]) (rest := []) (v := none) (w' := w30) (st1 := []) hx hb hml hown hts hK hR hS (Nat.le_refl _) (Nat.le_refl _) (mX5_begins__h e31) (lw_S q2430 q2431 q137 q2432) (by decide +kernel) (Nat.le_of_ble_eq_true rfl) (Nat.le_of_ble_eq_true rfl) rfl hl.1 (Nat.le_of_ble_eq_true rfl) dX5_init_151 rfl rfl (fun H locs hR hS => ?_)
  exact bX5_init__h_154 B hnm h  hR hS (lv_sub hl [0] rfl)
noncomputable def fX5_init__h_b56 (v0 : Nat) (w : WH) : Option (WH) :=
  (hPut w v0 24 15 (.int (-1))).bind fun w1 =>
  b2_ (hNa w1 1 10) fun a3 w4 =>
  (hPut w4 v0 24 16 (.ref a3)).bind fun w6 =>
  (hPut w6 v0 24 18 (.int (-1))).bind fun w8 =>
  b2_ (hNa w8 0 10) fun a10 w11 =>
  (hPut w11 v0 24 20 (.ref a10)).bind fun w13 =>
  b2_ (hNa w13 0 10) fun a15 w16 =>
  (hPut w16 v0 24 22 (.ref a15)).bind fun w18 =>
  b2_ (hNa w18 0 10) fun a20 w21 =>
  (hPut w21 v0 24 23 (.ref a20)).bind fun w23 =>
  b2_ (hNa w23 0 10) fun a25 w26 =>
  (hPut w26 v0 24 24 (.ref a25)).bind fun w28 =>
  fX5_init__h_b106 v0 w28
theorem bX5_init__h_56 {p : Program} {l : Launch} {e : Env} {s : State} {m : MethodId} {args : Array Value} {below : List Frame} {meth : Method} {c : Code} {H : Heap} {locs : List Loc} {ls : Array Slot} {G : gE} {A : Nat → Prop} {w0 : WH} (B : gB G RX5 cX5_init 1 none p s m args meth c) (hnm : meth.name = "<init>") {v0 : Nat} {w : WH} {r : WH} (h : fX5_init__h_b56 v0 w = some r)   (hR : RepH G A w H) (hS : Cu A s w0 w H locs) (hl : lv_has ls 1 [(0, .ref v0)]) : W p l e (hRm 1 21 w0) s m args below meth c H locs (wC w0 - wC w) (wS w0 - wS w) (hZ below args s G A w0 none r) (F0 m 56 ls []) := by
  have B0 := B
  obtain ⟨hx, hb, hml, hown, hts, hr, hlk, hK⟩ := B0
  unfold fX5_init__h_b56 at h
  refine lv_aload_n hx hb dX5_init_56 rfl (lv_at hl 0 rfl) ?_
  refine lv_iconst (v := (-1)) hx hb dX5_init_57 (by decide) ?_
  replace h := bo_o h
  obtain ⟨w1, e2, h⟩ := h
  refine h_put (ci := 24) (k := 15) (ty := tyX5 15) hx hb hts hown hK hR hS in_X5 tyX5 tyX5_ok nmX5 rfl (by decide) q2448 (fun _ h9 => h9) rfl (tyX5_ok 15 (by decide)) rfl rfl e2 dX5_init_58 (fun H locs hR hS => ?_)
  refine lv_aload_n hx hb dX5_init_61 rfl (lv_at hl 0 rfl) ?_
  refine lv_bipush (v := 10) hx hb dX5_init_62 (by decide) ?_
  replace h := b2_o h
  obtain ⟨a3, w4, e5, h⟩ := h
  refine h_newa (atype := .long) (t := 1) hx hb hts hK hR hS (Nat.le_refl _) (Nat.le_refl _) q584 rfl (by decide) (fun _ _ => rfl) e5 dX5_init_64 (fun H locs hR hS => ?_)
  replace h := bo_o h
  obtain ⟨w6, e7, h⟩ := h
  refine h_putF (ci := 24) (k := 16) (ty := tyX5 16) hx hb hts hown hK hR hS in_X5 tyX5 tyX5_ok nmX5 rfl (by decide) q2449 (fun _ h9 => h9) rfl hnm rfl (tyX5_ok 16 (by decide)) rfl rfl e7 dX5_init_66 (fun H locs hR hS => ?_)
  refine lv_aload_n hx hb dX5_init_69 rfl (lv_at hl 0 rfl) ?_
  refine lv_iconst (v := (-1)) hx hb dX5_init_70 (by decide) ?_
  replace h := bo_o h
  obtain ⟨w8, e9, h⟩ := h
  refine h_put (ci := 24) (k := 18) (ty := tyX5 18) hx hb hts hown hK hR hS in_X5 tyX5 tyX5_ok nmX5 rfl (by decide) q2451 (fun _ h9 => h9) rfl (tyX5_ok 18 (by decide)) rfl rfl e9 dX5_init_71 (fun H locs hR hS => ?_)
  refine lv_aload_n hx hb dX5_init_74 rfl (lv_at hl 0 rfl) ?_
  refine lv_bipush (v := 10) hx hb dX5_init_75 (by decide) ?_
  replace h := b2_o h
  obtain ⟨a10, w11, e12, h⟩ := h
  refine h_newa (atype := .int) (t := 0) hx hb hts hK hR hS (Nat.le_refl _) (Nat.le_refl _) q556 rfl (by decide) (fun _ _ => rfl) e12 dX5_init_77 (fun H locs hR hS => ?_)
  replace h := bo_o h
  obtain ⟨w13, e14, h⟩ := h
  refine h_putF (ci := 24) (k := 20) (ty := tyX5 20) hx hb hts hown hK hR hS in_X5 tyX5 tyX5_ok nmX5 rfl (by decide) q2453 (fun _ h9 => h9) rfl hnm rfl (tyX5_ok 20 (by decide)) rfl rfl e14 dX5_init_79 (fun H locs hR hS => ?_)
  refine lv_aload_n hx hb dX5_init_82 rfl (lv_at hl 0 rfl) ?_
  refine lv_bipush (v := 10) hx hb dX5_init_83 (by decide) ?_
  replace h := b2_o h
  obtain ⟨a15, w16, e17, h⟩ := h
  refine h_newa (atype := .int) (t := 0) hx hb hts hK hR hS (Nat.le_refl _) (Nat.le_refl _) q556 rfl (by decide) (fun _ _ => rfl) e17 dX5_init_85 (fun H locs hR hS => ?_)
  replace h := bo_o h
  obtain ⟨w18, e19, h⟩ := h
  refine h_putF (ci := 24) (k := 22) (ty := tyX5 22) hx hb hts hown hK hR hS in_X5 tyX5 tyX5_ok nmX5 rfl (by decide) q2455 (fun _ h9 => h9) rfl hnm rfl (tyX5_ok 22 (by decide)) rfl rfl e19 dX5_init_87 (fun H locs hR hS => ?_)
  refine lv_aload_n hx hb dX5_init_90 rfl (lv_at hl 0 rfl) ?_
  refine lv_bipush (v := 10) hx hb dX5_init_91 (by decide) ?_
  replace h := b2_o h
  obtain ⟨a20, w21, e22, h⟩ := h
  refine h_newa (atype := .int) (t := 0) hx hb hts hK hR hS (Nat.le_refl _) (Nat.le_refl _) q556 rfl (by decide) (fun _ _ => rfl) e22 dX5_init_93 (fun H locs hR hS => ?_)
  replace h := bo_o h
  obtain ⟨w23, e24, h⟩ := h
  refine h_putF (ci := 24) (k := 23) (ty := tyX5 23) hx hb hts hown hK hR hS in_X5 tyX5 tyX5_ok nmX5 rfl (by decide) q2456 (fun _ h9 => h9) rfl hnm rfl (tyX5_ok 23 (by decide)) rfl rfl e24 dX5_init_95 (fun H locs hR hS => ?_)
  refine lv_aload_n hx hb dX5_init_98 rfl (lv_at hl 0 rfl) ?_
  refine lv_bipush (v := 10) hx hb dX5_init_99 (by decide) ?_
  replace h := b2_o h
  obtain ⟨a25, w26, e27, h⟩ := h
  refine h_newa (atype := .int) (t := 0) hx hb hts hK hR hS (Nat.le_refl _) (Nat.le_refl _) q556 rfl (by decide) (fun _ _ => rfl) e27 dX5_init_101 (fun H locs hR hS => ?_)
  replace h := bo_o h
  obtain ⟨w28, e29, h⟩ := h
  refine h_putF (ci := 24) (k := 24) (ty := tyX5 24) hx hb hts hown hK hR hS in_X5 tyX5 tyX5_ok nmX5 rfl (by decide) q2457 (fun _ h9 => h9) rfl hnm rfl (tyX5_ok 24 (by decide)) rfl rfl e29 dX5_init_103 (fun H locs hR hS => ?_)
  exact bX5_init__h_106 B hnm h  hR hS (lv_sub hl [0] rfl)
noncomputable def fX5_init__h (v0 : Nat) (w : WH) : Option (WH) :=
  b2_ (hNa w 0 172) fun a1 w2 =>
  (hPut w2 v0 24 0 (.ref a1)).bind fun w4 =>
  b2_ (hNa w4 0 172) fun a6 w7 =>
  (hPut w7 v0 24 1 (.ref a6)).bind fun w9 =>
  b2_ (hNa w9 0 344) fun a11 w12 =>
  (hPut w12 v0 24 2 (.ref a11)).bind fun w14 =>
  b2_ (hNa w14 0 2064) fun a16 w17 =>
  (hPut w17 v0 24 3 (.ref a16)).bind fun w19 =>
  b2_ (hNa w19 3 2) fun a21 w22 =>
  (hPut w22 v0 24 4 (.ref a21)).bind fun w24 =>
  b2_ (hNa w24 2 600) fun a26 w27 =>
  (hPut w27 v0 24 7 (.ref a26)).bind fun w29 =>
  fX5_init__h_b56 v0 w29
theorem bX5_init__h_0 {p : Program} {l : Launch} {e : Env} {s : State} {m : MethodId} {args : Array Value} {below : List Frame} {meth : Method} {c : Code} {H : Heap} {locs : List Loc} {ls : Array Slot} {G : gE} {A : Nat → Prop} {w0 : WH} (B : gB G RX5 cX5_init 1 none p s m args meth c) (hnm : meth.name = "<init>") {v0 : Nat} {w : WH} {r : WH} (h : fX5_init__h v0 w = some r)   (hR : RepH G A w H) (hS : Cu A s w0 w H locs) (hl : lv_has ls 1 [(0, .ref v0)]) : W p l e (hRm 1 21 w0) s m args below meth c H locs (wC w0 - wC w) (wS w0 - wS w) (hZ below args s G A w0 none r) (F0 m 0 ls []) := by
  have B0 := B
  obtain ⟨hx, hb, hml, hown, hts, hr, hlk, hK⟩ := B0
  unfold fX5_init__h at h
  refine lv_aload_n hx hb dX5_init_0 rfl (lv_at hl 0 rfl) ?_
  refine W.objInit hx hb hown (hts _ q2429) (hts _ q168) (hts _ q169) rfl (by rw [hml]; exact hl.1) rfl dX5_init_1 (Nat.le_of_ble_eq_true rfl) (Nat.le_of_ble_eq_true rfl) ?_
  refine W.eq (g2 := F0 m 4 ls []) rfl ?_
  refine lv_aload_n hx hb dX5_init_4 rfl (lv_at hl 0 rfl) ?_
  refine lv_sipush (v := 172) hx hb dX5_init_5 (by decide) ?_
  replace h := b2_o h
  obtain ⟨a1, w2, e3, h⟩ := h
  refine h_newa (atype := .int) (t := 0) hx hb hts hK hR hS (Nat.le_refl _) (Nat.le_refl _) q556 rfl (by decide) (fun _ _ => rfl) e3 dX5_init_8 (fun H locs hR hS => ?_)
  replace h := bo_o h
  obtain ⟨w4, e5, h⟩ := h
  refine h_putF (ci := 24) (k := 0) (ty := tyX5 0) hx hb hts hown hK hR hS in_X5 tyX5 tyX5_ok nmX5 rfl (by decide) q2433 (fun _ h9 => h9) rfl hnm rfl (tyX5_ok 0 (by decide)) rfl rfl e5 dX5_init_10 (fun H locs hR hS => ?_)
  refine lv_aload_n hx hb dX5_init_13 rfl (lv_at hl 0 rfl) ?_
  refine lv_sipush (v := 172) hx hb dX5_init_14 (by decide) ?_
  replace h := b2_o h
  obtain ⟨a6, w7, e8, h⟩ := h
  refine h_newa (atype := .int) (t := 0) hx hb hts hK hR hS (Nat.le_refl _) (Nat.le_refl _) q556 rfl (by decide) (fun _ _ => rfl) e8 dX5_init_17 (fun H locs hR hS => ?_)
  replace h := bo_o h
  obtain ⟨w9, e10, h⟩ := h
  refine h_putF (ci := 24) (k := 1) (ty := tyX5 1) hx hb hts hown hK hR hS in_X5 tyX5 tyX5_ok nmX5 rfl (by decide) q2434 (fun _ h9 => h9) rfl hnm rfl (tyX5_ok 1 (by decide)) rfl rfl e10 dX5_init_19 (fun H locs hR hS => ?_)
  refine lv_aload_n hx hb dX5_init_22 rfl (lv_at hl 0 rfl) ?_
  refine lv_sipush (v := 344) hx hb dX5_init_23 (by decide) ?_
  replace h := b2_o h
  obtain ⟨a11, w12, e13, h⟩ := h
  refine h_newa (atype := .int) (t := 0) hx hb hts hK hR hS (Nat.le_refl _) (Nat.le_refl _) q556 rfl (by decide) (fun _ _ => rfl) e13 dX5_init_26 (fun H locs hR hS => ?_)
  replace h := bo_o h
  obtain ⟨w14, e15, h⟩ := h
  refine h_putF (ci := 24) (k := 2) (ty := tyX5 2) hx hb hts hown hK hR hS in_X5 tyX5 tyX5_ok nmX5 rfl (by decide) q2435 (fun _ h9 => h9) rfl hnm rfl (tyX5_ok 2 (by decide)) rfl rfl e15 dX5_init_28 (fun H locs hR hS => ?_)
  refine lv_aload_n hx hb dX5_init_31 rfl (lv_at hl 0 rfl) ?_
  refine lv_sipush (v := 2064) hx hb dX5_init_32 (by decide) ?_
  replace h := b2_o h
  obtain ⟨a16, w17, e18, h⟩ := h
  refine h_newa (atype := .int) (t := 0) hx hb hts hK hR hS (Nat.le_refl _) (Nat.le_refl _) q556 rfl (by decide) (fun _ _ => rfl) e18 dX5_init_35 (fun H locs hR hS => ?_)
  replace h := bo_o h
  obtain ⟨w19, e20, h⟩ := h
  refine h_putF (ci := 24) (k := 3) (ty := tyX5 3) hx hb hts hown hK hR hS in_X5 tyX5 tyX5_ok nmX5 rfl (by decide) q2436 (fun _ h9 => h9) rfl hnm rfl (tyX5_ok 3 (by decide)) rfl rfl e20 dX5_init_37 (fun H locs hR hS => ?_)
  refine lv_aload_n hx hb dX5_init_40 rfl (lv_at hl 0 rfl) ?_
  refine lv_iconst (v := 2) hx hb dX5_init_41 (by decide) ?_
  replace h := b2_o h
  obtain ⟨a21, w22, e23, h⟩ := h
  refine h_newa (atype := .boolean) (t := 3) hx hb hts hK hR hS (Nat.le_refl _) (Nat.le_refl _) q2533 rfl (by decide) (fun _ _ => rfl) e23 dX5_init_42 (fun H locs hR hS => ?_)
  replace h := bo_o h
  obtain ⟨w24, e25, h⟩ := h
  refine h_putF (ci := 24) (k := 4) (ty := tyX5 4) hx hb hts hown hK hR hS in_X5 tyX5 tyX5_ok nmX5 rfl (by decide) q2437 (fun _ h9 => h9) rfl hnm rfl (tyX5_ok 4 (by decide)) rfl rfl e25 dX5_init_44 (fun H locs hR hS => ?_)
  refine lv_aload_n hx hb dX5_init_47 rfl (lv_at hl 0 rfl) ?_
  refine lv_sipush (v := 600) hx hb dX5_init_48 (by decide) ?_
  replace h := b2_o h
  obtain ⟨a26, w27, e28, h⟩ := h
  refine h_newa (atype := .byte) (t := 2) hx hb hts hK hR hS (Nat.le_refl _) (Nat.le_refl _) q270 rfl (by decide) (fun _ _ => rfl) e28 dX5_init_51 (fun H locs hR hS => ?_)
  replace h := bo_o h
  obtain ⟨w29, e30, h⟩ := h
  refine h_putF (ci := 24) (k := 7) (ty := tyX5 7) hx hb hts hown hK hR hS in_X5 tyX5 tyX5_ok nmX5 rfl (by decide) q2440 (fun _ h9 => h9) rfl hnm rfl (tyX5_ok 7 (by decide)) rfl rfl e30 dX5_init_53 (fun H locs hR hS => ?_)
  exact bX5_init__h_56 B hnm h  hR hS (lv_sub hl [0] rfl)
theorem mX5_init__h {l : Launch} {G : gE} {A : Nat → Prop} {v0 : Nat} {w : WH} {r : WH} (h : fX5_init__h v0 w = some r) : hM l G A yX5_init cX5_init 1 none 1 21 [.ref v0] w none r :=
  h_of (by decide +kernel) (Nat.le_of_ble_eq_true rfl) (fun p e s m args below meth c ls B hnm hR hS hl => bX5_init__h_0 B hnm h hR hS hl)
noncomputable def fX0_count (v0 : Nat) (v1 : Int32) (v2 : Nat) (w : WH) : Option ((Int32 × WH)) :=
  (hIs w v0 17).bind fun _ =>
  b2_ (fX1_count v0 v1 w) fun o3 w1 => ex_ o3 (fun x5 =>
    (stJ w1 v2 0 (x5.toInt64)).bind fun w7 =>
    some (0, w7)) (fun q6 =>
    if q6.1 = 1 then (
      some (1, w1)
    ) else (
      none
    ))
theorem bX0_count_0 {p : Program} {l : Launch} {e : Env} {s : State} {m : MethodId} {args : Array Value} {below : List Frame} {meth : Method} {c : Code} {H : Heap} {locs : List Loc} {ls : Array Slot} {G : gE} {A : Nat → Prop} {w0 : WH} (B : gB G RX0 cX0_count 4 (some .int) p s m args meth c) (hTb : c.exceptionTable.toList = tableOf [(0, 9, 12, 13)]) (hl0 : l.stackTraces = false) {v0 : Nat} {v1 : Int32} {v2 : Nat} {w : WH} {r : (Int32 × WH)} (h : fX0_count v0 v1 v2 w = some r)   (hR : RepH G A w H) (hS : Cu A s w0 w H locs) (hl : lv_has ls 4 [(0, .ref v0), (1, .int v1), (2, .ref v2)]) : W p l e (hRm 7 121 w0) s m args below meth c H locs (wC w0 - wC w) (wS w0 - wS w) (hZ below args s G A w0 (some (.int r.1)) r.2) (F0 m 0 ls []) := by
  have B0 := B
  obtain ⟨hx, hb, hml, hown, hts, hr, hlk, hK⟩ := B0
  unfold fX0_count at h
  refine lv_aload_n hx hb dX0_count_0 rfl (lv_at hl 2 rfl) ?_
  refine lv_iconst (v := 0) hx hb dX0_count_1 (by decide) ?_
  refine lv_aload_n hx hb dX0_count_2 rfl (lv_at hl 0 rfl) ?_
  refine lv_iload_n hx hb dX0_count_3 rfl (lv_at hl 1 rfl) ?_
  replace h := bo_o h
  obtain ⟨_, e2, h⟩ := h
  replace h := b2_o h
  obtain ⟨o3, w1, e4, h⟩ := h
  refine h_callVX 1 (ci := 17) (As := [.int v1]) (rest := [.int 0, .ref v2]) (o := oI o3) (w' := w1) hx hb hml hown hts hK hR hS (Nat.le_refl _) (Nat.le_refl _) rfl e2 (mX1_count hl0 e4) (lw_V q1915 q1916 q1917 q112 q1918) (by decide +kernel) (Nat.le_of_ble_eq_true rfl) (Nat.le_of_ble_eq_true rfl) rfl hl.1 (Nat.le_of_ble_eq_true rfl) dX0_count_4 rfl (fun v9 hv9 H locs hR hS => ?_) (fun E9 q9 hq9 H locs hR hS hce => ?_)
  · cases o3 with
    | inr q => cases hv9
    | inl x5 =>
      cases hv9
      replace h := exl_o h
      refine W.eq (g2 := F0 m 7 ls [.int x5, .int 0, .ref v2]) rfl ?_
      refine lv_i2l hx hb dX0_count_7 rfl ?_
      replace h := bo_o h
      obtain ⟨w7, e8, h⟩ := h
      refine h_last hx hb hK hR hS e8 dX0_count_8 (fun H locs hR hS => ?_)
      refine lv_goto (tgt := 15) hx hb dX0_count_9 (by decide) ?_
      refine lv_iconst (v := 0) hx hb dX0_count_15 (by decide) ?_
      have eR := Option.some.inj h
      subst eR
      exact h_ifin hx hb hr hlk hR hS dX0_count_16
  · cases o3 with
    | inl q => cases hq9
    | inr q6 =>
      cases hq9
      replace h := exr_o h
      by_cases c9 : q6.1 = 1
      · replace h := it_o c9 h
        have hce : ∃ ce : Cell, H[q6.2]? = some ce ∧ ce.vm = .none ∧ s.vm.findClass "java/lang/IllegalArgumentException" = some ce.cls := by rw [c9] at hce; exact hce
        refine h_catch (E := "java/lang/IllegalArgumentException") hown hTb rfl (by decide) (by decide) rfl (hts _ q1914) (hK.ca 0 rfl) hce ?_
        refine lv_astore_n (lv' := [(3, .ref (q6.2)), (0, .ref v0), (1, .int v1), (2, .ref v2)]) hx hb dX0_count_12 rfl hl (by decide) rfl (fun ls hl => ?_)
        refine lv_iconst (v := 1) hx hb dX0_count_13 (by decide) ?_
        have eR := Option.some.inj h
        subst eR
        exact h_ifin hx hb hr hlk hR hS dX0_count_14
      · replace h := if_o c9 h
        exact (nomatch h)
theorem mX0_count {l : Launch} {G : gE} {A : Nat → Prop} {v0 : Nat} {v1 : Int32} {v2 : Nat} {w : WH} {r : (Int32 × WH)} (hl0 : l.stackTraces = false) (h : fX0_count v0 v1 v2 w = some r) : hMW l G A yX0_count cX0_count 4 (some .int) [(0, 9, 12, 13)] 7 121 [.ref v0, .int v1, .ref v2] w (some (.int r.1)) r.2 :=
  h_ofW (by decide +kernel) (Nat.le_of_ble_eq_true rfl) (fun p e s m args below meth c ls B hnm hTb hR hS hl => bX0_count_0 B hTb hl0 h hR hS hl)
noncomputable def fX0_arcValue (v0 : Nat) (v1 : Int32) (v2 : Int32) (v3 : Nat) (w : WH) : Option ((Int32 × WH)) :=
  (hIs w v0 17).bind fun _ =>
  b2_ (fX1_arcValue v0 v1 v2 w) fun o3 w1 => ex_ o3 (fun x5 =>
    (stJ w1 v3 0 (x5.toInt64)).bind fun w7 =>
    some (0, w7)) (fun q6 =>
    if q6.1 = 0 then (
      some (1, w1)
    ) else (
      if q6.1 = 1 then (
        some (2, w1)
      ) else (
        none
      )
    ))
theorem bX0_arcValue_0 {p : Program} {l : Launch} {e : Env} {s : State} {m : MethodId} {args : Array Value} {below : List Frame} {meth : Method} {c : Code} {H : Heap} {locs : List Loc} {ls : Array Slot} {G : gE} {A : Nat → Prop} {w0 : WH} (B : gB G RX0 cX0_arcValue 5 (some .int) p s m args meth c) (hTb : c.exceptionTable.toList = tableOf [(0, 10, 13, 19), (0, 10, 17, 13)]) (hl0 : l.stackTraces = false) {v0 : Nat} {v1 : Int32} {v2 : Int32} {v3 : Nat} {w : WH} {r : (Int32 × WH)} (h : fX0_arcValue v0 v1 v2 v3 w = some r)   (hR : RepH G A w H) (hS : Cu A s w0 w H locs) (hl : lv_has ls 5 [(0, .ref v0), (1, .int v1), (2, .int v2), (3, .ref v3)]) : W p l e (hRm 15 335 w0) s m args below meth c H locs (wC w0 - wC w) (wS w0 - wS w) (hZ below args s G A w0 (some (.int r.1)) r.2) (F0 m 0 ls []) := by
  have B0 := B
  obtain ⟨hx, hb, hml, hown, hts, hr, hlk, hK⟩ := B0
  unfold fX0_arcValue at h
  refine lv_aload_n hx hb dX0_arcValue_0 rfl (lv_at hl 3 rfl) ?_
  refine lv_iconst (v := 0) hx hb dX0_arcValue_1 (by decide) ?_
  refine lv_aload_n hx hb dX0_arcValue_2 rfl (lv_at hl 0 rfl) ?_
  refine lv_iload_n hx hb dX0_arcValue_3 rfl (lv_at hl 1 rfl) ?_
  refine lv_iload_n hx hb dX0_arcValue_4 rfl (lv_at hl 2 rfl) ?_
  replace h := bo_o h
  obtain ⟨_, e2, h⟩ := h
  replace h := b2_o h
  obtain ⟨o3, w1, e4, h⟩ := h
  refine h_callVX 2 (ci := 17) (As := [.int v1, .int v2]) (rest := [.int 0, .ref v3]) (o := oI o3) (w' := w1) hx hb hml hown hts hK hR hS (Nat.le_refl _) (Nat.le_refl _) rfl e2 (mX1_arcValue hl0 e4) (lw_V q1944 q1945 q1946 q112 q1947) (by decide +kernel) (Nat.le_of_ble_eq_true rfl) (Nat.le_of_ble_eq_true rfl) rfl hl.1 (Nat.le_of_ble_eq_true rfl) dX0_arcValue_5 rfl (fun v9 hv9 H locs hR hS => ?_) (fun E9 q9 hq9 H locs hR hS hce => ?_)
  · cases o3 with
    | inr q => cases hv9
    | inl x5 =>
      cases hv9
      replace h := exl_o h
      refine W.eq (g2 := F0 m 8 ls [.int x5, .int 0, .ref v3]) rfl ?_
      refine lv_i2l hx hb dX0_arcValue_8 rfl ?_
      replace h := bo_o h
      obtain ⟨w7, e8, h⟩ := h
      refine h_last hx hb hK hR hS e8 dX0_arcValue_9 (fun H locs hR hS => ?_)
      refine lv_goto (tgt := 21) hx hb dX0_arcValue_10 (by decide) ?_
      refine lv_iconst (v := 0) hx hb dX0_arcValue_21 (by decide) ?_
      have eR := Option.some.inj h
      subst eR
      exact h_ifin hx hb hr hlk hR hS dX0_arcValue_22
  · cases o3 with
    | inl q => cases hq9
    | inr q6 =>
      cases hq9
      replace h := exr_o h
      by_cases c9 : q6.1 = 0
      · replace h := it_o c9 h
        have hce : ∃ ce : Cell, H[q6.2]? = some ce ∧ ce.vm = .none ∧ s.vm.findClass "java/lang/IndexOutOfBoundsException" = some ce.cls := by rw [c9] at hce; exact hce
        refine h_catch (E := "java/lang/IndexOutOfBoundsException") hown hTb rfl (by decide) (by decide) rfl (hts _ q1941) (hK.ca 7 rfl) hce ?_
        refine lv_astore (lv' := [(4, .ref (q6.2)), (0, .ref v0), (1, .int v1), (2, .int v2), (3, .ref v3)]) hx hb dX0_arcValue_13 hl (by decide) rfl (fun ls hl => ?_)
        refine lv_iconst (v := 1) hx hb dX0_arcValue_15 (by decide) ?_
        have eR := Option.some.inj h
        subst eR
        exact h_ifin hx hb hr hlk hR hS dX0_arcValue_16
      · replace h := if_o c9 h
        by_cases c10 : q6.1 = 1
        · replace h := it_o c10 h
          have hce : ∃ ce : Cell, H[q6.2]? = some ce ∧ ce.vm = .none ∧ s.vm.findClass "java/lang/IllegalArgumentException" = some ce.cls := by rw [c10] at hce; exact hce
          refine h_catch2 (E := "java/lang/IllegalArgumentException") hown hTb rfl (by decide) (hts _ q1941) (hK.nc 0 rfl) (by decide) (by decide) rfl (hts _ q1914) (hK.ca 0 rfl) hce ?_
          refine lv_astore (lv' := [(4, .ref (q6.2)), (0, .ref v0), (1, .int v1), (2, .int v2), (3, .ref v3)]) hx hb dX0_arcValue_17 hl (by decide) rfl (fun ls hl => ?_)
          refine lv_iconst (v := 2) hx hb dX0_arcValue_19 (by decide) ?_
          have eR := Option.some.inj h
          subst eR
          exact h_ifin hx hb hr hlk hR hS dX0_arcValue_20
        · replace h := if_o c10 h
          exact (nomatch h)
theorem mX0_arcValue {l : Launch} {G : gE} {A : Nat → Prop} {v0 : Nat} {v1 : Int32} {v2 : Int32} {v3 : Nat} {w : WH} {r : (Int32 × WH)} (hl0 : l.stackTraces = false) (h : fX0_arcValue v0 v1 v2 v3 w = some r) : hMW l G A yX0_arcValue cX0_arcValue 5 (some .int) [(0, 10, 13, 19), (0, 10, 17, 13)] 15 335 [.ref v0, .int v1, .int v2, .ref v3] w (some (.int r.1)) r.2 :=
  h_ofW (by decide +kernel) (Nat.le_of_ble_eq_true rfl) (fun p e s m args below meth c ls B hnm hTb hR hS hl => bX0_arcValue_0 B hTb hl0 h hR hS hl)
noncomputable def fX0_tripValue (v0 : Nat) (v1 : Int32) (v2 : Int32) (v3 : Nat) (w : WH) : Option ((Int32 × WH)) :=
  (hIs w v0 17).bind fun _ =>
  b2_ (fX1_tripValue v0 v1 v2 w) fun o3 w1 => ex_ o3 (fun x5 =>
    (stJ w1 v3 0 (x5.toInt64)).bind fun w7 =>
    some (0, w7)) (fun q6 =>
    if q6.1 = 0 then (
      some (1, w1)
    ) else (
      if q6.1 = 1 then (
        some (2, w1)
      ) else (
        none
      )
    ))
theorem bX0_tripValue_0 {p : Program} {l : Launch} {e : Env} {s : State} {m : MethodId} {args : Array Value} {below : List Frame} {meth : Method} {c : Code} {H : Heap} {locs : List Loc} {ls : Array Slot} {G : gE} {A : Nat → Prop} {w0 : WH} (B : gB G RX0 cX0_tripValue 5 (some .int) p s m args meth c) (hTb : c.exceptionTable.toList = tableOf [(0, 10, 13, 19), (0, 10, 17, 13)]) (hl0 : l.stackTraces = false) {v0 : Nat} {v1 : Int32} {v2 : Int32} {v3 : Nat} {w : WH} {r : (Int32 × WH)} (h : fX0_tripValue v0 v1 v2 v3 w = some r)   (hR : RepH G A w H) (hS : Cu A s w0 w H locs) (hl : lv_has ls 5 [(0, .ref v0), (1, .int v1), (2, .int v2), (3, .ref v3)]) : W p l e (hRm 9 164 w0) s m args below meth c H locs (wC w0 - wC w) (wS w0 - wS w) (hZ below args s G A w0 (some (.int r.1)) r.2) (F0 m 0 ls []) := by
  have B0 := B
  obtain ⟨hx, hb, hml, hown, hts, hr, hlk, hK⟩ := B0
  unfold fX0_tripValue at h
  refine lv_aload_n hx hb dX0_tripValue_0 rfl (lv_at hl 3 rfl) ?_
  refine lv_iconst (v := 0) hx hb dX0_tripValue_1 (by decide) ?_
  refine lv_aload_n hx hb dX0_tripValue_2 rfl (lv_at hl 0 rfl) ?_
  refine lv_iload_n hx hb dX0_tripValue_3 rfl (lv_at hl 1 rfl) ?_
  refine lv_iload_n hx hb dX0_tripValue_4 rfl (lv_at hl 2 rfl) ?_
  replace h := bo_o h
  obtain ⟨_, e2, h⟩ := h
  replace h := b2_o h
  obtain ⟨o3, w1, e4, h⟩ := h
  refine h_callVX 2 (ci := 17) (As := [.int v1, .int v2]) (rest := [.int 0, .ref v3]) (o := oI o3) (w' := w1) hx hb hml hown hts hK hR hS (Nat.le_refl _) (Nat.le_refl _) rfl e2 (mX1_tripValue hl0 e4) (lw_V q1971 q1972 q1973 q112 q1974) (by decide +kernel) (Nat.le_of_ble_eq_true rfl) (Nat.le_of_ble_eq_true rfl) rfl hl.1 (Nat.le_of_ble_eq_true rfl) dX0_tripValue_5 rfl (fun v9 hv9 H locs hR hS => ?_) (fun E9 q9 hq9 H locs hR hS hce => ?_)
  · cases o3 with
    | inr q => cases hv9
    | inl x5 =>
      cases hv9
      replace h := exl_o h
      refine W.eq (g2 := F0 m 8 ls [.int x5, .int 0, .ref v3]) rfl ?_
      refine lv_i2l hx hb dX0_tripValue_8 rfl ?_
      replace h := bo_o h
      obtain ⟨w7, e8, h⟩ := h
      refine h_last hx hb hK hR hS e8 dX0_tripValue_9 (fun H locs hR hS => ?_)
      refine lv_goto (tgt := 21) hx hb dX0_tripValue_10 (by decide) ?_
      refine lv_iconst (v := 0) hx hb dX0_tripValue_21 (by decide) ?_
      have eR := Option.some.inj h
      subst eR
      exact h_ifin hx hb hr hlk hR hS dX0_tripValue_22
  · cases o3 with
    | inl q => cases hq9
    | inr q6 =>
      cases hq9
      replace h := exr_o h
      by_cases c9 : q6.1 = 0
      · replace h := it_o c9 h
        have hce : ∃ ce : Cell, H[q6.2]? = some ce ∧ ce.vm = .none ∧ s.vm.findClass "java/lang/IndexOutOfBoundsException" = some ce.cls := by rw [c9] at hce; exact hce
        refine h_catch (E := "java/lang/IndexOutOfBoundsException") hown hTb rfl (by decide) (by decide) rfl (hts _ q1941) (hK.ca 7 rfl) hce ?_
        refine lv_astore (lv' := [(4, .ref (q6.2)), (0, .ref v0), (1, .int v1), (2, .int v2), (3, .ref v3)]) hx hb dX0_tripValue_13 hl (by decide) rfl (fun ls hl => ?_)
        refine lv_iconst (v := 1) hx hb dX0_tripValue_15 (by decide) ?_
        have eR := Option.some.inj h
        subst eR
        exact h_ifin hx hb hr hlk hR hS dX0_tripValue_16
      · replace h := if_o c9 h
        by_cases c10 : q6.1 = 1
        · replace h := it_o c10 h
          have hce : ∃ ce : Cell, H[q6.2]? = some ce ∧ ce.vm = .none ∧ s.vm.findClass "java/lang/IllegalArgumentException" = some ce.cls := by rw [c10] at hce; exact hce
          refine h_catch2 (E := "java/lang/IllegalArgumentException") hown hTb rfl (by decide) (hts _ q1941) (hK.nc 0 rfl) (by decide) (by decide) rfl (hts _ q1914) (hK.ca 0 rfl) hce ?_
          refine lv_astore (lv' := [(4, .ref (q6.2)), (0, .ref v0), (1, .int v1), (2, .int v2), (3, .ref v3)]) hx hb dX0_tripValue_17 hl (by decide) rfl (fun ls hl => ?_)
          refine lv_iconst (v := 2) hx hb dX0_tripValue_19 (by decide) ?_
          have eR := Option.some.inj h
          subst eR
          exact h_ifin hx hb hr hlk hR hS dX0_tripValue_20
        · replace h := if_o c10 h
          exact (nomatch h)
theorem mX0_tripValue {l : Launch} {G : gE} {A : Nat → Prop} {v0 : Nat} {v1 : Int32} {v2 : Int32} {v3 : Nat} {w : WH} {r : (Int32 × WH)} (hl0 : l.stackTraces = false) (h : fX0_tripValue v0 v1 v2 v3 w = some r) : hMW l G A yX0_tripValue cX0_tripValue 5 (some .int) [(0, 10, 13, 19), (0, 10, 17, 13)] 9 164 [.ref v0, .int v1, .int v2, .ref v3] w (some (.int r.1)) r.2 :=
  h_ofW (by decide +kernel) (Nat.le_of_ble_eq_true rfl) (fun p e s m args below meth c ls B hnm hTb hR hS hl => bX0_tripValue_0 B hTb hl0 h hR hS hl)
noncomputable def fX0_setToll (v0 : Nat) (v1 : Int32) (v2 : Int32) (v3 : Nat) (w : WH) : Option ((Int32 × WH)) :=
  (hIs w v0 17).bind fun _ =>
  b2_ (fX1_setToll v0 v1 v2 w) fun o3 w1 => ex_ o3 (fun x5 =>
    (stJ w1 v3 0 (x5.toInt64)).bind fun w7 =>
    some (0, w7)) (fun q6 =>
    if q6.1 = 0 then (
      some (1, w1)
    ) else (
      if q6.1 = 1 then (
        some (2, w1)
      ) else (
        none
      )
    ))
theorem bX0_setToll_0 {p : Program} {l : Launch} {e : Env} {s : State} {m : MethodId} {args : Array Value} {below : List Frame} {meth : Method} {c : Code} {H : Heap} {locs : List Loc} {ls : Array Slot} {G : gE} {A : Nat → Prop} {w0 : WH} (B : gB G RX0 cX0_setToll 5 (some .int) p s m args meth c) (hTb : c.exceptionTable.toList = tableOf [(0, 10, 13, 19), (0, 10, 17, 13)]) (hl0 : l.stackTraces = false) {v0 : Nat} {v1 : Int32} {v2 : Int32} {v3 : Nat} {w : WH} {r : (Int32 × WH)} (h : fX0_setToll v0 v1 v2 v3 w = some r)   (hR : RepH G A w H) (hS : Cu A s w0 w H locs) (hl : lv_has ls 5 [(0, .ref v0), (1, .int v1), (2, .int v2), (3, .ref v3)]) : W p l e (hRm 16 355 w0) s m args below meth c H locs (wC w0 - wC w) (wS w0 - wS w) (hZ below args s G A w0 (some (.int r.1)) r.2) (F0 m 0 ls []) := by
  have B0 := B
  obtain ⟨hx, hb, hml, hown, hts, hr, hlk, hK⟩ := B0
  unfold fX0_setToll at h
  refine lv_aload_n hx hb dX0_setToll_0 rfl (lv_at hl 3 rfl) ?_
  refine lv_iconst (v := 0) hx hb dX0_setToll_1 (by decide) ?_
  refine lv_aload_n hx hb dX0_setToll_2 rfl (lv_at hl 0 rfl) ?_
  refine lv_iload_n hx hb dX0_setToll_3 rfl (lv_at hl 1 rfl) ?_
  refine lv_iload_n hx hb dX0_setToll_4 rfl (lv_at hl 2 rfl) ?_
  replace h := bo_o h
  obtain ⟨_, e2, h⟩ := h
  replace h := b2_o h
  obtain ⟨o3, w1, e4, h⟩ := h
  refine h_callVX 2 (ci := 17) (As := [.int v1, .int v2]) (rest := [.int 0, .ref v3]) (o := oI o3) (w' := w1) hx hb hml hown hts hK hR hS (Nat.le_refl _) (Nat.le_refl _) rfl e2 (mX1_setToll hl0 e4) (lw_V q1989 q1990 q1991 q112 q1992) (by decide +kernel) (Nat.le_of_ble_eq_true rfl) (Nat.le_of_ble_eq_true rfl) rfl hl.1 (Nat.le_of_ble_eq_true rfl) dX0_setToll_5 rfl (fun v9 hv9 H locs hR hS => ?_) (fun E9 q9 hq9 H locs hR hS hce => ?_)
  · cases o3 with
    | inr q => cases hv9
    | inl x5 =>
      cases hv9
      replace h := exl_o h
      refine W.eq (g2 := F0 m 8 ls [.int x5, .int 0, .ref v3]) rfl ?_
      refine lv_i2l hx hb dX0_setToll_8 rfl ?_
      replace h := bo_o h
      obtain ⟨w7, e8, h⟩ := h
      refine h_last hx hb hK hR hS e8 dX0_setToll_9 (fun H locs hR hS => ?_)
      refine lv_goto (tgt := 21) hx hb dX0_setToll_10 (by decide) ?_
      refine lv_iconst (v := 0) hx hb dX0_setToll_21 (by decide) ?_
      have eR := Option.some.inj h
      subst eR
      exact h_ifin hx hb hr hlk hR hS dX0_setToll_22
  · cases o3 with
    | inl q => cases hq9
    | inr q6 =>
      cases hq9
      replace h := exr_o h
      by_cases c9 : q6.1 = 0
      · replace h := it_o c9 h
        have hce : ∃ ce : Cell, H[q6.2]? = some ce ∧ ce.vm = .none ∧ s.vm.findClass "java/lang/IndexOutOfBoundsException" = some ce.cls := by rw [c9] at hce; exact hce
        refine h_catch (E := "java/lang/IndexOutOfBoundsException") hown hTb rfl (by decide) (by decide) rfl (hts _ q1941) (hK.ca 7 rfl) hce ?_
        refine lv_astore (lv' := [(4, .ref (q6.2)), (0, .ref v0), (1, .int v1), (2, .int v2), (3, .ref v3)]) hx hb dX0_setToll_13 hl (by decide) rfl (fun ls hl => ?_)
        refine lv_iconst (v := 1) hx hb dX0_setToll_15 (by decide) ?_
        have eR := Option.some.inj h
        subst eR
        exact h_ifin hx hb hr hlk hR hS dX0_setToll_16
      · replace h := if_o c9 h
        by_cases c10 : q6.1 = 1
        · replace h := it_o c10 h
          have hce : ∃ ce : Cell, H[q6.2]? = some ce ∧ ce.vm = .none ∧ s.vm.findClass "java/lang/IllegalArgumentException" = some ce.cls := by rw [c10] at hce; exact hce
          refine h_catch2 (E := "java/lang/IllegalArgumentException") hown hTb rfl (by decide) (hts _ q1941) (hK.nc 0 rfl) (by decide) (by decide) rfl (hts _ q1914) (hK.ca 0 rfl) hce ?_
          refine lv_astore (lv' := [(4, .ref (q6.2)), (0, .ref v0), (1, .int v1), (2, .int v2), (3, .ref v3)]) hx hb dX0_setToll_17 hl (by decide) rfl (fun ls hl => ?_)
          refine lv_iconst (v := 2) hx hb dX0_setToll_19 (by decide) ?_
          have eR := Option.some.inj h
          subst eR
          exact h_ifin hx hb hr hlk hR hS dX0_setToll_20
        · replace h := if_o c10 h
          exact (nomatch h)
theorem mX0_setToll {l : Launch} {G : gE} {A : Nat → Prop} {v0 : Nat} {v1 : Int32} {v2 : Int32} {v3 : Nat} {w : WH} {r : (Int32 × WH)} (hl0 : l.stackTraces = false) (h : fX0_setToll v0 v1 v2 v3 w = some r) : hMW l G A yX0_setToll cX0_setToll 5 (some .int) [(0, 10, 13, 19), (0, 10, 17, 13)] 16 355 [.ref v0, .int v1, .int v2, .ref v3] w (some (.int r.1)) r.2 :=
  h_ofW (by decide +kernel) (Nat.le_of_ble_eq_true rfl) (fun p e s m args below meth c ls B hnm hTb hR hS hl => bX0_setToll_0 B hTb hl0 h hR hS hl)
noncomputable def fX0_addTolls (v0 : Nat) (v1 : Int32) (v2 : Nat) (w : WH) : Option ((Int32 × WH)) :=
  (hIs w v0 17).bind fun _ =>
  b2_ (fX1_addTolls v0 v1 w) fun o3 w1 => ex_ o3 (fun x5 =>
    (stJ w1 v2 0 (x5.toInt64)).bind fun w7 =>
    some (0, w7)) (fun q6 =>
    if q6.1 = 1 then (
      some (1, w1)
    ) else (
      none
    ))
theorem bX0_addTolls_0 {p : Program} {l : Launch} {e : Env} {s : State} {m : MethodId} {args : Array Value} {below : List Frame} {meth : Method} {c : Code} {H : Heap} {locs : List Loc} {ls : Array Slot} {G : gE} {A : Nat → Prop} {w0 : WH} (B : gB G RX0 cX0_addTolls 4 (some .int) p s m args meth c) (hTb : c.exceptionTable.toList = tableOf [(0, 9, 12, 13)]) (hl0 : l.stackTraces = false) {v0 : Nat} {v1 : Int32} {v2 : Nat} {w : WH} {r : (Int32 × WH)} (h : fX0_addTolls v0 v1 v2 w = some r)   (hR : RepH G A w H) (hS : Cu A s w0 w H locs) (hl : lv_has ls 4 [(0, .ref v0), (1, .int v1), (2, .ref v2)]) : W p l e (hRm 16 357 w0) s m args below meth c H locs (wC w0 - wC w) (wS w0 - wS w) (hZ below args s G A w0 (some (.int r.1)) r.2) (F0 m 0 ls []) := by
  have B0 := B
  obtain ⟨hx, hb, hml, hown, hts, hr, hlk, hK⟩ := B0
  unfold fX0_addTolls at h
  refine lv_aload_n hx hb dX0_addTolls_0 rfl (lv_at hl 2 rfl) ?_
  refine lv_iconst (v := 0) hx hb dX0_addTolls_1 (by decide) ?_
  refine lv_aload_n hx hb dX0_addTolls_2 rfl (lv_at hl 0 rfl) ?_
  refine lv_iload_n hx hb dX0_addTolls_3 rfl (lv_at hl 1 rfl) ?_
  replace h := bo_o h
  obtain ⟨_, e2, h⟩ := h
  replace h := b2_o h
  obtain ⟨o3, w1, e4, h⟩ := h
  refine h_callVX 1 (ci := 17) (As := [.int v1]) (rest := [.int 0, .ref v2]) (o := oI o3) (w' := w1) hx hb hml hown hts hK hR hS (Nat.le_refl _) (Nat.le_refl _) rfl e2 (mX1_addTolls hl0 e4) (lw_V q1999 q2000 q2001 q112 q2002) (by decide +kernel) (Nat.le_of_ble_eq_true rfl) (Nat.le_of_ble_eq_true rfl) rfl hl.1 (Nat.le_of_ble_eq_true rfl) dX0_addTolls_4 rfl (fun v9 hv9 H locs hR hS => ?_) (fun E9 q9 hq9 H locs hR hS hce => ?_)
  · cases o3 with
    | inr q => cases hv9
    | inl x5 =>
      cases hv9
      replace h := exl_o h
      refine W.eq (g2 := F0 m 7 ls [.int x5, .int 0, .ref v2]) rfl ?_
      refine lv_i2l hx hb dX0_addTolls_7 rfl ?_
      replace h := bo_o h
      obtain ⟨w7, e8, h⟩ := h
      refine h_last hx hb hK hR hS e8 dX0_addTolls_8 (fun H locs hR hS => ?_)
      refine lv_goto (tgt := 15) hx hb dX0_addTolls_9 (by decide) ?_
      refine lv_iconst (v := 0) hx hb dX0_addTolls_15 (by decide) ?_
      have eR := Option.some.inj h
      subst eR
      exact h_ifin hx hb hr hlk hR hS dX0_addTolls_16
  · cases o3 with
    | inl q => cases hq9
    | inr q6 =>
      cases hq9
      replace h := exr_o h
      by_cases c9 : q6.1 = 1
      · replace h := it_o c9 h
        have hce : ∃ ce : Cell, H[q6.2]? = some ce ∧ ce.vm = .none ∧ s.vm.findClass "java/lang/IllegalArgumentException" = some ce.cls := by rw [c9] at hce; exact hce
        refine h_catch (E := "java/lang/IllegalArgumentException") hown hTb rfl (by decide) (by decide) rfl (hts _ q1914) (hK.ca 0 rfl) hce ?_
        refine lv_astore_n (lv' := [(3, .ref (q6.2)), (0, .ref v0), (1, .int v1), (2, .ref v2)]) hx hb dX0_addTolls_12 rfl hl (by decide) rfl (fun ls hl => ?_)
        refine lv_iconst (v := 1) hx hb dX0_addTolls_13 (by decide) ?_
        have eR := Option.some.inj h
        subst eR
        exact h_ifin hx hb hr hlk hR hS dX0_addTolls_14
      · replace h := if_o c9 h
        exact (nomatch h)
theorem mX0_addTolls {l : Launch} {G : gE} {A : Nat → Prop} {v0 : Nat} {v1 : Int32} {v2 : Nat} {w : WH} {r : (Int32 × WH)} (hl0 : l.stackTraces = false) (h : fX0_addTolls v0 v1 v2 w = some r) : hMW l G A yX0_addTolls cX0_addTolls 4 (some .int) [(0, 9, 12, 13)] 16 357 [.ref v0, .int v1, .ref v2] w (some (.int r.1)) r.2 :=
  h_ofW (by decide +kernel) (Nat.le_of_ble_eq_true rfl) (fun p e s m args below meth c ls B hnm hTb hR hS hl => bX0_addTolls_0 B hTb hl0 h hR hS hl)
noncomputable def fX0_setDemand (v0 : Nat) (v1 : Int32) (v2 : Int32) (v3 : Nat) (w : WH) : Option ((Int32 × WH)) :=
  (hIs w v0 17).bind fun _ =>
  b2_ (fX1_setDemand v0 v1 v2 w) fun o3 w1 => ex_ o3 (fun x5 =>
    (stJ w1 v3 0 (x5.toInt64)).bind fun w7 =>
    some (0, w7)) (fun q6 =>
    if q6.1 = 0 then (
      some (1, w1)
    ) else (
      if q6.1 = 1 then (
        some (2, w1)
      ) else (
        none
      )
    ))
theorem bX0_setDemand_0 {p : Program} {l : Launch} {e : Env} {s : State} {m : MethodId} {args : Array Value} {below : List Frame} {meth : Method} {c : Code} {H : Heap} {locs : List Loc} {ls : Array Slot} {G : gE} {A : Nat → Prop} {w0 : WH} (B : gB G RX0 cX0_setDemand 5 (some .int) p s m args meth c) (hTb : c.exceptionTable.toList = tableOf [(0, 10, 13, 19), (0, 10, 17, 13)]) (hl0 : l.stackTraces = false) {v0 : Nat} {v1 : Int32} {v2 : Int32} {v3 : Nat} {w : WH} {r : (Int32 × WH)} (h : fX0_setDemand v0 v1 v2 v3 w = some r)   (hR : RepH G A w H) (hS : Cu A s w0 w H locs) (hl : lv_has ls 5 [(0, .ref v0), (1, .int v1), (2, .int v2), (3, .ref v3)]) : W p l e (hRm 16 355 w0) s m args below meth c H locs (wC w0 - wC w) (wS w0 - wS w) (hZ below args s G A w0 (some (.int r.1)) r.2) (F0 m 0 ls []) := by
  have B0 := B
  obtain ⟨hx, hb, hml, hown, hts, hr, hlk, hK⟩ := B0
  unfold fX0_setDemand at h
  refine lv_aload_n hx hb dX0_setDemand_0 rfl (lv_at hl 3 rfl) ?_
  refine lv_iconst (v := 0) hx hb dX0_setDemand_1 (by decide) ?_
  refine lv_aload_n hx hb dX0_setDemand_2 rfl (lv_at hl 0 rfl) ?_
  refine lv_iload_n hx hb dX0_setDemand_3 rfl (lv_at hl 1 rfl) ?_
  refine lv_iload_n hx hb dX0_setDemand_4 rfl (lv_at hl 2 rfl) ?_
  replace h := bo_o h
  obtain ⟨_, e2, h⟩ := h
  replace h := b2_o h
  obtain ⟨o3, w1, e4, h⟩ := h
  refine h_callVX 2 (ci := 17) (As := [.int v1, .int v2]) (rest := [.int 0, .ref v3]) (o := oI o3) (w' := w1) hx hb hml hown hts hK hR hS (Nat.le_refl _) (Nat.le_refl _) rfl e2 (mX1_setDemand hl0 e4) (lw_V q2009 q2010 q2011 q112 q2012) (by decide +kernel) (Nat.le_of_ble_eq_true rfl) (Nat.le_of_ble_eq_true rfl) rfl hl.1 (Nat.le_of_ble_eq_true rfl) dX0_setDemand_5 rfl (fun v9 hv9 H locs hR hS => ?_) (fun E9 q9 hq9 H locs hR hS hce => ?_)
  · cases o3 with
    | inr q => cases hv9
    | inl x5 =>
      cases hv9
      replace h := exl_o h
      refine W.eq (g2 := F0 m 8 ls [.int x5, .int 0, .ref v3]) rfl ?_
      refine lv_i2l hx hb dX0_setDemand_8 rfl ?_
      replace h := bo_o h
      obtain ⟨w7, e8, h⟩ := h
      refine h_last hx hb hK hR hS e8 dX0_setDemand_9 (fun H locs hR hS => ?_)
      refine lv_goto (tgt := 21) hx hb dX0_setDemand_10 (by decide) ?_
      refine lv_iconst (v := 0) hx hb dX0_setDemand_21 (by decide) ?_
      have eR := Option.some.inj h
      subst eR
      exact h_ifin hx hb hr hlk hR hS dX0_setDemand_22
  · cases o3 with
    | inl q => cases hq9
    | inr q6 =>
      cases hq9
      replace h := exr_o h
      by_cases c9 : q6.1 = 0
      · replace h := it_o c9 h
        have hce : ∃ ce : Cell, H[q6.2]? = some ce ∧ ce.vm = .none ∧ s.vm.findClass "java/lang/IndexOutOfBoundsException" = some ce.cls := by rw [c9] at hce; exact hce
        refine h_catch (E := "java/lang/IndexOutOfBoundsException") hown hTb rfl (by decide) (by decide) rfl (hts _ q1941) (hK.ca 7 rfl) hce ?_
        refine lv_astore (lv' := [(4, .ref (q6.2)), (0, .ref v0), (1, .int v1), (2, .int v2), (3, .ref v3)]) hx hb dX0_setDemand_13 hl (by decide) rfl (fun ls hl => ?_)
        refine lv_iconst (v := 1) hx hb dX0_setDemand_15 (by decide) ?_
        have eR := Option.some.inj h
        subst eR
        exact h_ifin hx hb hr hlk hR hS dX0_setDemand_16
      · replace h := if_o c9 h
        by_cases c10 : q6.1 = 1
        · replace h := it_o c10 h
          have hce : ∃ ce : Cell, H[q6.2]? = some ce ∧ ce.vm = .none ∧ s.vm.findClass "java/lang/IllegalArgumentException" = some ce.cls := by rw [c10] at hce; exact hce
          refine h_catch2 (E := "java/lang/IllegalArgumentException") hown hTb rfl (by decide) (hts _ q1941) (hK.nc 0 rfl) (by decide) (by decide) rfl (hts _ q1914) (hK.ca 0 rfl) hce ?_
          refine lv_astore (lv' := [(4, .ref (q6.2)), (0, .ref v0), (1, .int v1), (2, .int v2), (3, .ref v3)]) hx hb dX0_setDemand_17 hl (by decide) rfl (fun ls hl => ?_)
          refine lv_iconst (v := 2) hx hb dX0_setDemand_19 (by decide) ?_
          have eR := Option.some.inj h
          subst eR
          exact h_ifin hx hb hr hlk hR hS dX0_setDemand_20
        · replace h := if_o c10 h
          exact (nomatch h)
theorem mX0_setDemand {l : Launch} {G : gE} {A : Nat → Prop} {v0 : Nat} {v1 : Int32} {v2 : Int32} {v3 : Nat} {w : WH} {r : (Int32 × WH)} (hl0 : l.stackTraces = false) (h : fX0_setDemand v0 v1 v2 v3 w = some r) : hMW l G A yX0_setDemand cX0_setDemand 5 (some .int) [(0, 10, 13, 19), (0, 10, 17, 13)] 16 355 [.ref v0, .int v1, .int v2, .ref v3] w (some (.int r.1)) r.2 :=
  h_ofW (by decide +kernel) (Nat.le_of_ble_eq_true rfl) (fun p e s m args below meth c ls B hnm hTb hR hS hl => bX0_setDemand_0 B hTb hl0 h hR hS hl)
noncomputable def fX0_close_b16 (s0 : Nat) (s1 : Int32) (s2 : Int64) (w : WH) : Option ((Int32 × WH)) :=
  (stJ w s0 s1 s2).bind fun w1 =>
  some (0, w1)
theorem bX0_close_16 {p : Program} {l : Launch} {e : Env} {s : State} {m : MethodId} {args : Array Value} {below : List Frame} {meth : Method} {c : Code} {H : Heap} {locs : List Loc} {ls : Array Slot} {G : gE} {A : Nat → Prop} {w0 : WH} (B : gB G RX0 cX0_close 5 (some .int) p s m args meth c) (hTb : c.exceptionTable.toList = tableOf [(0, 17, 20, 19)]) (hl0 : l.stackTraces = false) {s0 : Nat} {s1 : Int32} {s2 : Int64} {w : WH} {r : (Int32 × WH)} (h : fX0_close_b16 s0 s1 s2 w = some r)   (hR : RepH G A w H) (hS : Cu A s w0 w H locs) (hl : lv_has ls 5 []) : W p l e (hRm 16 355 w0) s m args below meth c H locs (wC w0 - wC w) (wS w0 - wS w) (hZ below args s G A w0 (some (.int r.1)) r.2) (F0 m 16 ls [.long s2, .int s1, .ref s0]) := by
  have B0 := B
  obtain ⟨hx, hb, hml, hown, hts, hr, hlk, hK⟩ := B0
  unfold fX0_close_b16 at h
  replace h := bo_o h
  obtain ⟨w1, e2, h⟩ := h
  refine h_last hx hb hK hR hS e2 dX0_close_16 (fun H locs hR hS => ?_)
  refine lv_goto (tgt := 24) hx hb dX0_close_17 (by decide) ?_
  refine lv_iconst (v := 0) hx hb dX0_close_24 (by decide) ?_
  have eR := Option.some.inj h
  subst eR
  exact h_ifin hx hb hr hlk hR hS dX0_close_25
noncomputable def fX0_close (v0 : Nat) (v1 : Int32) (v2 : Int32) (v3 : Nat) (w : WH) : Option ((Int32 × WH)) :=
  (hIs w v0 17).bind fun _ =>
  b2_ (fX1_close v0 v1 v2 w) fun o3 w1 => ex_ o3 (fun x5 =>
    if x5 = 0 then (
      fX0_close_b16 v3 0 0 w1
    ) else (
      fX0_close_b16 v3 0 1 w1
    )) (fun q6 =>
    if q6.1 = 0 then (
      some (1, w1)
    ) else (
      none
    ))
theorem bX0_close_0 {p : Program} {l : Launch} {e : Env} {s : State} {m : MethodId} {args : Array Value} {below : List Frame} {meth : Method} {c : Code} {H : Heap} {locs : List Loc} {ls : Array Slot} {G : gE} {A : Nat → Prop} {w0 : WH} (B : gB G RX0 cX0_close 5 (some .int) p s m args meth c) (hTb : c.exceptionTable.toList = tableOf [(0, 17, 20, 19)]) (hl0 : l.stackTraces = false) {v0 : Nat} {v1 : Int32} {v2 : Int32} {v3 : Nat} {w : WH} {r : (Int32 × WH)} (h : fX0_close v0 v1 v2 v3 w = some r)   (hR : RepH G A w H) (hS : Cu A s w0 w H locs) (hl : lv_has ls 5 [(0, .ref v0), (1, .int v1), (2, .int v2), (3, .ref v3)]) : W p l e (hRm 16 355 w0) s m args below meth c H locs (wC w0 - wC w) (wS w0 - wS w) (hZ below args s G A w0 (some (.int r.1)) r.2) (F0 m 0 ls []) := by
  have B0 := B
  obtain ⟨hx, hb, hml, hown, hts, hr, hlk, hK⟩ := B0
  unfold fX0_close at h
  refine lv_aload_n hx hb dX0_close_0 rfl (lv_at hl 3 rfl) ?_
  refine lv_iconst (v := 0) hx hb dX0_close_1 (by decide) ?_
  refine lv_aload_n hx hb dX0_close_2 rfl (lv_at hl 0 rfl) ?_
  refine lv_iload_n hx hb dX0_close_3 rfl (lv_at hl 1 rfl) ?_
  refine lv_iload_n hx hb dX0_close_4 rfl (lv_at hl 2 rfl) ?_
  replace h := bo_o h
  obtain ⟨_, e2, h⟩ := h
  replace h := b2_o h
  obtain ⟨o3, w1, e4, h⟩ := h
  refine h_callVX 2 (ci := 17) (As := [.int v1, .int v2]) (rest := [.int 0, .ref v3]) (o := oI o3) (w' := w1) hx hb hml hown hts hK hR hS (Nat.le_refl _) (Nat.le_refl _) rfl e2 (mX1_close hl0 e4) (lw_V q2017 q2018 q2019 q112 q2020) (by decide +kernel) (Nat.le_of_ble_eq_true rfl) (Nat.le_of_ble_eq_true rfl) rfl hl.1 (Nat.le_of_ble_eq_true rfl) dX0_close_5 rfl (fun v9 hv9 H locs hR hS => ?_) (fun E9 q9 hq9 H locs hR hS hce => ?_)
  · cases o3 with
    | inr q => cases hv9
    | inl x5 =>
      cases hv9
      replace h := exl_o h
      refine W.eq (g2 := F0 m 8 ls [.int x5, .int 0, .ref v3]) rfl ?_
      refine lv_if_eq (tgt := 15) hx hb dX0_close_8 (by decide) (fun c7 => ?_) (fun c7 => ?_)
      · replace h := it_o c7 h
        refine lv_lconst (v := 0) hx hb dX0_close_15 (by decide) ?_
        exact bX0_close_16 B hTb hl0 h  hR hS (lv_sub hl [] rfl)
      · replace h := if_o c7 h
        refine lv_lconst (v := 1) hx hb dX0_close_11 (by decide) ?_
        refine lv_goto (tgt := 16) hx hb dX0_close_12 (by decide) ?_
        exact bX0_close_16 B hTb hl0 h  hR hS (lv_sub hl [] rfl)
  · cases o3 with
    | inl q => cases hq9
    | inr q6 =>
      cases hq9
      replace h := exr_o h
      by_cases c8 : q6.1 = 0
      · replace h := it_o c8 h
        have hce : ∃ ce : Cell, H[q6.2]? = some ce ∧ ce.vm = .none ∧ s.vm.findClass "java/lang/IndexOutOfBoundsException" = some ce.cls := by rw [c8] at hce; exact hce
        refine h_catch (E := "java/lang/IndexOutOfBoundsException") hown hTb rfl (by decide) (by decide) rfl (hts _ q1941) (hK.ca 7 rfl) hce ?_
        refine lv_astore (lv' := [(4, .ref (q6.2)), (0, .ref v0), (1, .int v1), (2, .int v2), (3, .ref v3)]) hx hb dX0_close_20 hl (by decide) rfl (fun ls hl => ?_)
        refine lv_iconst (v := 1) hx hb dX0_close_22 (by decide) ?_
        have eR := Option.some.inj h
        subst eR
        exact h_ifin hx hb hr hlk hR hS dX0_close_23
      · replace h := if_o c8 h
        exact (nomatch h)
theorem mX0_close {l : Launch} {G : gE} {A : Nat → Prop} {v0 : Nat} {v1 : Int32} {v2 : Int32} {v3 : Nat} {w : WH} {r : (Int32 × WH)} (hl0 : l.stackTraces = false) (h : fX0_close v0 v1 v2 v3 w = some r) : hMW l G A yX0_close cX0_close 5 (some .int) [(0, 17, 20, 19)] 16 355 [.ref v0, .int v1, .int v2, .ref v3] w (some (.int r.1)) r.2 :=
  h_ofW (by decide +kernel) (Nat.le_of_ble_eq_true rfl) (fun p e s m args below meth c ls B hnm hTb hR hS hl => bX0_close_0 B hTb hl0 h hR hS hl)
noncomputable def fX0_hasPath_b15 (s0 : Nat) (s1 : Int32) (s2 : Int64) (w : WH) : Option ((Int32 × WH)) :=
  (stJ w s0 s1 s2).bind fun w1 =>
  some (0, w1)
theorem bX0_hasPath_15 {p : Program} {l : Launch} {e : Env} {s : State} {m : MethodId} {args : Array Value} {below : List Frame} {meth : Method} {c : Code} {H : Heap} {locs : List Loc} {ls : Array Slot} {G : gE} {A : Nat → Prop} {w0 : WH} (B : gB G RX0 cX0_hasPath 4 (some .int) p s m args meth c) (hTb : c.exceptionTable.toList = tableOf [(0, 16, 19, 19)]) (hl0 : l.stackTraces = false) {s0 : Nat} {s1 : Int32} {s2 : Int64} {w : WH} {r : (Int32 × WH)} (h : fX0_hasPath_b15 s0 s1 s2 w = some r)   (hR : RepH G A w H) (hS : Cu A s w0 w H locs) (hl : lv_has ls 4 []) : W p l e (hRm 19 431 w0) s m args below meth c H locs (wC w0 - wC w) (wS w0 - wS w) (hZ below args s G A w0 (some (.int r.1)) r.2) (F0 m 15 ls [.long s2, .int s1, .ref s0]) := by
  have B0 := B
  obtain ⟨hx, hb, hml, hown, hts, hr, hlk, hK⟩ := B0
  unfold fX0_hasPath_b15 at h
  replace h := bo_o h
  obtain ⟨w1, e2, h⟩ := h
  refine h_last hx hb hK hR hS e2 dX0_hasPath_15 (fun H locs hR hS => ?_)
  refine lv_goto (tgt := 22) hx hb dX0_hasPath_16 (by decide) ?_
  refine lv_iconst (v := 0) hx hb dX0_hasPath_22 (by decide) ?_
  have eR := Option.some.inj h
  subst eR
  exact h_ifin hx hb hr hlk hR hS dX0_hasPath_23
noncomputable def fX0_hasPath (v0 : Nat) (v1 : Int32) (v2 : Nat) (w : WH) : Option ((Int32 × WH)) :=
  (hIs w v0 17).bind fun _ =>
  b2_ (fX1_hasPath v0 v1 w) fun o3 w1 => ex_ o3 (fun x5 =>
    if x5 = 0 then (
      fX0_hasPath_b15 v2 0 0 w1
    ) else (
      fX0_hasPath_b15 v2 0 1 w1
    )) (fun q6 =>
    if q6.1 = 0 then (
      some (1, w1)
    ) else (
      none
    ))
theorem bX0_hasPath_0 {p : Program} {l : Launch} {e : Env} {s : State} {m : MethodId} {args : Array Value} {below : List Frame} {meth : Method} {c : Code} {H : Heap} {locs : List Loc} {ls : Array Slot} {G : gE} {A : Nat → Prop} {w0 : WH} (B : gB G RX0 cX0_hasPath 4 (some .int) p s m args meth c) (hTb : c.exceptionTable.toList = tableOf [(0, 16, 19, 19)]) (hl0 : l.stackTraces = false) {v0 : Nat} {v1 : Int32} {v2 : Nat} {w : WH} {r : (Int32 × WH)} (h : fX0_hasPath v0 v1 v2 w = some r)   (hR : RepH G A w H) (hS : Cu A s w0 w H locs) (hl : lv_has ls 4 [(0, .ref v0), (1, .int v1), (2, .ref v2)]) : W p l e (hRm 19 431 w0) s m args below meth c H locs (wC w0 - wC w) (wS w0 - wS w) (hZ below args s G A w0 (some (.int r.1)) r.2) (F0 m 0 ls []) := by
  have B0 := B
  obtain ⟨hx, hb, hml, hown, hts, hr, hlk, hK⟩ := B0
  unfold fX0_hasPath at h
  refine lv_aload_n hx hb dX0_hasPath_0 rfl (lv_at hl 2 rfl) ?_
  refine lv_iconst (v := 0) hx hb dX0_hasPath_1 (by decide) ?_
  refine lv_aload_n hx hb dX0_hasPath_2 rfl (lv_at hl 0 rfl) ?_
  refine lv_iload_n hx hb dX0_hasPath_3 rfl (lv_at hl 1 rfl) ?_
  replace h := bo_o h
  obtain ⟨_, e2, h⟩ := h
  replace h := b2_o h
  obtain ⟨o3, w1, e4, h⟩ := h
  refine h_callVX 1 (ci := 17) (As := [.int v1]) (rest := [.int 0, .ref v2]) (o := oI o3) (w' := w1) hx hb hml hown hts hK hR hS (Nat.le_refl _) (Nat.le_refl _) rfl e2 (mX1_hasPath hl0 e4) (lw_V q2034 q2035 q2036 q112 q2037) (by decide +kernel) (Nat.le_of_ble_eq_true rfl) (Nat.le_of_ble_eq_true rfl) rfl hl.1 (Nat.le_of_ble_eq_true rfl) dX0_hasPath_4 rfl (fun v9 hv9 H locs hR hS => ?_) (fun E9 q9 hq9 H locs hR hS hce => ?_)
  · cases o3 with
    | inr q => cases hv9
    | inl x5 =>
      cases hv9
      replace h := exl_o h
      refine W.eq (g2 := F0 m 7 ls [.int x5, .int 0, .ref v2]) rfl ?_
      refine lv_if_eq (tgt := 14) hx hb dX0_hasPath_7 (by decide) (fun c7 => ?_) (fun c7 => ?_)
      · replace h := it_o c7 h
        refine lv_lconst (v := 0) hx hb dX0_hasPath_14 (by decide) ?_
        exact bX0_hasPath_15 B hTb hl0 h  hR hS (lv_sub hl [] rfl)
      · replace h := if_o c7 h
        refine lv_lconst (v := 1) hx hb dX0_hasPath_10 (by decide) ?_
        refine lv_goto (tgt := 15) hx hb dX0_hasPath_11 (by decide) ?_
        exact bX0_hasPath_15 B hTb hl0 h  hR hS (lv_sub hl [] rfl)
  · cases o3 with
    | inl q => cases hq9
    | inr q6 =>
      cases hq9
      replace h := exr_o h
      by_cases c8 : q6.1 = 0
      · replace h := it_o c8 h
        have hce : ∃ ce : Cell, H[q6.2]? = some ce ∧ ce.vm = .none ∧ s.vm.findClass "java/lang/IndexOutOfBoundsException" = some ce.cls := by rw [c8] at hce; exact hce
        refine h_catch (E := "java/lang/IndexOutOfBoundsException") hown hTb rfl (by decide) (by decide) rfl (hts _ q1941) (hK.ca 7 rfl) hce ?_
        refine lv_astore_n (lv' := [(3, .ref (q6.2)), (0, .ref v0), (1, .int v1), (2, .ref v2)]) hx hb dX0_hasPath_19 rfl hl (by decide) rfl (fun ls hl => ?_)
        refine lv_iconst (v := 1) hx hb dX0_hasPath_20 (by decide) ?_
        have eR := Option.some.inj h
        subst eR
        exact h_ifin hx hb hr hlk hR hS dX0_hasPath_21
      · replace h := if_o c8 h
        exact (nomatch h)
theorem mX0_hasPath {l : Launch} {G : gE} {A : Nat → Prop} {v0 : Nat} {v1 : Int32} {v2 : Nat} {w : WH} {r : (Int32 × WH)} (hl0 : l.stackTraces = false) (h : fX0_hasPath v0 v1 v2 w = some r) : hMW l G A yX0_hasPath cX0_hasPath 4 (some .int) [(0, 16, 19, 19)] 19 431 [.ref v0, .int v1, .ref v2] w (some (.int r.1)) r.2 :=
  h_ofW (by decide +kernel) (Nat.le_of_ble_eq_true rfl) (fun p e s m args below meth c ls B hnm hTb hR hS hl => bX0_hasPath_0 B hTb hl0 h hR hS hl)
noncomputable def fX0_pathLength (v0 : Nat) (v1 : Int32) (v2 : Nat) (w : WH) : Option ((Int32 × WH)) :=
  (hIs w v0 17).bind fun _ =>
  b2_ (fX1_pathLength v0 v1 w) fun o3 w1 => ex_ o3 (fun x5 =>
    (stJ w1 v2 0 (x5.toInt64)).bind fun w7 =>
    some (0, w7)) (fun q6 =>
    if q6.1 = 0 then (
      some (1, w1)
    ) else (
      none
    ))
theorem bX0_pathLength_0 {p : Program} {l : Launch} {e : Env} {s : State} {m : MethodId} {args : Array Value} {below : List Frame} {meth : Method} {c : Code} {H : Heap} {locs : List Loc} {ls : Array Slot} {G : gE} {A : Nat → Prop} {w0 : WH} (B : gB G RX0 cX0_pathLength 4 (some .int) p s m args meth c) (hTb : c.exceptionTable.toList = tableOf [(0, 9, 12, 19)]) (hl0 : l.stackTraces = false) {v0 : Nat} {v1 : Int32} {v2 : Nat} {w : WH} {r : (Int32 × WH)} (h : fX0_pathLength v0 v1 v2 w = some r)   (hR : RepH G A w H) (hS : Cu A s w0 w H locs) (hl : lv_has ls 4 [(0, .ref v0), (1, .int v1), (2, .ref v2)]) : W p l e (hRm 20 455 w0) s m args below meth c H locs (wC w0 - wC w) (wS w0 - wS w) (hZ below args s G A w0 (some (.int r.1)) r.2) (F0 m 0 ls []) := by
  have B0 := B
  obtain ⟨hx, hb, hml, hown, hts, hr, hlk, hK⟩ := B0
  unfold fX0_pathLength at h
  refine lv_aload_n hx hb dX0_pathLength_0 rfl (lv_at hl 2 rfl) ?_
  refine lv_iconst (v := 0) hx hb dX0_pathLength_1 (by decide) ?_
  refine lv_aload_n hx hb dX0_pathLength_2 rfl (lv_at hl 0 rfl) ?_
  refine lv_iload_n hx hb dX0_pathLength_3 rfl (lv_at hl 1 rfl) ?_
  replace h := bo_o h
  obtain ⟨_, e2, h⟩ := h
  replace h := b2_o h
  obtain ⟨o3, w1, e4, h⟩ := h
  refine h_callVX 1 (ci := 17) (As := [.int v1]) (rest := [.int 0, .ref v2]) (o := oI o3) (w' := w1) hx hb hml hown hts hK hR hS (Nat.le_refl _) (Nat.le_refl _) rfl e2 (mX1_pathLength hl0 e4) (lw_V q2041 q2042 q2043 q112 q2044) (by decide +kernel) (Nat.le_of_ble_eq_true rfl) (Nat.le_of_ble_eq_true rfl) rfl hl.1 (Nat.le_of_ble_eq_true rfl) dX0_pathLength_4 rfl (fun v9 hv9 H locs hR hS => ?_) (fun E9 q9 hq9 H locs hR hS hce => ?_)
  · cases o3 with
    | inr q => cases hv9
    | inl x5 =>
      cases hv9
      replace h := exl_o h
      refine W.eq (g2 := F0 m 7 ls [.int x5, .int 0, .ref v2]) rfl ?_
      refine lv_i2l hx hb dX0_pathLength_7 rfl ?_
      replace h := bo_o h
      obtain ⟨w7, e8, h⟩ := h
      refine h_last hx hb hK hR hS e8 dX0_pathLength_8 (fun H locs hR hS => ?_)
      refine lv_goto (tgt := 15) hx hb dX0_pathLength_9 (by decide) ?_
      refine lv_iconst (v := 0) hx hb dX0_pathLength_15 (by decide) ?_
      have eR := Option.some.inj h
      subst eR
      exact h_ifin hx hb hr hlk hR hS dX0_pathLength_16
  · cases o3 with
    | inl q => cases hq9
    | inr q6 =>
      cases hq9
      replace h := exr_o h
      by_cases c9 : q6.1 = 0
      · replace h := it_o c9 h
        have hce : ∃ ce : Cell, H[q6.2]? = some ce ∧ ce.vm = .none ∧ s.vm.findClass "java/lang/IndexOutOfBoundsException" = some ce.cls := by rw [c9] at hce; exact hce
        refine h_catch (E := "java/lang/IndexOutOfBoundsException") hown hTb rfl (by decide) (by decide) rfl (hts _ q1941) (hK.ca 7 rfl) hce ?_
        refine lv_astore_n (lv' := [(3, .ref (q6.2)), (0, .ref v0), (1, .int v1), (2, .ref v2)]) hx hb dX0_pathLength_12 rfl hl (by decide) rfl (fun ls hl => ?_)
        refine lv_iconst (v := 1) hx hb dX0_pathLength_13 (by decide) ?_
        have eR := Option.some.inj h
        subst eR
        exact h_ifin hx hb hr hlk hR hS dX0_pathLength_14
      · replace h := if_o c9 h
        exact (nomatch h)
theorem mX0_pathLength {l : Launch} {G : gE} {A : Nat → Prop} {v0 : Nat} {v1 : Int32} {v2 : Nat} {w : WH} {r : (Int32 × WH)} (hl0 : l.stackTraces = false) (h : fX0_pathLength v0 v1 v2 w = some r) : hMW l G A yX0_pathLength cX0_pathLength 4 (some .int) [(0, 9, 12, 19)] 20 455 [.ref v0, .int v1, .ref v2] w (some (.int r.1)) r.2 :=
  h_ofW (by decide +kernel) (Nat.le_of_ble_eq_true rfl) (fun p e s m args below meth c ls B hnm hTb hR hS hl => bX0_pathLength_0 B hTb hl0 h hR hS hl)
noncomputable def fX0_pathArc (v0 : Nat) (v1 : Int32) (v2 : Int32) (v3 : Nat) (w : WH) : Option ((Int32 × WH)) :=
  (hIs w v0 17).bind fun _ =>
  b2_ (fX1_pathArc v0 v1 v2 w) fun o3 w1 => ex_ o3 (fun x5 =>
    (stJ w1 v3 0 (x5.toInt64)).bind fun w7 =>
    some (0, w7)) (fun q6 =>
    if q6.1 = 0 then (
      some (1, w1)
    ) else (
      none
    ))
theorem bX0_pathArc_0 {p : Program} {l : Launch} {e : Env} {s : State} {m : MethodId} {args : Array Value} {below : List Frame} {meth : Method} {c : Code} {H : Heap} {locs : List Loc} {ls : Array Slot} {G : gE} {A : Nat → Prop} {w0 : WH} (B : gB G RX0 cX0_pathArc 5 (some .int) p s m args meth c) (hTb : c.exceptionTable.toList = tableOf [(0, 10, 13, 19)]) (hl0 : l.stackTraces = false) {v0 : Nat} {v1 : Int32} {v2 : Int32} {v3 : Nat} {w : WH} {r : (Int32 × WH)} (h : fX0_pathArc v0 v1 v2 v3 w = some r)   (hR : RepH G A w H) (hS : Cu A s w0 w H locs) (hl : lv_has ls 5 [(0, .ref v0), (1, .int v1), (2, .int v2), (3, .ref v3)]) : W p l e (hRm 20 456 w0) s m args below meth c H locs (wC w0 - wC w) (wS w0 - wS w) (hZ below args s G A w0 (some (.int r.1)) r.2) (F0 m 0 ls []) := by
  have B0 := B
  obtain ⟨hx, hb, hml, hown, hts, hr, hlk, hK⟩ := B0
  unfold fX0_pathArc at h
  refine lv_aload_n hx hb dX0_pathArc_0 rfl (lv_at hl 3 rfl) ?_
  refine lv_iconst (v := 0) hx hb dX0_pathArc_1 (by decide) ?_
  refine lv_aload_n hx hb dX0_pathArc_2 rfl (lv_at hl 0 rfl) ?_
  refine lv_iload_n hx hb dX0_pathArc_3 rfl (lv_at hl 1 rfl) ?_
  refine lv_iload_n hx hb dX0_pathArc_4 rfl (lv_at hl 2 rfl) ?_
  replace h := bo_o h
  obtain ⟨_, e2, h⟩ := h
  replace h := b2_o h
  obtain ⟨o3, w1, e4, h⟩ := h
  refine h_callVX 2 (ci := 17) (As := [.int v1, .int v2]) (rest := [.int 0, .ref v3]) (o := oI o3) (w' := w1) hx hb hml hown hts hK hR hS (Nat.le_refl _) (Nat.le_refl _) rfl e2 (mX1_pathArc hl0 e4) (lw_V q2081 q2082 q2083 q112 q2084) (by decide +kernel) (Nat.le_of_ble_eq_true rfl) (Nat.le_of_ble_eq_true rfl) rfl hl.1 (Nat.le_of_ble_eq_true rfl) dX0_pathArc_5 rfl (fun v9 hv9 H locs hR hS => ?_) (fun E9 q9 hq9 H locs hR hS hce => ?_)
  · cases o3 with
    | inr q => cases hv9
    | inl x5 =>
      cases hv9
      replace h := exl_o h
      refine W.eq (g2 := F0 m 8 ls [.int x5, .int 0, .ref v3]) rfl ?_
      refine lv_i2l hx hb dX0_pathArc_8 rfl ?_
      replace h := bo_o h
      obtain ⟨w7, e8, h⟩ := h
      refine h_last hx hb hK hR hS e8 dX0_pathArc_9 (fun H locs hR hS => ?_)
      refine lv_goto (tgt := 17) hx hb dX0_pathArc_10 (by decide) ?_
      refine lv_iconst (v := 0) hx hb dX0_pathArc_17 (by decide) ?_
      have eR := Option.some.inj h
      subst eR
      exact h_ifin hx hb hr hlk hR hS dX0_pathArc_18
  · cases o3 with
    | inl q => cases hq9
    | inr q6 =>
      cases hq9
      replace h := exr_o h
      by_cases c9 : q6.1 = 0
      · replace h := it_o c9 h
        have hce : ∃ ce : Cell, H[q6.2]? = some ce ∧ ce.vm = .none ∧ s.vm.findClass "java/lang/IndexOutOfBoundsException" = some ce.cls := by rw [c9] at hce; exact hce
        refine h_catch (E := "java/lang/IndexOutOfBoundsException") hown hTb rfl (by decide) (by decide) rfl (hts _ q1941) (hK.ca 7 rfl) hce ?_
        refine lv_astore (lv' := [(4, .ref (q6.2)), (0, .ref v0), (1, .int v1), (2, .int v2), (3, .ref v3)]) hx hb dX0_pathArc_13 hl (by decide) rfl (fun ls hl => ?_)
        refine lv_iconst (v := 1) hx hb dX0_pathArc_15 (by decide) ?_
        have eR := Option.some.inj h
        subst eR
        exact h_ifin hx hb hr hlk hR hS dX0_pathArc_16
      · replace h := if_o c9 h
        exact (nomatch h)
theorem mX0_pathArc {l : Launch} {G : gE} {A : Nat → Prop} {v0 : Nat} {v1 : Int32} {v2 : Int32} {v3 : Nat} {w : WH} {r : (Int32 × WH)} (hl0 : l.stackTraces = false) (h : fX0_pathArc v0 v1 v2 v3 w = some r) : hMW l G A yX0_pathArc cX0_pathArc 5 (some .int) [(0, 10, 13, 19)] 20 456 [.ref v0, .int v1, .int v2, .ref v3] w (some (.int r.1)) r.2 :=
  h_ofW (by decide +kernel) (Nat.le_of_ble_eq_true rfl) (fun p e s m args below meth c ls B hnm hTb hR hS hl => bX0_pathArc_0 B hTb hl0 h hR hS hl)
noncomputable def fX0_pathCost (v0 : Nat) (v1 : Int32) (v2 : Nat) (w : WH) : Option ((Int32 × WH)) :=
  (hIs w v0 17).bind fun _ =>
  b2_ (fX1_pathCost v0 v1 w) fun o3 w1 => ex_ o3 (fun x5 =>
    (stJ w1 v2 0 (x5.toInt64)).bind fun w7 =>
    some (0, w7)) (fun q6 =>
    if q6.1 = 0 then (
      some (1, w1)
    ) else (
      none
    ))
theorem bX0_pathCost_0 {p : Program} {l : Launch} {e : Env} {s : State} {m : MethodId} {args : Array Value} {below : List Frame} {meth : Method} {c : Code} {H : Heap} {locs : List Loc} {ls : Array Slot} {G : gE} {A : Nat → Prop} {w0 : WH} (B : gB G RX0 cX0_pathCost 4 (some .int) p s m args meth c) (hTb : c.exceptionTable.toList = tableOf [(0, 9, 12, 19)]) (hl0 : l.stackTraces = false) {v0 : Nat} {v1 : Int32} {v2 : Nat} {w : WH} {r : (Int32 × WH)} (h : fX0_pathCost v0 v1 v2 w = some r)   (hR : RepH G A w H) (hS : Cu A s w0 w H locs) (hl : lv_has ls 4 [(0, .ref v0), (1, .int v1), (2, .ref v2)]) : W p l e (hRm 19 431 w0) s m args below meth c H locs (wC w0 - wC w) (wS w0 - wS w) (hZ below args s G A w0 (some (.int r.1)) r.2) (F0 m 0 ls []) := by
  have B0 := B
  obtain ⟨hx, hb, hml, hown, hts, hr, hlk, hK⟩ := B0
  unfold fX0_pathCost at h
  refine lv_aload_n hx hb dX0_pathCost_0 rfl (lv_at hl 2 rfl) ?_
  refine lv_iconst (v := 0) hx hb dX0_pathCost_1 (by decide) ?_
  refine lv_aload_n hx hb dX0_pathCost_2 rfl (lv_at hl 0 rfl) ?_
  refine lv_iload_n hx hb dX0_pathCost_3 rfl (lv_at hl 1 rfl) ?_
  replace h := bo_o h
  obtain ⟨_, e2, h⟩ := h
  replace h := b2_o h
  obtain ⟨o3, w1, e4, h⟩ := h
  refine h_callVX 1 (ci := 17) (As := [.int v1]) (rest := [.int 0, .ref v2]) (o := oI o3) (w' := w1) hx hb hml hown hts hK hR hS (Nat.le_refl _) (Nat.le_refl _) rfl e2 (mX1_pathCost hl0 e4) (lw_V q2089 q2090 q2091 q112 q2092) (by decide +kernel) (Nat.le_of_ble_eq_true rfl) (Nat.le_of_ble_eq_true rfl) rfl hl.1 (Nat.le_of_ble_eq_true rfl) dX0_pathCost_4 rfl (fun v9 hv9 H locs hR hS => ?_) (fun E9 q9 hq9 H locs hR hS hce => ?_)
  · cases o3 with
    | inr q => cases hv9
    | inl x5 =>
      cases hv9
      replace h := exl_o h
      refine W.eq (g2 := F0 m 7 ls [.int x5, .int 0, .ref v2]) rfl ?_
      refine lv_i2l hx hb dX0_pathCost_7 rfl ?_
      replace h := bo_o h
      obtain ⟨w7, e8, h⟩ := h
      refine h_last hx hb hK hR hS e8 dX0_pathCost_8 (fun H locs hR hS => ?_)
      refine lv_goto (tgt := 15) hx hb dX0_pathCost_9 (by decide) ?_
      refine lv_iconst (v := 0) hx hb dX0_pathCost_15 (by decide) ?_
      have eR := Option.some.inj h
      subst eR
      exact h_ifin hx hb hr hlk hR hS dX0_pathCost_16
  · cases o3 with
    | inl q => cases hq9
    | inr q6 =>
      cases hq9
      replace h := exr_o h
      by_cases c9 : q6.1 = 0
      · replace h := it_o c9 h
        have hce : ∃ ce : Cell, H[q6.2]? = some ce ∧ ce.vm = .none ∧ s.vm.findClass "java/lang/IndexOutOfBoundsException" = some ce.cls := by rw [c9] at hce; exact hce
        refine h_catch (E := "java/lang/IndexOutOfBoundsException") hown hTb rfl (by decide) (by decide) rfl (hts _ q1941) (hK.ca 7 rfl) hce ?_
        refine lv_astore_n (lv' := [(3, .ref (q6.2)), (0, .ref v0), (1, .int v1), (2, .ref v2)]) hx hb dX0_pathCost_12 rfl hl (by decide) rfl (fun ls hl => ?_)
        refine lv_iconst (v := 1) hx hb dX0_pathCost_13 (by decide) ?_
        have eR := Option.some.inj h
        subst eR
        exact h_ifin hx hb hr hlk hR hS dX0_pathCost_14
      · replace h := if_o c9 h
        exact (nomatch h)
theorem mX0_pathCost {l : Launch} {G : gE} {A : Nat → Prop} {v0 : Nat} {v1 : Int32} {v2 : Nat} {w : WH} {r : (Int32 × WH)} (hl0 : l.stackTraces = false) (h : fX0_pathCost v0 v1 v2 w = some r) : hMW l G A yX0_pathCost cX0_pathCost 4 (some .int) [(0, 9, 12, 19)] 19 431 [.ref v0, .int v1, .ref v2] w (some (.int r.1)) r.2 :=
  h_ofW (by decide +kernel) (Nat.le_of_ble_eq_true rfl) (fun p e s m args below meth c ls B hnm hTb hR hS hl => bX0_pathCost_0 B hTb hl0 h hR hS hl)
noncomputable def fX0_pathToll (v0 : Nat) (v1 : Int32) (v2 : Nat) (w : WH) : Option ((Int32 × WH)) :=
  (hIs w v0 17).bind fun _ =>
  b2_ (fX1_pathToll v0 v1 w) fun o3 w1 => ex_ o3 (fun x5 =>
    (stJ w1 v2 0 (x5.toInt64)).bind fun w7 =>
    some (0, w7)) (fun q6 =>
    if q6.1 = 0 then (
      some (1, w1)
    ) else (
      none
    ))
theorem bX0_pathToll_0 {p : Program} {l : Launch} {e : Env} {s : State} {m : MethodId} {args : Array Value} {below : List Frame} {meth : Method} {c : Code} {H : Heap} {locs : List Loc} {ls : Array Slot} {G : gE} {A : Nat → Prop} {w0 : WH} (B : gB G RX0 cX0_pathToll 4 (some .int) p s m args meth c) (hTb : c.exceptionTable.toList = tableOf [(0, 9, 12, 19)]) (hl0 : l.stackTraces = false) {v0 : Nat} {v1 : Int32} {v2 : Nat} {w : WH} {r : (Int32 × WH)} (h : fX0_pathToll v0 v1 v2 w = some r)   (hR : RepH G A w H) (hS : Cu A s w0 w H locs) (hl : lv_has ls 4 [(0, .ref v0), (1, .int v1), (2, .ref v2)]) : W p l e (hRm 19 431 w0) s m args below meth c H locs (wC w0 - wC w) (wS w0 - wS w) (hZ below args s G A w0 (some (.int r.1)) r.2) (F0 m 0 ls []) := by
  have B0 := B
  obtain ⟨hx, hb, hml, hown, hts, hr, hlk, hK⟩ := B0
  unfold fX0_pathToll at h
  refine lv_aload_n hx hb dX0_pathToll_0 rfl (lv_at hl 2 rfl) ?_
  refine lv_iconst (v := 0) hx hb dX0_pathToll_1 (by decide) ?_
  refine lv_aload_n hx hb dX0_pathToll_2 rfl (lv_at hl 0 rfl) ?_
  refine lv_iload_n hx hb dX0_pathToll_3 rfl (lv_at hl 1 rfl) ?_
  replace h := bo_o h
  obtain ⟨_, e2, h⟩ := h
  replace h := b2_o h
  obtain ⟨o3, w1, e4, h⟩ := h
  refine h_callVX 1 (ci := 17) (As := [.int v1]) (rest := [.int 0, .ref v2]) (o := oI o3) (w' := w1) hx hb hml hown hts hK hR hS (Nat.le_refl _) (Nat.le_refl _) rfl e2 (mX1_pathToll hl0 e4) (lw_V q2101 q2102 q2103 q112 q2104) (by decide +kernel) (Nat.le_of_ble_eq_true rfl) (Nat.le_of_ble_eq_true rfl) rfl hl.1 (Nat.le_of_ble_eq_true rfl) dX0_pathToll_4 rfl (fun v9 hv9 H locs hR hS => ?_) (fun E9 q9 hq9 H locs hR hS hce => ?_)
  · cases o3 with
    | inr q => cases hv9
    | inl x5 =>
      cases hv9
      replace h := exl_o h
      refine W.eq (g2 := F0 m 7 ls [.int x5, .int 0, .ref v2]) rfl ?_
      refine lv_i2l hx hb dX0_pathToll_7 rfl ?_
      replace h := bo_o h
      obtain ⟨w7, e8, h⟩ := h
      refine h_last hx hb hK hR hS e8 dX0_pathToll_8 (fun H locs hR hS => ?_)
      refine lv_goto (tgt := 15) hx hb dX0_pathToll_9 (by decide) ?_
      refine lv_iconst (v := 0) hx hb dX0_pathToll_15 (by decide) ?_
      have eR := Option.some.inj h
      subst eR
      exact h_ifin hx hb hr hlk hR hS dX0_pathToll_16
  · cases o3 with
    | inl q => cases hq9
    | inr q6 =>
      cases hq9
      replace h := exr_o h
      by_cases c9 : q6.1 = 0
      · replace h := it_o c9 h
        have hce : ∃ ce : Cell, H[q6.2]? = some ce ∧ ce.vm = .none ∧ s.vm.findClass "java/lang/IndexOutOfBoundsException" = some ce.cls := by rw [c9] at hce; exact hce
        refine h_catch (E := "java/lang/IndexOutOfBoundsException") hown hTb rfl (by decide) (by decide) rfl (hts _ q1941) (hK.ca 7 rfl) hce ?_
        refine lv_astore_n (lv' := [(3, .ref (q6.2)), (0, .ref v0), (1, .int v1), (2, .ref v2)]) hx hb dX0_pathToll_12 rfl hl (by decide) rfl (fun ls hl => ?_)
        refine lv_iconst (v := 1) hx hb dX0_pathToll_13 (by decide) ?_
        have eR := Option.some.inj h
        subst eR
        exact h_ifin hx hb hr hlk hR hS dX0_pathToll_14
      · replace h := if_o c9 h
        exact (nomatch h)
theorem mX0_pathToll {l : Launch} {G : gE} {A : Nat → Prop} {v0 : Nat} {v1 : Int32} {v2 : Nat} {w : WH} {r : (Int32 × WH)} (hl0 : l.stackTraces = false) (h : fX0_pathToll v0 v1 v2 w = some r) : hMW l G A yX0_pathToll cX0_pathToll 4 (some .int) [(0, 9, 12, 19)] 19 431 [.ref v0, .int v1, .ref v2] w (some (.int r.1)) r.2 :=
  h_ofW (by decide +kernel) (Nat.le_of_ble_eq_true rfl) (fun p e s m args below meth c ls B hnm hTb hR hS hl => bX0_pathToll_0 B hTb hl0 h hR hS hl)
noncomputable def fX0_felt (v0 : Nat) (v1 : Int32) (v2 : Nat) (w : WH) : Option ((Int32 × WH)) :=
  (hIs w v0 17).bind fun _ =>
  b2_ (fX1_felt v0 v1 w) fun o3 w1 => ex_ o3 (fun x5 =>
    (stJ w1 v2 0 (x5.toInt64)).bind fun w7 =>
    some (0, w7)) (fun q6 =>
    if q6.1 = 0 then (
      some (1, w1)
    ) else (
      none
    ))
theorem bX0_felt_0 {p : Program} {l : Launch} {e : Env} {s : State} {m : MethodId} {args : Array Value} {below : List Frame} {meth : Method} {c : Code} {H : Heap} {locs : List Loc} {ls : Array Slot} {G : gE} {A : Nat → Prop} {w0 : WH} (B : gB G RX0 cX0_felt 4 (some .int) p s m args meth c) (hTb : c.exceptionTable.toList = tableOf [(0, 9, 12, 19)]) (hl0 : l.stackTraces = false) {v0 : Nat} {v1 : Int32} {v2 : Nat} {w : WH} {r : (Int32 × WH)} (h : fX0_felt v0 v1 v2 w = some r)   (hR : RepH G A w H) (hS : Cu A s w0 w H locs) (hl : lv_has ls 4 [(0, .ref v0), (1, .int v1), (2, .ref v2)]) : W p l e (hRm 19 430 w0) s m args below meth c H locs (wC w0 - wC w) (wS w0 - wS w) (hZ below args s G A w0 (some (.int r.1)) r.2) (F0 m 0 ls []) := by
  have B0 := B
  obtain ⟨hx, hb, hml, hown, hts, hr, hlk, hK⟩ := B0
  unfold fX0_felt at h
  refine lv_aload_n hx hb dX0_felt_0 rfl (lv_at hl 2 rfl) ?_
  refine lv_iconst (v := 0) hx hb dX0_felt_1 (by decide) ?_
  refine lv_aload_n hx hb dX0_felt_2 rfl (lv_at hl 0 rfl) ?_
  refine lv_iload_n hx hb dX0_felt_3 rfl (lv_at hl 1 rfl) ?_
  replace h := bo_o h
  obtain ⟨_, e2, h⟩ := h
  replace h := b2_o h
  obtain ⟨o3, w1, e4, h⟩ := h
  refine h_callVX 1 (ci := 17) (As := [.int v1]) (rest := [.int 0, .ref v2]) (o := oI o3) (w' := w1) hx hb hml hown hts hK hR hS (Nat.le_refl _) (Nat.le_refl _) rfl e2 (mX1_felt hl0 e4) (lw_V q2108 q2109 q2110 q112 q2111) (by decide +kernel) (Nat.le_of_ble_eq_true rfl) (Nat.le_of_ble_eq_true rfl) rfl hl.1 (Nat.le_of_ble_eq_true rfl) dX0_felt_4 rfl (fun v9 hv9 H locs hR hS => ?_) (fun E9 q9 hq9 H locs hR hS hce => ?_)
  · cases o3 with
    | inr q => cases hv9
    | inl x5 =>
      cases hv9
      replace h := exl_o h
      refine W.eq (g2 := F0 m 7 ls [.int x5, .int 0, .ref v2]) rfl ?_
      refine lv_i2l hx hb dX0_felt_7 rfl ?_
      replace h := bo_o h
      obtain ⟨w7, e8, h⟩ := h
      refine h_last hx hb hK hR hS e8 dX0_felt_8 (fun H locs hR hS => ?_)
      refine lv_goto (tgt := 15) hx hb dX0_felt_9 (by decide) ?_
      refine lv_iconst (v := 0) hx hb dX0_felt_15 (by decide) ?_
      have eR := Option.some.inj h
      subst eR
      exact h_ifin hx hb hr hlk hR hS dX0_felt_16
  · cases o3 with
    | inl q => cases hq9
    | inr q6 =>
      cases hq9
      replace h := exr_o h
      by_cases c9 : q6.1 = 0
      · replace h := it_o c9 h
        have hce : ∃ ce : Cell, H[q6.2]? = some ce ∧ ce.vm = .none ∧ s.vm.findClass "java/lang/IndexOutOfBoundsException" = some ce.cls := by rw [c9] at hce; exact hce
        refine h_catch (E := "java/lang/IndexOutOfBoundsException") hown hTb rfl (by decide) (by decide) rfl (hts _ q1941) (hK.ca 7 rfl) hce ?_
        refine lv_astore_n (lv' := [(3, .ref (q6.2)), (0, .ref v0), (1, .int v1), (2, .ref v2)]) hx hb dX0_felt_12 rfl hl (by decide) rfl (fun ls hl => ?_)
        refine lv_iconst (v := 1) hx hb dX0_felt_13 (by decide) ?_
        have eR := Option.some.inj h
        subst eR
        exact h_ifin hx hb hr hlk hR hS dX0_felt_14
      · replace h := if_o c9 h
        exact (nomatch h)
theorem mX0_felt {l : Launch} {G : gE} {A : Nat → Prop} {v0 : Nat} {v1 : Int32} {v2 : Nat} {w : WH} {r : (Int32 × WH)} (hl0 : l.stackTraces = false) (h : fX0_felt v0 v1 v2 w = some r) : hMW l G A yX0_felt cX0_felt 4 (some .int) [(0, 9, 12, 19)] 19 430 [.ref v0, .int v1, .ref v2] w (some (.int r.1)) r.2 :=
  h_ofW (by decide +kernel) (Nat.le_of_ble_eq_true rfl) (fun p e s m args below meth c ls B hnm hTb hR hS hl => bX0_felt_0 B hTb hl0 h hR hS hl)
noncomputable def fX0_uses_b16 (s0 : Nat) (s1 : Int32) (s2 : Int64) (w : WH) : Option ((Int32 × WH)) :=
  (stJ w s0 s1 s2).bind fun w1 =>
  some (0, w1)
theorem bX0_uses_16 {p : Program} {l : Launch} {e : Env} {s : State} {m : MethodId} {args : Array Value} {below : List Frame} {meth : Method} {c : Code} {H : Heap} {locs : List Loc} {ls : Array Slot} {G : gE} {A : Nat → Prop} {w0 : WH} (B : gB G RX0 cX0_uses 5 (some .int) p s m args meth c) (hTb : c.exceptionTable.toList = tableOf [(0, 17, 20, 19)]) (hl0 : l.stackTraces = false) {s0 : Nat} {s1 : Int32} {s2 : Int64} {w : WH} {r : (Int32 × WH)} (h : fX0_uses_b16 s0 s1 s2 w = some r)   (hR : RepH G A w H) (hS : Cu A s w0 w H locs) (hl : lv_has ls 5 []) : W p l e (hRm 20 454 w0) s m args below meth c H locs (wC w0 - wC w) (wS w0 - wS w) (hZ below args s G A w0 (some (.int r.1)) r.2) (F0 m 16 ls [.long s2, .int s1, .ref s0]) := by
  have B0 := B
  obtain ⟨hx, hb, hml, hown, hts, hr, hlk, hK⟩ := B0
  unfold fX0_uses_b16 at h
  replace h := bo_o h
  obtain ⟨w1, e2, h⟩ := h
  refine h_last hx hb hK hR hS e2 dX0_uses_16 (fun H locs hR hS => ?_)
  refine lv_goto (tgt := 24) hx hb dX0_uses_17 (by decide) ?_
  refine lv_iconst (v := 0) hx hb dX0_uses_24 (by decide) ?_
  have eR := Option.some.inj h
  subst eR
  exact h_ifin hx hb hr hlk hR hS dX0_uses_25
noncomputable def fX0_uses (v0 : Nat) (v1 : Int32) (v2 : Int32) (v3 : Nat) (w : WH) : Option ((Int32 × WH)) :=
  (hIs w v0 17).bind fun _ =>
  b2_ (fX1_uses v0 v1 v2 w) fun o3 w1 => ex_ o3 (fun x5 =>
    if x5 = 0 then (
      fX0_uses_b16 v3 0 0 w1
    ) else (
      fX0_uses_b16 v3 0 1 w1
    )) (fun q6 =>
    if q6.1 = 0 then (
      some (1, w1)
    ) else (
      none
    ))
theorem bX0_uses_0 {p : Program} {l : Launch} {e : Env} {s : State} {m : MethodId} {args : Array Value} {below : List Frame} {meth : Method} {c : Code} {H : Heap} {locs : List Loc} {ls : Array Slot} {G : gE} {A : Nat → Prop} {w0 : WH} (B : gB G RX0 cX0_uses 5 (some .int) p s m args meth c) (hTb : c.exceptionTable.toList = tableOf [(0, 17, 20, 19)]) (hl0 : l.stackTraces = false) {v0 : Nat} {v1 : Int32} {v2 : Int32} {v3 : Nat} {w : WH} {r : (Int32 × WH)} (h : fX0_uses v0 v1 v2 v3 w = some r)   (hR : RepH G A w H) (hS : Cu A s w0 w H locs) (hl : lv_has ls 5 [(0, .ref v0), (1, .int v1), (2, .int v2), (3, .ref v3)]) : W p l e (hRm 20 454 w0) s m args below meth c H locs (wC w0 - wC w) (wS w0 - wS w) (hZ below args s G A w0 (some (.int r.1)) r.2) (F0 m 0 ls []) := by
  have B0 := B
  obtain ⟨hx, hb, hml, hown, hts, hr, hlk, hK⟩ := B0
  unfold fX0_uses at h
  refine lv_aload_n hx hb dX0_uses_0 rfl (lv_at hl 3 rfl) ?_
  refine lv_iconst (v := 0) hx hb dX0_uses_1 (by decide) ?_
  refine lv_aload_n hx hb dX0_uses_2 rfl (lv_at hl 0 rfl) ?_
  refine lv_iload_n hx hb dX0_uses_3 rfl (lv_at hl 1 rfl) ?_
  refine lv_iload_n hx hb dX0_uses_4 rfl (lv_at hl 2 rfl) ?_
  replace h := bo_o h
  obtain ⟨_, e2, h⟩ := h
  replace h := b2_o h
  obtain ⟨o3, w1, e4, h⟩ := h
  refine h_callVX 2 (ci := 17) (As := [.int v1, .int v2]) (rest := [.int 0, .ref v3]) (o := oI o3) (w' := w1) hx hb hml hown hts hK hR hS (Nat.le_refl _) (Nat.le_refl _) rfl e2 (mX1_uses hl0 e4) (lw_V q2115 q2116 q2117 q112 q2118) (by decide +kernel) (Nat.le_of_ble_eq_true rfl) (Nat.le_of_ble_eq_true rfl) rfl hl.1 (Nat.le_of_ble_eq_true rfl) dX0_uses_5 rfl (fun v9 hv9 H locs hR hS => ?_) (fun E9 q9 hq9 H locs hR hS hce => ?_)
  · cases o3 with
    | inr q => cases hv9
    | inl x5 =>
      cases hv9
      replace h := exl_o h
      refine W.eq (g2 := F0 m 8 ls [.int x5, .int 0, .ref v3]) rfl ?_
      refine lv_if_eq (tgt := 15) hx hb dX0_uses_8 (by decide) (fun c7 => ?_) (fun c7 => ?_)
      · replace h := it_o c7 h
        refine lv_lconst (v := 0) hx hb dX0_uses_15 (by decide) ?_
        exact bX0_uses_16 B hTb hl0 h  hR hS (lv_sub hl [] rfl)
      · replace h := if_o c7 h
        refine lv_lconst (v := 1) hx hb dX0_uses_11 (by decide) ?_
        refine lv_goto (tgt := 16) hx hb dX0_uses_12 (by decide) ?_
        exact bX0_uses_16 B hTb hl0 h  hR hS (lv_sub hl [] rfl)
  · cases o3 with
    | inl q => cases hq9
    | inr q6 =>
      cases hq9
      replace h := exr_o h
      by_cases c8 : q6.1 = 0
      · replace h := it_o c8 h
        have hce : ∃ ce : Cell, H[q6.2]? = some ce ∧ ce.vm = .none ∧ s.vm.findClass "java/lang/IndexOutOfBoundsException" = some ce.cls := by rw [c8] at hce; exact hce
        refine h_catch (E := "java/lang/IndexOutOfBoundsException") hown hTb rfl (by decide) (by decide) rfl (hts _ q1941) (hK.ca 7 rfl) hce ?_
        refine lv_astore (lv' := [(4, .ref (q6.2)), (0, .ref v0), (1, .int v1), (2, .int v2), (3, .ref v3)]) hx hb dX0_uses_20 hl (by decide) rfl (fun ls hl => ?_)
        refine lv_iconst (v := 1) hx hb dX0_uses_22 (by decide) ?_
        have eR := Option.some.inj h
        subst eR
        exact h_ifin hx hb hr hlk hR hS dX0_uses_23
      · replace h := if_o c8 h
        exact (nomatch h)
theorem mX0_uses {l : Launch} {G : gE} {A : Nat → Prop} {v0 : Nat} {v1 : Int32} {v2 : Int32} {v3 : Nat} {w : WH} {r : (Int32 × WH)} (hl0 : l.stackTraces = false) (h : fX0_uses v0 v1 v2 v3 w = some r) : hMW l G A yX0_uses cX0_uses 5 (some .int) [(0, 17, 20, 19)] 20 454 [.ref v0, .int v1, .int v2, .ref v3] w (some (.int r.1)) r.2 :=
  h_ofW (by decide +kernel) (Nat.le_of_ble_eq_true rfl) (fun p e s m args below meth c ls B hnm hTb hR hS hl => bX0_uses_0 B hTb hl0 h hR hS hl)
noncomputable def fX0_users (v0 : Nat) (v1 : Int32) (v2 : Nat) (w : WH) : Option ((Int32 × WH)) :=
  (hIs w v0 17).bind fun _ =>
  b2_ (fX1_users v0 v1 w) fun o3 w1 => ex_ o3 (fun x5 =>
    (stJ w1 v2 0 (x5.toInt64)).bind fun w7 =>
    some (0, w7)) (fun q6 =>
    if q6.1 = 0 then (
      some (1, w1)
    ) else (
      none
    ))
theorem bX0_users_0 {p : Program} {l : Launch} {e : Env} {s : State} {m : MethodId} {args : Array Value} {below : List Frame} {meth : Method} {c : Code} {H : Heap} {locs : List Loc} {ls : Array Slot} {G : gE} {A : Nat → Prop} {w0 : WH} (B : gB G RX0 cX0_users 4 (some .int) p s m args meth c) (hTb : c.exceptionTable.toList = tableOf [(0, 9, 12, 19)]) (hl0 : l.stackTraces = false) {v0 : Nat} {v1 : Int32} {v2 : Nat} {w : WH} {r : (Int32 × WH)} (h : fX0_users v0 v1 v2 w = some r)   (hR : RepH G A w H) (hS : Cu A s w0 w H locs) (hl : lv_has ls 4 [(0, .ref v0), (1, .int v1), (2, .ref v2)]) : W p l e (hRm 21 476 w0) s m args below meth c H locs (wC w0 - wC w) (wS w0 - wS w) (hZ below args s G A w0 (some (.int r.1)) r.2) (F0 m 0 ls []) := by
  have B0 := B
  obtain ⟨hx, hb, hml, hown, hts, hr, hlk, hK⟩ := B0
  unfold fX0_users at h
  refine lv_aload_n hx hb dX0_users_0 rfl (lv_at hl 2 rfl) ?_
  refine lv_iconst (v := 0) hx hb dX0_users_1 (by decide) ?_
  refine lv_aload_n hx hb dX0_users_2 rfl (lv_at hl 0 rfl) ?_
  refine lv_iload_n hx hb dX0_users_3 rfl (lv_at hl 1 rfl) ?_
  replace h := bo_o h
  obtain ⟨_, e2, h⟩ := h
  replace h := b2_o h
  obtain ⟨o3, w1, e4, h⟩ := h
  refine h_callVX 1 (ci := 17) (As := [.int v1]) (rest := [.int 0, .ref v2]) (o := oI o3) (w' := w1) hx hb hml hown hts hK hR hS (Nat.le_refl _) (Nat.le_refl _) rfl e2 (mX1_users hl0 e4) (lw_V q2122 q2123 q2124 q112 q2125) (by decide +kernel) (Nat.le_of_ble_eq_true rfl) (Nat.le_of_ble_eq_true rfl) rfl hl.1 (Nat.le_of_ble_eq_true rfl) dX0_users_4 rfl (fun v9 hv9 H locs hR hS => ?_) (fun E9 q9 hq9 H locs hR hS hce => ?_)
  · cases o3 with
    | inr q => cases hv9
    | inl x5 =>
      cases hv9
      replace h := exl_o h
      refine W.eq (g2 := F0 m 7 ls [.int x5, .int 0, .ref v2]) rfl ?_
      refine lv_i2l hx hb dX0_users_7 rfl ?_
      replace h := bo_o h
      obtain ⟨w7, e8, h⟩ := h
      refine h_last hx hb hK hR hS e8 dX0_users_8 (fun H locs hR hS => ?_)
      refine lv_goto (tgt := 15) hx hb dX0_users_9 (by decide) ?_
      refine lv_iconst (v := 0) hx hb dX0_users_15 (by decide) ?_
      have eR := Option.some.inj h
      subst eR
      exact h_ifin hx hb hr hlk hR hS dX0_users_16
  · cases o3 with
    | inl q => cases hq9
    | inr q6 =>
      cases hq9
      replace h := exr_o h
      by_cases c9 : q6.1 = 0
      · replace h := it_o c9 h
        have hce : ∃ ce : Cell, H[q6.2]? = some ce ∧ ce.vm = .none ∧ s.vm.findClass "java/lang/IndexOutOfBoundsException" = some ce.cls := by rw [c9] at hce; exact hce
        refine h_catch (E := "java/lang/IndexOutOfBoundsException") hown hTb rfl (by decide) (by decide) rfl (hts _ q1941) (hK.ca 7 rfl) hce ?_
        refine lv_astore_n (lv' := [(3, .ref (q6.2)), (0, .ref v0), (1, .int v1), (2, .ref v2)]) hx hb dX0_users_12 rfl hl (by decide) rfl (fun ls hl => ?_)
        refine lv_iconst (v := 1) hx hb dX0_users_13 (by decide) ?_
        have eR := Option.some.inj h
        subst eR
        exact h_ifin hx hb hr hlk hR hS dX0_users_14
      · replace h := if_o c9 h
        exact (nomatch h)
theorem mX0_users {l : Launch} {G : gE} {A : Nat → Prop} {v0 : Nat} {v1 : Int32} {v2 : Nat} {w : WH} {r : (Int32 × WH)} (hl0 : l.stackTraces = false) (h : fX0_users v0 v1 v2 w = some r) : hMW l G A yX0_users cX0_users 4 (some .int) [(0, 9, 12, 19)] 21 476 [.ref v0, .int v1, .ref v2] w (some (.int r.1)) r.2 :=
  h_ofW (by decide +kernel) (Nat.le_of_ble_eq_true rfl) (fun p e s m args below meth c ls B hnm hTb hR hS hl => bX0_users_0 B hTb hl0 h hR hS hl)
noncomputable def fX0_flow (v0 : Nat) (v1 : Int32) (v2 : Nat) (w : WH) : Option ((Int32 × WH)) :=
  (hIs w v0 17).bind fun _ =>
  b2_ (fX1_flow v0 v1 w) fun o3 w1 => ex_ o3 (fun x5 =>
    (stJ w1 v2 0 (x5.toInt64)).bind fun w7 =>
    some (0, w7)) (fun q6 =>
    if q6.1 = 0 then (
      some (1, w1)
    ) else (
      none
    ))
theorem bX0_flow_0 {p : Program} {l : Launch} {e : Env} {s : State} {m : MethodId} {args : Array Value} {below : List Frame} {meth : Method} {c : Code} {H : Heap} {locs : List Loc} {ls : Array Slot} {G : gE} {A : Nat → Prop} {w0 : WH} (B : gB G RX0 cX0_flow 4 (some .int) p s m args meth c) (hTb : c.exceptionTable.toList = tableOf [(0, 9, 12, 19)]) (hl0 : l.stackTraces = false) {v0 : Nat} {v1 : Int32} {v2 : Nat} {w : WH} {r : (Int32 × WH)} (h : fX0_flow v0 v1 v2 w = some r)   (hR : RepH G A w H) (hS : Cu A s w0 w H locs) (hl : lv_has ls 4 [(0, .ref v0), (1, .int v1), (2, .ref v2)]) : W p l e (hRm 22 500 w0) s m args below meth c H locs (wC w0 - wC w) (wS w0 - wS w) (hZ below args s G A w0 (some (.int r.1)) r.2) (F0 m 0 ls []) := by
  have B0 := B
  obtain ⟨hx, hb, hml, hown, hts, hr, hlk, hK⟩ := B0
  unfold fX0_flow at h
  refine lv_aload_n hx hb dX0_flow_0 rfl (lv_at hl 2 rfl) ?_
  refine lv_iconst (v := 0) hx hb dX0_flow_1 (by decide) ?_
  refine lv_aload_n hx hb dX0_flow_2 rfl (lv_at hl 0 rfl) ?_
  refine lv_iload_n hx hb dX0_flow_3 rfl (lv_at hl 1 rfl) ?_
  replace h := bo_o h
  obtain ⟨_, e2, h⟩ := h
  replace h := b2_o h
  obtain ⟨o3, w1, e4, h⟩ := h
  refine h_callVX 1 (ci := 17) (As := [.int v1]) (rest := [.int 0, .ref v2]) (o := oI o3) (w' := w1) hx hb hml hown hts hK hR hS (Nat.le_refl _) (Nat.le_refl _) rfl e2 (mX1_flow hl0 e4) (lw_V q2129 q2130 q2131 q112 q2132) (by decide +kernel) (Nat.le_of_ble_eq_true rfl) (Nat.le_of_ble_eq_true rfl) rfl hl.1 (Nat.le_of_ble_eq_true rfl) dX0_flow_4 rfl (fun v9 hv9 H locs hR hS => ?_) (fun E9 q9 hq9 H locs hR hS hce => ?_)
  · cases o3 with
    | inr q => cases hv9
    | inl x5 =>
      cases hv9
      replace h := exl_o h
      refine W.eq (g2 := F0 m 7 ls [.int x5, .int 0, .ref v2]) rfl ?_
      refine lv_i2l hx hb dX0_flow_7 rfl ?_
      replace h := bo_o h
      obtain ⟨w7, e8, h⟩ := h
      refine h_last hx hb hK hR hS e8 dX0_flow_8 (fun H locs hR hS => ?_)
      refine lv_goto (tgt := 15) hx hb dX0_flow_9 (by decide) ?_
      refine lv_iconst (v := 0) hx hb dX0_flow_15 (by decide) ?_
      have eR := Option.some.inj h
      subst eR
      exact h_ifin hx hb hr hlk hR hS dX0_flow_16
  · cases o3 with
    | inl q => cases hq9
    | inr q6 =>
      cases hq9
      replace h := exr_o h
      by_cases c9 : q6.1 = 0
      · replace h := it_o c9 h
        have hce : ∃ ce : Cell, H[q6.2]? = some ce ∧ ce.vm = .none ∧ s.vm.findClass "java/lang/IndexOutOfBoundsException" = some ce.cls := by rw [c9] at hce; exact hce
        refine h_catch (E := "java/lang/IndexOutOfBoundsException") hown hTb rfl (by decide) (by decide) rfl (hts _ q1941) (hK.ca 7 rfl) hce ?_
        refine lv_astore_n (lv' := [(3, .ref (q6.2)), (0, .ref v0), (1, .int v1), (2, .ref v2)]) hx hb dX0_flow_12 rfl hl (by decide) rfl (fun ls hl => ?_)
        refine lv_iconst (v := 1) hx hb dX0_flow_13 (by decide) ?_
        have eR := Option.some.inj h
        subst eR
        exact h_ifin hx hb hr hlk hR hS dX0_flow_14
      · replace h := if_o c9 h
        exact (nomatch h)
theorem mX0_flow {l : Launch} {G : gE} {A : Nat → Prop} {v0 : Nat} {v1 : Int32} {v2 : Nat} {w : WH} {r : (Int32 × WH)} (hl0 : l.stackTraces = false) (h : fX0_flow v0 v1 v2 w = some r) : hMW l G A yX0_flow cX0_flow 4 (some .int) [(0, 9, 12, 19)] 22 500 [.ref v0, .int v1, .ref v2] w (some (.int r.1)) r.2 :=
  h_ofW (by decide +kernel) (Nat.le_of_ble_eq_true rfl) (fun p e s m args below meth c ls B hnm hTb hR hS hl => bX0_flow_0 B hTb hl0 h hR hS hl)
