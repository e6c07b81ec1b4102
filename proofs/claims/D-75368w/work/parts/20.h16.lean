set_option maxRecDepth 100000
set_option maxHeartbeats 4000000

noncomputable def fX1_worth_b56 (v2 : Int64) (v5 : Int64) (w : WH) : Option (((Sum (Int64) (Nat × Nat)) × WH)) :=
  some (.inl (v2 - v5), w)
theorem bX1_worth_56 {p : Program} {l : Launch} {e : Env} {s : State} {m : MethodId} {args : Array Value} {below : List Frame} {meth : Method} {c : Code} {H : Heap} {locs : List Loc} {ls : Array Slot} {G : gE} {A : Nat → Prop} {w0 : WH} (B : gB G RX1 cX1_worth 7 (some .long) p s m args meth c) (hT : ∀ x ∈ c.exceptionTable.toList, False) (hl0 : l.stackTraces = false) {v2 : Int64} {v5 : Int64} {w : WH} {r : ((Sum (Int64) (Nat × Nat)) × WH)} (h : fX1_worth_b56 v2 v5 w = some r)   (hR : RepH G A w H) (hS : Cu A s w0 w H locs) (hl : lv_has ls 7 [(2, .long v2), (5, .long v5)]) : W p l e (hRm 20 454 w0) s m args below meth c H locs (wC w0 - wC w) (wS w0 - wS w) (hZX below args s G A w0 (oJ r.1) r.2) (F0 m 56 ls []) := by
  have B0 := B
  obtain ⟨hx, hb, hml, hown, hts, hr, hlk, hK⟩ := B0
  unfold fX1_worth_b56 at h
  refine lv_lload_n hx hb dX1_worth_56 rfl (lv_at hl 0 rfl) ?_
  refine lv_lload hx hb dX1_worth_57 (lv_at hl 1 rfl) ?_
  refine lv_lsub hx hb dX1_worth_59 ?_
  have eR := Option.some.inj h
  subst eR
  exact h_lfinX hx hb hr hlk hR hS dX1_worth_60
noncomputable def fX1_worth (v0 : Nat) (v1 : Int32) (w : WH) : Option (((Sum (Int64) (Nat × Nat)) × WH)) :=
  (hIs w v0 17).bind fun _ =>
  b2_ (fX1_isArc v0 v1 w) fun x4 w1 =>
  b2_ (fX1_requireIndex x4 w1) fun o6 w5 => ex_ o6 (fun _ =>
    (hIs w5 v0 17).bind fun _ =>
    b2_ (fX1_brought v0 w5) fun x13 w10 =>
    (gR w10 v0 17 0).bind fun x14 =>
    x14.bind fun a16 =>
    (gR w10 a16 21 3).bind fun x18 =>
    x18.bind fun a20 =>
    (hIs w10 a20 0).bind fun _ =>
    b2_ (fJ17_get a20 v1 w10) fun x25 w22 =>
    (gR w22 v0 17 0).bind fun x26 =>
    x26.bind fun a28 =>
    (gR w22 a28 21 3).bind fun x30 =>
    x30.bind fun a32 =>
    (hIs w22 a32 0).bind fun _ =>
    (fJ17_set_3 a32 v1 w22).bind fun w34 =>
    (hIs w34 v0 17).bind fun _ =>
    b2_ (fX1_brought v0 w34) fun x40 w37 =>
    (gR w37 v0 17 0).bind fun x41 =>
    x41.bind fun a43 =>
    (gR w37 a43 21 3).bind fun x45 =>
    x45.bind fun a47 =>
    (hIs w37 a47 0).bind fun _ =>
    (fJ17_set_2 a47 v1 x25 w37).bind fun w49 =>
    fX1_worth_b56 x13 x40 w49) (fun q9 =>
    some (.inr q9, w5))
theorem bX1_worth_0 {p : Program} {l : Launch} {e : Env} {s : State} {m : MethodId} {args : Array Value} {below : List Frame} {meth : Method} {c : Code} {H : Heap} {locs : List Loc} {ls : Array Slot} {G : gE} {A : Nat → Prop} {w0 : WH} (B : gB G RX1 cX1_worth 7 (some .long) p s m args meth c) (hT : ∀ x ∈ c.exceptionTable.toList, False) (hl0 : l.stackTraces = false) {v0 : Nat} {v1 : Int32} {w : WH} {r : ((Sum (Int64) (Nat × Nat)) × WH)} (h : fX1_worth v0 v1 w = some r)   (hR : RepH G A w H) (hS : Cu A s w0 w H locs) (hl : lv_has ls 7 [(0, .ref v0), (1, .int v1)]) : W p l e (hRm 20 454 w0) s m args below meth c H locs (wC w0 - wC w) (wS w0 - wS w) (hZX below args s G A w0 (oJ r.1) r.2) (F0 m 0 ls []) := by
  have B0 := B
  obtain ⟨hx, hb, hml, hown, hts, hr, hlk, hK⟩ := B0
  unfold fX1_worth at h
  refine lv_aload_n hx hb dX1_worth_0 rfl (lv_at hl 0 rfl) ?_
  refine lv_iload_n hx hb dX1_worth_1 rfl (lv_at hl 1 rfl) ?_
  replace h := bo_o h
  obtain ⟨_, e2, h⟩ := h
  replace h := b2_o h
  obtain ⟨x4, w1, e3, h⟩ := h
  refine h_callV 1 (ci := 17) (As := [.int v1]) (rest := []) (v := (some (.int x4))) (w' := w1) (st1 := [.int x4]) hx hb hml hown hts hK hR hS (Nat.le_refl _) (Nat.le_refl _) rfl e2 (mX1_isArc e3) (lw_V q1952 q1954 qs47 q112 q1955) (by decide +kernel) (Nat.le_of_ble_eq_true rfl) (Nat.le_of_ble_eq_true rfl) rfl hl.1 (Nat.le_of_ble_eq_true rfl) dX1_worth_2 rfl rfl (fun H locs hR hS => ?_)
  replace h := b2_o h
  obtain ⟨o6, w5, e7, h⟩ := h
  refine h_callSX 1 (As := [.int x4]) (rest := []) (o := oV o6) (w' := w5)  hx hb hml hown hts hK hR hS (Nat.le_refl _) (Nat.le_refl _) (mX1_requireIndex hl0 e7) (lw_S q1956 q1957 q112 q1958) (by decide +kernel) (Nat.le_of_ble_eq_true rfl) (Nat.le_of_ble_eq_true rfl) rfl hl.1 (Nat.le_of_ble_eq_true rfl) dX1_worth_5 rfl (fun v9 hv9 H locs hR hS => ?_) (fun E9 q9 hq9 H locs hR hS hce => ?_)
  · cases o6 with
    | inr q => cases hv9
    | inl x8 =>
      cases hv9
      replace h := exl_o h
      refine W.eq (g2 := F0 m 8 ls []) rfl ?_
      refine lv_aload_n hx hb dX1_worth_8 rfl (lv_at hl 0 rfl) ?_
      replace h := bo_o h
      obtain ⟨_, e11, h⟩ := h
      replace h := b2_o h
      obtain ⟨x13, w10, e12, h⟩ := h
      refine h_callV 0 (ci := 17) (As := []) (rest := []) (v := (some (.long x13))) (w' := w10) (st1 := [.long x13]) hx hb hml hown hts hK hR hS (Nat.le_refl _) (Nat.le_refl _) rfl e11 (mX1_brought e12) (lw_V q1727 q1729 qs37 q112 q1730) (by decide +kernel) (Nat.le_of_ble_eq_true rfl) (Nat.le_of_ble_eq_true rfl) rfl hl.1 (Nat.le_of_ble_eq_true rfl) dX1_worth_9 rfl rfl (fun H locs hR hS => ?_)
      refine lv_lstore_n (lv' := [(2, .long x13), (0, .ref v0), (1, .int v1)]) hx hb dX1_worth_12 rfl hl (by decide) rfl (fun ls hl => ?_)
      refine lv_aload_n hx hb dX1_worth_13 rfl (lv_at hl 1 rfl) ?_
      replace h := bo_o h
      obtain ⟨x14, e15, h⟩ := h
      refine h_get (ci := 17) (k := 0) (v := va_rf x14) hx hb hts hown hK hR in_X1 rfl (by decide) (fun _ _ => rfl) q662 (fun _ h9 => h9) (gR_o e15) dX1_worth_14 ?_
      replace h := bo_o h
      obtain ⟨a16, e17, h⟩ := h
      subst e17
      replace h := bo_o h
      obtain ⟨x18, e19, h⟩ := h
      refine h_getN (ci := 21) (k := 3) (v := va_rf x18) hx hb hts hown hK hR in_X2 rfl (by decide) (fun _ _ => rfl) (hK.fn 20 rfl) (fun _ h9 => h9) (gR_o e19) dX1_worth_17 ?_
      refine lv_iload_n hx hb dX1_worth_20 rfl (lv_at hl 2 rfl) ?_
      replace h := bo_o h
      obtain ⟨a20, e21, h⟩ := h
      subst e21
      replace h := bo_o h
      obtain ⟨_, e23, h⟩ := h
      replace h := b2_o h
      obtain ⟨x25, w22, e24, h⟩ := h
      refine h_callV 1 (ci := 0) (As := [.int v1]) (rest := []) (v := (some (.int x25))) (w' := w22) (st1 := [.int x25]) hx hb hml hown hts hK hR hS (Nat.le_refl _) (Nat.le_refl _) rfl e23 (mJ17_get e24) (lw_V q2021 q1309 q1310 q134 q1311) (by decide +kernel) (Nat.le_of_ble_eq_true rfl) (Nat.le_of_ble_eq_true rfl) rfl hl.1 (Nat.le_of_ble_eq_true rfl) dX1_worth_21 rfl rfl (fun H locs hR hS => ?_)
      refine lv_istore (lv' := [(4, .int x25), (2, .long x13), (0, .ref v0), (1, .int v1)]) hx hb dX1_worth_24 hl (by decide) rfl (fun ls hl => ?_)
      refine lv_aload_n hx hb dX1_worth_26 rfl (lv_at hl 2 rfl) ?_
      replace h := bo_o h
      obtain ⟨x26, e27, h⟩ := h
      refine h_get (ci := 17) (k := 0) (v := va_rf x26) hx hb hts hown hK hR in_X1 rfl (by decide) (fun _ _ => rfl) q662 (fun _ h9 => h9) (gR_o e27) dX1_worth_27 ?_
      replace h := bo_o h
      obtain ⟨a28, e29, h⟩ := h
      subst e29
      replace h := bo_o h
      obtain ⟨x30, e31, h⟩ := h
      refine h_getN (ci := 21) (k := 3) (v := va_rf x30) hx hb hts hown hK hR in_X2 rfl (by decide) (fun _ _ => rfl) (hK.fn 20 rfl) (fun _ h9 => h9) (gR_o e31) dX1_worth_30 ?_
      refine lv_iload_n hx hb dX1_worth_33 rfl (lv_at hl 3 rfl) ?_
      replace h := bo_o h
      obtain ⟨a32, e33, h⟩ := h
      subst e33
      replace h := bo_o h
      obtain ⟨_, e35, h⟩ := h
      replace h := bo_o h
      obtain ⟨w34, e36, h⟩ := h
      refine h_callV 1 (ci := 0) (As := [.int v1]) (rest := []) (v := none) (w' := w34) (st1 := []) hx hb hml hown hts hK hR hS (Nat.le_refl _) (Nat.le_refl _) rfl e35 (mJ17_set_3 e36) (lw_V q2226 q2027 q2028 q134 q2029) (by decide +kernel) (Nat.le_of_ble_eq_true rfl) (Nat.le_of_ble_eq_true rfl) rfl hl.1 (Nat.le_of_ble_eq_true rfl) dX1_worth_34 rfl rfl (fun H locs hR hS => ?_)
      refine lv_aload_n hx hb dX1_worth_37 rfl (lv_at hl 2 rfl) ?_
      replace h := bo_o h
      obtain ⟨_, e38, h⟩ := h
      replace h := b2_o h
      obtain ⟨x40, w37, e39, h⟩ := h
      refine h_callV 0 (ci := 17) (As := []) (rest := []) (v := (some (.long x40))) (w' := w37) (st1 := [.long x40]) hx hb hml hown hts hK hR hS (Nat.le_refl _) (Nat.le_refl _) rfl e38 (mX1_brought e39) (lw_V q1727 q1729 qs37 q112 q1730) (by decide +kernel) (Nat.le_of_ble_eq_true rfl) (Nat.le_of_ble_eq_true rfl) rfl hl.1 (Nat.le_of_ble_eq_true rfl) dX1_worth_38 rfl rfl (fun H locs hR hS => ?_)
      refine lv_lstore (lv' := [(5, .long x40), (4, .int x25), (2, .long x13), (0, .ref v0), (1, .int v1)]) hx hb dX1_worth_41 hl (by decide) rfl (fun ls hl => ?_)
      refine lv_aload_n hx hb dX1_worth_43 rfl (lv_at hl 3 rfl) ?_
      replace h := bo_o h
      obtain ⟨x41, e42, h⟩ := h
      refine h_get (ci := 17) (k := 0) (v := va_rf x41) hx hb hts hown hK hR in_X1 rfl (by decide) (fun _ _ => rfl) q662 (fun _ h9 => h9) (gR_o e42) dX1_worth_44 ?_
      replace h := bo_o h
      obtain ⟨a43, e44, h⟩ := h
      subst e44
      replace h := bo_o h
      obtain ⟨x45, e46, h⟩ := h
      refine h_getN (ci := 21) (k := 3) (v := va_rf x45) hx hb hts hown hK hR in_X2 rfl (by decide) (fun _ _ => rfl) (hK.fn 20 rfl) (fun _ h9 => h9) (gR_o e46) dX1_worth_47 ?_
      refine lv_iload_n hx hb dX1_worth_50 rfl (lv_at hl 4 rfl) ?_
      refine lv_iload hx hb dX1_worth_51 (lv_at hl 1 rfl) ?_
      replace h := bo_o h
      obtain ⟨a47, e48, h⟩ := h
      subst e48
      replace h := bo_o h
      obtain ⟨_, e50, h⟩ := h
      replace h := bo_o h
      obtain ⟨w49, e51, h⟩ := h
      refine h_callV 2 (ci := 0) (As := [.int v1, .int x25]) (rest := []) (v := none) (w' := w49) (st1 := []) hx hb hml hown hts hK hR hS (Nat.le_refl _) (Nat.le_refl _) rfl e50 (mJ17_set_2 e51) (lw_V q2022 q2023 q2024 q134 q2025) (by decide +kernel) (Nat.le_of_ble_eq_true rfl) (Nat.le_of_ble_eq_true rfl) rfl hl.1 (Nat.le_of_ble_eq_true rfl) dX1_worth_53 rfl rfl (fun H locs hR hS => ?_)
      exact bX1_worth_56 B hT hl0 h  hR hS (lv_sub hl [2, 0] rfl)
  · cases o6 with
    | inl q => cases hq9
    | inr q9 =>
      cases hq9
      replace h := exr_o h
      have eR := Option.some.inj h
      subst eR
      exact h_out hT hlk hR hS hce
theorem mX1_worth {l : Launch} {G : gE} {A : Nat → Prop} {v0 : Nat} {v1 : Int32} {w : WH} {r : ((Sum (Int64) (Nat × Nat)) × WH)} (hl0 : l.stackTraces = false) (h : fX1_worth v0 v1 w = some r) : hMX l G A yX1_worth cX1_worth 7 (some .long) 20 454 [.ref v0, .int v1] w (oJ r.1) r.2 :=
  h_ofX (by decide +kernel) (Nat.le_of_ble_eq_true rfl) (fun p e s m args below meth c ls B hnm hT hR hS hl => bX1_worth_0 B hT hl0 h hR hS hl)
noncomputable def fJ9_coder (v0 : Nat) (w : WH) : Option ((Int32 × WH)) :=
  if (1 : Int32) = 0 then (
    some (1, w)
  ) else (
    (gI w v0 16 1).bind fun x2 =>
    (fz_ .byte x2).bind fun _ =>
    some (x2, w)
  )
theorem bJ9_coder_0 {p : Program} {l : Launch} {e : Env} {s : State} {m : MethodId} {args : Array Value} {below : List Frame} {meth : Method} {c : Code} {H : Heap} {locs : List Loc} {ls : Array Slot} {G : gE} {A : Nat → Prop} {w0 : WH} (B : gB G RJ9 cJ9_coder 1 (some .byte) p s m args meth c) {v0 : Nat} {w : WH} {r : (Int32 × WH)} (h : fJ9_coder v0 w = some r)   (hR : RepH G A w H) (hS : Cu A s w0 w H locs) (hl : lv_has ls 1 [(0, .ref v0)]) : W p l e (hRm 0 0 w0) s m args below meth c H locs (wC w0 - wC w) (wS w0 - wS w) (hZ below args s G A w0 (some (.int r.1)) r.2) (F0 m 0 ls []) := by
  have B0 := B
  obtain ⟨hx, hb, hml, hown, hts, hr, hlk, hK⟩ := B0
  unfold fJ9_coder at h
  refine h_gets (v := .int 1) hx hb hts hown hR hS (hK.2.2.2.1 _ (List.mem_of_getElem? (i := 0) rfl)) q357 (fun _ h9 => h9) dJ9_coder_0 ?_
  refine lv_if_eq (tgt := 13) hx hb dJ9_coder_3 (by decide) (fun c1 => ?_) (fun c1 => ?_)
  · replace h := it_o c1 h
    refine lv_iconst (v := 1) hx hb dJ9_coder_13 (by decide) ?_
    have eR := Option.some.inj h
    subst eR
    exact h_zfin hx hb hr hlk (by show narrow .byte (.int 1) = .int 1; decide) hR hS dJ9_coder_14
  · replace h := if_o c1 h
    refine lv_aload_n hx hb dJ9_coder_6 rfl (lv_at hl 0 rfl) ?_
    replace h := bo_o h
    obtain ⟨x2, e3, h⟩ := h
    refine h_getS (k := 1) (v := .int x2) hx hb hts hown hK hR hS (by decide) q499 (gI_o e3) dJ9_coder_7 ?_
    refine lv_goto (tgt := 14) hx hb dJ9_coder_10 (by decide) ?_
    replace h := bo_o h
    obtain ⟨_, e4, h⟩ := h
    have eR := Option.some.inj h
    subst eR
    exact h_zfin hx hb hr hlk (fz_n (fun _ => ⟨_, rfl⟩) e4) hR hS dJ9_coder_14
theorem mJ9_coder {l : Launch} {G : gE} {A : Nat → Prop} {v0 : Nat} {w : WH} {r : (Int32 × WH)} (h : fJ9_coder v0 w = some r) : hM l G A yJ9_coder cJ9_coder 1 (some .byte) 0 0 [.ref v0] w (some (.int r.1)) r.2 :=
  h_of (by decide +kernel) (Nat.le_of_ble_eq_true rfl) (fun p e s m args below meth c ls B hnm hR hS hl => bJ9_coder_0 B h hR hS hl)
noncomputable def fJ9_length (v0 : Nat) (w : WH) : Option ((Int32 × WH)) :=
  (gR w v0 16 0).bind fun x1 =>
  x1.bind fun a3 =>
  (aLn w a3).bind fun x5 =>
  (hIs w v0 16).bind fun _ =>
  b2_ (fJ9_coder v0 w) fun x10 w7 =>
  some (x5 >>> (x10 &&& 31), w7)
theorem bJ9_length_0 {p : Program} {l : Launch} {e : Env} {s : State} {m : MethodId} {args : Array Value} {below : List Frame} {meth : Method} {c : Code} {H : Heap} {locs : List Loc} {ls : Array Slot} {G : gE} {A : Nat → Prop} {w0 : WH} (B : gB G RJ9 cJ9_length 1 (some .int) p s m args meth c) {v0 : Nat} {w : WH} {r : (Int32 × WH)} (h : fJ9_length v0 w = some r)   (hR : RepH G A w H) (hS : Cu A s w0 w H locs) (hl : lv_has ls 1 [(0, .ref v0)]) : W p l e (hRm 1 20 w0) s m args below meth c H locs (wC w0 - wC w) (wS w0 - wS w) (hZ below args s G A w0 (some (.int r.1)) r.2) (F0 m 0 ls []) := by
  have B0 := B
  obtain ⟨hx, hb, hml, hown, hts, hr, hlk, hK⟩ := B0
  unfold fJ9_length at h
  refine lv_aload_n hx hb dJ9_length_0 rfl (lv_at hl 0 rfl) ?_
  replace h := bo_o h
  obtain ⟨x1, e2, h⟩ := h
  refine h_getS (k := 0) (v := va_rf x1) hx hb hts hown hK hR hS (by decide) q498 (gR_o e2) dJ9_length_1 ?_
  replace h := bo_o h
  obtain ⟨a3, e4, h⟩ := h
  subst e4
  replace h := bo_o h
  obtain ⟨x5, e6, h⟩ := h
  refine h_alen hx hb hK hR hS e6 dJ9_length_4 ?_
  refine lv_aload_n hx hb dJ9_length_5 rfl (lv_at hl 0 rfl) ?_
  replace h := bo_o h
  obtain ⟨_, e8, h⟩ := h
  replace h := b2_o h
  obtain ⟨x10, w7, e9, h⟩ := h
  refine h_callV 0 (ci := 16) (As := []) (rest := [.int x5]) (v := (some (.int x10))) (w' := w7) (st1 := [.int x10, .int x5]) hx hb hml hown hts hK hR hS (Nat.le_refl _) (Nat.le_refl _) rfl e8 (mJ9_coder e9) (lw_V q353 q354 q355 q124 q356) (by decide +kernel) (Nat.le_of_ble_eq_true rfl) (Nat.le_of_ble_eq_true rfl) rfl hl.1 (Nat.le_of_ble_eq_true rfl) dJ9_length_6 rfl rfl (fun H locs hR hS => ?_)
  refine lv_ishr hx hb dJ9_length_9 ?_
  have eR := Option.some.inj h
  subst eR
  exact h_ifin hx hb hr hlk hR hS dJ9_length_10
theorem mJ9_length {l : Launch} {G : gE} {A : Nat → Prop} {v0 : Nat} {w : WH} {r : (Int32 × WH)} (h : fJ9_length v0 w = some r) : hM l G A yJ9_length cJ9_length 1 (some .int) 1 20 [.ref v0] w (some (.int r.1)) r.2 :=
  h_of (by decide +kernel) (Nat.le_of_ble_eq_true rfl) (fun p e s m args below meth c ls B hnm hR hS hl => bJ9_length_0 B h hR hS hl)
noncomputable def fJ7_inflateIfNeededFor (v0 : Nat) (v1 : Nat) (w : WH) : Option (WH) :=
  if (1 : Int32) = 0 then (
    some w
  ) else (
    (gI w v0 15 1).bind fun x2 =>
    (hIs w v1 16).bind fun _ =>
    b2_ (fJ9_coder v1 w) fun x7 w4 =>
    if x2 = x7 then (
      some w4
    ) else (
      none
    )
  )
theorem bJ7_inflateIfNeededFor_0 {p : Program} {l : Launch} {e : Env} {s : State} {m : MethodId} {args : Array Value} {below : List Frame} {meth : Method} {c : Code} {H : Heap} {locs : List Loc} {ls : Array Slot} {G : gE} {A : Nat → Prop} {w0 : WH} (B : gB G RJ7 cJ7_inflateIfNeededFor 2 none p s m args meth c) {v0 : Nat} {v1 : Nat} {w : WH} {r : WH} (h : fJ7_inflateIfNeededFor v0 v1 w = some r)   (hR : RepH G A w H) (hS : Cu A s w0 w H locs) (hl : lv_has ls 2 [(0, .ref v0), (1, .ref v1)]) : W p l e (hRm 1 20 w0) s m args below meth c H locs (wC w0 - wC w) (wS w0 - wS w) (hZ below args s G A w0 none r) (F0 m 0 ls []) := by
  have B0 := B
  obtain ⟨hx, hb, hml, hown, hts, hr, hlk, hK⟩ := B0
  unfold fJ7_inflateIfNeededFor at h
  refine h_gets (v := .int 1) hx hb hts hown hR hS (hK.2.2.2.1 _ (List.mem_of_getElem? (i := 0) rfl)) q247 (fun _ h9 => h9) dJ7_inflateIfNeededFor_0 ?_
  refine lv_if_eq (tgt := 21) hx hb dJ7_inflateIfNeededFor_3 (by decide) (fun c1 => ?_) (fun c1 => ?_)
  · replace h := it_o c1 h
    have eR := Option.some.inj h
    subst eR
    exact h_vfin hx hb hr hlk hR hS dJ7_inflateIfNeededFor_21
  · replace h := if_o c1 h
    refine lv_aload_n hx hb dJ7_inflateIfNeededFor_6 rfl (lv_at hl 0 rfl) ?_
    replace h := bo_o h
    obtain ⟨x2, e3, h⟩ := h
    refine h_get (ci := 15) (k := 1) (v := .int x2) hx hb hts hown hK hR in_J8 rfl (by decide) (fun _ _ => rfl) q257 (fun _ h9 => h9) (gI_o e3) dJ7_inflateIfNeededFor_7 ?_
    refine lv_aload_n hx hb dJ7_inflateIfNeededFor_10 rfl (lv_at hl 1 rfl) ?_
    replace h := bo_o h
    obtain ⟨_, e5, h⟩ := h
    replace h := b2_o h
    obtain ⟨x7, w4, e6, h⟩ := h
    refine h_callV 0 (ci := 16) (As := []) (rest := [.int x2]) (v := (some (.int x7))) (w' := w4) (st1 := [.int x7, .int x2]) hx hb hml hown hts hK hR hS (Nat.le_refl _) (Nat.le_refl _) rfl e5 (mJ9_coder e6) (lw_V q366 q354 q355 q124 q356) (by decide +kernel) (Nat.le_of_ble_eq_true rfl) (Nat.le_of_ble_eq_true rfl) rfl hl.1 (Nat.le_of_ble_eq_true rfl) dJ7_inflateIfNeededFor_11 rfl rfl (fun H locs hR hS => ?_)
    refine lv_icmp_eq (tgt := 21) hx hb dJ7_inflateIfNeededFor_14 (by decide) (fun c8 => ?_) (fun c8 => ?_)
    · replace h := it_o c8 h
      have eR := Option.some.inj h
      subst eR
      exact h_vfin hx hb hr hlk hR hS dJ7_inflateIfNeededFor_21
    · replace h := if_o c8 h
      refine lv_aload_n hx hb dJ7_inflateIfNeededFor_17 rfl (lv_at hl 0 rfl) ?_
      exact (nomatch h)
theorem mJ7_inflateIfNeededFor {l : Launch} {G : gE} {A : Nat → Prop} {v0 : Nat} {v1 : Nat} {w : WH} {r : WH} (h : fJ7_inflateIfNeededFor v0 v1 w = some r) : hM l G A yJ7_inflateIfNeededFor cJ7_inflateIfNeededFor 2 none 1 20 [.ref v0, .ref v1] w none r :=
  h_of (by decide +kernel) (Nat.le_of_ble_eq_true rfl) (fun p e s m args below meth c ls B hnm hR hS hl => bJ7_inflateIfNeededFor_0 B h hR hS hl)
noncomputable def fJ9_getBytes (v0 : Nat) (v1 : Nat) (v2 : Int32) (v3 : Int32) (w : WH) : Option (WH) :=
  (hIs w v0 16).bind fun _ =>
  b2_ (fJ9_coder v0 w) fun x4 w1 =>
  if x4 = v3 then (
    (gR w1 v0 16 0).bind fun x6 =>
    (gR w1 v0 16 0).bind fun x8 =>
    x8.bind fun a10 =>
    (aLn w1 a10).bind fun x12 =>
    x6.bind fun a14 =>
    (cpI w1 2 a14 0 v1 (v2 <<< (v3 &&& 31)) x12).bind fun w16 =>
    some w16
  ) else (
    (gR w1 v0 16 0).bind fun x18 =>
    (gR w1 v0 16 0).bind fun x20 =>
    x20.bind fun a22 =>
    (aLn w1 a22).bind fun x24 =>
    none
  )
theorem bJ9_getBytes_0 {p : Program} {l : Launch} {e : Env} {s : State} {m : MethodId} {args : Array Value} {below : List Frame} {meth : Method} {c : Code} {H : Heap} {locs : List Loc} {ls : Array Slot} {G : gE} {A : Nat → Prop} {w0 : WH} (B : gB G RJ9 cJ9_getBytes 4 none p s m args meth c) {v0 : Nat} {v1 : Nat} {v2 : Int32} {v3 : Int32} {w : WH} {r : WH} (h : fJ9_getBytes v0 v1 v2 v3 w = some r)   (hR : RepH G A w H) (hS : Cu A s w0 w H locs) (hl : lv_has ls 4 [(0, .ref v0), (1, .ref v1), (2, .int v2), (3, .int v3)]) : W p l e (hRm 1 40 w0) s m args below meth c H locs (wC w0 - wC w) (wS w0 - wS w) (hZ below args s G A w0 none r) (F0 m 0 ls []) := by
  have B0 := B
  obtain ⟨hx, hb, hml, hown, hts, hr, hlk, hK⟩ := B0
  unfold fJ9_getBytes at h
  refine lv_aload_n hx hb dJ9_getBytes_0 rfl (lv_at hl 0 rfl) ?_
  replace h := bo_o h
  obtain ⟨_, e2, h⟩ := h
  replace h := b2_o h
  obtain ⟨x4, w1, e3, h⟩ := h
  refine h_callV 0 (ci := 16) (As := []) (rest := []) (v := (some (.int x4))) (w' := w1) (st1 := [.int x4]) hx hb hml hown hts hK hR hS (Nat.le_refl _) (Nat.le_refl _) rfl e2 (mJ9_coder e3) (lw_V q353 q354 q355 q124 q356) (by decide +kernel) (Nat.le_of_ble_eq_true rfl) (Nat.le_of_ble_eq_true rfl) rfl hl.1 (Nat.le_of_ble_eq_true rfl) dJ9_getBytes_1 rfl rfl (fun H locs hR hS => ?_)
  refine lv_iload_n hx hb dJ9_getBytes_4 rfl (lv_at hl 3 rfl) ?_
  refine lv_icmp_ne (tgt := 28) hx hb dJ9_getBytes_5 (by decide) (fun c5 => ?_) (fun c5 => ?_)
  · replace h := if_o c5 h
    refine lv_aload_n hx hb dJ9_getBytes_28 rfl (lv_at hl 0 rfl) ?_
    replace h := bo_o h
    obtain ⟨x18, e19, h⟩ := h
    refine h_getS (k := 0) (v := va_rf x18) hx hb hts hown hK hR hS (by decide) q498 (gR_o e19) dJ9_getBytes_29 ?_
    refine lv_iconst (v := 0) hx hb dJ9_getBytes_32 (by decide) ?_
    refine lv_aload_n hx hb dJ9_getBytes_33 rfl (lv_at hl 1 rfl) ?_
    refine lv_iload_n hx hb dJ9_getBytes_34 rfl (lv_at hl 2 rfl) ?_
    refine lv_aload_n hx hb dJ9_getBytes_35 rfl (lv_at hl 0 rfl) ?_
    replace h := bo_o h
    obtain ⟨x20, e21, h⟩ := h
    refine h_getS (k := 0) (v := va_rf x20) hx hb hts hown hK hR hS (by decide) q498 (gR_o e21) dJ9_getBytes_36 ?_
    replace h := bo_o h
    obtain ⟨a22, e23, h⟩ := h
    subst e23
    replace h := bo_o h
    obtain ⟨x24, e25, h⟩ := h
    refine h_alen hx hb hK hR hS e25 dJ9_getBytes_39 ?_
    exact (nomatch h)
  · replace h := it_o c5 h
    refine lv_aload_n hx hb dJ9_getBytes_8 rfl (lv_at hl 0 rfl) ?_
    replace h := bo_o h
    obtain ⟨x6, e7, h⟩ := h
    refine h_getS (k := 0) (v := va_rf x6) hx hb hts hown hK hR hS (by decide) q498 (gR_o e7) dJ9_getBytes_9 ?_
    refine lv_iconst (v := 0) hx hb dJ9_getBytes_12 (by decide) ?_
    refine lv_aload_n hx hb dJ9_getBytes_13 rfl (lv_at hl 1 rfl) ?_
    refine lv_iload_n hx hb dJ9_getBytes_14 rfl (lv_at hl 2 rfl) ?_
    refine lv_iload_n hx hb dJ9_getBytes_15 rfl (lv_at hl 3 rfl) ?_
    refine lv_ishl hx hb dJ9_getBytes_16 ?_
    refine lv_aload_n hx hb dJ9_getBytes_17 rfl (lv_at hl 0 rfl) ?_
    replace h := bo_o h
    obtain ⟨x8, e9, h⟩ := h
    refine h_getS (k := 0) (v := va_rf x8) hx hb hts hown hK hR hS (by decide) q498 (gR_o e9) dJ9_getBytes_18 ?_
    replace h := bo_o h
    obtain ⟨a10, e11, h⟩ := h
    subst e11
    replace h := bo_o h
    obtain ⟨x12, e13, h⟩ := h
    refine h_alen hx hb hK hR hS e13 dJ9_getBytes_21 ?_
    replace h := bo_o h
    obtain ⟨a14, e15, h⟩ := h
    subst e15
    replace h := bo_o h
    obtain ⟨w16, e17, h⟩ := h
    refine h_copyB hx hb (hml.trans hl.1.symm) hts hown hK hR hS q390 q317 q316 q129 (Nat.le_of_ble_eq_true rfl) (Nat.le_of_ble_eq_true rfl) e17 dJ9_getBytes_22 (fun H locs hR hS => ?_)
    refine lv_goto (tgt := 43) hx hb dJ9_getBytes_25 (by decide) ?_
    have eR := Option.some.inj h
    subst eR
    exact h_vfin hx hb hr hlk hR hS dJ9_getBytes_43
theorem mJ9_getBytes {l : Launch} {G : gE} {A : Nat → Prop} {v0 : Nat} {v1 : Nat} {v2 : Int32} {v3 : Int32} {w : WH} {r : WH} (h : fJ9_getBytes v0 v1 v2 v3 w = some r) : hM l G A yJ9_getBytes cJ9_getBytes 4 none 1 40 [.ref v0, .ref v1, .int v2, .int v3] w none r :=
  h_of (by decide +kernel) (Nat.le_of_ble_eq_true rfl) (fun p e s m args below meth c ls B hnm hR hS hl => bJ9_getBytes_0 B h hR hS hl)
noncomputable def fJ7_putStringAt (v0 : Nat) (v1 : Int32) (v2 : Nat) (w : WH) : Option (WH) :=
  (hIs w v0 15).bind fun _ =>
  (fJ7_inflateIfNeededFor v0 v2 w).bind fun w1 =>
  (gR w1 v0 15 0).bind fun x4 =>
  (gI w1 v0 15 1).bind fun x6 =>
  x4.bind fun a8 =>
  (hIs w1 v2 16).bind fun _ =>
  (fJ9_getBytes v2 a8 v1 x6 w1).bind fun w10 =>
  some w10
theorem bJ7_putStringAt_0 {p : Program} {l : Launch} {e : Env} {s : State} {m : MethodId} {args : Array Value} {below : List Frame} {meth : Method} {c : Code} {H : Heap} {locs : List Loc} {ls : Array Slot} {G : gE} {A : Nat → Prop} {w0 : WH} (B : gB G RJ7 cJ7_putStringAt 3 none p s m args meth c) {v0 : Nat} {v1 : Int32} {v2 : Nat} {w : WH} {r : WH} (h : fJ7_putStringAt v0 v1 v2 w = some r)   (hR : RepH G A w H) (hS : Cu A s w0 w H locs) (hl : lv_has ls 3 [(0, .ref v0), (1, .int v1), (2, .ref v2)]) : W p l e (hRm 2 63 w0) s m args below meth c H locs (wC w0 - wC w) (wS w0 - wS w) (hZ below args s G A w0 none r) (F0 m 0 ls []) := by
  have B0 := B
  obtain ⟨hx, hb, hml, hown, hts, hr, hlk, hK⟩ := B0
  unfold fJ7_putStringAt at h
  refine lv_aload_n hx hb dJ7_putStringAt_0 rfl (lv_at hl 0 rfl) ?_
  refine lv_aload_n hx hb dJ7_putStringAt_1 rfl (lv_at hl 2 rfl) ?_
  replace h := bo_o h
  obtain ⟨_, e2, h⟩ := h
  replace h := bo_o h
  obtain ⟨w1, e3, h⟩ := h
  refine h_callX 1 (ci := 15) (As := [.ref v2]) (rest := []) (v := none) (w' := w1) (st1 := []) hx hb hml hown hts hK hR hS (Nat.le_refl _) (Nat.le_refl _) rfl e2 (mJ7_inflateIfNeededFor e3) (lw_meth q365) q122 q362 q364 (hK.sl 3 rfl) (by decide +kernel) (Nat.le_of_ble_eq_true rfl) (Nat.le_of_ble_eq_true rfl) rfl hl.1 (Nat.le_of_ble_eq_true rfl) dJ7_putStringAt_2 rfl rfl (fun H locs hR hS => ?_)
  refine lv_aload_n hx hb dJ7_putStringAt_5 rfl (lv_at hl 2 rfl) ?_
  refine lv_aload_n hx hb dJ7_putStringAt_6 rfl (lv_at hl 0 rfl) ?_
  replace h := bo_o h
  obtain ⟨x4, e5, h⟩ := h
  refine h_get (ci := 15) (k := 0) (v := va_rf x4) hx hb hts hown hK hR in_J8 rfl (by decide) (fun _ _ => rfl) q256 (fun _ h9 => h9) (gR_o e5) dJ7_putStringAt_7 ?_
  refine lv_iload_n hx hb dJ7_putStringAt_10 rfl (lv_at hl 1 rfl) ?_
  refine lv_aload_n hx hb dJ7_putStringAt_11 rfl (lv_at hl 0 rfl) ?_
  replace h := bo_o h
  obtain ⟨x6, e7, h⟩ := h
  refine h_get (ci := 15) (k := 1) (v := .int x6) hx hb hts hown hK hR in_J8 rfl (by decide) (fun _ _ => rfl) q257 (fun _ h9 => h9) (gI_o e7) dJ7_putStringAt_12 ?_
  replace h := bo_o h
  obtain ⟨a8, e9, h⟩ := h
  subst e9
  replace h := bo_o h
  obtain ⟨_, e11, h⟩ := h
  replace h := bo_o h
  obtain ⟨w10, e12, h⟩ := h
  refine h_callV 3 (ci := 16) (As := [.ref a8, .int v1, .int x6]) (rest := []) (v := none) (w' := w10) (st1 := []) hx hb hml hown hts hK hR hS (Nat.le_refl _) (Nat.le_refl _) rfl e11 (mJ9_getBytes e12) (lw_V q386 q387 q388 q124 q389) (by decide +kernel) (Nat.le_of_ble_eq_true rfl) (Nat.le_of_ble_eq_true rfl) rfl hl.1 (Nat.le_of_ble_eq_true rfl) dJ7_putStringAt_15 rfl rfl (fun H locs hR hS => ?_)
  have eR := Option.some.inj h
  subst eR
  exact h_vfin hx hb hr hlk hR hS dJ7_putStringAt_18
theorem mJ7_putStringAt {l : Launch} {G : gE} {A : Nat → Prop} {v0 : Nat} {v1 : Int32} {v2 : Nat} {w : WH} {r : WH} (h : fJ7_putStringAt v0 v1 v2 w = some r) : hM l G A yJ7_putStringAt cJ7_putStringAt 3 none 2 63 [.ref v0, .int v1, .ref v2] w none r :=
  h_of (by decide +kernel) (Nat.le_of_ble_eq_true rfl) (fun p e s m args below meth c ls B hnm hR hS hl => bJ7_putStringAt_0 B h hR hS hl)
noncomputable def fJ7_append (v0 : Nat) (v1 : Nat) (w : WH) : Option ((Option Nat × WH)) :=
  (hIs w v1 16).bind fun _ =>
  b2_ (fJ9_length v1 w) fun x4 w1 =>
  (gI w1 v0 15 3).bind fun x5 =>
  (hIs w1 v0 15).bind fun _ =>
  (fJ7_ensureCapacityInternal v0 (x5 + x4) w1).bind fun w7 =>
  (gI w7 v0 15 3).bind fun x10 =>
  (hIs w7 v0 15).bind fun _ =>
  (fJ7_putStringAt v0 x10 v1 w7).bind fun w12 =>
  (gI w12 v0 15 3).bind fun x15 =>
  (hPut w12 v0 15 3 (.int (x15 + x4))).bind fun w17 =>
  some (some v0, w17)
theorem bJ7_append_0 {p : Program} {l : Launch} {e : Env} {s : State} {m : MethodId} {args : Array Value} {below : List Frame} {meth : Method} {c : Code} {H : Heap} {locs : List Loc} {ls : Array Slot} {G : gE} {A : Nat → Prop} {w0 : WH} (B : gB G RJ7 cJ7_append 3 (some (.object "java/lang/AbstractStringBuilder")) p s m args meth c) {v0 : Nat} {v1 : Nat} {w : WH} {r : (Option Nat × WH)} (h : fJ7_append v0 v1 w = some r)   (hR : RepH G A w H) (hS : Cu A s w0 w H locs) (hl : lv_has ls 3 [(0, .ref v0), (1, .ref v1)]) : W p l e (hRm 4 93 w0) s m args below meth c H locs (wC w0 - wC w) (wS w0 - wS w) (hZ below args s G A w0 (some (va_rf r.1)) r.2) (F0 m 0 ls []) := by
  have B0 := B
  obtain ⟨hx, hb, hml, hown, hts, hr, hlk, hK⟩ := B0
  unfold fJ7_append at h
  refine lv_aload_n hx hb dJ7_append_0 rfl (lv_at hl 1 rfl) ?_
  refine lv_ifnonnull (tgt := 9) hx hb dJ7_append_1 (by decide) ?_
  refine lv_aload_n hx hb dJ7_append_9 rfl (lv_at hl 1 rfl) ?_
  replace h := bo_o h
  obtain ⟨_, e2, h⟩ := h
  replace h := b2_o h
  obtain ⟨x4, w1, e3, h⟩ := h
  refine h_callV 0 (ci := 16) (As := []) (rest := []) (v := (some (.int x4))) (w' := w1) (st1 := [.int x4]) hx hb hml hown hts hK hR hS (Nat.le_refl _) (Nat.le_refl _) rfl e2 (mJ9_length e3) (lw_V q349 q350 q351 q124 q352) (by decide +kernel) (Nat.le_of_ble_eq_true rfl) (Nat.le_of_ble_eq_true rfl) rfl hl.1 (Nat.le_of_ble_eq_true rfl) dJ7_append_10 rfl rfl (fun H locs hR hS => ?_)
  refine lv_istore_n (lv' := [(2, .int x4), (0, .ref v0), (1, .ref v1)]) hx hb dJ7_append_13 rfl hl (by decide) rfl (fun ls hl => ?_)
  refine lv_aload_n hx hb dJ7_append_14 rfl (lv_at hl 1 rfl) ?_
  refine lv_aload_n hx hb dJ7_append_15 rfl (lv_at hl 1 rfl) ?_
  replace h := bo_o h
  obtain ⟨x5, e6, h⟩ := h
  refine h_get (ci := 15) (k := 3) (v := .int x5) hx hb hts hown hK hR in_J8 rfl (by decide) (fun _ _ => rfl) q260 (fun _ h9 => h9) (gI_o e6) dJ7_append_16 ?_
  refine lv_iload_n hx hb dJ7_append_19 rfl (lv_at hl 0 rfl) ?_
  refine lv_iadd hx hb dJ7_append_20 ?_
  replace h := bo_o h
  obtain ⟨_, e8, h⟩ := h
  replace h := bo_o h
  obtain ⟨w7, e9, h⟩ := h
  refine h_callX 1 (ci := 15) (As := [.int (x5 + x4)]) (rest := []) (v := none) (w' := w7) (st1 := []) hx hb hml hown hts hK hR hS (Nat.le_refl _) (Nat.le_refl _) rfl e8 (mJ7_ensureCapacityInternal e9) (lw_meth q286) q122 q283 q285 (hK.sl 0 rfl) (by decide +kernel) (Nat.le_of_ble_eq_true rfl) (Nat.le_of_ble_eq_true rfl) rfl hl.1 (Nat.le_of_ble_eq_true rfl) dJ7_append_21 rfl rfl (fun H locs hR hS => ?_)
  refine lv_aload_n hx hb dJ7_append_24 rfl (lv_at hl 1 rfl) ?_
  refine lv_aload_n hx hb dJ7_append_25 rfl (lv_at hl 1 rfl) ?_
  replace h := bo_o h
  obtain ⟨x10, e11, h⟩ := h
  refine h_get (ci := 15) (k := 3) (v := .int x10) hx hb hts hown hK hR in_J8 rfl (by decide) (fun _ _ => rfl) q260 (fun _ h9 => h9) (gI_o e11) dJ7_append_26 ?_
  refine lv_aload_n hx hb dJ7_append_29 rfl (lv_at hl 2 rfl) ?_
  replace h := bo_o h
  obtain ⟨_, e13, h⟩ := h
  replace h := bo_o h
  obtain ⟨w12, e14, h⟩ := h
  refine h_callX 2 (ci := 15) (As := [.int x10, .ref v1]) (rest := []) (v := none) (w' := w12) (st1 := []) hx hb hml hown hts hK hR hS (Nat.le_refl _) (Nat.le_refl _) rfl e13 (mJ7_putStringAt e14) (lw_meth q361) q122 q358 q360 (hK.sl 2 rfl) (by decide +kernel) (Nat.le_of_ble_eq_true rfl) (Nat.le_of_ble_eq_true rfl) rfl hl.1 (Nat.le_of_ble_eq_true rfl) dJ7_append_30 rfl rfl (fun H locs hR hS => ?_)
  refine lv_aload_n hx hb dJ7_append_33 rfl (lv_at hl 1 rfl) ?_
  refine lv_dup hx hb dJ7_append_34 rfl ?_
  replace h := bo_o h
  obtain ⟨x15, e16, h⟩ := h
  refine h_get (ci := 15) (k := 3) (v := .int x15) hx hb hts hown hK hR in_J8 rfl (by decide) (fun _ _ => rfl) q260 (fun _ h9 => h9) (gI_o e16) dJ7_append_35 ?_
  refine lv_iload_n hx hb dJ7_append_38 rfl (lv_at hl 0 rfl) ?_
  refine lv_iadd hx hb dJ7_append_39 ?_
  replace h := bo_o h
  obtain ⟨w17, e18, h⟩ := h
  refine h_put (ci := 15) (k := 3) (ty := tyJ8 3) hx hb hts hown hK hR hS in_J8 tyJ8 tyJ8_ok nmJ8 rfl (by decide) q260 (fun _ h9 => h9) rfl (tyJ8_ok 3 (by decide)) rfl rfl e18 dJ7_append_40 (fun H locs hR hS => ?_)
  refine lv_aload_n hx hb dJ7_append_43 rfl (lv_at hl 1 rfl) ?_
  have eR := Option.some.inj h
  subst eR
  exact h_afin (x := some v0) hx hb hr hlk (by first | exact Or.inl ⟨_, rfl⟩ | exact Or.inr ⟨_, rfl⟩) hR hS dJ7_append_44
theorem mJ7_append {l : Launch} {G : gE} {A : Nat → Prop} {v0 : Nat} {v1 : Nat} {w : WH} {r : (Option Nat × WH)} (h : fJ7_append v0 v1 w = some r) : hM l G A yJ7_append cJ7_append 3 (some (.object "java/lang/AbstractStringBuilder")) 4 93 [.ref v0, .ref v1] w (some (va_rf r.1)) r.2 :=
  h_of (by decide +kernel) (Nat.le_of_ble_eq_true rfl) (fun p e s m args below meth c ls B hnm hR hS hl => bJ7_append_0 B h hR hS hl)
noncomputable def fJ8_append (v0 : Nat) (v1 : Nat) (w : WH) : Option ((Option Nat × WH)) :=
  (hIs w v0 15).bind fun _ =>
  b2_ (fJ7_append v0 v1 w) fun x4 w1 =>
  some (some v0, w1)
theorem bJ8_append_0 {p : Program} {l : Launch} {e : Env} {s : State} {m : MethodId} {args : Array Value} {below : List Frame} {meth : Method} {c : Code} {H : Heap} {locs : List Loc} {ls : Array Slot} {G : gE} {A : Nat → Prop} {w0 : WH} (B : gB G RJ8 cJ8_append 2 (some (.object "java/lang/StringBuilder")) p s m args meth c) {v0 : Nat} {v1 : Nat} {w : WH} {r : (Option Nat × WH)} (h : fJ8_append v0 v1 w = some r)   (hR : RepH G A w H) (hS : Cu A s w0 w H locs) (hl : lv_has ls 2 [(0, .ref v0), (1, .ref v1)]) : W p l e (hRm 5 115 w0) s m args below meth c H locs (wC w0 - wC w) (wS w0 - wS w) (hZ below args s G A w0 (some (va_rf r.1)) r.2) (F0 m 0 ls []) := by
  have B0 := B
  obtain ⟨hx, hb, hml, hown, hts, hr, hlk, hK⟩ := B0
  unfold fJ8_append at h
  refine lv_aload_n hx hb dJ8_append_0 rfl (lv_at hl 0 rfl) ?_
  refine lv_aload_n hx hb dJ8_append_1 rfl (lv_at hl 1 rfl) ?_
  replace h := bo_o h
  obtain ⟨_, e2, h⟩ := h
  replace h := b2_o h
  obtain ⟨x4, w1, e3, h⟩ := h
  refine h_callSU 1 (ci := 15) (As := [.ref v1]) (rest := []) (v := (some (va_rf x4))) (w' := w1) (st1 := [va_rf x4]) hx hb hml hown hts hK hR hS (Nat.le_refl _) (Nat.le_refl _) rfl e2 (mJ7_append e3) (lw_app (a := [.methodLink _ _ _, .sameMethod _ _ _ _, .superclass _ _, .instanceMethod _, .initialized _]) (lw_5 q276 q3035 q269 q277 q122) (lw_meth q278)) (by decide +kernel) (Nat.le_of_ble_eq_true rfl) (Nat.le_of_ble_eq_true rfl) rfl hl.1 (Nat.le_of_ble_eq_true rfl) dJ8_append_2 rfl rfl (fun H locs hR hS => ?_)
  refine lv_pop hx hb dJ8_append_5 (rf_cat _) ?_
  refine lv_aload_n hx hb dJ8_append_6 rfl (lv_at hl 0 rfl) ?_
  have eR := Option.some.inj h
  subst eR
  exact h_afin (x := some v0) hx hb hr hlk (by first | exact Or.inl ⟨_, rfl⟩ | exact Or.inr ⟨_, rfl⟩) hR hS dJ8_append_7
theorem mJ8_append {l : Launch} {G : gE} {A : Nat → Prop} {v0 : Nat} {v1 : Nat} {w : WH} {r : (Option Nat × WH)} (h : fJ8_append v0 v1 w = some r) : hM l G A yJ8_append cJ8_append 2 (some (.object "java/lang/StringBuilder")) 5 115 [.ref v0, .ref v1] w (some (va_rf r.1)) r.2 :=
  h_of (by decide +kernel) (Nat.le_of_ble_eq_true rfl) (fun p e s m args below meth c ls B hnm hR hS hl => bJ8_append_0 B h hR hS hl)
noncomputable def fJ31_getFirst (v0 : Nat) (w : WH) : Option ((Option Nat × WH)) :=
  (gR w v0 11 2).bind fun x1 =>
  if x1 = none then (
    none
  ) else (
    x1.bind fun a4 =>
    (gR w a4 3 0).bind fun x6 =>
    some (x6, w)
  )
theorem bJ31_getFirst_0 {p : Program} {l : Launch} {e : Env} {s : State} {m : MethodId} {args : Array Value} {below : List Frame} {meth : Method} {c : Code} {H : Heap} {locs : List Loc} {ls : Array Slot} {G : gE} {A : Nat → Prop} {w0 : WH} (B : gB G RJ31 cJ31_getFirst 2 (some (.object "java/lang/Object")) p s m args meth c) {v0 : Nat} {w : WH} {r : (Option Nat × WH)} (h : fJ31_getFirst v0 w = some r)   (hR : RepH G A w H) (hS : Cu A s w0 w H locs) (hl : lv_has ls 2 [(0, .ref v0)]) : W p l e (hRm 0 0 w0) s m args below meth c H locs (wC w0 - wC w) (wS w0 - wS w) (hZ below args s G A w0 (some (va_rf r.1)) r.2) (F0 m 0 ls []) := by
  have B0 := B
  obtain ⟨hx, hb, hml, hown, hts, hr, hlk, hK⟩ := B0
  unfold fJ31_getFirst at h
  refine lv_aload_n hx hb dJ31_getFirst_0 rfl (lv_at hl 0 rfl) ?_
  replace h := bo_o h
  obtain ⟨x1, e2, h⟩ := h
  refine h_get (ci := 11) (k := 2) (v := va_rf x1) hx hb hts hown hK hR in_J31 rfl (by decide) (fun _ _ => rfl) q2059 (fun _ h9 => h9) (gR_o e2) dJ31_getFirst_1 ?_
  refine lv_astore_nq (lv' := [(1, va_rf x1), (0, .ref v0)]) hx hb dJ31_getFirst_4 rfl hl (by decide) rfl (fun ls hl => ?_)
  refine lv_aload_nq hx hb dJ31_getFirst_5 rfl (lv_at hl 0 rfl) ?_
  refine lv_ifnonnullq (tgt := 17) hx hb dJ31_getFirst_6 (by decide) (fun c3 => ?_) (fun c3 => ?_)
  · replace h := if_o c3 h
    refine lv_aload_nq hx hb dJ31_getFirst_17 rfl (lv_at hl 0 rfl) ?_
    replace h := bo_o h
    obtain ⟨a4, e5, h⟩ := h
    subst e5
    replace h := bo_o h
    obtain ⟨x6, e7, h⟩ := h
    refine h_get (ci := 3) (k := 0) (v := va_rf x6) hx hb hts hown hK hR in_J20 rfl (by decide) (fun _ _ => rfl) q1035 (fun _ h9 => h9) (gR_o e7) dJ31_getFirst_18 ?_
    have eR := Option.some.inj h
    subst eR
    exact h_afin (x := x6) hx hb hr hlk (by first | exact Or.inl ⟨_, rfl⟩ | exact Or.inr ⟨_, rfl⟩) hR hS dJ31_getFirst_21
  · replace h := it_o c3 h
    exact (nomatch h)
theorem mJ31_getFirst {l : Launch} {G : gE} {A : Nat → Prop} {v0 : Nat} {w : WH} {r : (Option Nat × WH)} (h : fJ31_getFirst v0 w = some r) : hM l G A yJ31_getFirst cJ31_getFirst 2 (some (.object "java/lang/Object")) 0 0 [.ref v0] w (some (va_rf r.1)) r.2 :=
  h_of (by decide +kernel) (Nat.le_of_ble_eq_true rfl) (fun p e s m args below meth c ls B hnm hR hS hl => bJ31_getFirst_0 B h hR hS hl)
noncomputable def fJ31_isPositionIndex (v0 : Nat) (v1 : Int32) (w : WH) : Option ((Int32 × WH)) :=
  if v1 < 0 then (
    some (0, w)
  ) else (
    (gI w v0 11 1).bind fun x2 =>
    if x2 < v1 then (
      some (0, w)
    ) else (
      some (1, w)
    )
  )
theorem bJ31_isPositionIndex_0 {p : Program} {l : Launch} {e : Env} {s : State} {m : MethodId} {args : Array Value} {below : List Frame} {meth : Method} {c : Code} {H : Heap} {locs : List Loc} {ls : Array Slot} {G : gE} {A : Nat → Prop} {w0 : WH} (B : gB G RJ31 cJ31_isPositionIndex 2 (some .boolean) p s m args meth c) {v0 : Nat} {v1 : Int32} {w : WH} {r : (Int32 × WH)} (h : fJ31_isPositionIndex v0 v1 w = some r)   (hR : RepH G A w H) (hS : Cu A s w0 w H locs) (hl : lv_has ls 2 [(0, .ref v0), (1, .int v1)]) : W p l e (hRm 0 0 w0) s m args below meth c H locs (wC w0 - wC w) (wS w0 - wS w) (hZ below args s G A w0 (some (.int r.1)) r.2) (F0 m 0 ls []) := by
  have B0 := B
  obtain ⟨hx, hb, hml, hown, hts, hr, hlk, hK⟩ := B0
  unfold fJ31_isPositionIndex at h
  refine lv_iload_n hx hb dJ31_isPositionIndex_0 rfl (lv_at hl 1 rfl) ?_
  refine lv_if_lt (tgt := 16) hx hb dJ31_isPositionIndex_1 (by decide) (fun c1 => ?_) (fun c1 => ?_)
  · replace h := it_o c1 h
    refine lv_iconst (v := 0) hx hb dJ31_isPositionIndex_16 (by decide) ?_
    have eR := Option.some.inj h
    subst eR
    exact h_zfin hx hb hr hlk (by show narrow .boolean (.int 0) = .int 0; decide) hR hS dJ31_isPositionIndex_17
  · replace h := if_o c1 h
    refine lv_iload_n hx hb dJ31_isPositionIndex_4 rfl (lv_at hl 1 rfl) ?_
    refine lv_aload_n hx hb dJ31_isPositionIndex_5 rfl (lv_at hl 0 rfl) ?_
    replace h := bo_o h
    obtain ⟨x2, e3, h⟩ := h
    refine h_get (ci := 11) (k := 1) (v := .int x2) hx hb hts hown hK hR in_J31 rfl (by decide) (fun _ _ => rfl) q2057 (fun _ h9 => h9) (gI_o e3) dJ31_isPositionIndex_6 ?_
    refine lv_icmp_gt (tgt := 16) hx hb dJ31_isPositionIndex_9 (by decide) (fun c4 => ?_) (fun c4 => ?_)
    · replace h := it_o c4 h
      refine lv_iconst (v := 0) hx hb dJ31_isPositionIndex_16 (by decide) ?_
      have eR := Option.some.inj h
      subst eR
      exact h_zfin hx hb hr hlk (by show narrow .boolean (.int 0) = .int 0; decide) hR hS dJ31_isPositionIndex_17
    · replace h := if_o c4 h
      refine lv_iconst (v := 1) hx hb dJ31_isPositionIndex_12 (by decide) ?_
      refine lv_goto (tgt := 17) hx hb dJ31_isPositionIndex_13 (by decide) ?_
      have eR := Option.some.inj h
      subst eR
      exact h_zfin hx hb hr hlk (by show narrow .boolean (.int 1) = .int 1; decide) hR hS dJ31_isPositionIndex_17
theorem mJ31_isPositionIndex {l : Launch} {G : gE} {A : Nat → Prop} {v0 : Nat} {v1 : Int32} {w : WH} {r : (Int32 × WH)} (h : fJ31_isPositionIndex v0 v1 w = some r) : hM l G A yJ31_isPositionIndex cJ31_isPositionIndex 2 (some .boolean) 0 0 [.ref v0, .int v1] w (some (.int r.1)) r.2 :=
  h_of (by decide +kernel) (Nat.le_of_ble_eq_true rfl) (fun p e s m args below meth c ls B hnm hR hS hl => bJ31_isPositionIndex_0 B h hR hS hl)
noncomputable def fJ31_checkPositionIndex (v0 : Nat) (v1 : Int32) (w : WH) : Option (WH) :=
  (hIs w v0 11).bind fun _ =>
  b2_ (fJ31_isPositionIndex v0 v1 w) fun x4 w1 =>
  if x4 = 0 then (
    none
  ) else (
    some w1
  )
theorem bJ31_checkPositionIndex_0 {p : Program} {l : Launch} {e : Env} {s : State} {m : MethodId} {args : Array Value} {below : List Frame} {meth : Method} {c : Code} {H : Heap} {locs : List Loc} {ls : Array Slot} {G : gE} {A : Nat → Prop} {w0 : WH} (B : gB G RJ31 cJ31_checkPositionIndex 2 none p s m args meth c) {v0 : Nat} {v1 : Int32} {w : WH} {r : WH} (h : fJ31_checkPositionIndex v0 v1 w = some r)   (hR : RepH G A w H) (hS : Cu A s w0 w H locs) (hl : lv_has ls 2 [(0, .ref v0), (1, .int v1)]) : W p l e (hRm 6 104 w0) s m args below meth c H locs (wC w0 - wC w) (wS w0 - wS w) (hZ below args s G A w0 none r) (F0 m 0 ls []) := by
  have B0 := B
  obtain ⟨hx, hb, hml, hown, hts, hr, hlk, hK⟩ := B0
  unfold fJ31_checkPositionIndex at h
  refine lv_aload_n hx hb dJ31_checkPositionIndex_0 rfl (lv_at hl 0 rfl) ?_
  refine lv_iload_n hx hb dJ31_checkPositionIndex_1 rfl (lv_at hl 1 rfl) ?_
  replace h := bo_o h
  obtain ⟨_, e2, h⟩ := h
  replace h := b2_o h
  obtain ⟨x4, w1, e3, h⟩ := h
  refine h_callV 1 (ci := 11) (As := [.int v1]) (rest := []) (v := (some (.int x4))) (w' := w1) (st1 := [.int x4]) hx hb hml hown hts hK hR hS (Nat.le_refl _) (Nat.le_refl _) rfl e2 (mJ31_isPositionIndex e3) (lw_V q1511 q1513 qs34 q156 q1514) (by decide +kernel) (Nat.le_of_ble_eq_true rfl) (Nat.le_of_ble_eq_true rfl) rfl hl.1 (Nat.le_of_ble_eq_true rfl) dJ31_checkPositionIndex_2 rfl rfl (fun H locs hR hS => ?_)
  refine lv_if_ne (tgt := 21) hx hb dJ31_checkPositionIndex_5 (by decide) (fun c5 => ?_) (fun c5 => ?_)
  · replace h := if_o c5 h
    have eR := Option.some.inj h
    subst eR
    exact h_vfin hx hb hr hlk hR hS dJ31_checkPositionIndex_21
  · replace h := it_o c5 h
    exact (nomatch h)
theorem mJ31_checkPositionIndex {l : Launch} {G : gE} {A : Nat → Prop} {v0 : Nat} {v1 : Int32} {w : WH} {r : WH} (h : fJ31_checkPositionIndex v0 v1 w = some r) : hM l G A yJ31_checkPositionIndex cJ31_checkPositionIndex 2 none 6 104 [.ref v0, .int v1] w none r :=
  h_of (by decide +kernel) (Nat.le_of_ble_eq_true rfl) (fun p e s m args below meth c ls B hnm hR hS hl => bJ31_checkPositionIndex_0 B h hR hS hl)
noncomputable def fJ25_init_b38 (v0 : Nat) (v2 : Int32) (s0 : Nat) (s1 : Option Nat) (w : WH) : Option (WH) :=
  (hPut w s0 7 1 (va_rf s1)).bind fun w1 =>
  (hPut w1 v0 7 2 (.int v2)).bind fun w3 =>
  some w3
theorem bJ25_init_38 {p : Program} {l : Launch} {e : Env} {s : State} {m : MethodId} {args : Array Value} {below : List Frame} {meth : Method} {c : Code} {H : Heap} {locs : List Loc} {ls : Array Slot} {G : gE} {A : Nat → Prop} {w0 : WH} (B : gB G RJ25 cJ25_init 3 none p s m args meth c) (hnm : meth.name = "<init>") {v0 : Nat} {v2 : Int32} {s0 : Nat} {s1 : Option Nat} {w : WH} {r : WH} (h : fJ25_init_b38 v0 v2 s0 s1 w = some r)   (hR : RepH G A w H) (hS : Cu A s w0 w H locs) (hl : lv_has ls 3 [(0, .ref v0), (2, .int v2)]) : W p l e (hRm 1 23 w0) s m args below meth c H locs (wC w0 - wC w) (wS w0 - wS w) (hZ below args s G A w0 none r) (F0 m 38 ls [va_rf s1, .ref s0]) := by
  have B0 := B
  obtain ⟨hx, hb, hml, hown, hts, hr, hlk, hK⟩ := B0
  unfold fJ25_init_b38 at h
  replace h := bo_o h
  obtain ⟨w1, e2, h⟩ := h
  refine h_put (ci := 7) (k := 1) (ty := tyJ25 1) hx hb hts hown hK hR hS in_J25 tyJ25 tyJ25_ok nmJ25 rfl (by decide) q1523 (fun _ h9 => h9) rfl (tyJ25_ok 1 (by decide)) (by cases s1 <;> rfl) (by cases s1 <;> rfl) e2 dJ25_init_38 (fun H locs hR hS => ?_)
  refine lv_aload_n hx hb dJ25_init_41 rfl (lv_at hl 0 rfl) ?_
  refine lv_iload_n hx hb dJ25_init_42 rfl (lv_at hl 1 rfl) ?_
  replace h := bo_o h
  obtain ⟨w3, e4, h⟩ := h
  refine h_put (ci := 7) (k := 2) (ty := tyJ25 2) hx hb hts hown hK hR hS in_J25 tyJ25 tyJ25_ok nmJ25 rfl (by decide) q1524 (fun _ h9 => h9) rfl (tyJ25_ok 2 (by decide)) rfl rfl e4 dJ25_init_43 (fun H locs hR hS => ?_)
  have eR := Option.some.inj h
  subst eR
  exact h_vfin hx hb hr hlk hR hS dJ25_init_46
noncomputable def fJ25_init (v0 : Nat) (v1 : Nat) (v2 : Int32) (w : WH) : Option (WH) :=
  (hPut w v0 7 4 (.ref v1)).bind fun w1 =>
  (gR w1 v0 7 4).bind fun x3 =>
  x3.bind fun a5 =>
  (gI w1 a5 11 0).bind fun x7 =>
  (hPut w1 v0 7 3 (.int x7)).bind fun w9 =>
  (gI w9 v1 11 1).bind fun x11 =>
  if v2 = x11 then (
    fJ25_init_b38 v0 v2 v0 none w9
  ) else (
    (hIs w9 v1 11).bind fun _ =>
    b2_ (fJ31_node v1 v2 w9) fun x17 w14 =>
    fJ25_init_b38 v0 v2 v0 x17 w14
  )
theorem bJ25_init_0 {p : Program} {l : Launch} {e : Env} {s : State} {m : MethodId} {args : Array Value} {below : List Frame} {meth : Method} {c : Code} {H : Heap} {locs : List Loc} {ls : Array Slot} {G : gE} {A : Nat → Prop} {w0 : WH} (B : gB G RJ25 cJ25_init 3 none p s m args meth c) (hnm : meth.name = "<init>") {v0 : Nat} {v1 : Nat} {v2 : Int32} {w : WH} {r : WH} (h : fJ25_init v0 v1 v2 w = some r)   (hR : RepH G A w H) (hS : Cu A s w0 w H locs) (hl : lv_has ls 3 [(0, .ref v0), (1, .ref v1), (2, .int v2)]) : W p l e (hRm 1 23 w0) s m args below meth c H locs (wC w0 - wC w) (wS w0 - wS w) (hZ below args s G A w0 none r) (F0 m 0 ls []) := by
  have B0 := B
  obtain ⟨hx, hb, hml, hown, hts, hr, hlk, hK⟩ := B0
  unfold fJ25_init at h
  refine lv_aload_n hx hb dJ25_init_0 rfl (lv_at hl 0 rfl) ?_
  refine lv_aload_n hx hb dJ25_init_1 rfl (lv_at hl 1 rfl) ?_
  replace h := bo_o h
  obtain ⟨w1, e2, h⟩ := h
  refine h_putF (ci := 7) (k := 4) (ty := tyJ25 4) hx hb hts hown hK hR hS in_J25 tyJ25 tyJ25_ok nmJ25 rfl (by decide) q1526 (fun _ h9 => h9) rfl hnm rfl (tyJ25_ok 4 (by decide)) rfl rfl e2 dJ25_init_2 (fun H locs hR hS => ?_)
  refine lv_aload_n hx hb dJ25_init_5 rfl (lv_at hl 0 rfl) ?_
  refine W.objInit hx hb hown (hts _ q1520) (hts _ q168) (hts _ q169) rfl (by rw [hml]; exact hl.1) rfl dJ25_init_6 (Nat.le_of_ble_eq_true rfl) (Nat.le_of_ble_eq_true rfl) ?_
  refine W.eq (g2 := F0 m 9 ls []) rfl ?_
  refine lv_aload_n hx hb dJ25_init_9 rfl (lv_at hl 0 rfl) ?_
  refine lv_aload_n hx hb dJ25_init_10 rfl (lv_at hl 0 rfl) ?_
  replace h := bo_o h
  obtain ⟨x3, e4, h⟩ := h
  refine h_get (ci := 7) (k := 4) (v := va_rf x3) hx hb hts hown hK hR in_J25 rfl (by decide) (fun _ _ => rfl) q1526 (fun _ h9 => h9) (gR_o e4) dJ25_init_11 ?_
  replace h := bo_o h
  obtain ⟨a5, e6, h⟩ := h
  subst e6
  replace h := bo_o h
  obtain ⟨x7, e8, h⟩ := h
  refine h_get (ci := 11) (k := 0) (v := .int x7) hx hb hts hown hK hR in_J31 rfl (by decide) (fun _ _ => rfl) q517 (fun x9 h9 => u_same (hts _ q518) x9 h9) (gI_o e8) dJ25_init_14 ?_
  replace h := bo_o h
  obtain ⟨w9, e10, h⟩ := h
  refine h_put (ci := 7) (k := 3) (ty := tyJ25 3) hx hb hts hown hK hR hS in_J25 tyJ25 tyJ25_ok nmJ25 rfl (by decide) q1525 (fun _ h9 => h9) rfl (tyJ25_ok 3 (by decide)) rfl rfl e10 dJ25_init_17 (fun H locs hR hS => ?_)
  refine lv_aload_n hx hb dJ25_init_20 rfl (lv_at hl 0 rfl) ?_
  refine lv_iload_n hx hb dJ25_init_21 rfl (lv_at hl 2 rfl) ?_
  refine lv_aload_n hx hb dJ25_init_22 rfl (lv_at hl 1 rfl) ?_
  replace h := bo_o h
  obtain ⟨x11, e12, h⟩ := h
  refine h_get (ci := 11) (k := 1) (v := .int x11) hx hb hts hown hK hR in_J31 rfl (by decide) (fun _ _ => rfl) q2058 (fun _ h9 => h9) (gI_o e12) dJ25_init_23 ?_
  refine lv_icmp_ne (tgt := 33) hx hb dJ25_init_26 (by decide) (fun c13 => ?_) (fun c13 => ?_)
  · replace h := if_o c13 h
    refine lv_aload_n hx hb dJ25_init_33 rfl (lv_at hl 1 rfl) ?_
    refine lv_iload_n hx hb dJ25_init_34 rfl (lv_at hl 2 rfl) ?_
    replace h := bo_o h
    obtain ⟨_, e15, h⟩ := h
    replace h := b2_o h
    obtain ⟨x17, w14, e16, h⟩ := h
    refine h_callV 1 (ci := 11) (As := [.int v2]) (rest := [.ref v0]) (v := (some (va_rf x17))) (w' := w14) (st1 := [va_rf x17, .ref v0]) hx hb hml hown hts hK hR hS (Nat.le_refl _) (Nat.le_refl _) rfl e15 (mJ31_node e16) (lw_V q1521 q1262 q1263 q156 q1264) (by decide +kernel) (Nat.le_of_ble_eq_true rfl) (Nat.le_of_ble_eq_true rfl) rfl hl.1 (Nat.le_of_ble_eq_true rfl) dJ25_init_35 rfl rfl (fun H locs hR hS => ?_)
    exact bJ25_init_38 B hnm h  hR hS (lv_sub hl [0, 2] rfl)
  · replace h := it_o c13 h
    refine lv_null hx hb dJ25_init_29 ?_
    refine lv_goto (tgt := 38) hx hb dJ25_init_30 (by decide) ?_
    exact bJ25_init_38 B hnm h  hR hS (lv_sub hl [0, 2] rfl)
theorem mJ25_init {l : Launch} {G : gE} {A : Nat → Prop} {v0 : Nat} {v1 : Nat} {v2 : Int32} {w : WH} {r : WH} (h : fJ25_init v0 v1 v2 w = some r) : hM l G A yJ25_init cJ25_init 3 none 1 23 [.ref v0, .ref v1, .int v2] w none r :=
  h_of (by decide +kernel) (Nat.le_of_ble_eq_true rfl) (fun p e s m args below meth c ls B hnm hR hS hl => bJ25_init_0 B hnm h hR hS hl)
noncomputable def fJ31_listIterator (v0 : Nat) (v1 : Int32) (w : WH) : Option ((Option Nat × WH)) :=
  (hIs w v0 11).bind fun _ =>
  (fJ31_checkPositionIndex v0 v1 w).bind fun w1 =>
  b2_ (hNw w1 5 7 [.null, .null, .int 0, .int 0, .null]) fun a4 w5 =>
  (fJ25_init a4 v0 v1 w5).bind fun w7 =>
  some (some a4, w7)
theorem bJ31_listIterator_0 {p : Program} {l : Launch} {e : Env} {s : State} {m : MethodId} {args : Array Value} {below : List Frame} {meth : Method} {c : Code} {H : Heap} {locs : List Loc} {ls : Array Slot} {G : gE} {A : Nat → Prop} {w0 : WH} (B : gB G RJ31 cJ31_listIterator 2 (some (.object "java/util/ListIterator")) p s m args meth c) {v0 : Nat} {v1 : Int32} {w : WH} {r : (Option Nat × WH)} (h : fJ31_listIterator v0 v1 w = some r)   (hR : RepH G A w H) (hS : Cu A s w0 w H locs) (hl : lv_has ls 2 [(0, .ref v0), (1, .int v1)]) : W p l e (hRm 7 125 w0) s m args below meth c H locs (wC w0 - wC w) (wS w0 - wS w) (hZ below args s G A w0 (some (va_rf r.1)) r.2) (F0 m 0 ls []) := by
  have B0 := B
  obtain ⟨hx, hb, hml, hown, hts, hr, hlk, hK⟩ := B0
  unfold fJ31_listIterator at h
  refine lv_aload_n hx hb dJ31_listIterator_0 rfl (lv_at hl 0 rfl) ?_
  refine lv_iload_n hx hb dJ31_listIterator_1 rfl (lv_at hl 1 rfl) ?_
  replace h := bo_o h
  obtain ⟨_, e2, h⟩ := h
  replace h := bo_o h
  obtain ⟨w1, e3, h⟩ := h
  refine h_callV 1 (ci := 11) (As := [.int v1]) (rest := []) (v := none) (w' := w1) (st1 := []) hx hb hml hown hts hK hR hS (Nat.le_refl _) (Nat.le_refl _) rfl e2 (mJ31_checkPositionIndex e3) (lw_V q1507 q1509 qs33 q156 q1510) (by decide +kernel) (Nat.le_of_ble_eq_true rfl) (Nat.le_of_ble_eq_true rfl) rfl hl.1 (Nat.le_of_ble_eq_true rfl) dJ31_listIterator_2 rfl rfl (fun H locs hR hS => ?_)
  replace h := b2_o h
  obtain ⟨a4, w5, e6, h⟩ := h
  refine h_new (ci := 7) (fs := [.null, .null, .int 0, .int 0, .null]) hx hb hts hown hK hR hS (Nat.le_refl _) (Nat.le_refl _) in_J25 tyJ25 tyJ25_ok rfl (by decide +kernel) q1515 q1516 q149 e6 dJ31_listIterator_5 (fun H locs hR hS => ?_)
  refine lv_dup hx hb dJ31_listIterator_8 rfl ?_
  refine lv_aload_n hx hb dJ31_listIterator_9 rfl (lv_at hl 0 rfl) ?_
  refine lv_iload_n hx hb dJ31_listIterator_10 rfl (lv_at hl 1 rfl) ?_
  replace h := bo_o h
  obtain ⟨w7, e8, h⟩ := h
  refine h_callI 2  (As := [.ref v0, .int v1]) (rest := [.ref a4]) (w' := w7) hx hb hml hown hts hK hR hS (Nat.le_refl _) (Nat.le_refl _) (mJ25_init e8) (lw_meth q1519) q149 q1517 q1518 rfl (by decide +kernel) (Nat.le_of_ble_eq_true rfl) (Nat.le_of_ble_eq_true rfl) rfl hl.1 (Nat.le_of_ble_eq_true rfl) dJ31_listIterator_11 rfl (fun H locs hR hS => ?_)
  have eR := Option.some.inj h
  subst eR
  exact h_afin (x := some a4) hx hb hr hlk (by first | exact Or.inl ⟨_, rfl⟩ | exact Or.inr ⟨_, rfl⟩) hR hS dJ31_listIterator_14
theorem mJ31_listIterator {l : Launch} {G : gE} {A : Nat → Prop} {v0 : Nat} {v1 : Int32} {w : WH} {r : (Option Nat × WH)} (h : fJ31_listIterator v0 v1 w = some r) : hM l G A yJ31_listIterator cJ31_listIterator 2 (some (.object "java/util/ListIterator")) 7 125 [.ref v0, .int v1] w (some (va_rf r.1)) r.2 :=
  h_of (by decide +kernel) (Nat.le_of_ble_eq_true rfl) (fun p e s m args below meth c ls B hnm hR hS hl => bJ31_listIterator_0 B h hR hS hl)
noncomputable def fJ1_listIterator (v0 : Nat) (w : WH) : Option ((Option Nat × WH)) :=
  (hIs w v0 11).bind fun _ =>
  b2_ (fJ31_listIterator v0 0 w) fun x4 w1 =>
  some (x4, w1)
theorem bJ1_listIterator_0 {p : Program} {l : Launch} {e : Env} {s : State} {m : MethodId} {args : Array Value} {below : List Frame} {meth : Method} {c : Code} {H : Heap} {locs : List Loc} {ls : Array Slot} {G : gE} {A : Nat → Prop} {w0 : WH} (B : gB G RJ1 cJ1_listIterator 1 (some (.object "java/util/ListIterator")) p s m args meth c) {v0 : Nat} {w : WH} {r : (Option Nat × WH)} (h : fJ1_listIterator v0 w = some r)   (hR : RepH G A w H) (hS : Cu A s w0 w H locs) (hl : lv_has ls 1 [(0, .ref v0)]) : W p l e (hRm 8 146 w0) s m args below meth c H locs (wC w0 - wC w) (wS w0 - wS w) (hZ below args s G A w0 (some (va_rf r.1)) r.2) (F0 m 0 ls []) := by
  have B0 := B
  obtain ⟨hx, hb, hml, hown, hts, hr, hlk, hK⟩ := B0
  unfold fJ1_listIterator at h
  refine lv_aload_n hx hb dJ1_listIterator_0 rfl (lv_at hl 0 rfl) ?_
  refine lv_iconst (v := 0) hx hb dJ1_listIterator_1 (by decide) ?_
  replace h := bo_o h
  obtain ⟨_, e2, h⟩ := h
  replace h := b2_o h
  obtain ⟨x4, w1, e3, h⟩ := h
  refine h_callA 1 (ci := 11) (owner := "java/util/AbstractList") (x := ⟨"java/util/AbstractList", "listIterator", "(I)Ljava/util/ListIterator;"⟩) (As := [.int 0]) (rest := []) (v := (some (va_rf x4))) (w' := w1) (st1 := [va_rf x4]) hx hb hml hown hts hK hR hS (Nat.le_refl _) (Nat.le_refl _) rfl e2 (mJ31_listIterator e3) (lw_app (a := [.methodLink _ _ _, .sameMethod _ _ _ _, .selects _ _ _, .instanceMethod _, .initialized _]) (lw_5 q1472 q1474 q1504 q1505 q156) (lw_meth q1506)) (hK.dc 3 rfl) (by decide +kernel) (Nat.le_of_ble_eq_true rfl) (Nat.le_of_ble_eq_true rfl) rfl hl.1 (Nat.le_of_ble_eq_true rfl) dJ1_listIterator_2 rfl rfl (fun H locs hR hS => ?_)
  have eR := Option.some.inj h
  subst eR
  exact h_afin (x := x4) hx hb hr hlk (by first | exact Or.inl ⟨_, rfl⟩ | exact Or.inr ⟨_, rfl⟩) hR hS dJ1_listIterator_5
theorem mJ1_listIterator {l : Launch} {G : gE} {A : Nat → Prop} {v0 : Nat} {w : WH} {r : (Option Nat × WH)} (h : fJ1_listIterator v0 w = some r) : hM l G A yJ1_listIterator cJ1_listIterator 1 (some (.object "java/util/ListIterator")) 8 146 [.ref v0] w (some (va_rf r.1)) r.2 :=
  h_of (by decide +kernel) (Nat.le_of_ble_eq_true rfl) (fun p e s m args below meth c ls B hnm hR hS hl => bJ1_listIterator_0 B h hR hS hl)
noncomputable def fJ30_iterator (v0 : Nat) (w : WH) : Option ((Option Nat × WH)) :=
  (hIs w v0 11).bind fun _ =>
  b2_ (fJ1_listIterator v0 w) fun x4 w1 =>
  some (x4, w1)
theorem bJ30_iterator_0 {p : Program} {l : Launch} {e : Env} {s : State} {m : MethodId} {args : Array Value} {below : List Frame} {meth : Method} {c : Code} {H : Heap} {locs : List Loc} {ls : Array Slot} {G : gE} {A : Nat → Prop} {w0 : WH} (B : gB G RJ30 cJ30_iterator 1 (some (.object "java/util/Iterator")) p s m args meth c) {v0 : Nat} {w : WH} {r : (Option Nat × WH)} (h : fJ30_iterator v0 w = some r)   (hR : RepH G A w H) (hS : Cu A s w0 w H locs) (hl : lv_has ls 1 [(0, .ref v0)]) : W p l e (hRm 9 166 w0) s m args below meth c H locs (wC w0 - wC w) (wS w0 - wS w) (hZ below args s G A w0 (some (va_rf r.1)) r.2) (F0 m 0 ls []) := by
  have B0 := B
  obtain ⟨hx, hb, hml, hown, hts, hr, hlk, hK⟩ := B0
  unfold fJ30_iterator at h
  refine lv_aload_n hx hb dJ30_iterator_0 rfl (lv_at hl 0 rfl) ?_
  replace h := bo_o h
  obtain ⟨_, e2, h⟩ := h
  replace h := b2_o h
  obtain ⟨x4, w1, e3, h⟩ := h
  refine h_callU 0 (ci := 11) (owner := "java/util/AbstractList") (x := ⟨"java/util/AbstractSequentialList", "listIterator", "()Ljava/util/ListIterator;"⟩) (As := []) (rest := []) (v := (some (va_rf x4))) (w' := w1) (st1 := [va_rf x4]) hx hb hml hown hts hK hR hS (Nat.le_refl _) (Nat.le_refl _) rfl e2 (mJ1_listIterator e3) (lw_app (a := [.methodLink _ _ _, .sameMethod _ _ _ _, .selects _ _ _, .instanceMethod _, .initialized _]) (lw_5 q1466 q1467 q1469 q1470 q116) (lw_meth q1471)) rfl (by decide +kernel) (Nat.le_of_ble_eq_true rfl) (Nat.le_of_ble_eq_true rfl) rfl hl.1 (Nat.le_of_ble_eq_true rfl) dJ30_iterator_1 rfl rfl (fun H locs hR hS => ?_)
  have eR := Option.some.inj h
  subst eR
  exact h_afin (x := x4) hx hb hr hlk (by first | exact Or.inl ⟨_, rfl⟩ | exact Or.inr ⟨_, rfl⟩) hR hS dJ30_iterator_4
theorem mJ30_iterator {l : Launch} {G : gE} {A : Nat → Prop} {v0 : Nat} {w : WH} {r : (Option Nat × WH)} (h : fJ30_iterator v0 w = some r) : hM l G A yJ30_iterator cJ30_iterator 1 (some (.object "java/util/Iterator")) 9 166 [.ref v0] w (some (va_rf r.1)) r.2 :=
  h_of (by decide +kernel) (Nat.le_of_ble_eq_true rfl) (fun p e s m args below meth c ls B hnm hR hS hl => bJ30_iterator_0 B h hR hS hl)
