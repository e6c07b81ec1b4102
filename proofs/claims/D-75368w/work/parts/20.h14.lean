set_option maxRecDepth 100000
set_option maxHeartbeats 4000000

noncomputable def fX1_revenueOf (v0 : Nat) (v1 : Int32) (w : WH) : Option (((Sum (Int64) (Nat × Nat)) × WH)) :=
  (hIs w v0 17).bind fun _ =>
  b2_ (fX1_isTrip v0 v1 w) fun x4 w1 =>
  b2_ (fX1_requireIndex x4 w1) fun o6 w5 => ex_ o6 (fun _ =>
    (hIs w5 v0 17).bind fun _ =>
    b2_ (fX1_brings v0 v1 w5) fun x13 w10 =>
    some (.inl x13, w10)) (fun q9 =>
    some (.inr q9, w5))
theorem bX1_revenueOf_0 {p : Program} {l : Launch} {e : Env} {s : State} {m : MethodId} {args : Array Value} {below : List Frame} {meth : Method} {c : Code} {H : Heap} {locs : List Loc} {ls : Array Slot} {G : gE} {A : Nat → Prop} {w0 : WH} (B : gB G RX1 cX1_revenueOf 2 (some .long) p s m args meth c) (hT : ∀ x ∈ c.exceptionTable.toList, False) (hl0 : l.stackTraces = false) {v0 : Nat} {v1 : Int32} {w : WH} {r : ((Sum (Int64) (Nat × Nat)) × WH)} (h : fX1_revenueOf v0 v1 w = some r)   (hR : RepH G A w H) (hS : Cu A s w0 w H locs) (hl : lv_has ls 2 [(0, .ref v0), (1, .int v1)]) : W p l e (hRm 19 431 w0) s m args below meth c H locs (wC w0 - wC w) (wS w0 - wS w) (hZX below args s G A w0 (oJ r.1) r.2) (F0 m 0 ls []) := by
  have B0 := B
  obtain ⟨hx, hb, hml, hown, hts, hr, hlk, hK⟩ := B0
  unfold fX1_revenueOf at h
  refine lv_aload_n hx hb dX1_revenueOf_0 rfl (lv_at hl 0 rfl) ?_
  refine lv_iload_n hx hb dX1_revenueOf_1 rfl (lv_at hl 1 rfl) ?_
  replace h := bo_o h
  obtain ⟨_, e2, h⟩ := h
  replace h := b2_o h
  obtain ⟨x4, w1, e3, h⟩ := h
  refine h_callV 1 (ci := 17) (As := [.int v1]) (rest := []) (v := (some (.int x4))) (w' := w1) (st1 := [.int x4]) hx hb hml hown hts hK hR hS (Nat.le_refl _) (Nat.le_refl _) rfl e2 (mX1_isTrip e3) (lw_V q1979 q1981 qs49 q112 q1982) (by decide +kernel) (Nat.le_of_ble_eq_true rfl) (Nat.le_of_ble_eq_true rfl) rfl hl.1 (Nat.le_of_ble_eq_true rfl) dX1_revenueOf_2 rfl rfl (fun H locs hR hS => ?_)
  replace h := b2_o h
  obtain ⟨o6, w5, e7, h⟩ := h
  refine h_callSX 1 (As := [.int x4]) (rest := []) (o := oV o6) (w' := w5)  hx hb hml hown hts hK hR hS (Nat.le_refl _) (Nat.le_refl _) (mX1_requireIndex hl0 e7) (lw_S q1956 q1957 q112 q1958) (by decide +kernel) (Nat.le_of_ble_eq_true rfl) (Nat.le_of_ble_eq_true rfl) rfl hl.1 (Nat.le_of_ble_eq_true rfl) dX1_revenueOf_5 rfl (fun v9 hv9 H locs hR hS => ?_) (fun E9 q9 hq9 H locs hR hS hce => ?_)
  · cases o6 with
    | inr q => cases hv9
    | inl x8 =>
      cases hv9
      replace h := exl_o h
      refine W.eq (g2 := F0 m 8 ls []) rfl ?_
      refine lv_aload_n hx hb dX1_revenueOf_8 rfl (lv_at hl 0 rfl) ?_
      refine lv_iload_n hx hb dX1_revenueOf_9 rfl (lv_at hl 1 rfl) ?_
      replace h := bo_o h
      obtain ⟨_, e11, h⟩ := h
      replace h := b2_o h
      obtain ⟨x13, w10, e12, h⟩ := h
      refine h_callV 1 (ci := 17) (As := [.int v1]) (rest := []) (v := (some (.long x13))) (w' := w10) (st1 := [.long x13]) hx hb hml hown hts hK hR hS (Nat.le_refl _) (Nat.le_refl _) rfl e11 (mX1_brings e12) (lw_V q1731 q1733 qs38 q112 q1734) (by decide +kernel) (Nat.le_of_ble_eq_true rfl) (Nat.le_of_ble_eq_true rfl) rfl hl.1 (Nat.le_of_ble_eq_true rfl) dX1_revenueOf_10 rfl rfl (fun H locs hR hS => ?_)
      have eR := Option.some.inj h
      subst eR
      exact h_lfinX hx hb hr hlk hR hS dX1_revenueOf_13
  · cases o6 with
    | inl q => cases hq9
    | inr q9 =>
      cases hq9
      replace h := exr_o h
      have eR := Option.some.inj h
      subst eR
      exact h_out hT hlk hR hS hce
theorem mX1_revenueOf {l : Launch} {G : gE} {A : Nat → Prop} {v0 : Nat} {v1 : Int32} {w : WH} {r : ((Sum (Int64) (Nat × Nat)) × WH)} (hl0 : l.stackTraces = false) (h : fX1_revenueOf v0 v1 w = some r) : hMX l G A yX1_revenueOf cX1_revenueOf 2 (some .long) 19 431 [.ref v0, .int v1] w (oJ r.1) r.2 :=
  h_ofX (by decide +kernel) (Nat.le_of_ble_eq_true rfl) (fun p e s m args below meth c ls B hnm hT hR hS hl => bX1_revenueOf_0 B hT hl0 h hR hS hl)
noncomputable def fX1_arcRevenue (v0 : Nat) (v1 : Int32) (w : WH) : Option (((Sum (Int64) (Nat × Nat)) × WH)) :=
  (hIs w v0 17).bind fun _ =>
  b2_ (fX1_isArc v0 v1 w) fun x4 w1 =>
  b2_ (fX1_requireIndex x4 w1) fun o6 w5 => ex_ o6 (fun _ =>
    (hIs w5 v0 17).bind fun _ =>
    b2_ (fX1_flowOf v0 v1 w5) fun x13 w10 =>
    (gR w10 v0 17 0).bind fun x14 =>
    x14.bind fun a16 =>
    (gR w10 a16 21 1).bind fun x18 =>
    x18.bind fun a20 =>
    (ldI w10 a20 0 v1).bind fun x22 =>
    some (.inl ((x13.toInt64) * (x22.toInt64)), w10)) (fun q9 =>
    some (.inr q9, w5))
theorem bX1_arcRevenue_0 {p : Program} {l : Launch} {e : Env} {s : State} {m : MethodId} {args : Array Value} {below : List Frame} {meth : Method} {c : Code} {H : Heap} {locs : List Loc} {ls : Array Slot} {G : gE} {A : Nat → Prop} {w0 : WH} (B : gB G RX1 cX1_arcRevenue 2 (some .long) p s m args meth c) (hT : ∀ x ∈ c.exceptionTable.toList, False) (hl0 : l.stackTraces = false) {v0 : Nat} {v1 : Int32} {w : WH} {r : ((Sum (Int64) (Nat × Nat)) × WH)} (h : fX1_arcRevenue v0 v1 w = some r)   (hR : RepH G A w H) (hS : Cu A s w0 w H locs) (hl : lv_has ls 2 [(0, .ref v0), (1, .int v1)]) : W p l e (hRm 21 479 w0) s m args below meth c H locs (wC w0 - wC w) (wS w0 - wS w) (hZX below args s G A w0 (oJ r.1) r.2) (F0 m 0 ls []) := by
  have B0 := B
  obtain ⟨hx, hb, hml, hown, hts, hr, hlk, hK⟩ := B0
  unfold fX1_arcRevenue at h
  refine lv_aload_n hx hb dX1_arcRevenue_0 rfl (lv_at hl 0 rfl) ?_
  refine lv_iload_n hx hb dX1_arcRevenue_1 rfl (lv_at hl 1 rfl) ?_
  replace h := bo_o h
  obtain ⟨_, e2, h⟩ := h
  replace h := b2_o h
  obtain ⟨x4, w1, e3, h⟩ := h
  refine h_callV 1 (ci := 17) (As := [.int v1]) (rest := []) (v := (some (.int x4))) (w' := w1) (st1 := [.int x4]) hx hb hml hown hts hK hR hS (Nat.le_refl _) (Nat.le_refl _) rfl e2 (mX1_isArc e3) (lw_V q1952 q1954 qs47 q112 q1955) (by decide +kernel) (Nat.le_of_ble_eq_true rfl) (Nat.le_of_ble_eq_true rfl) rfl hl.1 (Nat.le_of_ble_eq_true rfl) dX1_arcRevenue_2 rfl rfl (fun H locs hR hS => ?_)
  replace h := b2_o h
  obtain ⟨o6, w5, e7, h⟩ := h
  refine h_callSX 1 (As := [.int x4]) (rest := []) (o := oV o6) (w' := w5)  hx hb hml hown hts hK hR hS (Nat.le_refl _) (Nat.le_refl _) (mX1_requireIndex hl0 e7) (lw_S q1956 q1957 q112 q1958) (by decide +kernel) (Nat.le_of_ble_eq_true rfl) (Nat.le_of_ble_eq_true rfl) rfl hl.1 (Nat.le_of_ble_eq_true rfl) dX1_arcRevenue_5 rfl (fun v9 hv9 H locs hR hS => ?_) (fun E9 q9 hq9 H locs hR hS hce => ?_)
  · cases o6 with
    | inr q => cases hv9
    | inl x8 =>
      cases hv9
      replace h := exl_o h
      refine W.eq (g2 := F0 m 8 ls []) rfl ?_
      refine lv_aload_n hx hb dX1_arcRevenue_8 rfl (lv_at hl 0 rfl) ?_
      refine lv_iload_n hx hb dX1_arcRevenue_9 rfl (lv_at hl 1 rfl) ?_
      replace h := bo_o h
      obtain ⟨_, e11, h⟩ := h
      replace h := b2_o h
      obtain ⟨x13, w10, e12, h⟩ := h
      refine h_callV 1 (ci := 17) (As := [.int v1]) (rest := []) (v := (some (.int x13))) (w' := w10) (st1 := [.int x13]) hx hb hml hown hts hK hR hS (Nat.le_refl _) (Nat.le_refl _) rfl e11 (mX1_flowOf e12) (lw_V q1192 q1194 qs21 q112 q1195) (by decide +kernel) (Nat.le_of_ble_eq_true rfl) (Nat.le_of_ble_eq_true rfl) rfl hl.1 (Nat.le_of_ble_eq_true rfl) dX1_arcRevenue_10 rfl rfl (fun H locs hR hS => ?_)
      refine lv_i2l hx hb dX1_arcRevenue_13 rfl ?_
      refine lv_aload_n hx hb dX1_arcRevenue_14 rfl (lv_at hl 0 rfl) ?_
      replace h := bo_o h
      obtain ⟨x14, e15, h⟩ := h
      refine h_get (ci := 17) (k := 0) (v := va_rf x14) hx hb hts hown hK hR in_X1 rfl (by decide) (fun _ _ => rfl) q662 (fun _ h9 => h9) (gR_o e15) dX1_arcRevenue_15 ?_
      replace h := bo_o h
      obtain ⟨a16, e17, h⟩ := h
      subst e17
      replace h := bo_o h
      obtain ⟨x18, e19, h⟩ := h
      refine h_getN (ci := 21) (k := 1) (v := va_rf x18) hx hb hts hown hK hR in_X2 rfl (by decide) (fun _ _ => rfl) (hK.fn 18 rfl) (fun _ h9 => h9) (gR_o e19) dX1_arcRevenue_18 ?_
      refine lv_iload_n hx hb dX1_arcRevenue_21 rfl (lv_at hl 1 rfl) ?_
      replace h := bo_o h
      obtain ⟨a20, e21, h⟩ := h
      subst e21
      replace h := bo_o h
      obtain ⟨x22, e23, h⟩ := h
      refine h_iald hx hb hK hR e23 dX1_arcRevenue_22 ?_
      refine lv_i2l hx hb dX1_arcRevenue_23 rfl ?_
      refine lv_lmul hx hb dX1_arcRevenue_24 ?_
      have eR := Option.some.inj h
      subst eR
      exact h_lfinX hx hb hr hlk hR hS dX1_arcRevenue_25
  · cases o6 with
    | inl q => cases hq9
    | inr q9 =>
      cases hq9
      replace h := exr_o h
      have eR := Option.some.inj h
      subst eR
      exact h_out hT hlk hR hS hce
theorem mX1_arcRevenue {l : Launch} {G : gE} {A : Nat → Prop} {v0 : Nat} {v1 : Int32} {w : WH} {r : ((Sum (Int64) (Nat × Nat)) × WH)} (hl0 : l.stackTraces = false) (h : fX1_arcRevenue v0 v1 w = some r) : hMX l G A yX1_arcRevenue cX1_arcRevenue 2 (some .long) 21 479 [.ref v0, .int v1] w (oJ r.1) r.2 :=
  h_ofX (by decide +kernel) (Nat.le_of_ble_eq_true rfl) (fun p e s m args below meth c ls B hnm hT hR hS hl => bX1_arcRevenue_0 B hT hl0 h hR hS hl)
noncomputable def fX1_pledge (v0 : Nat) (v1 : Int32) (w : WH) : Option (((Sum (Int64) (Nat × Nat)) × WH)) :=
  (hIs w v0 17).bind fun _ =>
  b2_ (fX1_isTrip v0 v1 w) fun x4 w1 =>
  b2_ (fX1_requireIndex x4 w1) fun o6 w5 => ex_ o6 (fun _ =>
    (hIs w5 v0 17).bind fun _ =>
    b2_ (fX1_pledged v0 v1 w5) fun x13 w10 =>
    some (.inl x13, w10)) (fun q9 =>
    some (.inr q9, w5))
theorem bX1_pledge_0 {p : Program} {l : Launch} {e : Env} {s : State} {m : MethodId} {args : Array Value} {below : List Frame} {meth : Method} {c : Code} {H : Heap} {locs : List Loc} {ls : Array Slot} {G : gE} {A : Nat → Prop} {w0 : WH} (B : gB G RX1 cX1_pledge 2 (some .long) p s m args meth c) (hT : ∀ x ∈ c.exceptionTable.toList, False) (hl0 : l.stackTraces = false) {v0 : Nat} {v1 : Int32} {w : WH} {r : ((Sum (Int64) (Nat × Nat)) × WH)} (h : fX1_pledge v0 v1 w = some r)   (hR : RepH G A w H) (hS : Cu A s w0 w H locs) (hl : lv_has ls 2 [(0, .ref v0), (1, .int v1)]) : W p l e (hRm 18 410 w0) s m args below meth c H locs (wC w0 - wC w) (wS w0 - wS w) (hZX below args s G A w0 (oJ r.1) r.2) (F0 m 0 ls []) := by
  have B0 := B
  obtain ⟨hx, hb, hml, hown, hts, hr, hlk, hK⟩ := B0
  unfold fX1_pledge at h
  refine lv_aload_n hx hb dX1_pledge_0 rfl (lv_at hl 0 rfl) ?_
  refine lv_iload_n hx hb dX1_pledge_1 rfl (lv_at hl 1 rfl) ?_
  replace h := bo_o h
  obtain ⟨_, e2, h⟩ := h
  replace h := b2_o h
  obtain ⟨x4, w1, e3, h⟩ := h
  refine h_callV 1 (ci := 17) (As := [.int v1]) (rest := []) (v := (some (.int x4))) (w' := w1) (st1 := [.int x4]) hx hb hml hown hts hK hR hS (Nat.le_refl _) (Nat.le_refl _) rfl e2 (mX1_isTrip e3) (lw_V q1979 q1981 qs49 q112 q1982) (by decide +kernel) (Nat.le_of_ble_eq_true rfl) (Nat.le_of_ble_eq_true rfl) rfl hl.1 (Nat.le_of_ble_eq_true rfl) dX1_pledge_2 rfl rfl (fun H locs hR hS => ?_)
  replace h := b2_o h
  obtain ⟨o6, w5, e7, h⟩ := h
  refine h_callSX 1 (As := [.int x4]) (rest := []) (o := oV o6) (w' := w5)  hx hb hml hown hts hK hR hS (Nat.le_refl _) (Nat.le_refl _) (mX1_requireIndex hl0 e7) (lw_S q1956 q1957 q112 q1958) (by decide +kernel) (Nat.le_of_ble_eq_true rfl) (Nat.le_of_ble_eq_true rfl) rfl hl.1 (Nat.le_of_ble_eq_true rfl) dX1_pledge_5 rfl (fun v9 hv9 H locs hR hS => ?_) (fun E9 q9 hq9 H locs hR hS hce => ?_)
  · cases o6 with
    | inr q => cases hv9
    | inl x8 =>
      cases hv9
      replace h := exl_o h
      refine W.eq (g2 := F0 m 8 ls []) rfl ?_
      refine lv_aload_n hx hb dX1_pledge_8 rfl (lv_at hl 0 rfl) ?_
      refine lv_iload_n hx hb dX1_pledge_9 rfl (lv_at hl 1 rfl) ?_
      replace h := bo_o h
      obtain ⟨_, e11, h⟩ := h
      replace h := b2_o h
      obtain ⟨x13, w10, e12, h⟩ := h
      refine h_callV 1 (ci := 17) (As := [.int v1]) (rest := []) (v := (some (.long x13))) (w' := w10) (st1 := [.long x13]) hx hb hml hown hts hK hR hS (Nat.le_refl _) (Nat.le_refl _) rfl e11 (mX1_pledged e12) (lw_V q1751 q1753 qs40 q112 q1754) (by decide +kernel) (Nat.le_of_ble_eq_true rfl) (Nat.le_of_ble_eq_true rfl) rfl hl.1 (Nat.le_of_ble_eq_true rfl) dX1_pledge_10 rfl rfl (fun H locs hR hS => ?_)
      have eR := Option.some.inj h
      subst eR
      exact h_lfinX hx hb hr hlk hR hS dX1_pledge_13
  · cases o6 with
    | inl q => cases hq9
    | inr q9 =>
      cases hq9
      replace h := exr_o h
      have eR := Option.some.inj h
      subst eR
      exact h_out hT hlk hR hS hce
theorem mX1_pledge {l : Launch} {G : gE} {A : Nat → Prop} {v0 : Nat} {v1 : Int32} {w : WH} {r : ((Sum (Int64) (Nat × Nat)) × WH)} (hl0 : l.stackTraces = false) (h : fX1_pledge v0 v1 w = some r) : hMX l G A yX1_pledge cX1_pledge 2 (some .long) 18 410 [.ref v0, .int v1] w (oJ r.1) r.2 :=
  h_ofX (by decide +kernel) (Nat.le_of_ble_eq_true rfl) (fun p e s m args below meth c ls B hnm hT hR hS hl => bX1_pledge_0 B hT hl0 h hR hS hl)
noncomputable def fX1_keepToll_b21 (v0 : Nat) (v1 : Int32) (v2 : Int32) (s0 : Int32) (w : WH) : Option (((Sum (Int32) (Nat × Nat)) × WH)) :=
  b2_ (fX1_requireIndex s0 w) fun o2 w1 => ex_ o2 (fun _ =>
    (gR w1 v0 17 0).bind fun x6 =>
    x6.bind fun a8 =>
    (gR w1 a8 21 0).bind fun x10 =>
    x10.bind fun a12 =>
    (gR w1 a12 22 1).bind fun x14 =>
    x14.bind fun a16 =>
    (hIs w1 a16 2).bind fun _ =>
    b2_ (fJ2_get a16 v2 w1) fun x21 w18 =>
    x21.bind fun a22 =>
    (hIs w18 a22 27).bind fun _ =>
    (hIs w18 v0 17).bind fun _ =>
    b2_ (fX1_kept v0 v1 a22 w18) fun x28 w25 =>
    some (.inl x28, w25)) (fun q5 =>
    some (.inr q5, w1))
theorem bX1_keepToll_21 {p : Program} {l : Launch} {e : Env} {s : State} {m : MethodId} {args : Array Value} {below : List Frame} {meth : Method} {c : Code} {H : Heap} {locs : List Loc} {ls : Array Slot} {G : gE} {A : Nat → Prop} {w0 : WH} (B : gB G RX1 cX1_keepToll 3 (some .int) p s m args meth c) (hT : ∀ x ∈ c.exceptionTable.toList, False) (hl0 : l.stackTraces = false) {v0 : Nat} {v1 : Int32} {v2 : Int32} {s0 : Int32} {w : WH} {r : ((Sum (Int32) (Nat × Nat)) × WH)} (h : fX1_keepToll_b21 v0 v1 v2 s0 w = some r)   (hR : RepH G A w H) (hS : Cu A s w0 w H locs) (hl : lv_has ls 3 [(0, .ref v0), (1, .int v1), (2, .int v2)]) : W p l e (hRm 21 482 w0) s m args below meth c H locs (wC w0 - wC w) (wS w0 - wS w) (hZX below args s G A w0 (oI r.1) r.2) (F0 m 21 ls [.int s0]) := by
  have B0 := B
  obtain ⟨hx, hb, hml, hown, hts, hr, hlk, hK⟩ := B0
  unfold fX1_keepToll_b21 at h
  replace h := b2_o h
  obtain ⟨o2, w1, e3, h⟩ := h
  refine h_callSX 1 (As := [.int s0]) (rest := []) (o := oV o2) (w' := w1)  hx hb hml hown hts hK hR hS (Nat.le_refl _) (Nat.le_refl _) (mX1_requireIndex hl0 e3) (lw_S q1956 q1957 q112 q1958) (by decide +kernel) (Nat.le_of_ble_eq_true rfl) (Nat.le_of_ble_eq_true rfl) rfl hl.1 (Nat.le_of_ble_eq_true rfl) dX1_keepToll_21 rfl (fun v9 hv9 H locs hR hS => ?_) (fun E9 q9 hq9 H locs hR hS hce => ?_)
  · cases o2 with
    | inr q => cases hv9
    | inl x4 =>
      cases hv9
      replace h := exl_o h
      refine W.eq (g2 := F0 m 24 ls []) rfl ?_
      refine lv_aload_n hx hb dX1_keepToll_24 rfl (lv_at hl 0 rfl) ?_
      refine lv_iload_n hx hb dX1_keepToll_25 rfl (lv_at hl 1 rfl) ?_
      refine lv_aload_n hx hb dX1_keepToll_26 rfl (lv_at hl 0 rfl) ?_
      replace h := bo_o h
      obtain ⟨x6, e7, h⟩ := h
      refine h_get (ci := 17) (k := 0) (v := va_rf x6) hx hb hts hown hK hR in_X1 rfl (by decide) (fun _ _ => rfl) q662 (fun _ h9 => h9) (gR_o e7) dX1_keepToll_27 ?_
      replace h := bo_o h
      obtain ⟨a8, e9, h⟩ := h
      subst e9
      replace h := bo_o h
      obtain ⟨x10, e11, h⟩ := h
      refine h_getN (ci := 21) (k := 0) (v := va_rf x10) hx hb hts hown hK hR in_X2 rfl (by decide) (fun _ _ => rfl) (hK.fn 15 rfl) (fun _ h9 => h9) (gR_o e11) dX1_keepToll_30 ?_
      replace h := bo_o h
      obtain ⟨a12, e13, h⟩ := h
      subst e13
      replace h := bo_o h
      obtain ⟨x14, e15, h⟩ := h
      refine h_getN (ci := 22) (k := 1) (v := va_rf x14) hx hb hts hown hK hR in_X3 rfl (by decide) (fun _ _ => rfl) (hK.fn 6 rfl) (fun _ h9 => h9) (gR_o e15) dX1_keepToll_33 ?_
      refine lv_iload_n hx hb dX1_keepToll_36 rfl (lv_at hl 2 rfl) ?_
      replace h := bo_o h
      obtain ⟨a16, e17, h⟩ := h
      subst e17
      replace h := bo_o h
      obtain ⟨_, e19, h⟩ := h
      replace h := b2_o h
      obtain ⟨x21, w18, e20, h⟩ := h
      refine h_callF 1  (As := [.int v2]) (rest := [.int v1, .ref v0]) (v := (some (va_rf x21))) (w' := w18) (st1 := [va_rf x21, .int v1, .ref v0]) hx hb hml hown hts hK hR hS (Nat.le_refl _) (Nat.le_refl _) (h_recv (ci := 2) hK hR hS rfl e19) (mJ2_get e20) (lw_app (a := [.methodLink _ _ _, .selects _ _ _, .instanceMethod _, .initialized _]) (lw_4 q1205 q1208 q1210 q117) (lw_meth q1212)) (hK.fw 1 rfl) (by decide +kernel) (Nat.le_of_ble_eq_true rfl) (Nat.le_of_ble_eq_true rfl) rfl hl.1 (Nat.le_of_ble_eq_true rfl) dX1_keepToll_37 rfl rfl (fun H locs hR hS => ?_)
      replace h := bo_o h
      obtain ⟨a22, e23, h⟩ := h
      subst e23
      replace h := bo_o h
      obtain ⟨_, e24, h⟩ := h
      refine h_castS (ci := 27) hx hb hts hown hK hR hS rfl e24 q1768 dX1_keepToll_42 ?_
      replace h := bo_o h
      obtain ⟨_, e26, h⟩ := h
      replace h := b2_o h
      obtain ⟨x28, w25, e27, h⟩ := h
      refine h_callV 2 (ci := 17) (As := [.int v1, .ref a22]) (rest := []) (v := (some (.int x28))) (w' := w25) (st1 := [.int x28]) hx hb hml hown hts hK hR hS (Nat.le_refl _) (Nat.le_refl _) rfl e26 (mX1_kept e27) (lw_V q2192 q1789 qs43 q112 q1790) (by decide +kernel) (Nat.le_of_ble_eq_true rfl) (Nat.le_of_ble_eq_true rfl) rfl hl.1 (Nat.le_of_ble_eq_true rfl) dX1_keepToll_45 rfl rfl (fun H locs hR hS => ?_)
      have eR := Option.some.inj h
      subst eR
      exact h_ifinX hx hb hr hlk hR hS dX1_keepToll_48
  · cases o2 with
    | inl q => cases hq9
    | inr q5 =>
      cases hq9
      replace h := exr_o h
      have eR := Option.some.inj h
      subst eR
      exact h_out hT hlk hR hS hce
noncomputable def fX1_keepToll_b20 (v0 : Nat) (v1 : Int32) (v2 : Int32) (w : WH) : Option (((Sum (Int32) (Nat × Nat)) × WH)) :=
  fX1_keepToll_b21 v0 v1 v2 0 w
theorem bX1_keepToll_20 {p : Program} {l : Launch} {e : Env} {s : State} {m : MethodId} {args : Array Value} {below : List Frame} {meth : Method} {c : Code} {H : Heap} {locs : List Loc} {ls : Array Slot} {G : gE} {A : Nat → Prop} {w0 : WH} (B : gB G RX1 cX1_keepToll 3 (some .int) p s m args meth c) (hT : ∀ x ∈ c.exceptionTable.toList, False) (hl0 : l.stackTraces = false) {v0 : Nat} {v1 : Int32} {v2 : Int32} {w : WH} {r : ((Sum (Int32) (Nat × Nat)) × WH)} (h : fX1_keepToll_b20 v0 v1 v2 w = some r)   (hR : RepH G A w H) (hS : Cu A s w0 w H locs) (hl : lv_has ls 3 [(0, .ref v0), (1, .int v1), (2, .int v2)]) : W p l e (hRm 21 482 w0) s m args below meth c H locs (wC w0 - wC w) (wS w0 - wS w) (hZX below args s G A w0 (oI r.1) r.2) (F0 m 20 ls []) := by
  have B0 := B
  obtain ⟨hx, hb, hml, hown, hts, hr, hlk, hK⟩ := B0
  unfold fX1_keepToll_b20 at h
  refine lv_iconst (v := 0) hx hb dX1_keepToll_20 (by decide) ?_
  exact bX1_keepToll_21 B hT hl0 h  hR hS (lv_sub hl [0, 1, 2] rfl)
noncomputable def fX1_keepToll (v0 : Nat) (v1 : Int32) (v2 : Int32) (w : WH) : Option (((Sum (Int32) (Nat × Nat)) × WH)) :=
  (hIs w v0 17).bind fun _ =>
  b2_ (fX1_isTrip v0 v1 w) fun x4 w1 =>
  if x4 = 0 then (
    fX1_keepToll_b20 v0 v1 v2 w1
  ) else (
    (hIs w1 v0 17).bind fun _ =>
    b2_ (fX1_isArc v0 v2 w1) fun x9 w6 =>
    if x9 = 0 then (
      fX1_keepToll_b20 v0 v1 v2 w6
    ) else (
      fX1_keepToll_b21 v0 v1 v2 1 w6
    )
  )
theorem bX1_keepToll_0 {p : Program} {l : Launch} {e : Env} {s : State} {m : MethodId} {args : Array Value} {below : List Frame} {meth : Method} {c : Code} {H : Heap} {locs : List Loc} {ls : Array Slot} {G : gE} {A : Nat → Prop} {w0 : WH} (B : gB G RX1 cX1_keepToll 3 (some .int) p s m args meth c) (hT : ∀ x ∈ c.exceptionTable.toList, False) (hl0 : l.stackTraces = false) {v0 : Nat} {v1 : Int32} {v2 : Int32} {w : WH} {r : ((Sum (Int32) (Nat × Nat)) × WH)} (h : fX1_keepToll v0 v1 v2 w = some r)   (hR : RepH G A w H) (hS : Cu A s w0 w H locs) (hl : lv_has ls 3 [(0, .ref v0), (1, .int v1), (2, .int v2)]) : W p l e (hRm 21 482 w0) s m args below meth c H locs (wC w0 - wC w) (wS w0 - wS w) (hZX below args s G A w0 (oI r.1) r.2) (F0 m 0 ls []) := by
  have B0 := B
  obtain ⟨hx, hb, hml, hown, hts, hr, hlk, hK⟩ := B0
  unfold fX1_keepToll at h
  refine lv_aload_n hx hb dX1_keepToll_0 rfl (lv_at hl 0 rfl) ?_
  refine lv_iload_n hx hb dX1_keepToll_1 rfl (lv_at hl 1 rfl) ?_
  replace h := bo_o h
  obtain ⟨_, e2, h⟩ := h
  replace h := b2_o h
  obtain ⟨x4, w1, e3, h⟩ := h
  refine h_callV 1 (ci := 17) (As := [.int v1]) (rest := []) (v := (some (.int x4))) (w' := w1) (st1 := [.int x4]) hx hb hml hown hts hK hR hS (Nat.le_refl _) (Nat.le_refl _) rfl e2 (mX1_isTrip e3) (lw_V q1979 q1981 qs49 q112 q1982) (by decide +kernel) (Nat.le_of_ble_eq_true rfl) (Nat.le_of_ble_eq_true rfl) rfl hl.1 (Nat.le_of_ble_eq_true rfl) dX1_keepToll_2 rfl rfl (fun H locs hR hS => ?_)
  refine lv_if_eq (tgt := 20) hx hb dX1_keepToll_5 (by decide) (fun c5 => ?_) (fun c5 => ?_)
  · replace h := it_o c5 h
    exact bX1_keepToll_20 B hT hl0 h  hR hS (lv_sub hl [0, 1, 2] rfl)
  · replace h := if_o c5 h
    refine lv_aload_n hx hb dX1_keepToll_8 rfl (lv_at hl 0 rfl) ?_
    refine lv_iload_n hx hb dX1_keepToll_9 rfl (lv_at hl 2 rfl) ?_
    replace h := bo_o h
    obtain ⟨_, e7, h⟩ := h
    replace h := b2_o h
    obtain ⟨x9, w6, e8, h⟩ := h
    refine h_callV 1 (ci := 17) (As := [.int v2]) (rest := []) (v := (some (.int x9))) (w' := w6) (st1 := [.int x9]) hx hb hml hown hts hK hR hS (Nat.le_refl _) (Nat.le_refl _) rfl e7 (mX1_isArc e8) (lw_V q1952 q1954 qs47 q112 q1955) (by decide +kernel) (Nat.le_of_ble_eq_true rfl) (Nat.le_of_ble_eq_true rfl) rfl hl.1 (Nat.le_of_ble_eq_true rfl) dX1_keepToll_10 rfl rfl (fun H locs hR hS => ?_)
    refine lv_if_eq (tgt := 20) hx hb dX1_keepToll_13 (by decide) (fun c10 => ?_) (fun c10 => ?_)
    · replace h := it_o c10 h
      exact bX1_keepToll_20 B hT hl0 h  hR hS (lv_sub hl [0, 1, 2] rfl)
    · replace h := if_o c10 h
      refine lv_iconst (v := 1) hx hb dX1_keepToll_16 (by decide) ?_
      refine lv_goto (tgt := 21) hx hb dX1_keepToll_17 (by decide) ?_
      exact bX1_keepToll_21 B hT hl0 h  hR hS (lv_sub hl [0, 1, 2] rfl)
theorem mX1_keepToll {l : Launch} {G : gE} {A : Nat → Prop} {v0 : Nat} {v1 : Int32} {v2 : Int32} {w : WH} {r : ((Sum (Int32) (Nat × Nat)) × WH)} (hl0 : l.stackTraces = false) (h : fX1_keepToll v0 v1 v2 w = some r) : hMX l G A yX1_keepToll cX1_keepToll 3 (some .int) 21 482 [.ref v0, .int v1, .int v2] w (oI r.1) r.2 :=
  h_ofX (by decide +kernel) (Nat.le_of_ble_eq_true rfl) (fun p e s m args below meth c ls B hnm hT hR hS hl => bX1_keepToll_0 B hT hl0 h hR hS hl)
noncomputable def fX1_bestToll (v0 : Nat) (v1 : Int32) (w : WH) : Option (((Sum (Int32) (Nat × Nat)) × WH)) :=
  b2_ (hNw w 4 18 [.null, .int 0, .long 0, .null]) fun a1 w2 =>
  (hIs w2 v0 17).bind fun _ =>
  b2_ (fX1_arcAt v0 v1 w2) fun o6 w4 => ex_ o6 (fun x8 =>
    x8.bind fun a10 =>
    (fX11_init a1 v0 a10 w4).bind fun w12 =>
    (gI w12 a1 18 1).bind fun x14 =>
    some (.inl x14, w12)) (fun q9 =>
    some (.inr q9, w4))
theorem bX1_bestToll_0 {p : Program} {l : Launch} {e : Env} {s : State} {m : MethodId} {args : Array Value} {below : List Frame} {meth : Method} {c : Code} {H : Heap} {locs : List Loc} {ls : Array Slot} {G : gE} {A : Nat → Prop} {w0 : WH} (B : gB G RX1 cX1_bestToll 2 (some .int) p s m args meth c) (hT : ∀ x ∈ c.exceptionTable.toList, False) (hl0 : l.stackTraces = false) {v0 : Nat} {v1 : Int32} {w : WH} {r : ((Sum (Int32) (Nat × Nat)) × WH)} (h : fX1_bestToll v0 v1 w = some r)   (hR : RepH G A w H) (hS : Cu A s w0 w H locs) (hl : lv_has ls 2 [(0, .ref v0), (1, .int v1)]) : W p l e (hRm 22 506 w0) s m args below meth c H locs (wC w0 - wC w) (wS w0 - wS w) (hZX below args s G A w0 (oI r.1) r.2) (F0 m 0 ls []) := by
  have B0 := B
  obtain ⟨hx, hb, hml, hown, hts, hr, hlk, hK⟩ := B0
  unfold fX1_bestToll at h
  replace h := b2_o h
  obtain ⟨a1, w2, e3, h⟩ := h
  refine h_new (ci := 18) (fs := [.null, .int 0, .long 0, .null]) hx hb hts hown hK hR hS (Nat.le_refl _) (Nat.le_refl _) in_X11 tyX11 tyX11_ok rfl (by decide +kernel) q1770 q1771 q157 e3 dX1_bestToll_0 (fun H locs hR hS => ?_)
  refine lv_dup hx hb dX1_bestToll_3 rfl ?_
  refine lv_aload_n hx hb dX1_bestToll_4 rfl (lv_at hl 0 rfl) ?_
  refine lv_aload_n hx hb dX1_bestToll_5 rfl (lv_at hl 0 rfl) ?_
  refine lv_iload_n hx hb dX1_bestToll_6 rfl (lv_at hl 1 rfl) ?_
  replace h := bo_o h
  obtain ⟨_, e5, h⟩ := h
  replace h := b2_o h
  obtain ⟨o6, w4, e7, h⟩ := h
  refine h_callVX 1 (ci := 17) (As := [.int v1]) (rest := [.ref v0, .ref a1, .ref a1]) (o := oR o6) (w' := w4) hx hb hml hown hts hK hR hS (Nat.le_refl _) (Nat.le_refl _) rfl e5 (mX1_arcAt hl0 e7) (lw_V q1948 q1950 qs46 q112 q1951) (by decide +kernel) (Nat.le_of_ble_eq_true rfl) (Nat.le_of_ble_eq_true rfl) rfl hl.1 (Nat.le_of_ble_eq_true rfl) dX1_bestToll_7 rfl (fun v9 hv9 H locs hR hS => ?_) (fun E9 q9 hq9 H locs hR hS hce => ?_)
  · cases o6 with
    | inr q => cases hv9
    | inl x8 =>
      cases hv9
      replace h := exl_o h
      refine W.eq (g2 := F0 m 10 ls [va_rf x8, .ref v0, .ref a1, .ref a1]) rfl ?_
      replace h := bo_o h
      obtain ⟨a10, e11, h⟩ := h
      subst e11
      replace h := bo_o h
      obtain ⟨w12, e13, h⟩ := h
      refine h_callI 2  (As := [.ref v0, .ref a10]) (rest := [.ref a1]) (w' := w12) hx hb hml hown hts hK hR hS (Nat.le_refl _) (Nat.le_refl _) (mX11_init e13) (lw_meth q1774) q157 q1772 q1773 rfl (by decide +kernel) (Nat.le_of_ble_eq_true rfl) (Nat.le_of_ble_eq_true rfl) rfl hl.1 (Nat.le_of_ble_eq_true rfl) dX1_bestToll_10 rfl (fun H locs hR hS => ?_)
      replace h := bo_o h
      obtain ⟨x14, e15, h⟩ := h
      refine h_getN (ci := 18) (k := 1) (v := .int x14) hx hb hts hown hK hR in_X11 rfl (by decide) (fun _ _ => rfl) (hK.fn 32 rfl) (fun _ h9 => h9) (gI_o e15) dX1_bestToll_13 ?_
      have eR := Option.some.inj h
      subst eR
      exact h_ifinX hx hb hr hlk hR hS dX1_bestToll_16
  · cases o6 with
    | inl q => cases hq9
    | inr q9 =>
      cases hq9
      replace h := exr_o h
      have eR := Option.some.inj h
      subst eR
      exact h_out hT hlk hR hS hce
theorem mX1_bestToll {l : Launch} {G : gE} {A : Nat → Prop} {v0 : Nat} {v1 : Int32} {w : WH} {r : ((Sum (Int32) (Nat × Nat)) × WH)} (hl0 : l.stackTraces = false) (h : fX1_bestToll v0 v1 w = some r) : hMX l G A yX1_bestToll cX1_bestToll 2 (some .int) 22 506 [.ref v0, .int v1] w (oI r.1) r.2 :=
  h_ofX (by decide +kernel) (Nat.le_of_ble_eq_true rfl) (fun p e s m args below meth c ls B hnm hT hR hS hl => bX1_bestToll_0 B hT hl0 h hR hS hl)
noncomputable def fX1_optimize_b38 (v0 : Nat) (v1 : Int32) (w : WH) : Option (((Sum (Int32) (Nat × Nat)) × WH)) :=
  (hIs w v0 17).bind fun _ =>
  b2_ (fX1_improved v0 w) fun x4 w1 =>
  some (.inl v1, w1)
theorem bX1_optimize_38 {p : Program} {l : Launch} {e : Env} {s : State} {m : MethodId} {args : Array Value} {below : List Frame} {meth : Method} {c : Code} {H : Heap} {locs : List Loc} {ls : Array Slot} {G : gE} {A : Nat → Prop} {w0 : WH} (B : gB G RX1 cX1_optimize 3 (some .int) p s m args meth c) (hT : ∀ x ∈ c.exceptionTable.toList, False) (hl0 : l.stackTraces = false) {v0 : Nat} {v1 : Int32} {w : WH} {r : ((Sum (Int32) (Nat × Nat)) × WH)} (h : fX1_optimize_b38 v0 v1 w = some r)   (hR : RepH G A w H) (hS : Cu A s w0 w H locs) (hl : lv_has ls 3 [(0, .ref v0), (1, .int v1)]) : W p l e (hRm 23 530 w0) s m args below meth c H locs (wC w0 - wC w) (wS w0 - wS w) (hZX below args s G A w0 (oI r.1) r.2) (F0 m 38 ls []) := by
  have B0 := B
  obtain ⟨hx, hb, hml, hown, hts, hr, hlk, hK⟩ := B0
  unfold fX1_optimize_b38 at h
  refine lv_aload_n hx hb dX1_optimize_38 rfl (lv_at hl 0 rfl) ?_
  replace h := bo_o h
  obtain ⟨_, e2, h⟩ := h
  replace h := b2_o h
  obtain ⟨x4, w1, e3, h⟩ := h
  refine h_callV 0 (ci := 17) (As := []) (rest := []) (v := (some (.int x4))) (w' := w1) (st1 := [.int x4]) hx hb hml hown hts hK hR hS (Nat.le_refl _) (Nat.le_refl _) rfl e2 (mX1_improved e3) (lw_V q1764 q1766 qs41 q112 q1767) (by decide +kernel) (Nat.le_of_ble_eq_true rfl) (Nat.le_of_ble_eq_true rfl) rfl hl.1 (Nat.le_of_ble_eq_true rfl) dX1_optimize_39 rfl rfl (fun H locs hR hS => ?_)
  refine lv_istore_n (lv' := [(2, .int x4), (0, .ref v0), (1, .int v1)]) hx hb dX1_optimize_42 rfl hl (by decide) rfl (fun ls hl => ?_)
  refine lv_iload_n hx hb dX1_optimize_43 rfl (lv_at hl 2 rfl) ?_
  have eR := Option.some.inj h
  subst eR
  exact h_ifinX hx hb hr hlk hR hS dX1_optimize_44
noncomputable def fX1_optimize_b18 (v0 : Nat) (v1 : Int32) (v2 : Int32) (w : WH) : Option (Sum (Int32 × WH) (((Sum (Int32) (Nat × Nat)) × WH))) :=
  if v1 ≤ v2 then (
    (fX1_optimize_b38 v0 v1 w).map (fun y => (.inr y))
  ) else (
    (hIs w v0 17).bind fun _ =>
    b2_ (fX1_improved v0 w) fun x5 w2 =>
    if x5 = 0 then (
      some (.inr (.inl v2, w2))
    ) else (
      some (.inl (v2 + 1, w2))
    )
  )
theorem bX1_optimize_18 {p : Program} {l : Launch} {e : Env} {s : State} {m : MethodId} {args : Array Value} {below : List Frame} {meth : Method} {c : Code} {H : Heap} {locs : List Loc} {ls : Array Slot} {G : gE} {A : Nat → Prop} {w0 : WH} (B : gB G RX1 cX1_optimize 3 (some .int) p s m args meth c) (hT : ∀ x ∈ c.exceptionTable.toList, False) (hl0 : l.stackTraces = false) {v0 : Nat} {v1 : Int32} {v2 : Int32} {w : WH} {x : Sum (Int32 × WH) (((Sum (Int32) (Nat × Nat)) × WH))} {r : ((Sum (Int32) (Nat × Nat)) × WH)} (h : fX1_optimize_b18 v0 v1 v2 w = some x)  (k18 : ∀ (v2' : Int32) (w' : WH), x = (.inl (v2', w')) → ∀ (H : Heap) (locs : List Loc) (ls : Array Slot), RepH G A w' H → Cu A s w0 w' H locs → lv_has ls 3 [(0, .ref v0), (1, .int v1), (2, .int v2')] → W p l e (hRm 23 530 w0) s m args below meth c H locs (wC w0 - wC w') (wS w0 - wS w') (hZX below args s G A w0 (oI r.1) r.2) (F0 m 18 ls [])) (kR : ∀ q, x = (.inr q) → q = r) (hR : RepH G A w H) (hS : Cu A s w0 w H locs) (hl : lv_has ls 3 [(0, .ref v0), (1, .int v1), (2, .int v2)]) : W p l e (hRm 23 530 w0) s m args below meth c H locs (wC w0 - wC w) (wS w0 - wS w) (hZX below args s G A w0 (oI r.1) r.2) (F0 m 18 ls []) := by
  have B0 := B
  obtain ⟨hx, hb, hml, hown, hts, hr, hlk, hK⟩ := B0
  unfold fX1_optimize_b18 at h
  refine lv_iload_n hx hb dX1_optimize_18 rfl (lv_at hl 2 rfl) ?_
  refine lv_iload_n hx hb dX1_optimize_19 rfl (lv_at hl 1 rfl) ?_
  refine lv_icmp_ge (tgt := 38) hx hb dX1_optimize_20 (by decide) (fun c1 => ?_) (fun c1 => ?_)
  · replace h := it_o c1 h
    obtain ⟨y, h, ey⟩ := mp_o h
    have ey := kR _ ey.symm
    subst ey
    exact bX1_optimize_38 B hT hl0 h  hR hS (lv_sub hl [0, 1] rfl)
  · replace h := if_o c1 h
    refine lv_aload_n hx hb dX1_optimize_23 rfl (lv_at hl 0 rfl) ?_
    replace h := bo_o h
    obtain ⟨_, e3, h⟩ := h
    replace h := b2_o h
    obtain ⟨x5, w2, e4, h⟩ := h
    refine h_callV 0 (ci := 17) (As := []) (rest := []) (v := (some (.int x5))) (w' := w2) (st1 := [.int x5]) hx hb hml hown hts hK hR hS (Nat.le_refl _) (Nat.le_refl _) rfl e3 (mX1_improved e4) (lw_V q1764 q1766 qs41 q112 q1767) (by decide +kernel) (Nat.le_of_ble_eq_true rfl) (Nat.le_of_ble_eq_true rfl) rfl hl.1 (Nat.le_of_ble_eq_true rfl) dX1_optimize_24 rfl rfl (fun H locs hR hS => ?_)
    refine lv_if_ne (tgt := 32) hx hb dX1_optimize_27 (by decide) (fun c6 => ?_) (fun c6 => ?_)
    · replace h := if_o c6 h
      refine lv_iinc (v := v2 + 1) (lv' := [(2, .int (v2 + 1)), (0, .ref v0), (1, .int v1)]) hx hb dX1_optimize_32 hl (k := 2) rfl rfl (by decide) rfl (fun ls hl => ?_)
      refine lv_goto (tgt := 18) hx hb dX1_optimize_35 (by decide) ?_
      exact k18 _ _ (Option.some.inj h).symm H locs ls hR hS (lv_sub hl [1, 2, 0] rfl)
    · replace h := it_o c6 h
      refine lv_iload_n hx hb dX1_optimize_30 rfl (lv_at hl 2 rfl) ?_
      have eR := kR _ (Option.some.inj h).symm
      subst eR
      exact h_ifinX hx hb hr hlk hR hS dX1_optimize_31
noncomputable def fX1_optimize_l18 (v0 : Nat) (v1 : Int32) (v2 : Int32) (w : WH) : Option (((Sum (Int32) (Nat × Nat)) × WH)) := whileO (fun q => fX1_optimize_b18 v0 v1 q.1 q.2) (v2, w)
theorem lX1_optimize_18 {p : Program} {l : Launch} {e : Env} {s : State} {m : MethodId} {args : Array Value} {below : List Frame} {meth : Method} {c : Code} {G : gE} {A : Nat → Prop} {w0 : WH} (B : gB G RX1 cX1_optimize 3 (some .int) p s m args meth c) (hT : ∀ x ∈ c.exceptionTable.toList, False) (hl0 : l.stackTraces = false) {v0 : Nat} {v1 : Int32} {r : ((Sum (Int32) (Nat × Nat)) × WH)}   : ∀ (v2 : Int32) (w : WH), fX1_optimize_l18 v0 v1 v2 w = some r → ∀ (H : Heap) (locs : List Loc) (ls : Array Slot), RepH G A w H → Cu A s w0 w H locs → lv_has ls 3 [(0, .ref v0), (1, .int v1), (2, .int v2)] → W p l e (hRm 23 530 w0) s m args below meth c H locs (wC w0 - wC w) (wS w0 - wS w) (hZX below args s G A w0 (oI r.1) r.2) (F0 m 18 ls []) := by
  intro v2 w h
  refine wh_walk (body := (fun q => fX1_optimize_b18 v0 v1 q.1 q.2)) (P := (fun q : (Int32 × WH) => ∀ (H : Heap) (locs : List Loc) (ls : Array Slot), RepH G A (q.2) H → Cu A s w0 (q.2) H locs → lv_has ls 3 [(0, .ref v0), (1, .int v1), (2, .int (q.1))] → W p l e (hRm 23 530 w0) s m args below meth c H locs (wC w0 - wC (q.2)) (wS w0 - wS (q.2)) (hZX below args s G A w0 (oI r.1) r.2) (F0 m 18 ls []))) (r := r) ?_ (v2, w) h
  intro q y hy hL hr H locs ls hR hS hl
  exact bX1_optimize_18 (r := r) B hT hl0 hy (fun a0 a1 e => hL (a0, a1) e) (fun q e => hr q e) hR hS hl
noncomputable def fX1_optimize (v0 : Nat) (v1 : Int32) (w : WH) : Option (((Sum (Int32) (Nat × Nat)) × WH)) :=
  b2_ (fX1_inRange (v1.toInt64) 1 10 w) fun x3 w1 =>
  b2_ (fX1_requireArgument x3 w1) fun o5 w4 => ex_ o5 (fun _ =>
    (hIs w4 v0 17).bind fun _ =>
    (fX1_act v0 w4).bind fun w9 =>
    fX1_optimize_l18 v0 v1 1 w9) (fun q8 =>
    some (.inr q8, w4))
theorem bX1_optimize_0 {p : Program} {l : Launch} {e : Env} {s : State} {m : MethodId} {args : Array Value} {below : List Frame} {meth : Method} {c : Code} {H : Heap} {locs : List Loc} {ls : Array Slot} {G : gE} {A : Nat → Prop} {w0 : WH} (B : gB G RX1 cX1_optimize 3 (some .int) p s m args meth c) (hT : ∀ x ∈ c.exceptionTable.toList, False) (hl0 : l.stackTraces = false) {v0 : Nat} {v1 : Int32} {w : WH} {r : ((Sum (Int32) (Nat × Nat)) × WH)} (h : fX1_optimize v0 v1 w = some r)   (hR : RepH G A w H) (hS : Cu A s w0 w H locs) (hl : lv_has ls 3 [(0, .ref v0), (1, .int v1)]) : W p l e (hRm 23 530 w0) s m args below meth c H locs (wC w0 - wC w) (wS w0 - wS w) (hZX below args s G A w0 (oI r.1) r.2) (F0 m 0 ls []) := by
  have B0 := B
  obtain ⟨hx, hb, hml, hown, hts, hr, hlk, hK⟩ := B0
  unfold fX1_optimize at h
  refine lv_iload_n hx hb dX1_optimize_0 rfl (lv_at hl 1 rfl) ?_
  refine lv_i2l hx hb dX1_optimize_1 rfl ?_
  refine lv_lconst (v := 1) hx hb dX1_optimize_2 (by decide) ?_
  refine lv_ldc2 (v := 10) hx hb hown (hts _ q2207) dX1_optimize_3 ?_
  replace h := b2_o h
  obtain ⟨x3, w1, e2, h⟩ := h
  refine h_callS 3  (As := [.long (v1.toInt64), .long 1, .long 10]) (rest := []) (v := (some (.int x3))) (w' := w1) (st1 := [.int x3]) hx hb hml hown hts hK hR hS (Nat.le_refl _) (Nat.le_refl _) (mX1_inRange e2) (lw_S q1900 q743 q112 q744) (by decide +kernel) (Nat.le_of_ble_eq_true rfl) (Nat.le_of_ble_eq_true rfl) rfl hl.1 (Nat.le_of_ble_eq_true rfl) dX1_optimize_6 rfl rfl (fun H locs hR hS => ?_)
  replace h := b2_o h
  obtain ⟨o5, w4, e6, h⟩ := h
  refine h_callSX 1 (As := [.int x3]) (rest := []) (o := oV o5) (w' := w4)  hx hb hml hown hts hK hR hS (Nat.le_refl _) (Nat.le_refl _) (mX1_requireArgument hl0 e6) (lw_S q1993 q1994 q112 q1995) (by decide +kernel) (Nat.le_of_ble_eq_true rfl) (Nat.le_of_ble_eq_true rfl) rfl hl.1 (Nat.le_of_ble_eq_true rfl) dX1_optimize_9 rfl (fun v9 hv9 H locs hR hS => ?_) (fun E9 q9 hq9 H locs hR hS hce => ?_)
  · cases o5 with
    | inr q => cases hv9
    | inl x7 =>
      cases hv9
      replace h := exl_o h
      refine W.eq (g2 := F0 m 12 ls []) rfl ?_
      refine lv_aload_n hx hb dX1_optimize_12 rfl (lv_at hl 0 rfl) ?_
      replace h := bo_o h
      obtain ⟨_, e10, h⟩ := h
      replace h := bo_o h
      obtain ⟨w9, e11, h⟩ := h
      refine h_callV 0 (ci := 17) (As := []) (rest := []) (v := none) (w' := w9) (st1 := []) hx hb hml hown hts hK hR hS (Nat.le_refl _) (Nat.le_refl _) rfl e10 (mX1_act e11) (lw_V q1089 q1091 qs16 q112 q1092) (by decide +kernel) (Nat.le_of_ble_eq_true rfl) (Nat.le_of_ble_eq_true rfl) rfl hl.1 (Nat.le_of_ble_eq_true rfl) dX1_optimize_13 rfl rfl (fun H locs hR hS => ?_)
      refine lv_iconst (v := 1) hx hb dX1_optimize_16 (by decide) ?_
      refine lv_istore_n (lv' := [(2, .int 1), (0, .ref v0), (1, .int v1)]) hx hb dX1_optimize_17 rfl hl (by decide) rfl (fun ls hl => ?_)
      exact lX1_optimize_18 B hT hl0 _ _ h H locs ls hR hS (lv_sub hl [1, 2, 0] rfl)
  · cases o5 with
    | inl q => cases hq9
    | inr q8 =>
      cases hq9
      replace h := exr_o h
      have eR := Option.some.inj h
      subst eR
      exact h_out hT hlk hR hS hce
theorem mX1_optimize {l : Launch} {G : gE} {A : Nat → Prop} {v0 : Nat} {v1 : Int32} {w : WH} {r : ((Sum (Int32) (Nat × Nat)) × WH)} (hl0 : l.stackTraces = false) (h : fX1_optimize v0 v1 w = some r) : hMX l G A yX1_optimize cX1_optimize 3 (some .int) 23 530 [.ref v0, .int v1] w (oI r.1) r.2 :=
  h_ofX (by decide +kernel) (Nat.le_of_ble_eq_true rfl) (fun p e s m args below meth c ls B hnm hT hR hS hl => bX1_optimize_0 B hT hl0 h hR hS hl)
noncomputable def fX1_bestPair_b275 (v0 : Nat) (v1 : Int32) (v2 : Int32) (v6 : Int32) (v7 : Int32) (v8 : Int32) (w : WH) : Option (((Sum (Int32) (Nat × Nat)) × WH)) :=
  (gR w v0 17 0).bind fun x1 =>
  x1.bind fun a3 =>
  (gR w a3 21 1).bind fun x5 =>
  x5.bind fun a7 =>
  (stI w a7 0 v1 v6).bind fun w9 =>
  (gR w9 v0 17 0).bind fun x11 =>
  x11.bind fun a13 =>
  (gR w9 a13 21 1).bind fun x15 =>
  x15.bind fun a17 =>
  (stI w9 a17 0 v2 v7).bind fun w19 =>
  some (.inl v8, w19)
theorem bX1_bestPair_275 {p : Program} {l : Launch} {e : Env} {s : State} {m : MethodId} {args : Array Value} {below : List Frame} {meth : Method} {c : Code} {H : Heap} {locs : List Loc} {ls : Array Slot} {G : gE} {A : Nat → Prop} {w0 : WH} (B : gB G RX1 cX1_bestPair 13 (some .int) p s m args meth c) (hT : ∀ x ∈ c.exceptionTable.toList, False) (hl0 : l.stackTraces = false) {v0 : Nat} {v1 : Int32} {v2 : Int32} {v6 : Int32} {v7 : Int32} {v8 : Int32} {w : WH} {r : ((Sum (Int32) (Nat × Nat)) × WH)} (h : fX1_bestPair_b275 v0 v1 v2 v6 v7 v8 w = some r)   (hR : RepH G A w H) (hS : Cu A s w0 w H locs) (hl : lv_has ls 13 [(0, .ref v0), (1, .int v1), (2, .int v2), (6, .int v6), (7, .int v7), (8, .int v8)]) : W p l e (hRm 20 454 w0) s m args below meth c H locs (wC w0 - wC w) (wS w0 - wS w) (hZX below args s G A w0 (oI r.1) r.2) (F0 m 275 ls []) := by
  have B0 := B
  obtain ⟨hx, hb, hml, hown, hts, hr, hlk, hK⟩ := B0
  unfold fX1_bestPair_b275 at h
  refine lv_aload_n hx hb dX1_bestPair_275 rfl (lv_at hl 0 rfl) ?_
  replace h := bo_o h
  obtain ⟨x1, e2, h⟩ := h
  refine h_get (ci := 17) (k := 0) (v := va_rf x1) hx hb hts hown hK hR in_X1 rfl (by decide) (fun _ _ => rfl) q662 (fun _ h9 => h9) (gR_o e2) dX1_bestPair_276 ?_
  replace h := bo_o h
  obtain ⟨a3, e4, h⟩ := h
  subst e4
  replace h := bo_o h
  obtain ⟨x5, e6, h⟩ := h
  refine h_getN (ci := 21) (k := 1) (v := va_rf x5) hx hb hts hown hK hR in_X2 rfl (by decide) (fun _ _ => rfl) (hK.fn 18 rfl) (fun _ h9 => h9) (gR_o e6) dX1_bestPair_279 ?_
  refine lv_iload_n hx hb dX1_bestPair_282 rfl (lv_at hl 1 rfl) ?_
  refine lv_iload hx hb dX1_bestPair_283 (lv_at hl 3 rfl) ?_
  replace h := bo_o h
  obtain ⟨a7, e8, h⟩ := h
  subst e8
  replace h := bo_o h
  obtain ⟨w9, e10, h⟩ := h
  refine h_iast hx hb hK hR hS e10 dX1_bestPair_285 (fun H locs hR hS => ?_)
  refine lv_aload_n hx hb dX1_bestPair_286 rfl (lv_at hl 0 rfl) ?_
  replace h := bo_o h
  obtain ⟨x11, e12, h⟩ := h
  refine h_get (ci := 17) (k := 0) (v := va_rf x11) hx hb hts hown hK hR in_X1 rfl (by decide) (fun _ _ => rfl) q662 (fun _ h9 => h9) (gR_o e12) dX1_bestPair_287 ?_
  replace h := bo_o h
  obtain ⟨a13, e14, h⟩ := h
  subst e14
  replace h := bo_o h
  obtain ⟨x15, e16, h⟩ := h
  refine h_getN (ci := 21) (k := 1) (v := va_rf x15) hx hb hts hown hK hR in_X2 rfl (by decide) (fun _ _ => rfl) (hK.fn 18 rfl) (fun _ h9 => h9) (gR_o e16) dX1_bestPair_290 ?_
  refine lv_iload_n hx hb dX1_bestPair_293 rfl (lv_at hl 2 rfl) ?_
  refine lv_iload hx hb dX1_bestPair_294 (lv_at hl 4 rfl) ?_
  replace h := bo_o h
  obtain ⟨a17, e18, h⟩ := h
  subst e18
  replace h := bo_o h
  obtain ⟨w19, e20, h⟩ := h
  refine h_iast hx hb hK hR hS e20 dX1_bestPair_296 (fun H locs hR hS => ?_)
  refine lv_iload hx hb dX1_bestPair_297 (lv_at hl 5 rfl) ?_
  have eR := Option.some.inj h
  subst eR
  exact h_ifinX hx hb hr hlk hR hS dX1_bestPair_299
noncomputable def fX1_bestPair_b259 (v0 : Nat) (v1 : Int32) (v2 : Int32) (v3 : Int32) (v4 : Int32) (v5 : Int32) (v6 : Int32) (v7 : Int32) (v8 : Int32) (v9 : Int64) (w : WH) : Option (Sum (Int32 × Int64 × WH) (((Sum (Int32) (Nat × Nat)) × WH))) :=
  (gR w v0 17 0).bind fun x1 =>
  x1.bind fun a3 =>
  (gR w a3 21 1).bind fun x5 =>
  x5.bind fun a7 =>
  (ldI w a7 0 v1).bind fun x9 =>
  (stI w a7 0 v1 (x9 + v3)).bind fun w11 =>
  some (.inl (v8, v9, w11))
theorem bX1_bestPair_259 {p : Program} {l : Launch} {e : Env} {s : State} {m : MethodId} {args : Array Value} {below : List Frame} {meth : Method} {c : Code} {H : Heap} {locs : List Loc} {ls : Array Slot} {G : gE} {A : Nat → Prop} {w0 : WH} (B : gB G RX1 cX1_bestPair 13 (some .int) p s m args meth c) (hT : ∀ x ∈ c.exceptionTable.toList, False) (hl0 : l.stackTraces = false) {v0 : Nat} {v1 : Int32} {v2 : Int32} {v3 : Int32} {v4 : Int32} {v5 : Int32} {v6 : Int32} {v7 : Int32} {v8 : Int32} {v9 : Int64} {w : WH} {x : Sum (Int32 × Int64 × WH) (((Sum (Int32) (Nat × Nat)) × WH))} {r : ((Sum (Int32) (Nat × Nat)) × WH)} (h : fX1_bestPair_b259 v0 v1 v2 v3 v4 v5 v6 v7 v8 v9 w = some x)  (k159 : ∀ (v8' : Int32) (v9' : Int64) (w' : WH), x = (.inl (v8', v9', w')) → ∀ (H : Heap) (locs : List Loc) (ls : Array Slot), RepH G A w' H → Cu A s w0 w' H locs → lv_has ls 13 [(0, .ref v0), (1, .int v1), (2, .int v2), (3, .int v3), (4, .int v4), (5, .int v5), (6, .int v6), (7, .int v7), (8, .int v8'), (9, .long v9')] → W p l e (hRm 20 454 w0) s m args below meth c H locs (wC w0 - wC w') (wS w0 - wS w') (hZX below args s G A w0 (oI r.1) r.2) (F0 m 159 ls [])) (kR : ∀ q, x = (.inr q) → q = r) (hR : RepH G A w H) (hS : Cu A s w0 w H locs) (hl : lv_has ls 13 [(0, .ref v0), (1, .int v1), (2, .int v2), (3, .int v3), (4, .int v4), (5, .int v5), (6, .int v6), (7, .int v7), (8, .int v8), (9, .long v9)]) : W p l e (hRm 20 454 w0) s m args below meth c H locs (wC w0 - wC w) (wS w0 - wS w) (hZX below args s G A w0 (oI r.1) r.2) (F0 m 259 ls []) := by
  have B0 := B
  obtain ⟨hx, hb, hml, hown, hts, hr, hlk, hK⟩ := B0
  unfold fX1_bestPair_b259 at h
  refine lv_aload_n hx hb dX1_bestPair_259 rfl (lv_at hl 0 rfl) ?_
  replace h := bo_o h
  obtain ⟨x1, e2, h⟩ := h
  refine h_get (ci := 17) (k := 0) (v := va_rf x1) hx hb hts hown hK hR in_X1 rfl (by decide) (fun _ _ => rfl) q662 (fun _ h9 => h9) (gR_o e2) dX1_bestPair_260 ?_
  replace h := bo_o h
  obtain ⟨a3, e4, h⟩ := h
  subst e4
  replace h := bo_o h
  obtain ⟨x5, e6, h⟩ := h
  refine h_getN (ci := 21) (k := 1) (v := va_rf x5) hx hb hts hown hK hR in_X2 rfl (by decide) (fun _ _ => rfl) (hK.fn 18 rfl) (fun _ h9 => h9) (gR_o e6) dX1_bestPair_263 ?_
  refine lv_iload_n hx hb dX1_bestPair_266 rfl (lv_at hl 1 rfl) ?_
  refine lv_dup2_11 hx hb dX1_bestPair_267 (by first | rfl | exact rf_cat _) (by first | rfl | exact rf_cat _) ?_
  replace h := bo_o h
  obtain ⟨a7, e8, h⟩ := h
  subst e8
  replace h := bo_o h
  obtain ⟨x9, e10, h⟩ := h
  refine h_iald hx hb hK hR e10 dX1_bestPair_268 ?_
  refine lv_iload_n hx hb dX1_bestPair_269 rfl (lv_at hl 3 rfl) ?_
  refine lv_iadd hx hb dX1_bestPair_270 ?_
  replace h := bo_o h
  obtain ⟨w11, e12, h⟩ := h
  refine h_iast hx hb hK hR hS e12 dX1_bestPair_271 (fun H locs hR hS => ?_)
  refine lv_goto (tgt := 159) hx hb dX1_bestPair_272 (by decide) ?_
  exact k159 _ _ _ (Option.some.inj h).symm H locs ls hR hS (lv_sub hl [0, 1, 2, 3, 4, 5, 6, 7, 8, 9] rfl)
noncomputable def fX1_bestPair_b243 (v0 : Nat) (v1 : Int32) (v2 : Int32) (v3 : Int32) (v4 : Int32) (v5 : Int32) (v6 : Int32) (v7 : Int32) (v8 : Int32) (v9 : Int64) (w : WH) : Option (Sum (Int32 × Int64 × WH) (Sum (Int32 × Int64 × WH) (((Sum (Int32) (Nat × Nat)) × WH)))) :=
  (gR w v0 17 0).bind fun x1 =>
  x1.bind fun a3 =>
  (gR w a3 21 1).bind fun x5 =>
  x5.bind fun a7 =>
  (ldI w a7 0 v2).bind fun x9 =>
  (stI w a7 0 v2 (x9 + v3)).bind fun w11 =>
  some (.inl (v8, v9, w11))
theorem bX1_bestPair_243 {p : Program} {l : Launch} {e : Env} {s : State} {m : MethodId} {args : Array Value} {below : List Frame} {meth : Method} {c : Code} {H : Heap} {locs : List Loc} {ls : Array Slot} {G : gE} {A : Nat → Prop} {w0 : WH} (B : gB G RX1 cX1_bestPair 13 (some .int) p s m args meth c) (hT : ∀ x ∈ c.exceptionTable.toList, False) (hl0 : l.stackTraces = false) {v0 : Nat} {v1 : Int32} {v2 : Int32} {v3 : Int32} {v4 : Int32} {v5 : Int32} {v6 : Int32} {v7 : Int32} {v8 : Int32} {v9 : Int64} {w : WH} {x : Sum (Int32 × Int64 × WH) (Sum (Int32 × Int64 × WH) (((Sum (Int32) (Nat × Nat)) × WH)))} {r : ((Sum (Int32) (Nat × Nat)) × WH)} (h : fX1_bestPair_b243 v0 v1 v2 v3 v4 v5 v6 v7 v8 v9 w = some x)  (k183 : ∀ (v8' : Int32) (v9' : Int64) (w' : WH), x = (.inl (v8', v9', w')) → ∀ (H : Heap) (locs : List Loc) (ls : Array Slot), RepH G A w' H → Cu A s w0 w' H locs → lv_has ls 13 [(0, .ref v0), (1, .int v1), (2, .int v2), (3, .int v3), (4, .int v4), (5, .int v5), (6, .int v6), (7, .int v7), (8, .int v8'), (9, .long v9')] → W p l e (hRm 20 454 w0) s m args below meth c H locs (wC w0 - wC w') (wS w0 - wS w') (hZX below args s G A w0 (oI r.1) r.2) (F0 m 183 ls [])) (k159 : ∀ (v8' : Int32) (v9' : Int64) (w' : WH), x = (.inr (.inl (v8', v9', w'))) → ∀ (H : Heap) (locs : List Loc) (ls : Array Slot), RepH G A w' H → Cu A s w0 w' H locs → lv_has ls 13 [(0, .ref v0), (1, .int v1), (2, .int v2), (3, .int v3), (4, .int v4), (5, .int v5), (6, .int v6), (7, .int v7), (8, .int v8'), (9, .long v9')] → W p l e (hRm 20 454 w0) s m args below meth c H locs (wC w0 - wC w') (wS w0 - wS w') (hZX below args s G A w0 (oI r.1) r.2) (F0 m 159 ls [])) (kR : ∀ q, x = (.inr (.inr q)) → q = r) (hR : RepH G A w H) (hS : Cu A s w0 w H locs) (hl : lv_has ls 13 [(0, .ref v0), (1, .int v1), (2, .int v2), (3, .int v3), (4, .int v4), (5, .int v5), (6, .int v6), (7, .int v7), (8, .int v8), (9, .long v9)]) : W p l e (hRm 20 454 w0) s m args below meth c H locs (wC w0 - wC w) (wS w0 - wS w) (hZX below args s G A w0 (oI r.1) r.2) (F0 m 243 ls []) := by
  have B0 := B
  obtain ⟨hx, hb, hml, hown, hts, hr, hlk, hK⟩ := B0
  unfold fX1_bestPair_b243 at h
  refine lv_aload_n hx hb dX1_bestPair_243 rfl (lv_at hl 0 rfl) ?_
  replace h := bo_o h
  obtain ⟨x1, e2, h⟩ := h
  refine h_get (ci := 17) (k := 0) (v := va_rf x1) hx hb hts hown hK hR in_X1 rfl (by decide) (fun _ _ => rfl) q662 (fun _ h9 => h9) (gR_o e2) dX1_bestPair_244 ?_
  replace h := bo_o h
  obtain ⟨a3, e4, h⟩ := h
  subst e4
  replace h := bo_o h
  obtain ⟨x5, e6, h⟩ := h
  refine h_getN (ci := 21) (k := 1) (v := va_rf x5) hx hb hts hown hK hR in_X2 rfl (by decide) (fun _ _ => rfl) (hK.fn 18 rfl) (fun _ h9 => h9) (gR_o e6) dX1_bestPair_247 ?_
  refine lv_iload_n hx hb dX1_bestPair_250 rfl (lv_at hl 2 rfl) ?_
  refine lv_dup2_11 hx hb dX1_bestPair_251 (by first | rfl | exact rf_cat _) (by first | rfl | exact rf_cat _) ?_
  replace h := bo_o h
  obtain ⟨a7, e8, h⟩ := h
  subst e8
  replace h := bo_o h
  obtain ⟨x9, e10, h⟩ := h
  refine h_iald hx hb hK hR e10 dX1_bestPair_252 ?_
  refine lv_iload_n hx hb dX1_bestPair_253 rfl (lv_at hl 3 rfl) ?_
  refine lv_iadd hx hb dX1_bestPair_254 ?_
  replace h := bo_o h
  obtain ⟨w11, e12, h⟩ := h
  refine h_iast hx hb hK hR hS e12 dX1_bestPair_255 (fun H locs hR hS => ?_)
  refine lv_goto (tgt := 183) hx hb dX1_bestPair_256 (by decide) ?_
  exact k183 _ _ _ (Option.some.inj h).symm H locs ls hR hS (lv_sub hl [0, 1, 2, 3, 4, 5, 6, 7, 8, 9] rfl)
noncomputable def fX1_bestPair_b239 (v0 : Nat) (v1 : Int32) (v2 : Int32) (v3 : Int32) (v4 : Int32) (v5 : Int32) (v6 : Int32) (v7 : Int32) (v8 : Int32) (v11 : Int64) (w : WH) : Option (Sum (Int32 × Int64 × WH) (Sum (Int32 × Int64 × WH) (((Sum (Int32) (Nat × Nat)) × WH)))) :=
  fX1_bestPair_b243 v0 v1 v2 v3 v4 v5 v6 v7 v8 v11 w
theorem bX1_bestPair_239 {p : Program} {l : Launch} {e : Env} {s : State} {m : MethodId} {args : Array Value} {below : List Frame} {meth : Method} {c : Code} {H : Heap} {locs : List Loc} {ls : Array Slot} {G : gE} {A : Nat → Prop} {w0 : WH} (B : gB G RX1 cX1_bestPair 13 (some .int) p s m args meth c) (hT : ∀ x ∈ c.exceptionTable.toList, False) (hl0 : l.stackTraces = false) {v0 : Nat} {v1 : Int32} {v2 : Int32} {v3 : Int32} {v4 : Int32} {v5 : Int32} {v6 : Int32} {v7 : Int32} {v8 : Int32} {v11 : Int64} {w : WH} {x : Sum (Int32 × Int64 × WH) (Sum (Int32 × Int64 × WH) (((Sum (Int32) (Nat × Nat)) × WH)))} {r : ((Sum (Int32) (Nat × Nat)) × WH)} (h : fX1_bestPair_b239 v0 v1 v2 v3 v4 v5 v6 v7 v8 v11 w = some x)  (k183 : ∀ (v8' : Int32) (v9' : Int64) (w' : WH), x = (.inl (v8', v9', w')) → ∀ (H : Heap) (locs : List Loc) (ls : Array Slot), RepH G A w' H → Cu A s w0 w' H locs → lv_has ls 13 [(0, .ref v0), (1, .int v1), (2, .int v2), (3, .int v3), (4, .int v4), (5, .int v5), (6, .int v6), (7, .int v7), (8, .int v8'), (9, .long v9')] → W p l e (hRm 20 454 w0) s m args below meth c H locs (wC w0 - wC w') (wS w0 - wS w') (hZX below args s G A w0 (oI r.1) r.2) (F0 m 183 ls [])) (k159 : ∀ (v8' : Int32) (v9' : Int64) (w' : WH), x = (.inr (.inl (v8', v9', w'))) → ∀ (H : Heap) (locs : List Loc) (ls : Array Slot), RepH G A w' H → Cu A s w0 w' H locs → lv_has ls 13 [(0, .ref v0), (1, .int v1), (2, .int v2), (3, .int v3), (4, .int v4), (5, .int v5), (6, .int v6), (7, .int v7), (8, .int v8'), (9, .long v9')] → W p l e (hRm 20 454 w0) s m args below meth c H locs (wC w0 - wC w') (wS w0 - wS w') (hZX below args s G A w0 (oI r.1) r.2) (F0 m 159 ls [])) (kR : ∀ q, x = (.inr (.inr q)) → q = r) (hR : RepH G A w H) (hS : Cu A s w0 w H locs) (hl : lv_has ls 13 [(0, .ref v0), (1, .int v1), (2, .int v2), (3, .int v3), (4, .int v4), (5, .int v5), (6, .int v6), (7, .int v7), (8, .int v8), (11, .long v11)]) : W p l e (hRm 20 454 w0) s m args below meth c H locs (wC w0 - wC w) (wS w0 - wS w) (hZX below args s G A w0 (oI r.1) r.2) (F0 m 239 ls []) := by
  have B0 := B
  obtain ⟨hx, hb, hml, hown, hts, hr, hlk, hK⟩ := B0
  unfold fX1_bestPair_b239 at h
  refine lv_lload hx hb dX1_bestPair_239 (lv_at hl 9 rfl) ?_
  refine lv_lstore (lv' := [(9, .long v11), (0, .ref v0), (1, .int v1), (2, .int v2), (3, .int v3), (4, .int v4), (5, .int v5), (6, .int v6), (7, .int v7), (8, .int v8), (11, .long v11)]) hx hb dX1_bestPair_241 hl (by decide) rfl (fun ls hl => ?_)
  exact bX1_bestPair_243 B hT hl0 h k183 k159 kR hR hS (lv_sub hl [1, 2, 3, 4, 5, 6, 7, 8, 9, 0] rfl)
noncomputable def fX1_bestPair_b211 (v0 : Nat) (v1 : Int32) (v2 : Int32) (v3 : Int32) (v4 : Int32) (v5 : Int32) (v6 : Int32) (v7 : Int32) (v8 : Int32) (v9 : Int64) (w : WH) : Option (Sum (Int32 × Int64 × WH) (Sum (Int32 × Int64 × WH) (((Sum (Int32) (Nat × Nat)) × WH)))) :=
  fX1_bestPair_b243 v0 v1 v2 v3 v4 v5 v6 v7 v8 v9 w
theorem bX1_bestPair_211 {p : Program} {l : Launch} {e : Env} {s : State} {m : MethodId} {args : Array Value} {below : List Frame} {meth : Method} {c : Code} {H : Heap} {locs : List Loc} {ls : Array Slot} {G : gE} {A : Nat → Prop} {w0 : WH} (B : gB G RX1 cX1_bestPair 13 (some .int) p s m args meth c) (hT : ∀ x ∈ c.exceptionTable.toList, False) (hl0 : l.stackTraces = false) {v0 : Nat} {v1 : Int32} {v2 : Int32} {v3 : Int32} {v4 : Int32} {v5 : Int32} {v6 : Int32} {v7 : Int32} {v8 : Int32} {v9 : Int64} {w : WH} {x : Sum (Int32 × Int64 × WH) (Sum (Int32 × Int64 × WH) (((Sum (Int32) (Nat × Nat)) × WH)))} {r : ((Sum (Int32) (Nat × Nat)) × WH)} (h : fX1_bestPair_b211 v0 v1 v2 v3 v4 v5 v6 v7 v8 v9 w = some x)  (k183 : ∀ (v8' : Int32) (v9' : Int64) (w' : WH), x = (.inl (v8', v9', w')) → ∀ (H : Heap) (locs : List Loc) (ls : Array Slot), RepH G A w' H → Cu A s w0 w' H locs → lv_has ls 13 [(0, .ref v0), (1, .int v1), (2, .int v2), (3, .int v3), (4, .int v4), (5, .int v5), (6, .int v6), (7, .int v7), (8, .int v8'), (9, .long v9')] → W p l e (hRm 20 454 w0) s m args below meth c H locs (wC w0 - wC w') (wS w0 - wS w') (hZX below args s G A w0 (oI r.1) r.2) (F0 m 183 ls [])) (k159 : ∀ (v8' : Int32) (v9' : Int64) (w' : WH), x = (.inr (.inl (v8', v9', w'))) → ∀ (H : Heap) (locs : List Loc) (ls : Array Slot), RepH G A w' H → Cu A s w0 w' H locs → lv_has ls 13 [(0, .ref v0), (1, .int v1), (2, .int v2), (3, .int v3), (4, .int v4), (5, .int v5), (6, .int v6), (7, .int v7), (8, .int v8'), (9, .long v9')] → W p l e (hRm 20 454 w0) s m args below meth c H locs (wC w0 - wC w') (wS w0 - wS w') (hZX below args s G A w0 (oI r.1) r.2) (F0 m 159 ls [])) (kR : ∀ q, x = (.inr (.inr q)) → q = r) (hR : RepH G A w H) (hS : Cu A s w0 w H locs) (hl : lv_has ls 13 [(0, .ref v0), (1, .int v1), (2, .int v2), (3, .int v3), (4, .int v4), (5, .int v5), (6, .int v6), (7, .int v7), (8, .int v8), (9, .long v9)]) : W p l e (hRm 20 454 w0) s m args below meth c H locs (wC w0 - wC w) (wS w0 - wS w) (hZX below args s G A w0 (oI r.1) r.2) (F0 m 211 ls []) := by
  have B0 := B
  obtain ⟨hx, hb, hml, hown, hts, hr, hlk, hK⟩ := B0
  unfold fX1_bestPair_b211 at h
  refine lv_goto (tgt := 243) hx hb dX1_bestPair_211 (by decide) ?_
  exact bX1_bestPair_243 B hT hl0 h k183 k159 kR hR hS (lv_sub hl [0, 1, 2, 3, 4, 5, 6, 7, 8, 9] rfl)
noncomputable def fX1_bestPair_b183 (v0 : Nat) (v1 : Int32) (v2 : Int32) (v3 : Int32) (v4 : Int32) (v5 : Int32) (v6 : Int32) (v7 : Int32) (v8 : Int32) (v9 : Int64) (w : WH) : Option (Sum (Int32 × Int64 × WH) (Sum (Int32 × Int64 × WH) (((Sum (Int32) (Nat × Nat)) × WH)))) :=
  (gR w v0 17 0).bind fun x1 =>
  x1.bind fun a3 =>
  (gR w a3 21 1).bind fun x5 =>
  x5.bind fun a7 =>
  (ldI w a7 0 v2).bind fun x9 =>
  if v5 < x9 then (
    (fX1_bestPair_b259 v0 v1 v2 v3 v4 v5 v6 v7 v8 v9 w).map (fun y => (.inr y))
  ) else (
    (hIs w v0 17).bind fun _ =>
    b2_ (fX1_brought v0 w) fun x15 w12 =>
    if 0 < lg_cmp x15 v9 then (
      (gR w12 v0 17 0).bind fun x17 =>
      x17.bind fun a19 =>
      (gR w12 a19 21 1).bind fun x21 =>
      x21.bind fun a23 =>
      (ldI w12 a23 0 v1).bind fun x25 =>
      (gR w12 v0 17 0).bind fun x27 =>
      x27.bind fun a29 =>
      (gR w12 a29 21 1).bind fun x31 =>
      x31.bind fun a33 =>
      (ldI w12 a33 0 v2).bind fun x35 =>
      nm_ ((10000 * x25) + x35) fun x37 =>
      fX1_bestPair_b239 v0 v1 v2 v3 v4 v5 v6 v7 x37 x15 w12
    ) else (
      fX1_bestPair_b211 v0 v1 v2 v3 v4 v5 v6 v7 v8 v9 w12
    )
  )
theorem bX1_bestPair_183 {p : Program} {l : Launch} {e : Env} {s : State} {m : MethodId} {args : Array Value} {below : List Frame} {meth : Method} {c : Code} {H : Heap} {locs : List Loc} {ls : Array Slot} {G : gE} {A : Nat → Prop} {w0 : WH} (B : gB G RX1 cX1_bestPair 13 (some .int) p s m args meth c) (hT : ∀ x ∈ c.exceptionTable.toList, False) (hl0 : l.stackTraces = false) {v0 : Nat} {v1 : Int32} {v2 : Int32} {v3 : Int32} {v4 : Int32} {v5 : Int32} {v6 : Int32} {v7 : Int32} {v8 : Int32} {v9 : Int64} {w : WH} {x : Sum (Int32 × Int64 × WH) (Sum (Int32 × Int64 × WH) (((Sum (Int32) (Nat × Nat)) × WH)))} {r : ((Sum (Int32) (Nat × Nat)) × WH)} (h : fX1_bestPair_b183 v0 v1 v2 v3 v4 v5 v6 v7 v8 v9 w = some x)  (k183 : ∀ (v8' : Int32) (v9' : Int64) (w' : WH), x = (.inl (v8', v9', w')) → ∀ (H : Heap) (locs : List Loc) (ls : Array Slot), RepH G A w' H → Cu A s w0 w' H locs → lv_has ls 13 [(0, .ref v0), (1, .int v1), (2, .int v2), (3, .int v3), (4, .int v4), (5, .int v5), (6, .int v6), (7, .int v7), (8, .int v8'), (9, .long v9')] → W p l e (hRm 20 454 w0) s m args below meth c H locs (wC w0 - wC w') (wS w0 - wS w') (hZX below args s G A w0 (oI r.1) r.2) (F0 m 183 ls [])) (k159 : ∀ (v8' : Int32) (v9' : Int64) (w' : WH), x = (.inr (.inl (v8', v9', w'))) → ∀ (H : Heap) (locs : List Loc) (ls : Array Slot), RepH G A w' H → Cu A s w0 w' H locs → lv_has ls 13 [(0, .ref v0), (1, .int v1), (2, .int v2), (3, .int v3), (4, .int v4), (5, .int v5), (6, .int v6), (7, .int v7), (8, .int v8'), (9, .long v9')] → W p l e (hRm 20 454 w0) s m args below meth c H locs (wC w0 - wC w') (wS w0 - wS w') (hZX below args s G A w0 (oI r.1) r.2) (F0 m 159 ls [])) (kR : ∀ q, x = (.inr (.inr q)) → q = r) (hR : RepH G A w H) (hS : Cu A s w0 w H locs) (hl : lv_has ls 13 [(0, .ref v0), (1, .int v1), (2, .int v2), (3, .int v3), (4, .int v4), (5, .int v5), (6, .int v6), (7, .int v7), (8, .int v8), (9, .long v9)]) : W p l e (hRm 20 454 w0) s m args below meth c H locs (wC w0 - wC w) (wS w0 - wS w) (hZX below args s G A w0 (oI r.1) r.2) (F0 m 183 ls []) := by
  have B0 := B
  obtain ⟨hx, hb, hml, hown, hts, hr, hlk, hK⟩ := B0
  unfold fX1_bestPair_b183 at h
  refine lv_aload_n hx hb dX1_bestPair_183 rfl (lv_at hl 0 rfl) ?_
  replace h := bo_o h
  obtain ⟨x1, e2, h⟩ := h
  refine h_get (ci := 17) (k := 0) (v := va_rf x1) hx hb hts hown hK hR in_X1 rfl (by decide) (fun _ _ => rfl) q662 (fun _ h9 => h9) (gR_o e2) dX1_bestPair_184 ?_
  replace h := bo_o h
  obtain ⟨a3, e4, h⟩ := h
  subst e4
  replace h := bo_o h
  obtain ⟨x5, e6, h⟩ := h
  refine h_getN (ci := 21) (k := 1) (v := va_rf x5) hx hb hts hown hK hR in_X2 rfl (by decide) (fun _ _ => rfl) (hK.fn 18 rfl) (fun _ h9 => h9) (gR_o e6) dX1_bestPair_187 ?_
  refine lv_iload_n hx hb dX1_bestPair_190 rfl (lv_at hl 2 rfl) ?_
  replace h := bo_o h
  obtain ⟨a7, e8, h⟩ := h
  subst e8
  replace h := bo_o h
  obtain ⟨x9, e10, h⟩ := h
  refine h_iald hx hb hK hR e10 dX1_bestPair_191 ?_
  refine lv_iload hx hb dX1_bestPair_192 (lv_at hl 5 rfl) ?_
  refine lv_icmp_gt (tgt := 259) hx hb dX1_bestPair_194 (by decide) (fun c11 => ?_) (fun c11 => ?_)
  · replace h := it_o c11 h
    obtain ⟨y, h, ey⟩ := mp_o h
    exact bX1_bestPair_259 B hT hl0 h (fun _ _ _ e => k159 _ _ _ (by rw [← ey, e])) (fun q e => kR q (by rw [← ey, e])) hR hS (lv_sub hl [0, 1, 2, 3, 4, 5, 6, 7, 8, 9] rfl)
  · replace h := if_o c11 h
    refine lv_aload_n hx hb dX1_bestPair_197 rfl (lv_at hl 0 rfl) ?_
    replace h := bo_o h
    obtain ⟨_, e13, h⟩ := h
    replace h := b2_o h
    obtain ⟨x15, w12, e14, h⟩ := h
    refine h_callV 0 (ci := 17) (As := []) (rest := []) (v := (some (.long x15))) (w' := w12) (st1 := [.long x15]) hx hb hml hown hts hK hR hS (Nat.le_refl _) (Nat.le_refl _) rfl e13 (mX1_brought e14) (lw_V q1727 q1729 qs37 q112 q1730) (by decide +kernel) (Nat.le_of_ble_eq_true rfl) (Nat.le_of_ble_eq_true rfl) rfl hl.1 (Nat.le_of_ble_eq_true rfl) dX1_bestPair_198 rfl rfl (fun H locs hR hS => ?_)
    refine lv_lstore (lv' := [(11, .long x15), (0, .ref v0), (1, .int v1), (2, .int v2), (3, .int v3), (4, .int v4), (5, .int v5), (6, .int v6), (7, .int v7), (8, .int v8), (9, .long v9)]) hx hb dX1_bestPair_201 hl (by decide) rfl (fun ls hl => ?_)
    refine lv_lload hx hb dX1_bestPair_203 (lv_at hl 0 rfl) ?_
    refine lv_lload hx hb dX1_bestPair_205 (lv_at hl 10 rfl) ?_
    refine W.lcmp hx hb dX1_bestPair_207 ?_
    refine lv_if_gt (tgt := 214) hx hb dX1_bestPair_208 (by decide) (fun c16 => ?_) (fun c16 => ?_)
    · replace h := it_o c16 h
      refine lv_sipush (v := 10000) hx hb dX1_bestPair_214 (by decide) ?_
      refine lv_aload_n hx hb dX1_bestPair_217 rfl (lv_at hl 1 rfl) ?_
      replace h := bo_o h
      obtain ⟨x17, e18, h⟩ := h
      refine h_get (ci := 17) (k := 0) (v := va_rf x17) hx hb hts hown hK hR in_X1 rfl (by decide) (fun _ _ => rfl) q662 (fun _ h9 => h9) (gR_o e18) dX1_bestPair_218 ?_
      replace h := bo_o h
      obtain ⟨a19, e20, h⟩ := h
      subst e20
      replace h := bo_o h
      obtain ⟨x21, e22, h⟩ := h
      refine h_getN (ci := 21) (k := 1) (v := va_rf x21) hx hb hts hown hK hR in_X2 rfl (by decide) (fun _ _ => rfl) (hK.fn 18 rfl) (fun _ h9 => h9) (gR_o e22) dX1_bestPair_221 ?_
      refine lv_iload_n hx hb dX1_bestPair_224 rfl (lv_at hl 2 rfl) ?_
      replace h := bo_o h
      obtain ⟨a23, e24, h⟩ := h
      subst e24
      replace h := bo_o h
      obtain ⟨x25, e26, h⟩ := h
      refine h_iald hx hb hK hR e26 dX1_bestPair_225 ?_
      refine lv_imul hx hb dX1_bestPair_226 ?_
      refine lv_aload_n hx hb dX1_bestPair_227 rfl (lv_at hl 1 rfl) ?_
      replace h := bo_o h
      obtain ⟨x27, e28, h⟩ := h
      refine h_get (ci := 17) (k := 0) (v := va_rf x27) hx hb hts hown hK hR in_X1 rfl (by decide) (fun _ _ => rfl) q662 (fun _ h9 => h9) (gR_o e28) dX1_bestPair_228 ?_
      replace h := bo_o h
      obtain ⟨a29, e30, h⟩ := h
      subst e30
      replace h := bo_o h
      obtain ⟨x31, e32, h⟩ := h
      refine h_getN (ci := 21) (k := 1) (v := va_rf x31) hx hb hts hown hK hR in_X2 rfl (by decide) (fun _ _ => rfl) (hK.fn 18 rfl) (fun _ h9 => h9) (gR_o e32) dX1_bestPair_231 ?_
      refine lv_iload_n hx hb dX1_bestPair_234 rfl (lv_at hl 3 rfl) ?_
      replace h := bo_o h
      obtain ⟨a33, e34, h⟩ := h
      subst e34
      replace h := bo_o h
      obtain ⟨x35, e36, h⟩ := h
      refine h_iald hx hb hK hR e36 dX1_bestPair_235 ?_
      refine lv_iadd hx hb dX1_bestPair_236 ?_
      replace h := nm_o h
      obtain ⟨x37, e38, h⟩ := h
      refine lv_istore (lv' := [(8, .int x37), (11, .long x15), (0, .ref v0), (1, .int v1), (2, .int v2), (3, .int v3), (4, .int v4), (5, .int v5), (6, .int v6), (7, .int v7), (9, .long v9)]) hx hb dX1_bestPair_237 hl (by decide) (by subst e38; rfl) (fun ls hl => ?_)
      exact bX1_bestPair_239 B hT hl0 h k183 k159 kR hR hS (lv_sub hl [2, 3, 4, 5, 6, 7, 8, 9, 0, 1] rfl)
    · replace h := if_o c16 h
      exact bX1_bestPair_211 B hT hl0 h k183 k159 kR hR hS (lv_sub hl [1, 2, 3, 4, 5, 6, 7, 8, 9, 10] rfl)
noncomputable def fX1_bestPair_l183 (v0 : Nat) (v1 : Int32) (v2 : Int32) (v3 : Int32) (v4 : Int32) (v5 : Int32) (v6 : Int32) (v7 : Int32) (v8 : Int32) (v9 : Int64) (w : WH) : Option (Sum (Int32 × Int64 × WH) (((Sum (Int32) (Nat × Nat)) × WH))) := whileO (fun q => fX1_bestPair_b183 v0 v1 v2 v3 v4 v5 v6 v7 q.1 q.2.1 q.2.2) (v8, v9, w)
theorem lX1_bestPair_183 {p : Program} {l : Launch} {e : Env} {s : State} {m : MethodId} {args : Array Value} {below : List Frame} {meth : Method} {c : Code} {G : gE} {A : Nat → Prop} {w0 : WH} (B : gB G RX1 cX1_bestPair 13 (some .int) p s m args meth c) (hT : ∀ x ∈ c.exceptionTable.toList, False) (hl0 : l.stackTraces = false) {v0 : Nat} {v1 : Int32} {v2 : Int32} {v3 : Int32} {v4 : Int32} {v5 : Int32} {v6 : Int32} {v7 : Int32} {x : Sum (Int32 × Int64 × WH) (((Sum (Int32) (Nat × Nat)) × WH))} {r : ((Sum (Int32) (Nat × Nat)) × WH)}  (k159 : ∀ (v8' : Int32) (v9' : Int64) (w' : WH), x = (.inl (v8', v9', w')) → ∀ (H : Heap) (locs : List Loc) (ls : Array Slot), RepH G A w' H → Cu A s w0 w' H locs → lv_has ls 13 [(0, .ref v0), (1, .int v1), (2, .int v2), (3, .int v3), (4, .int v4), (5, .int v5), (6, .int v6), (7, .int v7), (8, .int v8'), (9, .long v9')] → W p l e (hRm 20 454 w0) s m args below meth c H locs (wC w0 - wC w') (wS w0 - wS w') (hZX below args s G A w0 (oI r.1) r.2) (F0 m 159 ls [])) (kR : ∀ q, x = (.inr q) → q = r) : ∀ (v8 : Int32) (v9 : Int64) (w : WH), fX1_bestPair_l183 v0 v1 v2 v3 v4 v5 v6 v7 v8 v9 w = some x → ∀ (H : Heap) (locs : List Loc) (ls : Array Slot), RepH G A w H → Cu A s w0 w H locs → lv_has ls 13 [(0, .ref v0), (1, .int v1), (2, .int v2), (3, .int v3), (4, .int v4), (5, .int v5), (6, .int v6), (7, .int v7), (8, .int v8), (9, .long v9)] → W p l e (hRm 20 454 w0) s m args below meth c H locs (wC w0 - wC w) (wS w0 - wS w) (hZX below args s G A w0 (oI r.1) r.2) (F0 m 183 ls []) := by
  intro v8 v9 w h
  refine wh_walk (body := (fun q => fX1_bestPair_b183 v0 v1 v2 v3 v4 v5 v6 v7 q.1 q.2.1 q.2.2)) (P := (fun q : (Int32 × Int64 × WH) => ∀ (H : Heap) (locs : List Loc) (ls : Array Slot), RepH G A (q.2.2) H → Cu A s w0 (q.2.2) H locs → lv_has ls 13 [(0, .ref v0), (1, .int v1), (2, .int v2), (3, .int v3), (4, .int v4), (5, .int v5), (6, .int v6), (7, .int v7), (8, .int (q.1)), (9, .long (q.2.1))] → W p l e (hRm 20 454 w0) s m args below meth c H locs (wC w0 - wC (q.2.2)) (wS w0 - wS (q.2.2)) (hZX below args s G A w0 (oI r.1) r.2) (F0 m 183 ls []))) (r := x) ?_ (v8, v9, w) h
  intro q y hy hL hr H locs ls hR hS hl
  exact bX1_bestPair_183 (r := r) B hT hl0 hy (fun a0 a1 a2 e => hL (a0, a1, a2) e) (fun a0 a1 a2 e H locs ls hR hS hl => k159 _ _ _ ((hr _ e).symm) H locs ls hR hS hl) (fun q e => kR q ((hr _ e).symm)) hR hS hl
noncomputable def fX1_bestPair_b159 (v0 : Nat) (v1 : Int32) (v2 : Int32) (v3 : Int32) (v4 : Int32) (v5 : Int32) (v6 : Int32) (v7 : Int32) (v8 : Int32) (v9 : Int64) (w : WH) : Option (Sum (Int32 × Int64 × WH) (((Sum (Int32) (Nat × Nat)) × WH))) :=
  (gR w v0 17 0).bind fun x1 =>
  x1.bind fun a3 =>
  (gR w a3 21 1).bind fun x5 =>
  x5.bind fun a7 =>
  (ldI w a7 0 v1).bind fun x9 =>
  if v4 < x9 then (
    (fX1_bestPair_b275 v0 v1 v2 v6 v7 v8 w).map (fun y => (.inr y))
  ) else (
    (gR w v0 17 0).bind fun x12 =>
    x12.bind fun a14 =>
    (gR w a14 21 1).bind fun x16 =>
    x16.bind fun a18 =>
    (stI w a18 0 v2 0).bind fun w20 =>
    fX1_bestPair_l183 v0 v1 v2 v3 v4 v5 v6 v7 v8 v9 w20
  )
theorem bX1_bestPair_159 {p : Program} {l : Launch} {e : Env} {s : State} {m : MethodId} {args : Array Value} {below : List Frame} {meth : Method} {c : Code} {H : Heap} {locs : List Loc} {ls : Array Slot} {G : gE} {A : Nat → Prop} {w0 : WH} (B : gB G RX1 cX1_bestPair 13 (some .int) p s m args meth c) (hT : ∀ x ∈ c.exceptionTable.toList, False) (hl0 : l.stackTraces = false) {v0 : Nat} {v1 : Int32} {v2 : Int32} {v3 : Int32} {v4 : Int32} {v5 : Int32} {v6 : Int32} {v7 : Int32} {v8 : Int32} {v9 : Int64} {w : WH} {x : Sum (Int32 × Int64 × WH) (((Sum (Int32) (Nat × Nat)) × WH))} {r : ((Sum (Int32) (Nat × Nat)) × WH)} (h : fX1_bestPair_b159 v0 v1 v2 v3 v4 v5 v6 v7 v8 v9 w = some x)  (k159 : ∀ (v8' : Int32) (v9' : Int64) (w' : WH), x = (.inl (v8', v9', w')) → ∀ (H : Heap) (locs : List Loc) (ls : Array Slot), RepH G A w' H → Cu A s w0 w' H locs → lv_has ls 13 [(0, .ref v0), (1, .int v1), (2, .int v2), (3, .int v3), (4, .int v4), (5, .int v5), (6, .int v6), (7, .int v7), (8, .int v8'), (9, .long v9')] → W p l e (hRm 20 454 w0) s m args below meth c H locs (wC w0 - wC w') (wS w0 - wS w') (hZX below args s G A w0 (oI r.1) r.2) (F0 m 159 ls [])) (kR : ∀ q, x = (.inr q) → q = r) (hR : RepH G A w H) (hS : Cu A s w0 w H locs) (hl : lv_has ls 13 [(0, .ref v0), (1, .int v1), (2, .int v2), (3, .int v3), (4, .int v4), (5, .int v5), (6, .int v6), (7, .int v7), (8, .int v8), (9, .long v9)]) : W p l e (hRm 20 454 w0) s m args below meth c H locs (wC w0 - wC w) (wS w0 - wS w) (hZX below args s G A w0 (oI r.1) r.2) (F0 m 159 ls []) := by
  have B0 := B
  obtain ⟨hx, hb, hml, hown, hts, hr, hlk, hK⟩ := B0
  unfold fX1_bestPair_b159 at h
  refine lv_aload_n hx hb dX1_bestPair_159 rfl (lv_at hl 0 rfl) ?_
  replace h := bo_o h
  obtain ⟨x1, e2, h⟩ := h
  refine h_get (ci := 17) (k := 0) (v := va_rf x1) hx hb hts hown hK hR in_X1 rfl (by decide) (fun _ _ => rfl) q662 (fun _ h9 => h9) (gR_o e2) dX1_bestPair_160 ?_
  replace h := bo_o h
  obtain ⟨a3, e4, h⟩ := h
  subst e4
  replace h := bo_o h
  obtain ⟨x5, e6, h⟩ := h
  refine h_getN (ci := 21) (k := 1) (v := va_rf x5) hx hb hts hown hK hR in_X2 rfl (by decide) (fun _ _ => rfl) (hK.fn 18 rfl) (fun _ h9 => h9) (gR_o e6) dX1_bestPair_163 ?_
  refine lv_iload_n hx hb dX1_bestPair_166 rfl (lv_at hl 1 rfl) ?_
  replace h := bo_o h
  obtain ⟨a7, e8, h⟩ := h
  subst e8
  replace h := bo_o h
  obtain ⟨x9, e10, h⟩ := h
  refine h_iald hx hb hK hR e10 dX1_bestPair_167 ?_
  refine lv_iload hx hb dX1_bestPair_168 (lv_at hl 4 rfl) ?_
  refine lv_icmp_gt (tgt := 275) hx hb dX1_bestPair_170 (by decide) (fun c11 => ?_) (fun c11 => ?_)
  · replace h := it_o c11 h
    obtain ⟨y, h, ey⟩ := mp_o h
    have ey := kR _ ey.symm
    subst ey
    exact bX1_bestPair_275 B hT hl0 h  hR hS (lv_sub hl [0, 1, 2, 6, 7, 8] rfl)
  · replace h := if_o c11 h
    refine lv_aload_n hx hb dX1_bestPair_173 rfl (lv_at hl 0 rfl) ?_
    replace h := bo_o h
    obtain ⟨x12, e13, h⟩ := h
    refine h_get (ci := 17) (k := 0) (v := va_rf x12) hx hb hts hown hK hR in_X1 rfl (by decide) (fun _ _ => rfl) q662 (fun _ h9 => h9) (gR_o e13) dX1_bestPair_174 ?_
    replace h := bo_o h
    obtain ⟨a14, e15, h⟩ := h
    subst e15
    replace h := bo_o h
    obtain ⟨x16, e17, h⟩ := h
    refine h_getN (ci := 21) (k := 1) (v := va_rf x16) hx hb hts hown hK hR in_X2 rfl (by decide) (fun _ _ => rfl) (hK.fn 18 rfl) (fun _ h9 => h9) (gR_o e17) dX1_bestPair_177 ?_
    refine lv_iload_n hx hb dX1_bestPair_180 rfl (lv_at hl 2 rfl) ?_
    refine lv_iconst (v := 0) hx hb dX1_bestPair_181 (by decide) ?_
    replace h := bo_o h
    obtain ⟨a18, e19, h⟩ := h
    subst e19
    replace h := bo_o h
    obtain ⟨w20, e21, h⟩ := h
    refine h_iast hx hb hK hR hS e21 dX1_bestPair_182 (fun H locs hR hS => ?_)
    exact lX1_bestPair_183 (x := x) (r := r) B hT hl0 k159 kR _ _ _ h H locs ls hR hS (lv_sub hl [0, 1, 2, 3, 4, 5, 6, 7, 8, 9] rfl)
noncomputable def fX1_bestPair_l159 (v0 : Nat) (v1 : Int32) (v2 : Int32) (v3 : Int32) (v4 : Int32) (v5 : Int32) (v6 : Int32) (v7 : Int32) (v8 : Int32) (v9 : Int64) (w : WH) : Option (((Sum (Int32) (Nat × Nat)) × WH)) := whileO (fun q => fX1_bestPair_b159 v0 v1 v2 v3 v4 v5 v6 v7 q.1 q.2.1 q.2.2) (v8, v9, w)
theorem lX1_bestPair_159 {p : Program} {l : Launch} {e : Env} {s : State} {m : MethodId} {args : Array Value} {below : List Frame} {meth : Method} {c : Code} {G : gE} {A : Nat → Prop} {w0 : WH} (B : gB G RX1 cX1_bestPair 13 (some .int) p s m args meth c) (hT : ∀ x ∈ c.exceptionTable.toList, False) (hl0 : l.stackTraces = false) {v0 : Nat} {v1 : Int32} {v2 : Int32} {v3 : Int32} {v4 : Int32} {v5 : Int32} {v6 : Int32} {v7 : Int32} {r : ((Sum (Int32) (Nat × Nat)) × WH)}   : ∀ (v8 : Int32) (v9 : Int64) (w : WH), fX1_bestPair_l159 v0 v1 v2 v3 v4 v5 v6 v7 v8 v9 w = some r → ∀ (H : Heap) (locs : List Loc) (ls : Array Slot), RepH G A w H → Cu A s w0 w H locs → lv_has ls 13 [(0, .ref v0), (1, .int v1), (2, .int v2), (3, .int v3), (4, .int v4), (5, .int v5), (6, .int v6), (7, .int v7), (8, .int v8), (9, .long v9)] → W p l e (hRm 20 454 w0) s m args below meth c H locs (wC w0 - wC w) (wS w0 - wS w) (hZX below args s G A w0 (oI r.1) r.2) (F0 m 159 ls []) := by
  intro v8 v9 w h
  refine wh_walk (body := (fun q => fX1_bestPair_b159 v0 v1 v2 v3 v4 v5 v6 v7 q.1 q.2.1 q.2.2)) (P := (fun q : (Int32 × Int64 × WH) => ∀ (H : Heap) (locs : List Loc) (ls : Array Slot), RepH G A (q.2.2) H → Cu A s w0 (q.2.2) H locs → lv_has ls 13 [(0, .ref v0), (1, .int v1), (2, .int v2), (3, .int v3), (4, .int v4), (5, .int v5), (6, .int v6), (7, .int v7), (8, .int (q.1)), (9, .long (q.2.1))] → W p l e (hRm 20 454 w0) s m args below meth c H locs (wC w0 - wC (q.2.2)) (wS w0 - wS (q.2.2)) (hZX below args s G A w0 (oI r.1) r.2) (F0 m 159 ls []))) (r := r) ?_ (v8, v9, w) h
  intro q y hy hL hr H locs ls hR hS hl
  exact bX1_bestPair_159 (r := r) B hT hl0 hy (fun a0 a1 a2 e => hL (a0, a1, a2) e) (fun q e => hr q e) hR hS hl
noncomputable def fX1_bestPair_b119 (v0 : Nat) (v1 : Int32) (v2 : Int32) (v3 : Int32) (v4 : Int32) (v5 : Int32) (w : WH) : Option (((Sum (Int32) (Nat × Nat)) × WH)) :=
  (gR w v0 17 0).bind fun x1 =>
  x1.bind fun a3 =>
  (gR w a3 21 1).bind fun x5 =>
  x5.bind fun a7 =>
  (ldI w a7 0 v1).bind fun x9 =>
  (gR w v0 17 0).bind fun x11 =>
  x11.bind fun a13 =>
  (gR w a13 21 1).bind fun x15 =>
  x15.bind fun a17 =>
  (ldI w a17 0 v2).bind fun x19 =>
  (gR w v0 17 0).bind fun x21 =>
  x21.bind fun a23 =>
  (gR w a23 21 1).bind fun x25 =>
  x25.bind fun a27 =>
  (stI w a27 0 v1 0).bind fun w29 =>
  fX1_bestPair_l159 v0 v1 v2 v3 v4 v5 x9 x19 (-1) (-1) w29
theorem bX1_bestPair_119 {p : Program} {l : Launch} {e : Env} {s : State} {m : MethodId} {args : Array Value} {below : List Frame} {meth : Method} {c : Code} {H : Heap} {locs : List Loc} {ls : Array Slot} {G : gE} {A : Nat → Prop} {w0 : WH} (B : gB G RX1 cX1_bestPair 13 (some .int) p s m args meth c) (hT : ∀ x ∈ c.exceptionTable.toList, False) (hl0 : l.stackTraces = false) {v0 : Nat} {v1 : Int32} {v2 : Int32} {v3 : Int32} {v4 : Int32} {v5 : Int32} {w : WH} {r : ((Sum (Int32) (Nat × Nat)) × WH)} (h : fX1_bestPair_b119 v0 v1 v2 v3 v4 v5 w = some r)   (hR : RepH G A w H) (hS : Cu A s w0 w H locs) (hl : lv_has ls 13 [(0, .ref v0), (1, .int v1), (2, .int v2), (3, .int v3), (4, .int v4), (5, .int v5)]) : W p l e (hRm 20 454 w0) s m args below meth c H locs (wC w0 - wC w) (wS w0 - wS w) (hZX below args s G A w0 (oI r.1) r.2) (F0 m 119 ls []) := by
  have B0 := B
  obtain ⟨hx, hb, hml, hown, hts, hr, hlk, hK⟩ := B0
  unfold fX1_bestPair_b119 at h
  refine lv_aload_n hx hb dX1_bestPair_119 rfl (lv_at hl 0 rfl) ?_
  replace h := bo_o h
  obtain ⟨x1, e2, h⟩ := h
  refine h_get (ci := 17) (k := 0) (v := va_rf x1) hx hb hts hown hK hR in_X1 rfl (by decide) (fun _ _ => rfl) q662 (fun _ h9 => h9) (gR_o e2) dX1_bestPair_120 ?_
  replace h := bo_o h
  obtain ⟨a3, e4, h⟩ := h
  subst e4
  replace h := bo_o h
  obtain ⟨x5, e6, h⟩ := h
  refine h_getN (ci := 21) (k := 1) (v := va_rf x5) hx hb hts hown hK hR in_X2 rfl (by decide) (fun _ _ => rfl) (hK.fn 18 rfl) (fun _ h9 => h9) (gR_o e6) dX1_bestPair_123 ?_
  refine lv_iload_n hx hb dX1_bestPair_126 rfl (lv_at hl 1 rfl) ?_
  replace h := bo_o h
  obtain ⟨a7, e8, h⟩ := h
  subst e8
  replace h := bo_o h
  obtain ⟨x9, e10, h⟩ := h
  refine h_iald hx hb hK hR e10 dX1_bestPair_127 ?_
  refine lv_istore (lv' := [(6, .int x9), (0, .ref v0), (1, .int v1), (2, .int v2), (3, .int v3), (4, .int v4), (5, .int v5)]) hx hb dX1_bestPair_128 hl (by decide) rfl (fun ls hl => ?_)
  refine lv_aload_n hx hb dX1_bestPair_130 rfl (lv_at hl 1 rfl) ?_
  replace h := bo_o h
  obtain ⟨x11, e12, h⟩ := h
  refine h_get (ci := 17) (k := 0) (v := va_rf x11) hx hb hts hown hK hR in_X1 rfl (by decide) (fun _ _ => rfl) q662 (fun _ h9 => h9) (gR_o e12) dX1_bestPair_131 ?_
  replace h := bo_o h
  obtain ⟨a13, e14, h⟩ := h
  subst e14
  replace h := bo_o h
  obtain ⟨x15, e16, h⟩ := h
  refine h_getN (ci := 21) (k := 1) (v := va_rf x15) hx hb hts hown hK hR in_X2 rfl (by decide) (fun _ _ => rfl) (hK.fn 18 rfl) (fun _ h9 => h9) (gR_o e16) dX1_bestPair_134 ?_
  refine lv_iload_n hx hb dX1_bestPair_137 rfl (lv_at hl 3 rfl) ?_
  replace h := bo_o h
  obtain ⟨a17, e18, h⟩ := h
  subst e18
  replace h := bo_o h
  obtain ⟨x19, e20, h⟩ := h
  refine h_iald hx hb hK hR e20 dX1_bestPair_138 ?_
  refine lv_istore (lv' := [(7, .int x19), (6, .int x9), (0, .ref v0), (1, .int v1), (2, .int v2), (3, .int v3), (4, .int v4), (5, .int v5)]) hx hb dX1_bestPair_139 hl (by decide) rfl (fun ls hl => ?_)
  refine lv_iconst (v := (-1)) hx hb dX1_bestPair_141 (by decide) ?_
  refine lv_istore (lv' := [(8, .int (-1)), (7, .int x19), (6, .int x9), (0, .ref v0), (1, .int v1), (2, .int v2), (3, .int v3), (4, .int v4), (5, .int v5)]) hx hb dX1_bestPair_142 hl (by decide) rfl (fun ls hl => ?_)
  refine lv_ldc2 (v := (-1)) hx hb hown (hts _ q1757) dX1_bestPair_144 ?_
  refine lv_lstore (lv' := [(9, .long (-1)), (8, .int (-1)), (7, .int x19), (6, .int x9), (0, .ref v0), (1, .int v1), (2, .int v2), (3, .int v3), (4, .int v4), (5, .int v5)]) hx hb dX1_bestPair_147 hl (by decide) rfl (fun ls hl => ?_)
  refine lv_aload_n hx hb dX1_bestPair_149 rfl (lv_at hl 4 rfl) ?_
  replace h := bo_o h
  obtain ⟨x21, e22, h⟩ := h
  refine h_get (ci := 17) (k := 0) (v := va_rf x21) hx hb hts hown hK hR in_X1 rfl (by decide) (fun _ _ => rfl) q662 (fun _ h9 => h9) (gR_o e22) dX1_bestPair_150 ?_
  replace h := bo_o h
  obtain ⟨a23, e24, h⟩ := h
  subst e24
  replace h := bo_o h
  obtain ⟨x25, e26, h⟩ := h
  refine h_getN (ci := 21) (k := 1) (v := va_rf x25) hx hb hts hown hK hR in_X2 rfl (by decide) (fun _ _ => rfl) (hK.fn 18 rfl) (fun _ h9 => h9) (gR_o e26) dX1_bestPair_153 ?_
  refine lv_iload_n hx hb dX1_bestPair_156 rfl (lv_at hl 5 rfl) ?_
  refine lv_iconst (v := 0) hx hb dX1_bestPair_157 (by decide) ?_
  replace h := bo_o h
  obtain ⟨a27, e28, h⟩ := h
  subst e28
  replace h := bo_o h
  obtain ⟨w29, e30, h⟩ := h
  refine h_iast hx hb hK hR hS e30 dX1_bestPair_158 (fun H locs hR hS => ?_)
  exact lX1_bestPair_159 B hT hl0 _ _ _ h H locs ls hR hS (lv_sub hl [4, 5, 6, 7, 8, 9, 3, 2, 1, 0] rfl)
noncomputable def fX1_bestPair_b116  (w : WH) : Option (((Sum (Int32) (Nat × Nat)) × WH)) :=
  some (.inl (-3), w)
theorem bX1_bestPair_116 {p : Program} {l : Launch} {e : Env} {s : State} {m : MethodId} {args : Array Value} {below : List Frame} {meth : Method} {c : Code} {H : Heap} {locs : List Loc} {ls : Array Slot} {G : gE} {A : Nat → Prop} {w0 : WH} (B : gB G RX1 cX1_bestPair 13 (some .int) p s m args meth c) (hT : ∀ x ∈ c.exceptionTable.toList, False) (hl0 : l.stackTraces = false)  {w : WH} {r : ((Sum (Int32) (Nat × Nat)) × WH)} (h : fX1_bestPair_b116 w = some r)   (hR : RepH G A w H) (hS : Cu A s w0 w H locs) (hl : lv_has ls 13 []) : W p l e (hRm 20 454 w0) s m args below meth c H locs (wC w0 - wC w) (wS w0 - wS w) (hZX below args s G A w0 (oI r.1) r.2) (F0 m 116 ls []) := by
  have B0 := B
  obtain ⟨hx, hb, hml, hown, hts, hr, hlk, hK⟩ := B0
  unfold fX1_bestPair_b116 at h
  refine lv_bipush (v := (-3)) hx hb dX1_bestPair_116 (by decide) ?_
  have eR := Option.some.inj h
  subst eR
  exact h_ifinX hx hb hr hlk hR hS dX1_bestPair_118
noncomputable def fX1_bestPair_b46 (v0 : Nat) (v1 : Int32) (v2 : Int32) (v3 : Int32) (s0 : Int32) (w : WH) : Option (((Sum (Int32) (Nat × Nat)) × WH)) :=
  b2_ (fX1_requireArgument s0 w) fun o2 w1 => ex_ o2 (fun _ =>
    (gR w1 v0 17 0).bind fun x6 =>
    x6.bind fun a8 =>
    (gR w1 a8 21 0).bind fun x10 =>
    x10.bind fun a12 =>
    (gR w1 a12 22 1).bind fun x14 =>
    x14.bind fun a16 =>
    (hIs w1 a16 2).bind fun _ =>
    b2_ (fJ2_get a16 v1 w1) fun x21 w18 =>
    x21.bind fun a22 =>
    (hIs w18 a22 27).bind fun _ =>
    (hIs w18 a22 27).bind fun _ =>
    b2_ (fX8_most a22 w18) fun x28 w25 =>
    (gR w25 v0 17 0).bind fun x29 =>
    x29.bind fun a31 =>
    (gR w25 a31 21 0).bind fun x33 =>
    x33.bind fun a35 =>
    (gR w25 a35 22 1).bind fun x37 =>
    x37.bind fun a39 =>
    (hIs w25 a39 2).bind fun _ =>
    b2_ (fJ2_get a39 v2 w25) fun x44 w41 =>
    x44.bind fun a45 =>
    (hIs w41 a45 27).bind fun _ =>
    (hIs w41 a45 27).bind fun _ =>
    b2_ (fX8_most a45 w41) fun x51 w48 =>
    (nzI v3).bind fun _ =>
    (nzI v3).bind fun _ =>
    if ((x28 / v3) + 1) * ((x51 / v3) + 1) ≤ 400 then (
      fX1_bestPair_b119 v0 v1 v2 v3 x28 x51 w48
    ) else (
      fX1_bestPair_b116 w48
    )) (fun q5 =>
    some (.inr q5, w1))
theorem bX1_bestPair_46 {p : Program} {l : Launch} {e : Env} {s : State} {m : MethodId} {args : Array Value} {below : List Frame} {meth : Method} {c : Code} {H : Heap} {locs : List Loc} {ls : Array Slot} {G : gE} {A : Nat → Prop} {w0 : WH} (B : gB G RX1 cX1_bestPair 13 (some .int) p s m args meth c) (hT : ∀ x ∈ c.exceptionTable.toList, False) (hl0 : l.stackTraces = false) {v0 : Nat} {v1 : Int32} {v2 : Int32} {v3 : Int32} {s0 : Int32} {w : WH} {r : ((Sum (Int32) (Nat × Nat)) × WH)} (h : fX1_bestPair_b46 v0 v1 v2 v3 s0 w = some r)   (hR : RepH G A w H) (hS : Cu A s w0 w H locs) (hl : lv_has ls 13 [(0, .ref v0), (1, .int v1), (2, .int v2), (3, .int v3)]) : W p l e (hRm 20 454 w0) s m args below meth c H locs (wC w0 - wC w) (wS w0 - wS w) (hZX below args s G A w0 (oI r.1) r.2) (F0 m 46 ls [.int s0]) := by
  have B0 := B
  obtain ⟨hx, hb, hml, hown, hts, hr, hlk, hK⟩ := B0
  unfold fX1_bestPair_b46 at h
  replace h := b2_o h
  obtain ⟨o2, w1, e3, h⟩ := h
  refine h_callSX 1 (As := [.int s0]) (rest := []) (o := oV o2) (w' := w1)  hx hb hml hown hts hK hR hS (Nat.le_refl _) (Nat.le_refl _) (mX1_requireArgument hl0 e3) (lw_S q1993 q1994 q112 q1995) (by decide +kernel) (Nat.le_of_ble_eq_true rfl) (Nat.le_of_ble_eq_true rfl) rfl hl.1 (Nat.le_of_ble_eq_true rfl) dX1_bestPair_46 rfl (fun v9 hv9 H locs hR hS => ?_) (fun E9 q9 hq9 H locs hR hS hce => ?_)
  · cases o2 with
    | inr q => cases hv9
    | inl x4 =>
      cases hv9
      replace h := exl_o h
      refine W.eq (g2 := F0 m 49 ls []) rfl ?_
      refine lv_aload_n hx hb dX1_bestPair_49 rfl (lv_at hl 0 rfl) ?_
      replace h := bo_o h
      obtain ⟨x6, e7, h⟩ := h
      refine h_get (ci := 17) (k := 0) (v := va_rf x6) hx hb hts hown hK hR in_X1 rfl (by decide) (fun _ _ => rfl) q662 (fun _ h9 => h9) (gR_o e7) dX1_bestPair_50 ?_
      replace h := bo_o h
      obtain ⟨a8, e9, h⟩ := h
      subst e9
      replace h := bo_o h
      obtain ⟨x10, e11, h⟩ := h
      refine h_getN (ci := 21) (k := 0) (v := va_rf x10) hx hb hts hown hK hR in_X2 rfl (by decide) (fun _ _ => rfl) (hK.fn 15 rfl) (fun _ h9 => h9) (gR_o e11) dX1_bestPair_53 ?_
      replace h := bo_o h
      obtain ⟨a12, e13, h⟩ := h
      subst e13
      replace h := bo_o h
      obtain ⟨x14, e15, h⟩ := h
      refine h_getN (ci := 22) (k := 1) (v := va_rf x14) hx hb hts hown hK hR in_X3 rfl (by decide) (fun _ _ => rfl) (hK.fn 6 rfl) (fun _ h9 => h9) (gR_o e15) dX1_bestPair_56 ?_
      refine lv_iload_n hx hb dX1_bestPair_59 rfl (lv_at hl 1 rfl) ?_
      replace h := bo_o h
      obtain ⟨a16, e17, h⟩ := h
      subst e17
      replace h := bo_o h
      obtain ⟨_, e19, h⟩ := h
      replace h := b2_o h
      obtain ⟨x21, w18, e20, h⟩ := h
      refine h_callF 1  (As := [.int v1]) (rest := []) (v := (some (va_rf x21))) (w' := w18) (st1 := [va_rf x21]) hx hb hml hown hts hK hR hS (Nat.le_refl _) (Nat.le_refl _) (h_recv (ci := 2) hK hR hS rfl e19) (mJ2_get e20) (lw_app (a := [.methodLink _ _ _, .selects _ _ _, .instanceMethod _, .initialized _]) (lw_4 q1205 q1208 q1210 q117) (lw_meth q1212)) (hK.fw 1 rfl) (by decide +kernel) (Nat.le_of_ble_eq_true rfl) (Nat.le_of_ble_eq_true rfl) rfl hl.1 (Nat.le_of_ble_eq_true rfl) dX1_bestPair_60 rfl rfl (fun H locs hR hS => ?_)
      replace h := bo_o h
      obtain ⟨a22, e23, h⟩ := h
      subst e23
      replace h := bo_o h
      obtain ⟨_, e24, h⟩ := h
      refine h_castS (ci := 27) hx hb hts hown hK hR hS rfl e24 q1768 dX1_bestPair_65 ?_
      replace h := bo_o h
      obtain ⟨_, e26, h⟩ := h
      replace h := b2_o h
      obtain ⟨x28, w25, e27, h⟩ := h
      refine h_callV 0 (ci := 27) (As := []) (rest := []) (v := (some (.int x28))) (w' := w25) (st1 := [.int x28]) hx hb hml hown hts hK hR hS (Nat.le_refl _) (Nat.le_refl _) rfl e26 (mX8_most e27) (lw_V q1769 q1356 q1357 q141 q1358) (by decide +kernel) (Nat.le_of_ble_eq_true rfl) (Nat.le_of_ble_eq_true rfl) rfl hl.1 (Nat.le_of_ble_eq_true rfl) dX1_bestPair_68 rfl rfl (fun H locs hR hS => ?_)
      refine lv_istore (lv' := [(4, .int x28), (0, .ref v0), (1, .int v1), (2, .int v2), (3, .int v3)]) hx hb dX1_bestPair_71 hl (by decide) rfl (fun ls hl => ?_)
      refine lv_aload_n hx hb dX1_bestPair_73 rfl (lv_at hl 1 rfl) ?_
      replace h := bo_o h
      obtain ⟨x29, e30, h⟩ := h
      refine h_get (ci := 17) (k := 0) (v := va_rf x29) hx hb hts hown hK hR in_X1 rfl (by decide) (fun _ _ => rfl) q662 (fun _ h9 => h9) (gR_o e30) dX1_bestPair_74 ?_
      replace h := bo_o h
      obtain ⟨a31, e32, h⟩ := h
      subst e32
      replace h := bo_o h
      obtain ⟨x33, e34, h⟩ := h
      refine h_getN (ci := 21) (k := 0) (v := va_rf x33) hx hb hts hown hK hR in_X2 rfl (by decide) (fun _ _ => rfl) (hK.fn 15 rfl) (fun _ h9 => h9) (gR_o e34) dX1_bestPair_77 ?_
      replace h := bo_o h
      obtain ⟨a35, e36, h⟩ := h
      subst e36
      replace h := bo_o h
      obtain ⟨x37, e38, h⟩ := h
      refine h_getN (ci := 22) (k := 1) (v := va_rf x37) hx hb hts hown hK hR in_X3 rfl (by decide) (fun _ _ => rfl) (hK.fn 6 rfl) (fun _ h9 => h9) (gR_o e38) dX1_bestPair_80 ?_
      refine lv_iload_n hx hb dX1_bestPair_83 rfl (lv_at hl 3 rfl) ?_
      replace h := bo_o h
      obtain ⟨a39, e40, h⟩ := h
      subst e40
      replace h := bo_o h
      obtain ⟨_, e42, h⟩ := h
      replace h := b2_o h
      obtain ⟨x44, w41, e43, h⟩ := h
      refine h_callF 1  (As := [.int v2]) (rest := []) (v := (some (va_rf x44))) (w' := w41) (st1 := [va_rf x44]) hx hb hml hown hts hK hR hS (Nat.le_refl _) (Nat.le_refl _) (h_recv (ci := 2) hK hR hS rfl e42) (mJ2_get e43) (lw_app (a := [.methodLink _ _ _, .selects _ _ _, .instanceMethod _, .initialized _]) (lw_4 q1205 q1208 q1210 q117) (lw_meth q1212)) (hK.fw 1 rfl) (by decide +kernel) (Nat.le_of_ble_eq_true rfl) (Nat.le_of_ble_eq_true rfl) rfl hl.1 (Nat.le_of_ble_eq_true rfl) dX1_bestPair_84 rfl rfl (fun H locs hR hS => ?_)
      replace h := bo_o h
      obtain ⟨a45, e46, h⟩ := h
      subst e46
      replace h := bo_o h
      obtain ⟨_, e47, h⟩ := h
      refine h_castS (ci := 27) hx hb hts hown hK hR hS rfl e47 q1768 dX1_bestPair_89 ?_
      replace h := bo_o h
      obtain ⟨_, e49, h⟩ := h
      replace h := b2_o h
      obtain ⟨x51, w48, e50, h⟩ := h
      refine h_callV 0 (ci := 27) (As := []) (rest := []) (v := (some (.int x51))) (w' := w48) (st1 := [.int x51]) hx hb hml hown hts hK hR hS (Nat.le_refl _) (Nat.le_refl _) rfl e49 (mX8_most e50) (lw_V q1769 q1356 q1357 q141 q1358) (by decide +kernel) (Nat.le_of_ble_eq_true rfl) (Nat.le_of_ble_eq_true rfl) rfl hl.1 (Nat.le_of_ble_eq_true rfl) dX1_bestPair_92 rfl rfl (fun H locs hR hS => ?_)
      refine lv_istore (lv' := [(5, .int x51), (4, .int x28), (0, .ref v0), (1, .int v1), (2, .int v2), (3, .int v3)]) hx hb dX1_bestPair_95 hl (by decide) rfl (fun ls hl => ?_)
      refine lv_iload hx hb dX1_bestPair_97 (lv_at hl 1 rfl) ?_
      refine lv_iload_n hx hb dX1_bestPair_99 rfl (lv_at hl 5 rfl) ?_
      replace h := bo_o h
      obtain ⟨_, e52, h⟩ := h
      refine lv_idiv hx hb dX1_bestPair_100 (nzI_o e52) ?_
      refine lv_iconst (v := 1) hx hb dX1_bestPair_101 (by decide) ?_
      refine lv_iadd hx hb dX1_bestPair_102 ?_
      refine lv_iload hx hb dX1_bestPair_103 (lv_at hl 0 rfl) ?_
      refine lv_iload_n hx hb dX1_bestPair_105 rfl (lv_at hl 5 rfl) ?_
      replace h := bo_o h
      obtain ⟨_, e53, h⟩ := h
      refine lv_idiv hx hb dX1_bestPair_106 (nzI_o e53) ?_
      refine lv_iconst (v := 1) hx hb dX1_bestPair_107 (by decide) ?_
      refine lv_iadd hx hb dX1_bestPair_108 ?_
      refine lv_imul hx hb dX1_bestPair_109 ?_
      refine lv_sipush (v := 400) hx hb dX1_bestPair_110 (by decide) ?_
      refine lv_icmp_le (tgt := 119) hx hb dX1_bestPair_113 (by decide) (fun c54 => ?_) (fun c54 => ?_)
      · replace h := it_o c54 h
        exact bX1_bestPair_119 B hT hl0 h  hR hS (lv_sub hl [2, 3, 4, 5, 1, 0] rfl)
      · replace h := if_o c54 h
        exact bX1_bestPair_116 B hT hl0 h  hR hS (lv_sub hl [] rfl)
  · cases o2 with
    | inl q => cases hq9
    | inr q5 =>
      cases hq9
      replace h := exr_o h
      have eR := Option.some.inj h
      subst eR
      exact h_out hT hlk hR hS hce
noncomputable def fX1_bestPair_b45 (v0 : Nat) (v1 : Int32) (v2 : Int32) (v3 : Int32) (w : WH) : Option (((Sum (Int32) (Nat × Nat)) × WH)) :=
  fX1_bestPair_b46 v0 v1 v2 v3 0 w
theorem bX1_bestPair_45 {p : Program} {l : Launch} {e : Env} {s : State} {m : MethodId} {args : Array Value} {below : List Frame} {meth : Method} {c : Code} {H : Heap} {locs : List Loc} {ls : Array Slot} {G : gE} {A : Nat → Prop} {w0 : WH} (B : gB G RX1 cX1_bestPair 13 (some .int) p s m args meth c) (hT : ∀ x ∈ c.exceptionTable.toList, False) (hl0 : l.stackTraces = false) {v0 : Nat} {v1 : Int32} {v2 : Int32} {v3 : Int32} {w : WH} {r : ((Sum (Int32) (Nat × Nat)) × WH)} (h : fX1_bestPair_b45 v0 v1 v2 v3 w = some r)   (hR : RepH G A w H) (hS : Cu A s w0 w H locs) (hl : lv_has ls 13 [(0, .ref v0), (1, .int v1), (2, .int v2), (3, .int v3)]) : W p l e (hRm 20 454 w0) s m args below meth c H locs (wC w0 - wC w) (wS w0 - wS w) (hZX below args s G A w0 (oI r.1) r.2) (F0 m 45 ls []) := by
  have B0 := B
  obtain ⟨hx, hb, hml, hown, hts, hr, hlk, hK⟩ := B0
  unfold fX1_bestPair_b45 at h
  refine lv_iconst (v := 0) hx hb dX1_bestPair_45 (by decide) ?_
  exact bX1_bestPair_46 B hT hl0 h  hR hS (lv_sub hl [0, 1, 2, 3] rfl)
noncomputable def fX1_bestPair_b21 (v0 : Nat) (v1 : Int32) (v2 : Int32) (v3 : Int32) (s0 : Int32) (w : WH) : Option (((Sum (Int32) (Nat × Nat)) × WH)) :=
  b2_ (fX1_requireIndex s0 w) fun o2 w1 => ex_ o2 (fun _ =>
    if v1 = v2 then (
      fX1_bestPair_b45 v0 v1 v2 v3 w1
    ) else (
      b2_ (fX1_inRange (v3.toInt64) 1 9999 w1) fun x9 w7 =>
      if x9 = 0 then (
        fX1_bestPair_b45 v0 v1 v2 v3 w7
      ) else (
        fX1_bestPair_b46 v0 v1 v2 v3 1 w7
      )
    )) (fun q5 =>
    some (.inr q5, w1))
theorem bX1_bestPair_21 {p : Program} {l : Launch} {e : Env} {s : State} {m : MethodId} {args : Array Value} {below : List Frame} {meth : Method} {c : Code} {H : Heap} {locs : List Loc} {ls : Array Slot} {G : gE} {A : Nat → Prop} {w0 : WH} (B : gB G RX1 cX1_bestPair 13 (some .int) p s m args meth c) (hT : ∀ x ∈ c.exceptionTable.toList, False) (hl0 : l.stackTraces = false) {v0 : Nat} {v1 : Int32} {v2 : Int32} {v3 : Int32} {s0 : Int32} {w : WH} {r : ((Sum (Int32) (Nat × Nat)) × WH)} (h : fX1_bestPair_b21 v0 v1 v2 v3 s0 w = some r)   (hR : RepH G A w H) (hS : Cu A s w0 w H locs) (hl : lv_has ls 13 [(0, .ref v0), (1, .int v1), (2, .int v2), (3, .int v3)]) : W p l e (hRm 20 454 w0) s m args below meth c H locs (wC w0 - wC w) (wS w0 - wS w) (hZX below args s G A w0 (oI r.1) r.2) (F0 m 21 ls [.int s0]) := by
  have B0 := B
  obtain ⟨hx, hb, hml, hown, hts, hr, hlk, hK⟩ := B0
  unfold fX1_bestPair_b21 at h
  replace h := b2_o h
  obtain ⟨o2, w1, e3, h⟩ := h
  refine h_callSX 1 (As := [.int s0]) (rest := []) (o := oV o2) (w' := w1)  hx hb hml hown hts hK hR hS (Nat.le_refl _) (Nat.le_refl _) (mX1_requireIndex hl0 e3) (lw_S q1956 q1957 q112 q1958) (by decide +kernel) (Nat.le_of_ble_eq_true rfl) (Nat.le_of_ble_eq_true rfl) rfl hl.1 (Nat.le_of_ble_eq_true rfl) dX1_bestPair_21 rfl (fun v9 hv9 H locs hR hS => ?_) (fun E9 q9 hq9 H locs hR hS hce => ?_)
  · cases o2 with
    | inr q => cases hv9
    | inl x4 =>
      cases hv9
      replace h := exl_o h
      refine W.eq (g2 := F0 m 24 ls []) rfl ?_
      refine lv_iload_n hx hb dX1_bestPair_24 rfl (lv_at hl 1 rfl) ?_
      refine lv_iload_n hx hb dX1_bestPair_25 rfl (lv_at hl 2 rfl) ?_
      refine lv_icmp_eq (tgt := 45) hx hb dX1_bestPair_26 (by decide) (fun c6 => ?_) (fun c6 => ?_)
      · replace h := it_o c6 h
        exact bX1_bestPair_45 B hT hl0 h  hR hS (lv_sub hl [0, 1, 2, 3] rfl)
      · replace h := if_o c6 h
        refine lv_iload_n hx hb dX1_bestPair_29 rfl (lv_at hl 3 rfl) ?_
        refine lv_i2l hx hb dX1_bestPair_30 rfl ?_
        refine lv_lconst (v := 1) hx hb dX1_bestPair_31 (by decide) ?_
        refine lv_ldc2 (v := 9999) hx hb hown (hts _ q2004) dX1_bestPair_32 ?_
        replace h := b2_o h
        obtain ⟨x9, w7, e8, h⟩ := h
        refine h_callS 3  (As := [.long (v3.toInt64), .long 1, .long 9999]) (rest := []) (v := (some (.int x9))) (w' := w7) (st1 := [.int x9]) hx hb hml hown hts hK hR hS (Nat.le_refl _) (Nat.le_refl _) (mX1_inRange e8) (lw_S q1900 q743 q112 q744) (by decide +kernel) (Nat.le_of_ble_eq_true rfl) (Nat.le_of_ble_eq_true rfl) rfl hl.1 (Nat.le_of_ble_eq_true rfl) dX1_bestPair_35 rfl rfl (fun H locs hR hS => ?_)
        refine lv_if_eq (tgt := 45) hx hb dX1_bestPair_38 (by decide) (fun c10 => ?_) (fun c10 => ?_)
        · replace h := it_o c10 h
          exact bX1_bestPair_45 B hT hl0 h  hR hS (lv_sub hl [0, 1, 2, 3] rfl)
        · replace h := if_o c10 h
          refine lv_iconst (v := 1) hx hb dX1_bestPair_41 (by decide) ?_
          refine lv_goto (tgt := 46) hx hb dX1_bestPair_42 (by decide) ?_
          exact bX1_bestPair_46 B hT hl0 h  hR hS (lv_sub hl [0, 1, 2, 3] rfl)
  · cases o2 with
    | inl q => cases hq9
    | inr q5 =>
      cases hq9
      replace h := exr_o h
      have eR := Option.some.inj h
      subst eR
      exact h_out hT hlk hR hS hce
noncomputable def fX1_bestPair_b20 (v0 : Nat) (v1 : Int32) (v2 : Int32) (v3 : Int32) (w : WH) : Option (((Sum (Int32) (Nat × Nat)) × WH)) :=
  fX1_bestPair_b21 v0 v1 v2 v3 0 w
theorem bX1_bestPair_20 {p : Program} {l : Launch} {e : Env} {s : State} {m : MethodId} {args : Array Value} {below : List Frame} {meth : Method} {c : Code} {H : Heap} {locs : List Loc} {ls : Array Slot} {G : gE} {A : Nat → Prop} {w0 : WH} (B : gB G RX1 cX1_bestPair 13 (some .int) p s m args meth c) (hT : ∀ x ∈ c.exceptionTable.toList, False) (hl0 : l.stackTraces = false) {v0 : Nat} {v1 : Int32} {v2 : Int32} {v3 : Int32} {w : WH} {r : ((Sum (Int32) (Nat × Nat)) × WH)} (h : fX1_bestPair_b20 v0 v1 v2 v3 w = some r)   (hR : RepH G A w H) (hS : Cu A s w0 w H locs) (hl : lv_has ls 13 [(0, .ref v0), (1, .int v1), (2, .int v2), (3, .int v3)]) : W p l e (hRm 20 454 w0) s m args below meth c H locs (wC w0 - wC w) (wS w0 - wS w) (hZX below args s G A w0 (oI r.1) r.2) (F0 m 20 ls []) := by
  have B0 := B
  obtain ⟨hx, hb, hml, hown, hts, hr, hlk, hK⟩ := B0
  unfold fX1_bestPair_b20 at h
  refine lv_iconst (v := 0) hx hb dX1_bestPair_20 (by decide) ?_
  exact bX1_bestPair_21 B hT hl0 h  hR hS (lv_sub hl [0, 1, 2, 3] rfl)
noncomputable def fX1_bestPair (v0 : Nat) (v1 : Int32) (v2 : Int32) (v3 : Int32) (w : WH) : Option (((Sum (Int32) (Nat × Nat)) × WH)) :=
  (hIs w v0 17).bind fun _ =>
  b2_ (fX1_isArc v0 v1 w) fun x4 w1 =>
  if x4 = 0 then (
    fX1_bestPair_b20 v0 v1 v2 v3 w1
  ) else (
    (hIs w1 v0 17).bind fun _ =>
    b2_ (fX1_isArc v0 v2 w1) fun x9 w6 =>
    if x9 = 0 then (
      fX1_bestPair_b20 v0 v1 v2 v3 w6
    ) else (
      fX1_bestPair_b21 v0 v1 v2 v3 1 w6
    )
  )
theorem bX1_bestPair_0 {p : Program} {l : Launch} {e : Env} {s : State} {m : MethodId} {args : Array Value} {below : List Frame} {meth : Method} {c : Code} {H : Heap} {locs : List Loc} {ls : Array Slot} {G : gE} {A : Nat → Prop} {w0 : WH} (B : gB G RX1 cX1_bestPair 13 (some .int) p s m args meth c) (hT : ∀ x ∈ c.exceptionTable.toList, False) (hl0 : l.stackTraces = false) {v0 : Nat} {v1 : Int32} {v2 : Int32} {v3 : Int32} {w : WH} {r : ((Sum (Int32) (Nat × Nat)) × WH)} (h : fX1_bestPair v0 v1 v2 v3 w = some r)   (hR : RepH G A w H) (hS : Cu A s w0 w H locs) (hl : lv_has ls 13 [(0, .ref v0), (1, .int v1), (2, .int v2), (3, .int v3)]) : W p l e (hRm 20 454 w0) s m args below meth c H locs (wC w0 - wC w) (wS w0 - wS w) (hZX below args s G A w0 (oI r.1) r.2) (F0 m 0 ls []) := by
  have B0 := B
  obtain ⟨hx, hb, hml, hown, hts, hr, hlk, hK⟩ := B0
  unfold fX1_bestPair at h
  refine lv_aload_n hx hb dX1_bestPair_0 rfl (lv_at hl 0 rfl) ?_
  refine lv_iload_n hx hb dX1_bestPair_1 rfl (lv_at hl 1 rfl) ?_
  replace h := bo_o h
  obtain ⟨_, e2, h⟩ := h
  replace h := b2_o h
  obtain ⟨x4, w1, e3, h⟩ := h
  refine h_callV 1 (ci := 17) (As := [.int v1]) (rest := []) (v := (some (.int x4))) (w' := w1) (st1 := [.int x4]) hx hb hml hown hts hK hR hS (Nat.le_refl _) (Nat.le_refl _) rfl e2 (mX1_isArc e3) (lw_V q1952 q1954 qs47 q112 q1955) (by decide +kernel) (Nat.le_of_ble_eq_true rfl) (Nat.le_of_ble_eq_true rfl) rfl hl.1 (Nat.le_of_ble_eq_true rfl) dX1_bestPair_2 rfl rfl (fun H locs hR hS => ?_)
  refine lv_if_eq (tgt := 20) hx hb dX1_bestPair_5 (by decide) (fun c5 => ?_) (fun c5 => ?_)
  · replace h := it_o c5 h
    exact bX1_bestPair_20 B hT hl0 h  hR hS (lv_sub hl [0, 1, 2, 3] rfl)
  · replace h := if_o c5 h
    refine lv_aload_n hx hb dX1_bestPair_8 rfl (lv_at hl 0 rfl) ?_
    refine lv_iload_n hx hb dX1_bestPair_9 rfl (lv_at hl 2 rfl) ?_
    replace h := bo_o h
    obtain ⟨_, e7, h⟩ := h
    replace h := b2_o h
    obtain ⟨x9, w6, e8, h⟩ := h
    refine h_callV 1 (ci := 17) (As := [.int v2]) (rest := []) (v := (some (.int x9))) (w' := w6) (st1 := [.int x9]) hx hb hml hown hts hK hR hS (Nat.le_refl _) (Nat.le_refl _) rfl e7 (mX1_isArc e8) (lw_V q1952 q1954 qs47 q112 q1955) (by decide +kernel) (Nat.le_of_ble_eq_true rfl) (Nat.le_of_ble_eq_true rfl) rfl hl.1 (Nat.le_of_ble_eq_true rfl) dX1_bestPair_10 rfl rfl (fun H locs hR hS => ?_)
    refine lv_if_eq (tgt := 20) hx hb dX1_bestPair_13 (by decide) (fun c10 => ?_) (fun c10 => ?_)
    · replace h := it_o c10 h
      exact bX1_bestPair_20 B hT hl0 h  hR hS (lv_sub hl [0, 1, 2, 3] rfl)
    · replace h := if_o c10 h
      refine lv_iconst (v := 1) hx hb dX1_bestPair_16 (by decide) ?_
      refine lv_goto (tgt := 21) hx hb dX1_bestPair_17 (by decide) ?_
      exact bX1_bestPair_21 B hT hl0 h  hR hS (lv_sub hl [0, 1, 2, 3] rfl)
theorem mX1_bestPair {l : Launch} {G : gE} {A : Nat → Prop} {v0 : Nat} {v1 : Int32} {v2 : Int32} {v3 : Int32} {w : WH} {r : ((Sum (Int32) (Nat × Nat)) × WH)} (hl0 : l.stackTraces = false) (h : fX1_bestPair v0 v1 v2 v3 w = some r) : hMX l G A yX1_bestPair cX1_bestPair 13 (some .int) 20 454 [.ref v0, .int v1, .int v2, .int v3] w (oI r.1) r.2 :=
  h_ofX (by decide +kernel) (Nat.le_of_ble_eq_true rfl) (fun p e s m args below meth c ls B hnm hT hR hS hl => bX1_bestPair_0 B hT hl0 h hR hS hl)
noncomputable def fX1_feltWithout (v0 : Nat) (v1 : Nat) (v2 : Int32) (w : WH) : Option ((Int64 × WH)) :=
  (gR w v0 17 0).bind fun x1 =>
  x1.bind fun a3 =>
  (gR w a3 21 3).bind fun x5 =>
  x5.bind fun a7 =>
  (hIs w a7 0).bind fun _ =>
  b2_ (fJ17_get a7 v2 w) fun x12 w9 =>
  (gR w9 v0 17 0).bind fun x13 =>
  x13.bind fun a15 =>
  (gR w9 a15 21 3).bind fun x17 =>
  x17.bind fun a19 =>
  (hIs w9 a19 0).bind fun _ =>
  (fJ17_set_3 a19 v2 w9).bind fun w21 =>
  (hIs w21 v0 17).bind fun _ =>
  b2_ (fX1_feltBy v0 v1 w21) fun x27 w24 =>
  (gR w24 v0 17 0).bind fun x28 =>
  x28.bind fun a30 =>
  (gR w24 a30 21 3).bind fun x32 =>
  x32.bind fun a34 =>
  (hIs w24 a34 0).bind fun _ =>
  (fJ17_set_2 a34 v2 x12 w24).bind fun w36 =>
  some (x27, w36)
theorem bX1_feltWithout_0 {p : Program} {l : Launch} {e : Env} {s : State} {m : MethodId} {args : Array Value} {below : List Frame} {meth : Method} {c : Code} {H : Heap} {locs : List Loc} {ls : Array Slot} {G : gE} {A : Nat → Prop} {w0 : WH} (B : gB G RX1 cX1_feltWithout 6 (some .long) p s m args meth c) {v0 : Nat} {v1 : Nat} {v2 : Int32} {w : WH} {r : (Int64 × WH)} (h : fX1_feltWithout v0 v1 v2 w = some r)   (hR : RepH G A w H) (hS : Cu A s w0 w H locs) (hl : lv_has ls 6 [(0, .ref v0), (1, .ref v1), (2, .int v2)]) : W p l e (hRm 18 407 w0) s m args below meth c H locs (wC w0 - wC w) (wS w0 - wS w) (hZ below args s G A w0 (some (.long r.1)) r.2) (F0 m 0 ls []) := by
  have B0 := B
  obtain ⟨hx, hb, hml, hown, hts, hr, hlk, hK⟩ := B0
  unfold fX1_feltWithout at h
  refine lv_aload_n hx hb dX1_feltWithout_0 rfl (lv_at hl 0 rfl) ?_
  replace h := bo_o h
  obtain ⟨x1, e2, h⟩ := h
  refine h_get (ci := 17) (k := 0) (v := va_rf x1) hx hb hts hown hK hR in_X1 rfl (by decide) (fun _ _ => rfl) q662 (fun _ h9 => h9) (gR_o e2) dX1_feltWithout_1 ?_
  replace h := bo_o h
  obtain ⟨a3, e4, h⟩ := h
  subst e4
  replace h := bo_o h
  obtain ⟨x5, e6, h⟩ := h
  refine h_getN (ci := 21) (k := 3) (v := va_rf x5) hx hb hts hown hK hR in_X2 rfl (by decide) (fun _ _ => rfl) (hK.fn 20 rfl) (fun _ h9 => h9) (gR_o e6) dX1_feltWithout_4 ?_
  refine lv_iload_n hx hb dX1_feltWithout_7 rfl (lv_at hl 2 rfl) ?_
  replace h := bo_o h
  obtain ⟨a7, e8, h⟩ := h
  subst e8
  replace h := bo_o h
  obtain ⟨_, e10, h⟩ := h
  replace h := b2_o h
  obtain ⟨x12, w9, e11, h⟩ := h
  refine h_callV 1 (ci := 0) (As := [.int v2]) (rest := []) (v := (some (.int x12))) (w' := w9) (st1 := [.int x12]) hx hb hml hown hts hK hR hS (Nat.le_refl _) (Nat.le_refl _) rfl e10 (mJ17_get e11) (lw_V q2021 q1309 q1310 q134 q1311) (by decide +kernel) (Nat.le_of_ble_eq_true rfl) (Nat.le_of_ble_eq_true rfl) rfl hl.1 (Nat.le_of_ble_eq_true rfl) dX1_feltWithout_8 rfl rfl (fun H locs hR hS => ?_)
  refine lv_istore_n (lv' := [(3, .int x12), (0, .ref v0), (1, .ref v1), (2, .int v2)]) hx hb dX1_feltWithout_11 rfl hl (by decide) rfl (fun ls hl => ?_)
  refine lv_aload_n hx hb dX1_feltWithout_12 rfl (lv_at hl 1 rfl) ?_
  replace h := bo_o h
  obtain ⟨x13, e14, h⟩ := h
  refine h_get (ci := 17) (k := 0) (v := va_rf x13) hx hb hts hown hK hR in_X1 rfl (by decide) (fun _ _ => rfl) q662 (fun _ h9 => h9) (gR_o e14) dX1_feltWithout_13 ?_
  replace h := bo_o h
  obtain ⟨a15, e16, h⟩ := h
  subst e16
  replace h := bo_o h
  obtain ⟨x17, e18, h⟩ := h
  refine h_getN (ci := 21) (k := 3) (v := va_rf x17) hx hb hts hown hK hR in_X2 rfl (by decide) (fun _ _ => rfl) (hK.fn 20 rfl) (fun _ h9 => h9) (gR_o e18) dX1_feltWithout_16 ?_
  refine lv_iload_n hx hb dX1_feltWithout_19 rfl (lv_at hl 3 rfl) ?_
  replace h := bo_o h
  obtain ⟨a19, e20, h⟩ := h
  subst e20
  replace h := bo_o h
  obtain ⟨_, e22, h⟩ := h
  replace h := bo_o h
  obtain ⟨w21, e23, h⟩ := h
  refine h_callV 1 (ci := 0) (As := [.int v2]) (rest := []) (v := none) (w' := w21) (st1 := []) hx hb hml hown hts hK hR hS (Nat.le_refl _) (Nat.le_refl _) rfl e22 (mJ17_set_3 e23) (lw_V q2226 q2027 q2028 q134 q2029) (by decide +kernel) (Nat.le_of_ble_eq_true rfl) (Nat.le_of_ble_eq_true rfl) rfl hl.1 (Nat.le_of_ble_eq_true rfl) dX1_feltWithout_20 rfl rfl (fun H locs hR hS => ?_)
  refine lv_aload_n hx hb dX1_feltWithout_23 rfl (lv_at hl 1 rfl) ?_
  refine lv_aload_n hx hb dX1_feltWithout_24 rfl (lv_at hl 2 rfl) ?_
  replace h := bo_o h
  obtain ⟨_, e25, h⟩ := h
  replace h := b2_o h
  obtain ⟨x27, w24, e26, h⟩ := h
  refine h_callV 1 (ci := 17) (As := [.ref v1]) (rest := []) (v := (some (.long x27))) (w' := w24) (st1 := [.long x27]) hx hb hml hown hts hK hR hS (Nat.le_refl _) (Nat.le_refl _) rfl e25 (mX1_feltBy e26) (lw_V q1743 q1745 qs39 q112 q1746) (by decide +kernel) (Nat.le_of_ble_eq_true rfl) (Nat.le_of_ble_eq_true rfl) rfl hl.1 (Nat.le_of_ble_eq_true rfl) dX1_feltWithout_25 rfl rfl (fun H locs hR hS => ?_)
  refine lv_lstore (lv' := [(4, .long x27), (3, .int x12), (0, .ref v0), (1, .ref v1), (2, .int v2)]) hx hb dX1_feltWithout_28 hl (by decide) rfl (fun ls hl => ?_)
  refine lv_aload_n hx hb dX1_feltWithout_30 rfl (lv_at hl 2 rfl) ?_
  replace h := bo_o h
  obtain ⟨x28, e29, h⟩ := h
  refine h_get (ci := 17) (k := 0) (v := va_rf x28) hx hb hts hown hK hR in_X1 rfl (by decide) (fun _ _ => rfl) q662 (fun _ h9 => h9) (gR_o e29) dX1_feltWithout_31 ?_
  replace h := bo_o h
  obtain ⟨a30, e31, h⟩ := h
  subst e31
  replace h := bo_o h
  obtain ⟨x32, e33, h⟩ := h
  refine h_getN (ci := 21) (k := 3) (v := va_rf x32) hx hb hts hown hK hR in_X2 rfl (by decide) (fun _ _ => rfl) (hK.fn 20 rfl) (fun _ h9 => h9) (gR_o e33) dX1_feltWithout_34 ?_
  refine lv_iload_n hx hb dX1_feltWithout_37 rfl (lv_at hl 4 rfl) ?_
  refine lv_iload_n hx hb dX1_feltWithout_38 rfl (lv_at hl 1 rfl) ?_
  replace h := bo_o h
  obtain ⟨a34, e35, h⟩ := h
  subst e35
  replace h := bo_o h
  obtain ⟨_, e37, h⟩ := h
  replace h := bo_o h
  obtain ⟨w36, e38, h⟩ := h
  refine h_callV 2 (ci := 0) (As := [.int v2, .int x12]) (rest := []) (v := none) (w' := w36) (st1 := []) hx hb hml hown hts hK hR hS (Nat.le_refl _) (Nat.le_refl _) rfl e37 (mJ17_set_2 e38) (lw_V q2022 q2023 q2024 q134 q2025) (by decide +kernel) (Nat.le_of_ble_eq_true rfl) (Nat.le_of_ble_eq_true rfl) rfl hl.1 (Nat.le_of_ble_eq_true rfl) dX1_feltWithout_39 rfl rfl (fun H locs hR hS => ?_)
  refine lv_lload hx hb dX1_feltWithout_42 (lv_at hl 0 rfl) ?_
  have eR := Option.some.inj h
  subst eR
  exact h_lfin hx hb hr hlk hR hS dX1_feltWithout_44
theorem mX1_feltWithout {l : Launch} {G : gE} {A : Nat → Prop} {v0 : Nat} {v1 : Nat} {v2 : Int32} {w : WH} {r : (Int64 × WH)} (h : fX1_feltWithout v0 v1 v2 w = some r) : hM l G A yX1_feltWithout cX1_feltWithout 6 (some .long) 18 407 [.ref v0, .ref v1, .int v2] w (some (.long r.1)) r.2 :=
  h_of (by decide +kernel) (Nat.le_of_ble_eq_true rfl) (fun p e s m args below meth c ls B hnm hR hS hl => bX1_feltWithout_0 B h hR hS hl)
noncomputable def fX1_detour_b21 (v0 : Nat) (v1 : Int32) (v2 : Int32) (s0 : Int32) (w : WH) : Option (((Sum (Int32) (Nat × Nat)) × WH)) :=
  b2_ (fX1_requireIndex s0 w) fun o2 w1 => ex_ o2 (fun _ =>
    (gR w1 v0 17 0).bind fun x6 =>
    x6.bind fun a8 =>
    (gR w1 a8 21 0).bind fun x10 =>
    x10.bind fun a12 =>
    (gR w1 a12 22 2).bind fun x14 =>
    x14.bind fun a16 =>
    (hIs w1 a16 2).bind fun _ =>
    b2_ (fJ2_get a16 v1 w1) fun x21 w18 =>
    x21.bind fun a22 =>
    (hIs w18 a22 28).bind fun _ =>
    (hIs w18 v0 17).bind fun _ =>
    b2_ (fX1_feltWithout v0 a22 v2 w18) fun x28 w25 =>
    if lg_cmp x28 2305843009213693951 = 0 then (
      some (.inl (-1), w25)
    ) else (
      (hIs w25 v0 17).bind fun _ =>
      b2_ (fX1_feltBy v0 a22 w25) fun x33 w30 =>
      some (.inl ((x28 - x33).toInt32), w30)
    )) (fun q5 =>
    some (.inr q5, w1))
theorem bX1_detour_21 {p : Program} {l : Launch} {e : Env} {s : State} {m : MethodId} {args : Array Value} {below : List Frame} {meth : Method} {c : Code} {H : Heap} {locs : List Loc} {ls : Array Slot} {G : gE} {A : Nat → Prop} {w0 : WH} (B : gB G RX1 cX1_detour 6 (some .int) p s m args meth c) (hT : ∀ x ∈ c.exceptionTable.toList, False) (hl0 : l.stackTraces = false) {v0 : Nat} {v1 : Int32} {v2 : Int32} {s0 : Int32} {w : WH} {r : ((Sum (Int32) (Nat × Nat)) × WH)} (h : fX1_detour_b21 v0 v1 v2 s0 w = some r)   (hR : RepH G A w H) (hS : Cu A s w0 w H locs) (hl : lv_has ls 6 [(0, .ref v0), (1, .int v1), (2, .int v2)]) : W p l e (hRm 19 432 w0) s m args below meth c H locs (wC w0 - wC w) (wS w0 - wS w) (hZX below args s G A w0 (oI r.1) r.2) (F0 m 21 ls [.int s0]) := by
  have B0 := B
  obtain ⟨hx, hb, hml, hown, hts, hr, hlk, hK⟩ := B0
  unfold fX1_detour_b21 at h
  replace h := b2_o h
  obtain ⟨o2, w1, e3, h⟩ := h
  refine h_callSX 1 (As := [.int s0]) (rest := []) (o := oV o2) (w' := w1)  hx hb hml hown hts hK hR hS (Nat.le_refl _) (Nat.le_refl _) (mX1_requireIndex hl0 e3) (lw_S q1956 q1957 q112 q1958) (by decide +kernel) (Nat.le_of_ble_eq_true rfl) (Nat.le_of_ble_eq_true rfl) rfl hl.1 (Nat.le_of_ble_eq_true rfl) dX1_detour_21 rfl (fun v9 hv9 H locs hR hS => ?_) (fun E9 q9 hq9 H locs hR hS hce => ?_)
  · cases o2 with
    | inr q => cases hv9
    | inl x4 =>
      cases hv9
      replace h := exl_o h
      refine W.eq (g2 := F0 m 24 ls []) rfl ?_
      refine lv_aload_n hx hb dX1_detour_24 rfl (lv_at hl 0 rfl) ?_
      replace h := bo_o h
      obtain ⟨x6, e7, h⟩ := h
      refine h_get (ci := 17) (k := 0) (v := va_rf x6) hx hb hts hown hK hR in_X1 rfl (by decide) (fun _ _ => rfl) q662 (fun _ h9 => h9) (gR_o e7) dX1_detour_25 ?_
      replace h := bo_o h
      obtain ⟨a8, e9, h⟩ := h
      subst e9
      replace h := bo_o h
      obtain ⟨x10, e11, h⟩ := h
      refine h_getN (ci := 21) (k := 0) (v := va_rf x10) hx hb hts hown hK hR in_X2 rfl (by decide) (fun _ _ => rfl) (hK.fn 15 rfl) (fun _ h9 => h9) (gR_o e11) dX1_detour_28 ?_
      replace h := bo_o h
      obtain ⟨a12, e13, h⟩ := h
      subst e13
      replace h := bo_o h
      obtain ⟨x14, e15, h⟩ := h
      refine h_getN (ci := 22) (k := 2) (v := va_rf x14) hx hb hts hown hK hR in_X3 rfl (by decide) (fun _ _ => rfl) (hK.fn 10 rfl) (fun _ h9 => h9) (gR_o e15) dX1_detour_31 ?_
      refine lv_iload_n hx hb dX1_detour_34 rfl (lv_at hl 1 rfl) ?_
      replace h := bo_o h
      obtain ⟨a16, e17, h⟩ := h
      subst e17
      replace h := bo_o h
      obtain ⟨_, e19, h⟩ := h
      replace h := b2_o h
      obtain ⟨x21, w18, e20, h⟩ := h
      refine h_callF 1  (As := [.int v1]) (rest := []) (v := (some (va_rf x21))) (w' := w18) (st1 := [va_rf x21]) hx hb hml hown hts hK hR hS (Nat.le_refl _) (Nat.le_refl _) (h_recv (ci := 2) hK hR hS rfl e19) (mJ2_get e20) (lw_app (a := [.methodLink _ _ _, .selects _ _ _, .instanceMethod _, .initialized _]) (lw_4 q1205 q1208 q1210 q117) (lw_meth q1212)) (hK.fw 1 rfl) (by decide +kernel) (Nat.le_of_ble_eq_true rfl) (Nat.le_of_ble_eq_true rfl) rfl hl.1 (Nat.le_of_ble_eq_true rfl) dX1_detour_35 rfl rfl (fun H locs hR hS => ?_)
      replace h := bo_o h
      obtain ⟨a22, e23, h⟩ := h
      subst e23
      replace h := bo_o h
      obtain ⟨_, e24, h⟩ := h
      refine h_castS (ci := 28) hx hb hts hown hK hR hS rfl e24 q1265 dX1_detour_40 ?_
      refine lv_astore_n (lv' := [(3, .ref a22), (0, .ref v0), (1, .int v1), (2, .int v2)]) hx hb dX1_detour_43 rfl hl (by decide) rfl (fun ls hl => ?_)
      refine lv_aload_n hx hb dX1_detour_44 rfl (lv_at hl 1 rfl) ?_
      refine lv_aload_n hx hb dX1_detour_45 rfl (lv_at hl 0 rfl) ?_
      refine lv_iload_n hx hb dX1_detour_46 rfl (lv_at hl 3 rfl) ?_
      replace h := bo_o h
      obtain ⟨_, e26, h⟩ := h
      replace h := b2_o h
      obtain ⟨x28, w25, e27, h⟩ := h
      refine h_callV 2 (ci := 17) (As := [.ref a22, .int v2]) (rest := []) (v := (some (.long x28))) (w' := w25) (st1 := [.long x28]) hx hb hml hown hts hK hR hS (Nat.le_refl _) (Nat.le_refl _) rfl e26 (mX1_feltWithout e27) (lw_V q2222 q2224 qs53 q112 q2225) (by decide +kernel) (Nat.le_of_ble_eq_true rfl) (Nat.le_of_ble_eq_true rfl) rfl hl.1 (Nat.le_of_ble_eq_true rfl) dX1_detour_47 rfl rfl (fun H locs hR hS => ?_)
      refine lv_lstore (lv' := [(4, .long x28), (3, .ref a22), (0, .ref v0), (1, .int v1), (2, .int v2)]) hx hb dX1_detour_50 hl (by decide) rfl (fun ls hl => ?_)
      refine lv_lload hx hb dX1_detour_52 (lv_at hl 0 rfl) ?_
      refine lv_ldc2 (v := 2305843009213693951) hx hb hown (hts _ q1750) dX1_detour_54 ?_
      refine W.lcmp hx hb dX1_detour_57 ?_
      refine lv_if_ne (tgt := 65) hx hb dX1_detour_58 (by decide) (fun c29 => ?_) (fun c29 => ?_)
      · replace h := if_o c29 h
        refine lv_lload hx hb dX1_detour_65 (lv_at hl 0 rfl) ?_
        refine lv_aload_n hx hb dX1_detour_67 rfl (lv_at hl 2 rfl) ?_
        refine lv_aload_n hx hb dX1_detour_68 rfl (lv_at hl 1 rfl) ?_
        replace h := bo_o h
        obtain ⟨_, e31, h⟩ := h
        replace h := b2_o h
        obtain ⟨x33, w30, e32, h⟩ := h
        refine h_callV 1 (ci := 17) (As := [.ref a22]) (rest := [.long x28]) (v := (some (.long x33))) (w' := w30) (st1 := [.long x33, .long x28]) hx hb hml hown hts hK hR hS (Nat.le_refl _) (Nat.le_refl _) rfl e31 (mX1_feltBy e32) (lw_V q1743 q1745 qs39 q112 q1746) (by decide +kernel) (Nat.le_of_ble_eq_true rfl) (Nat.le_of_ble_eq_true rfl) rfl hl.1 (Nat.le_of_ble_eq_true rfl) dX1_detour_69 rfl rfl (fun H locs hR hS => ?_)
        refine lv_lsub hx hb dX1_detour_72 ?_
        refine lv_l2i hx hb dX1_detour_73 rfl ?_
        have eR := Option.some.inj h
        subst eR
        exact h_ifinX hx hb hr hlk hR hS dX1_detour_74
      · replace h := it_o c29 h
        refine lv_iconst (v := (-1)) hx hb dX1_detour_61 (by decide) ?_
        refine lv_goto (tgt := 74) hx hb dX1_detour_62 (by decide) ?_
        have eR := Option.some.inj h
        subst eR
        exact h_ifinX hx hb hr hlk hR hS dX1_detour_74
  · cases o2 with
    | inl q => cases hq9
    | inr q5 =>
      cases hq9
      replace h := exr_o h
      have eR := Option.some.inj h
      subst eR
      exact h_out hT hlk hR hS hce
noncomputable def fX1_detour_b20 (v0 : Nat) (v1 : Int32) (v2 : Int32) (w : WH) : Option (((Sum (Int32) (Nat × Nat)) × WH)) :=
  fX1_detour_b21 v0 v1 v2 0 w
theorem bX1_detour_20 {p : Program} {l : Launch} {e : Env} {s : State} {m : MethodId} {args : Array Value} {below : List Frame} {meth : Method} {c : Code} {H : Heap} {locs : List Loc} {ls : Array Slot} {G : gE} {A : Nat → Prop} {w0 : WH} (B : gB G RX1 cX1_detour 6 (some .int) p s m args meth c) (hT : ∀ x ∈ c.exceptionTable.toList, False) (hl0 : l.stackTraces = false) {v0 : Nat} {v1 : Int32} {v2 : Int32} {w : WH} {r : ((Sum (Int32) (Nat × Nat)) × WH)} (h : fX1_detour_b20 v0 v1 v2 w = some r)   (hR : RepH G A w H) (hS : Cu A s w0 w H locs) (hl : lv_has ls 6 [(0, .ref v0), (1, .int v1), (2, .int v2)]) : W p l e (hRm 19 432 w0) s m args below meth c H locs (wC w0 - wC w) (wS w0 - wS w) (hZX below args s G A w0 (oI r.1) r.2) (F0 m 20 ls []) := by
  have B0 := B
  obtain ⟨hx, hb, hml, hown, hts, hr, hlk, hK⟩ := B0
  unfold fX1_detour_b20 at h
  refine lv_iconst (v := 0) hx hb dX1_detour_20 (by decide) ?_
  exact bX1_detour_21 B hT hl0 h  hR hS (lv_sub hl [0, 1, 2] rfl)
noncomputable def fX1_detour (v0 : Nat) (v1 : Int32) (v2 : Int32) (w : WH) : Option (((Sum (Int32) (Nat × Nat)) × WH)) :=
  (hIs w v0 17).bind fun _ =>
  b2_ (fX1_isTrip v0 v1 w) fun x4 w1 =>
  if x4 = 0 then (
    fX1_detour_b20 v0 v1 v2 w1
  ) else (
    (hIs w1 v0 17).bind fun _ =>
    b2_ (fX1_isArc v0 v2 w1) fun x9 w6 =>
    if x9 = 0 then (
      fX1_detour_b20 v0 v1 v2 w6
    ) else (
      fX1_detour_b21 v0 v1 v2 1 w6
    )
  )
theorem bX1_detour_0 {p : Program} {l : Launch} {e : Env} {s : State} {m : MethodId} {args : Array Value} {below : List Frame} {meth : Method} {c : Code} {H : Heap} {locs : List Loc} {ls : Array Slot} {G : gE} {A : Nat → Prop} {w0 : WH} (B : gB G RX1 cX1_detour 6 (some .int) p s m args meth c) (hT : ∀ x ∈ c.exceptionTable.toList, False) (hl0 : l.stackTraces = false) {v0 : Nat} {v1 : Int32} {v2 : Int32} {w : WH} {r : ((Sum (Int32) (Nat × Nat)) × WH)} (h : fX1_detour v0 v1 v2 w = some r)   (hR : RepH G A w H) (hS : Cu A s w0 w H locs) (hl : lv_has ls 6 [(0, .ref v0), (1, .int v1), (2, .int v2)]) : W p l e (hRm 19 432 w0) s m args below meth c H locs (wC w0 - wC w) (wS w0 - wS w) (hZX below args s G A w0 (oI r.1) r.2) (F0 m 0 ls []) := by
  have B0 := B
  obtain ⟨hx, hb, hml, hown, hts, hr, hlk, hK⟩ := B0
  unfold fX1_detour at h
  refine lv_aload_n hx hb dX1_detour_0 rfl (lv_at hl 0 rfl) ?_
  refine lv_iload_n hx hb dX1_detour_1 rfl (lv_at hl 1 rfl) ?_
  replace h := bo_o h
  obtain ⟨_, e2, h⟩ := h
  replace h := b2_o h
  obtain ⟨x4, w1, e3, h⟩ := h
  refine h_callV 1 (ci := 17) (As := [.int v1]) (rest := []) (v := (some (.int x4))) (w' := w1) (st1 := [.int x4]) hx hb hml hown hts hK hR hS (Nat.le_refl _) (Nat.le_refl _) rfl e2 (mX1_isTrip e3) (lw_V q1979 q1981 qs49 q112 q1982) (by decide +kernel) (Nat.le_of_ble_eq_true rfl) (Nat.le_of_ble_eq_true rfl) rfl hl.1 (Nat.le_of_ble_eq_true rfl) dX1_detour_2 rfl rfl (fun H locs hR hS => ?_)
  refine lv_if_eq (tgt := 20) hx hb dX1_detour_5 (by decide) (fun c5 => ?_) (fun c5 => ?_)
  · replace h := it_o c5 h
    exact bX1_detour_20 B hT hl0 h  hR hS (lv_sub hl [0, 1, 2] rfl)
  · replace h := if_o c5 h
    refine lv_aload_n hx hb dX1_detour_8 rfl (lv_at hl 0 rfl) ?_
    refine lv_iload_n hx hb dX1_detour_9 rfl (lv_at hl 2 rfl) ?_
    replace h := bo_o h
    obtain ⟨_, e7, h⟩ := h
    replace h := b2_o h
    obtain ⟨x9, w6, e8, h⟩ := h
    refine h_callV 1 (ci := 17) (As := [.int v2]) (rest := []) (v := (some (.int x9))) (w' := w6) (st1 := [.int x9]) hx hb hml hown hts hK hR hS (Nat.le_refl _) (Nat.le_refl _) rfl e7 (mX1_isArc e8) (lw_V q1952 q1954 qs47 q112 q1955) (by decide +kernel) (Nat.le_of_ble_eq_true rfl) (Nat.le_of_ble_eq_true rfl) rfl hl.1 (Nat.le_of_ble_eq_true rfl) dX1_detour_10 rfl rfl (fun H locs hR hS => ?_)
    refine lv_if_eq (tgt := 20) hx hb dX1_detour_13 (by decide) (fun c10 => ?_) (fun c10 => ?_)
    · replace h := it_o c10 h
      exact bX1_detour_20 B hT hl0 h  hR hS (lv_sub hl [0, 1, 2] rfl)
    · replace h := if_o c10 h
      refine lv_iconst (v := 1) hx hb dX1_detour_16 (by decide) ?_
      refine lv_goto (tgt := 21) hx hb dX1_detour_17 (by decide) ?_
      exact bX1_detour_21 B hT hl0 h  hR hS (lv_sub hl [0, 1, 2] rfl)
theorem mX1_detour {l : Launch} {G : gE} {A : Nat → Prop} {v0 : Nat} {v1 : Int32} {v2 : Int32} {w : WH} {r : ((Sum (Int32) (Nat × Nat)) × WH)} (hl0 : l.stackTraces = false) (h : fX1_detour v0 v1 v2 w = some r) : hMX l G A yX1_detour cX1_detour 6 (some .int) 19 432 [.ref v0, .int v1, .int v2] w (oI r.1) r.2 :=
  h_ofX (by decide +kernel) (Nat.le_of_ble_eq_true rfl) (fun p e s m args below meth c ls B hnm hT hR hS hl => bX1_detour_0 B hT hl0 h hR hS hl)
noncomputable def fX1_captives_b87 (v0 : Nat) (v1 : Int32) (v3 : Int32) (s0 : Int32) (s1 : Int32) (w : WH) : Option (Sum (Int32 × Int32 × WH) (((Sum (Int32) (Nat × Nat)) × WH))) :=
  nm_ (s0 ||| s1) fun x1 =>
  some (.inl (x1, v3 + 1, w))
theorem bX1_captives_87 {p : Program} {l : Launch} {e : Env} {s : State} {m : MethodId} {args : Array Value} {below : List Frame} {meth : Method} {c : Code} {H : Heap} {locs : List Loc} {ls : Array Slot} {G : gE} {A : Nat → Prop} {w0 : WH} (B : gB G RX1 cX1_captives 5 (some .int) p s m args meth c) (hT : ∀ x ∈ c.exceptionTable.toList, False) (hl0 : l.stackTraces = false) {v0 : Nat} {v1 : Int32} {v3 : Int32} {s0 : Int32} {s1 : Int32} {w : WH} {x : Sum (Int32 × Int32 × WH) (((Sum (Int32) (Nat × Nat)) × WH))} {r : ((Sum (Int32) (Nat × Nat)) × WH)} (h : fX1_captives_b87 v0 v1 v3 s0 s1 w = some x)  (k12 : ∀ (v2' : Int32) (v3' : Int32) (w' : WH), x = (.inl (v2', v3', w')) → ∀ (H : Heap) (locs : List Loc) (ls : Array Slot), RepH G A w' H → Cu A s w0 w' H locs → lv_has ls 5 [(0, .ref v0), (1, .int v1), (2, .int v2'), (3, .int v3')] → W p l e (hRm 19 432 w0) s m args below meth c H locs (wC w0 - wC w') (wS w0 - wS w') (hZX below args s G A w0 (oI r.1) r.2) (F0 m 12 ls [])) (kR : ∀ q, x = (.inr q) → q = r) (hR : RepH G A w H) (hS : Cu A s w0 w H locs) (hl : lv_has ls 5 [(0, .ref v0), (1, .int v1), (3, .int v3)]) : W p l e (hRm 19 432 w0) s m args below meth c H locs (wC w0 - wC w) (wS w0 - wS w) (hZX below args s G A w0 (oI r.1) r.2) (F0 m 87 ls [.int s1, .int s0]) := by
  have B0 := B
  obtain ⟨hx, hb, hml, hown, hts, hr, hlk, hK⟩ := B0
  unfold fX1_captives_b87 at h
  refine lv_ior hx hb dX1_captives_87 ?_
  replace h := nm_o h
  obtain ⟨x1, e2, h⟩ := h
  refine lv_istore_n (lv' := [(2, .int x1), (0, .ref v0), (1, .int v1), (3, .int v3)]) hx hb dX1_captives_88 rfl hl (by decide) (by subst e2; rfl) (fun ls hl => ?_)
  refine lv_iinc (v := v3 + 1) (lv' := [(3, .int (v3 + 1)), (2, .int x1), (0, .ref v0), (1, .int v1)]) hx hb dX1_captives_89 hl (k := 3) rfl rfl (by decide) rfl (fun ls hl => ?_)
  refine lv_goto (tgt := 12) hx hb dX1_captives_92 (by decide) ?_
  exact k12 _ _ _ (Option.some.inj h).symm H locs ls hR hS (lv_sub hl [2, 3, 1, 0] rfl)
noncomputable def fX1_captives_b86 (v0 : Nat) (v1 : Int32) (v3 : Int32) (s0 : Int32) (w : WH) : Option (Sum (Int32 × Int32 × WH) (((Sum (Int32) (Nat × Nat)) × WH))) :=
  fX1_captives_b87 v0 v1 v3 s0 0 w
theorem bX1_captives_86 {p : Program} {l : Launch} {e : Env} {s : State} {m : MethodId} {args : Array Value} {below : List Frame} {meth : Method} {c : Code} {H : Heap} {locs : List Loc} {ls : Array Slot} {G : gE} {A : Nat → Prop} {w0 : WH} (B : gB G RX1 cX1_captives 5 (some .int) p s m args meth c) (hT : ∀ x ∈ c.exceptionTable.toList, False) (hl0 : l.stackTraces = false) {v0 : Nat} {v1 : Int32} {v3 : Int32} {s0 : Int32} {w : WH} {x : Sum (Int32 × Int32 × WH) (((Sum (Int32) (Nat × Nat)) × WH))} {r : ((Sum (Int32) (Nat × Nat)) × WH)} (h : fX1_captives_b86 v0 v1 v3 s0 w = some x)  (k12 : ∀ (v2' : Int32) (v3' : Int32) (w' : WH), x = (.inl (v2', v3', w')) → ∀ (H : Heap) (locs : List Loc) (ls : Array Slot), RepH G A w' H → Cu A s w0 w' H locs → lv_has ls 5 [(0, .ref v0), (1, .int v1), (2, .int v2'), (3, .int v3')] → W p l e (hRm 19 432 w0) s m args below meth c H locs (wC w0 - wC w') (wS w0 - wS w') (hZX below args s G A w0 (oI r.1) r.2) (F0 m 12 ls [])) (kR : ∀ q, x = (.inr q) → q = r) (hR : RepH G A w H) (hS : Cu A s w0 w H locs) (hl : lv_has ls 5 [(0, .ref v0), (1, .int v1), (3, .int v3)]) : W p l e (hRm 19 432 w0) s m args below meth c H locs (wC w0 - wC w) (wS w0 - wS w) (hZX below args s G A w0 (oI r.1) r.2) (F0 m 86 ls [.int s0]) := by
  have B0 := B
  obtain ⟨hx, hb, hml, hown, hts, hr, hlk, hK⟩ := B0
  unfold fX1_captives_b86 at h
  refine lv_iconst (v := 0) hx hb dX1_captives_86 (by decide) ?_
  exact bX1_captives_87 B hT hl0 h k12 kR hR hS (lv_sub hl [0, 1, 2] rfl)
noncomputable def fX1_captives_b12 (v0 : Nat) (v1 : Int32) (v2 : Int32) (v3 : Int32) (w : WH) : Option (Sum (Int32 × Int32 × WH) (((Sum (Int32) (Nat × Nat)) × WH))) :=
  (gR w v0 17 0).bind fun x1 =>
  x1.bind fun a3 =>
  (gR w a3 21 0).bind fun x5 =>
  x5.bind fun a7 =>
  (gR w a7 22 2).bind fun x9 =>
  x9.bind fun a11 =>
  (hIs w a11 2).bind fun _ =>
  b2_ (fJ2_size a11 w) fun x16 w13 =>
  if x16 ≤ v3 then (
    some (.inr (.inl v2, w13))
  ) else (
    (gR w13 v0 17 0).bind fun x18 =>
    x18.bind fun a20 =>
    (gR w13 a20 21 0).bind fun x22 =>
    x22.bind fun a24 =>
    (gR w13 a24 22 2).bind fun x26 =>
    x26.bind fun a28 =>
    (hIs w13 a28 2).bind fun _ =>
    b2_ (fJ2_get a28 v3 w13) fun x33 w30 =>
    x33.bind fun a34 =>
    (hIs w30 a34 28).bind fun _ =>
    (hIs w30 v0 17).bind fun _ =>
    b2_ (fX1_feltBy v0 a34 w30) fun x40 w37 =>
    if lg_cmp x40 2305843009213693951 = 0 then (
      fX1_captives_b86 v0 v1 v3 v2 w37
    ) else (
      (hIs w37 v0 17).bind fun _ =>
      b2_ (fX1_feltWithout v0 a34 v1 w37) fun x45 w42 =>
      if lg_cmp x45 2305843009213693951 = 0 then (
        fX1_captives_b87 v0 v1 v3 v2 ((1 : Int32) <<< (v3 &&& 31)) w42
      ) else (
        fX1_captives_b86 v0 v1 v3 v2 w42
      )
    )
  )
theorem bX1_captives_12 {p : Program} {l : Launch} {e : Env} {s : State} {m : MethodId} {args : Array Value} {below : List Frame} {meth : Method} {c : Code} {H : Heap} {locs : List Loc} {ls : Array Slot} {G : gE} {A : Nat → Prop} {w0 : WH} (B : gB G RX1 cX1_captives 5 (some .int) p s m args meth c) (hT : ∀ x ∈ c.exceptionTable.toList, False) (hl0 : l.stackTraces = false) {v0 : Nat} {v1 : Int32} {v2 : Int32} {v3 : Int32} {w : WH} {x : Sum (Int32 × Int32 × WH) (((Sum (Int32) (Nat × Nat)) × WH))} {r : ((Sum (Int32) (Nat × Nat)) × WH)} (h : fX1_captives_b12 v0 v1 v2 v3 w = some x)  (k12 : ∀ (v2' : Int32) (v3' : Int32) (w' : WH), x = (.inl (v2', v3', w')) → ∀ (H : Heap) (locs : List Loc) (ls : Array Slot), RepH G A w' H → Cu A s w0 w' H locs → lv_has ls 5 [(0, .ref v0), (1, .int v1), (2, .int v2'), (3, .int v3')] → W p l e (hRm 19 432 w0) s m args below meth c H locs (wC w0 - wC w') (wS w0 - wS w') (hZX below args s G A w0 (oI r.1) r.2) (F0 m 12 ls [])) (kR : ∀ q, x = (.inr q) → q = r) (hR : RepH G A w H) (hS : Cu A s w0 w H locs) (hl : lv_has ls 5 [(0, .ref v0), (1, .int v1), (2, .int v2), (3, .int v3)]) : W p l e (hRm 19 432 w0) s m args below meth c H locs (wC w0 - wC w) (wS w0 - wS w) (hZX below args s G A w0 (oI r.1) r.2) (F0 m 12 ls []) := by
  have B0 := B
  obtain ⟨hx, hb, hml, hown, hts, hr, hlk, hK⟩ := B0
  unfold fX1_captives_b12 at h
  refine lv_iload_n hx hb dX1_captives_12 rfl (lv_at hl 3 rfl) ?_
  refine lv_aload_n hx hb dX1_captives_13 rfl (lv_at hl 0 rfl) ?_
  replace h := bo_o h
  obtain ⟨x1, e2, h⟩ := h
  refine h_get (ci := 17) (k := 0) (v := va_rf x1) hx hb hts hown hK hR in_X1 rfl (by decide) (fun _ _ => rfl) q662 (fun _ h9 => h9) (gR_o e2) dX1_captives_14 ?_
  replace h := bo_o h
  obtain ⟨a3, e4, h⟩ := h
  subst e4
  replace h := bo_o h
  obtain ⟨x5, e6, h⟩ := h
  refine h_getN (ci := 21) (k := 0) (v := va_rf x5) hx hb hts hown hK hR in_X2 rfl (by decide) (fun _ _ => rfl) (hK.fn 15 rfl) (fun _ h9 => h9) (gR_o e6) dX1_captives_17 ?_
  replace h := bo_o h
  obtain ⟨a7, e8, h⟩ := h
  subst e8
  replace h := bo_o h
  obtain ⟨x9, e10, h⟩ := h
  refine h_getN (ci := 22) (k := 2) (v := va_rf x9) hx hb hts hown hK hR in_X3 rfl (by decide) (fun _ _ => rfl) (hK.fn 10 rfl) (fun _ h9 => h9) (gR_o e10) dX1_captives_20 ?_
  replace h := bo_o h
  obtain ⟨a11, e12, h⟩ := h
  subst e12
  replace h := bo_o h
  obtain ⟨_, e14, h⟩ := h
  replace h := b2_o h
  obtain ⟨x16, w13, e15, h⟩ := h
  refine h_callF 0  (As := []) (rest := [.int v3]) (v := (some (.int x16))) (w' := w13) (st1 := [.int x16, .int v3]) hx hb hml hown hts hK hR hS (Nat.le_refl _) (Nat.le_refl _) (h_recv (ci := 2) hK hR hS rfl e14) (mJ2_size e15) (lw_app (a := [.methodLink _ _ _, .selects _ _ _, .instanceMethod _, .initialized _]) (lw_4 q1076 q903 q905 q117) (lw_meth q907)) (hK.fw 0 rfl) (by decide +kernel) (Nat.le_of_ble_eq_true rfl) (Nat.le_of_ble_eq_true rfl) rfl hl.1 (Nat.le_of_ble_eq_true rfl) dX1_captives_23 rfl rfl (fun H locs hR hS => ?_)
  refine lv_icmp_ge (tgt := 95) hx hb dX1_captives_28 (by decide) (fun c17 => ?_) (fun c17 => ?_)
  · replace h := it_o c17 h
    refine lv_iload_n hx hb dX1_captives_95 rfl (lv_at hl 2 rfl) ?_
    have eR := kR _ (Option.some.inj h).symm
    subst eR
    exact h_ifinX hx hb hr hlk hR hS dX1_captives_96
  · replace h := if_o c17 h
    refine lv_aload_n hx hb dX1_captives_31 rfl (lv_at hl 0 rfl) ?_
    replace h := bo_o h
    obtain ⟨x18, e19, h⟩ := h
    refine h_get (ci := 17) (k := 0) (v := va_rf x18) hx hb hts hown hK hR in_X1 rfl (by decide) (fun _ _ => rfl) q662 (fun _ h9 => h9) (gR_o e19) dX1_captives_32 ?_
    replace h := bo_o h
    obtain ⟨a20, e21, h⟩ := h
    subst e21
    replace h := bo_o h
    obtain ⟨x22, e23, h⟩ := h
    refine h_getN (ci := 21) (k := 0) (v := va_rf x22) hx hb hts hown hK hR in_X2 rfl (by decide) (fun _ _ => rfl) (hK.fn 15 rfl) (fun _ h9 => h9) (gR_o e23) dX1_captives_35 ?_
    replace h := bo_o h
    obtain ⟨a24, e25, h⟩ := h
    subst e25
    replace h := bo_o h
    obtain ⟨x26, e27, h⟩ := h
    refine h_getN (ci := 22) (k := 2) (v := va_rf x26) hx hb hts hown hK hR in_X3 rfl (by decide) (fun _ _ => rfl) (hK.fn 10 rfl) (fun _ h9 => h9) (gR_o e27) dX1_captives_38 ?_
    refine lv_iload_n hx hb dX1_captives_41 rfl (lv_at hl 3 rfl) ?_
    replace h := bo_o h
    obtain ⟨a28, e29, h⟩ := h
    subst e29
    replace h := bo_o h
    obtain ⟨_, e31, h⟩ := h
    replace h := b2_o h
    obtain ⟨x33, w30, e32, h⟩ := h
    refine h_callF 1  (As := [.int v3]) (rest := []) (v := (some (va_rf x33))) (w' := w30) (st1 := [va_rf x33]) hx hb hml hown hts hK hR hS (Nat.le_refl _) (Nat.le_refl _) (h_recv (ci := 2) hK hR hS rfl e31) (mJ2_get e32) (lw_app (a := [.methodLink _ _ _, .selects _ _ _, .instanceMethod _, .initialized _]) (lw_4 q1205 q1208 q1210 q117) (lw_meth q1212)) (hK.fw 1 rfl) (by decide +kernel) (Nat.le_of_ble_eq_true rfl) (Nat.le_of_ble_eq_true rfl) rfl hl.1 (Nat.le_of_ble_eq_true rfl) dX1_captives_42 rfl rfl (fun H locs hR hS => ?_)
    replace h := bo_o h
    obtain ⟨a34, e35, h⟩ := h
    subst e35
    replace h := bo_o h
    obtain ⟨_, e36, h⟩ := h
    refine h_castS (ci := 28) hx hb hts hown hK hR hS rfl e36 q1265 dX1_captives_47 ?_
    refine lv_astore (lv' := [(4, .ref a34), (0, .ref v0), (1, .int v1), (2, .int v2), (3, .int v3)]) hx hb dX1_captives_50 hl (by decide) rfl (fun ls hl => ?_)
    refine lv_iload_n hx hb dX1_captives_52 rfl (lv_at hl 3 rfl) ?_
    refine lv_aload_n hx hb dX1_captives_53 rfl (lv_at hl 1 rfl) ?_
    refine lv_aload hx hb dX1_captives_54 (lv_at hl 0 rfl) ?_
    replace h := bo_o h
    obtain ⟨_, e38, h⟩ := h
    replace h := b2_o h
    obtain ⟨x40, w37, e39, h⟩ := h
    refine h_callV 1 (ci := 17) (As := [.ref a34]) (rest := [.int v2]) (v := (some (.long x40))) (w' := w37) (st1 := [.long x40, .int v2]) hx hb hml hown hts hK hR hS (Nat.le_refl _) (Nat.le_refl _) rfl e38 (mX1_feltBy e39) (lw_V q1743 q1745 qs39 q112 q1746) (by decide +kernel) (Nat.le_of_ble_eq_true rfl) (Nat.le_of_ble_eq_true rfl) rfl hl.1 (Nat.le_of_ble_eq_true rfl) dX1_captives_56 rfl rfl (fun H locs hR hS => ?_)
    refine lv_ldc2 (v := 2305843009213693951) hx hb hown (hts _ q1750) dX1_captives_59 ?_
    refine W.lcmp hx hb dX1_captives_62 ?_
    refine lv_if_eq (tgt := 86) hx hb dX1_captives_63 (by decide) (fun c41 => ?_) (fun c41 => ?_)
    · replace h := it_o c41 h
      exact bX1_captives_86 B hT hl0 h k12 kR hR hS (lv_sub hl [1, 2, 4] rfl)
    · replace h := if_o c41 h
      refine lv_aload_n hx hb dX1_captives_66 rfl (lv_at hl 1 rfl) ?_
      refine lv_aload hx hb dX1_captives_67 (lv_at hl 0 rfl) ?_
      refine lv_iload_n hx hb dX1_captives_69 rfl (lv_at hl 2 rfl) ?_
      replace h := bo_o h
      obtain ⟨_, e43, h⟩ := h
      replace h := b2_o h
      obtain ⟨x45, w42, e44, h⟩ := h
      refine h_callV 2 (ci := 17) (As := [.ref a34, .int v1]) (rest := [.int v2]) (v := (some (.long x45))) (w' := w42) (st1 := [.long x45, .int v2]) hx hb hml hown hts hK hR hS (Nat.le_refl _) (Nat.le_refl _) rfl e43 (mX1_feltWithout e44) (lw_V q2222 q2224 qs53 q112 q2225) (by decide +kernel) (Nat.le_of_ble_eq_true rfl) (Nat.le_of_ble_eq_true rfl) rfl hl.1 (Nat.le_of_ble_eq_true rfl) dX1_captives_70 rfl rfl (fun H locs hR hS => ?_)
      refine lv_ldc2 (v := 2305843009213693951) hx hb hown (hts _ q1750) dX1_captives_73 ?_
      refine W.lcmp hx hb dX1_captives_76 ?_
      refine lv_if_ne (tgt := 86) hx hb dX1_captives_77 (by decide) (fun c46 => ?_) (fun c46 => ?_)
      · replace h := if_o c46 h
        exact bX1_captives_86 B hT hl0 h k12 kR hR hS (lv_sub hl [1, 2, 4] rfl)
      · replace h := it_o c46 h
        refine lv_iconst (v := 1) hx hb dX1_captives_80 (by decide) ?_
        refine lv_iload_n hx hb dX1_captives_81 rfl (lv_at hl 4 rfl) ?_
        refine lv_ishl hx hb dX1_captives_82 ?_
        refine lv_goto (tgt := 87) hx hb dX1_captives_83 (by decide) ?_
        exact bX1_captives_87 B hT hl0 h k12 kR hR hS (lv_sub hl [1, 2, 4] rfl)
noncomputable def fX1_captives_l12 (v0 : Nat) (v1 : Int32) (v2 : Int32) (v3 : Int32) (w : WH) : Option (((Sum (Int32) (Nat × Nat)) × WH)) := whileO (fun q => fX1_captives_b12 v0 v1 q.1 q.2.1 q.2.2) (v2, v3, w)
theorem lX1_captives_12 {p : Program} {l : Launch} {e : Env} {s : State} {m : MethodId} {args : Array Value} {below : List Frame} {meth : Method} {c : Code} {G : gE} {A : Nat → Prop} {w0 : WH} (B : gB G RX1 cX1_captives 5 (some .int) p s m args meth c) (hT : ∀ x ∈ c.exceptionTable.toList, False) (hl0 : l.stackTraces = false) {v0 : Nat} {v1 : Int32} {r : ((Sum (Int32) (Nat × Nat)) × WH)}   : ∀ (v2 : Int32) (v3 : Int32) (w : WH), fX1_captives_l12 v0 v1 v2 v3 w = some r → ∀ (H : Heap) (locs : List Loc) (ls : Array Slot), RepH G A w H → Cu A s w0 w H locs → lv_has ls 5 [(0, .ref v0), (1, .int v1), (2, .int v2), (3, .int v3)] → W p l e (hRm 19 432 w0) s m args below meth c H locs (wC w0 - wC w) (wS w0 - wS w) (hZX below args s G A w0 (oI r.1) r.2) (F0 m 12 ls []) := by
  intro v2 v3 w h
  refine wh_walk (body := (fun q => fX1_captives_b12 v0 v1 q.1 q.2.1 q.2.2)) (P := (fun q : (Int32 × Int32 × WH) => ∀ (H : Heap) (locs : List Loc) (ls : Array Slot), RepH G A (q.2.2) H → Cu A s w0 (q.2.2) H locs → lv_has ls 5 [(0, .ref v0), (1, .int v1), (2, .int (q.1)), (3, .int (q.2.1))] → W p l e (hRm 19 432 w0) s m args below meth c H locs (wC w0 - wC (q.2.2)) (wS w0 - wS (q.2.2)) (hZX below args s G A w0 (oI r.1) r.2) (F0 m 12 ls []))) (r := r) ?_ (v2, v3, w) h
  intro q y hy hL hr H locs ls hR hS hl
  exact bX1_captives_12 (r := r) B hT hl0 hy (fun a0 a1 a2 e => hL (a0, a1, a2) e) (fun q e => hr q e) hR hS hl
noncomputable def fX1_captives (v0 : Nat) (v1 : Int32) (w : WH) : Option (((Sum (Int32) (Nat × Nat)) × WH)) :=
  (hIs w v0 17).bind fun _ =>
  b2_ (fX1_isArc v0 v1 w) fun x4 w1 =>
  b2_ (fX1_requireIndex x4 w1) fun o6 w5 => ex_ o6 (fun _ =>
    fX1_captives_l12 v0 v1 0 0 w5) (fun q9 =>
    some (.inr q9, w5))
theorem bX1_captives_0 {p : Program} {l : Launch} {e : Env} {s : State} {m : MethodId} {args : Array Value} {below : List Frame} {meth : Method} {c : Code} {H : Heap} {locs : List Loc} {ls : Array Slot} {G : gE} {A : Nat → Prop} {w0 : WH} (B : gB G RX1 cX1_captives 5 (some .int) p s m args meth c) (hT : ∀ x ∈ c.exceptionTable.toList, False) (hl0 : l.stackTraces = false) {v0 : Nat} {v1 : Int32} {w : WH} {r : ((Sum (Int32) (Nat × Nat)) × WH)} (h : fX1_captives v0 v1 w = some r)   (hR : RepH G A w H) (hS : Cu A s w0 w H locs) (hl : lv_has ls 5 [(0, .ref v0), (1, .int v1)]) : W p l e (hRm 19 432 w0) s m args below meth c H locs (wC w0 - wC w) (wS w0 - wS w) (hZX below args s G A w0 (oI r.1) r.2) (F0 m 0 ls []) := by
  have B0 := B
  obtain ⟨hx, hb, hml, hown, hts, hr, hlk, hK⟩ := B0
  unfold fX1_captives at h
  refine lv_aload_n hx hb dX1_captives_0 rfl (lv_at hl 0 rfl) ?_
  refine lv_iload_n hx hb dX1_captives_1 rfl (lv_at hl 1 rfl) ?_
  replace h := bo_o h
  obtain ⟨_, e2, h⟩ := h
  replace h := b2_o h
  obtain ⟨x4, w1, e3, h⟩ := h
  refine h_callV 1 (ci := 17) (As := [.int v1]) (rest := []) (v := (some (.int x4))) (w' := w1) (st1 := [.int x4]) hx hb hml hown hts hK hR hS (Nat.le_refl _) (Nat.le_refl _) rfl e2 (mX1_isArc e3) (lw_V q1952 q1954 qs47 q112 q1955) (by decide +kernel) (Nat.le_of_ble_eq_true rfl) (Nat.le_of_ble_eq_true rfl) rfl hl.1 (Nat.le_of_ble_eq_true rfl) dX1_captives_2 rfl rfl (fun H locs hR hS => ?_)
  replace h := b2_o h
  obtain ⟨o6, w5, e7, h⟩ := h
  refine h_callSX 1 (As := [.int x4]) (rest := []) (o := oV o6) (w' := w5)  hx hb hml hown hts hK hR hS (Nat.le_refl _) (Nat.le_refl _) (mX1_requireIndex hl0 e7) (lw_S q1956 q1957 q112 q1958) (by decide +kernel) (Nat.le_of_ble_eq_true rfl) (Nat.le_of_ble_eq_true rfl) rfl hl.1 (Nat.le_of_ble_eq_true rfl) dX1_captives_5 rfl (fun v9 hv9 H locs hR hS => ?_) (fun E9 q9 hq9 H locs hR hS hce => ?_)
  · cases o6 with
    | inr q => cases hv9
    | inl x8 =>
      cases hv9
      replace h := exl_o h
      refine W.eq (g2 := F0 m 8 ls []) rfl ?_
      refine lv_iconst (v := 0) hx hb dX1_captives_8 (by decide) ?_
      refine lv_istore_n (lv' := [(2, .int 0), (0, .ref v0), (1, .int v1)]) hx hb dX1_captives_9 rfl hl (by decide) rfl (fun ls hl => ?_)
      refine lv_iconst (v := 0) hx hb dX1_captives_10 (by decide) ?_
      refine lv_istore_n (lv' := [(3, .int 0), (2, .int 0), (0, .ref v0), (1, .int v1)]) hx hb dX1_captives_11 rfl hl (by decide) rfl (fun ls hl => ?_)
      exact lX1_captives_12 B hT hl0 _ _ _ h H locs ls hR hS (lv_sub hl [2, 3, 1, 0] rfl)
  · cases o6 with
    | inl q => cases hq9
    | inr q9 =>
      cases hq9
      replace h := exr_o h
      have eR := Option.some.inj h
      subst eR
      exact h_out hT hlk hR hS hce
theorem mX1_captives {l : Launch} {G : gE} {A : Nat → Prop} {v0 : Nat} {v1 : Int32} {w : WH} {r : ((Sum (Int32) (Nat × Nat)) × WH)} (hl0 : l.stackTraces = false) (h : fX1_captives v0 v1 w = some r) : hMX l G A yX1_captives cX1_captives 5 (some .int) 19 432 [.ref v0, .int v1] w (oI r.1) r.2 :=
  h_ofX (by decide +kernel) (Nat.le_of_ble_eq_true rfl) (fun p e s m args below meth c ls B hnm hT hR hS hl => bX1_captives_0 B hT hl0 h hR hS hl)
noncomputable def fX12_init (v0 : Nat) (v1 : Nat) (v2 : Nat) (w : WH) : Option (WH) :=
  (hPut w v0 19 1 (.ref v1)).bind fun w1 =>
  (hPut w1 v0 19 0 (.ref v2)).bind fun w3 =>
  some w3
theorem bX12_init_0 {p : Program} {l : Launch} {e : Env} {s : State} {m : MethodId} {args : Array Value} {below : List Frame} {meth : Method} {c : Code} {H : Heap} {locs : List Loc} {ls : Array Slot} {G : gE} {A : Nat → Prop} {w0 : WH} (B : gB G RX12 cX12_init 3 none p s m args meth c) (hnm : meth.name = "<init>") {v0 : Nat} {v1 : Nat} {v2 : Nat} {w : WH} {r : WH} (h : fX12_init v0 v1 v2 w = some r)   (hR : RepH G A w H) (hS : Cu A s w0 w H locs) (hl : lv_has ls 3 [(0, .ref v0), (1, .ref v1), (2, .ref v2)]) : W p l e (hRm 1 20 w0) s m args below meth c H locs (wC w0 - wC w) (wS w0 - wS w) (hZ below args s G A w0 none r) (F0 m 0 ls []) := by
  have B0 := B
  obtain ⟨hx, hb, hml, hown, hts, hr, hlk, hK⟩ := B0
  unfold fX12_init at h
  refine lv_aload_n hx hb dX12_init_0 rfl (lv_at hl 0 rfl) ?_
  refine lv_aload_n hx hb dX12_init_1 rfl (lv_at hl 1 rfl) ?_
  replace h := bo_o h
  obtain ⟨w1, e2, h⟩ := h
  refine h_putF (ci := 19) (k := 1) (ty := tyX12 1) hx hb hts hown hK hR hS in_X12 tyX12 tyX12_ok nmX12 rfl (by decide) q2252 (fun _ h9 => h9) rfl hnm rfl (tyX12_ok 1 (by decide)) rfl rfl e2 dX12_init_2 (fun H locs hR hS => ?_)
  refine lv_aload_n hx hb dX12_init_5 rfl (lv_at hl 0 rfl) ?_
  refine lv_aload_n hx hb dX12_init_6 rfl (lv_at hl 2 rfl) ?_
  replace h := bo_o h
  obtain ⟨w3, e4, h⟩ := h
  refine h_putF (ci := 19) (k := 0) (ty := tyX12 0) hx hb hts hown hK hR hS in_X12 tyX12 tyX12_ok nmX12 rfl (by decide) q2251 (fun _ h9 => h9) rfl hnm rfl (tyX12_ok 0 (by decide)) rfl rfl e4 dX12_init_7 (fun H locs hR hS => ?_)
  refine lv_aload_n hx hb dX12_init_10 rfl (lv_at hl 0 rfl) ?_
  refine W.objInit hx hb hown (hts _ q2250) (hts _ q168) (hts _ q169) rfl (by rw [hml]; exact hl.1) rfl dX12_init_11 (Nat.le_of_ble_eq_true rfl) (Nat.le_of_ble_eq_true rfl) ?_
  refine W.eq (g2 := F0 m 14 ls []) rfl ?_
  have eR := Option.some.inj h
  subst eR
  exact h_vfin hx hb hr hlk hR hS dX12_init_14
theorem mX12_init {l : Launch} {G : gE} {A : Nat → Prop} {v0 : Nat} {v1 : Nat} {v2 : Nat} {w : WH} {r : WH} (h : fX12_init v0 v1 v2 w = some r) : hM l G A yX12_init cX12_init 3 none 1 20 [.ref v0, .ref v1, .ref v2] w none r :=
  h_of (by decide +kernel) (Nat.le_of_ble_eq_true rfl) (fun p e s m args below meth c ls B hnm hR hS hl => bX12_init_0 B hnm h hR hS hl)
noncomputable def fX3_from (v0 : Nat) (v1 : Nat) (w : WH) : Option ((Option Nat × WH)) :=
  b2_ (hNw w 2 19 [.null, .null]) fun a1 w2 =>
  (fX12_init a1 v0 v1 w2).bind fun w4 =>
  some (some a1, w4)
theorem bX3_from_0 {p : Program} {l : Launch} {e : Env} {s : State} {m : MethodId} {args : Array Value} {below : List Frame} {meth : Method} {c : Code} {H : Heap} {locs : List Loc} {ls : Array Slot} {G : gE} {A : Nat → Prop} {w0 : WH} (B : gB G RX3 cX3_from 2 (some (.object "java/lang/Iterable")) p s m args meth c) {v0 : Nat} {v1 : Nat} {w : WH} {r : (Option Nat × WH)} (h : fX3_from v0 v1 w = some r)   (hR : RepH G A w H) (hS : Cu A s w0 w H locs) (hl : lv_has ls 2 [(0, .ref v0), (1, .ref v1)]) : W p l e (hRm 2 42 w0) s m args below meth c H locs (wC w0 - wC w) (wS w0 - wS w) (hZ below args s G A w0 (some (va_rf r.1)) r.2) (F0 m 0 ls []) := by
  have B0 := B
  obtain ⟨hx, hb, hml, hown, hts, hr, hlk, hK⟩ := B0
  unfold fX3_from at h
  replace h := b2_o h
  obtain ⟨a1, w2, e3, h⟩ := h
  refine h_new (ci := 19) (fs := [.null, .null]) hx hb hts hown hK hR hS (Nat.le_refl _) (Nat.le_refl _) in_X12 tyX12 tyX12_ok rfl (by decide +kernel) q2245 q2246 q158 e3 dX3_from_0 (fun H locs hR hS => ?_)
  refine lv_dup hx hb dX3_from_3 rfl ?_
  refine lv_aload_n hx hb dX3_from_4 rfl (lv_at hl 0 rfl) ?_
  refine lv_aload_n hx hb dX3_from_5 rfl (lv_at hl 1 rfl) ?_
  replace h := bo_o h
  obtain ⟨w4, e5, h⟩ := h
  refine h_callI 2  (As := [.ref v0, .ref v1]) (rest := [.ref a1]) (w' := w4) hx hb hml hown hts hK hR hS (Nat.le_refl _) (Nat.le_refl _) (mX12_init e5) (lw_meth q2249) q158 q2247 q2248 rfl (by decide +kernel) (Nat.le_of_ble_eq_true rfl) (Nat.le_of_ble_eq_true rfl) rfl hl.1 (Nat.le_of_ble_eq_true rfl) dX3_from_6 rfl (fun H locs hR hS => ?_)
  have eR := Option.some.inj h
  subst eR
  exact h_afin (x := some a1) hx hb hr hlk (by first | exact Or.inl ⟨_, rfl⟩ | exact Or.inr ⟨_, rfl⟩) hR hS dX3_from_9
theorem mX3_from {l : Launch} {G : gE} {A : Nat → Prop} {v0 : Nat} {v1 : Nat} {w : WH} {r : (Option Nat × WH)} (h : fX3_from v0 v1 w = some r) : hM l G A yX3_from cX3_from 2 (some (.object "java/lang/Iterable")) 2 42 [.ref v0, .ref v1] w (some (va_rf r.1)) r.2 :=
  h_of (by decide +kernel) (Nat.le_of_ble_eq_true rfl) (fun p e s m args below meth c ls B hnm hR hS hl => bX3_from_0 B h hR hS hl)
noncomputable def fX13_behind_b2 (v0 : Nat) (v2 : Int32) (w : WH) : Option (Sum (Int32 × WH) ((Int32 × WH))) :=
  (gR w v0 20 2).bind fun x1 =>
  x1.bind fun a3 =>
  (gR w a3 22 1).bind fun x5 =>
  x5.bind fun a7 =>
  (hIs w a7 2).bind fun _ =>
  b2_ (fJ2_size a7 w) fun x12 w9 =>
  if x12 ≤ v2 then (
    some (.inr (v2, w9))
  ) else (
    (gR w9 v0 20 1).bind fun x14 =>
    (gR w9 v0 20 2).bind fun x16 =>
    x16.bind fun a18 =>
    (gR w9 a18 22 1).bind fun x20 =>
    x20.bind fun a22 =>
    (hIs w9 a22 2).bind fun _ =>
    b2_ (fJ2_get a22 v2 w9) fun x27 w24 =>
    x27.bind fun a28 =>
    (hIs w24 a28 27).bind fun _ =>
    (hIs w24 a28 27).bind fun _ =>
    b2_ (fX8_from a28 w24) fun x34 w31 =>
    x14.bind fun a35 =>
    (hIs w31 a35 0).bind fun _ =>
    b2_ (fJ17_get a35 x34 w31) fun x40 w37 =>
    if x40 = 0 then (
      some (.inl (v2 + 1, w37))
    ) else (
      some (.inr (v2, w37))
    )
  )
theorem bX13_behind_2 {p : Program} {l : Launch} {e : Env} {s : State} {m : MethodId} {args : Array Value} {below : List Frame} {meth : Method} {c : Code} {H : Heap} {locs : List Loc} {ls : Array Slot} {G : gE} {A : Nat → Prop} {w0 : WH} (B : gB G RX13 cX13_behind 3 (some .int) p s m args meth c) {v0 : Nat} {v2 : Int32} {w : WH} {x : Sum (Int32 × WH) ((Int32 × WH))} {r : (Int32 × WH)} (h : fX13_behind_b2 v0 v2 w = some x)  (k2 : ∀ (v2' : Int32) (w' : WH), x = (.inl (v2', w')) → ∀ (H : Heap) (locs : List Loc) (ls : Array Slot), RepH G A w' H → Cu A s w0 w' H locs → lv_has ls 3 [(0, .ref v0), (2, .int v2')] → W p l e (hRm 13 291 w0) s m args below meth c H locs (wC w0 - wC w') (wS w0 - wS w') (hZ below args s G A w0 (some (.int r.1)) r.2) (F0 m 2 ls [])) (kR : ∀ q, x = (.inr q) → q = r) (hR : RepH G A w H) (hS : Cu A s w0 w H locs) (hl : lv_has ls 3 [(0, .ref v0), (2, .int v2)]) : W p l e (hRm 13 291 w0) s m args below meth c H locs (wC w0 - wC w) (wS w0 - wS w) (hZ below args s G A w0 (some (.int r.1)) r.2) (F0 m 2 ls []) := by
  have B0 := B
  obtain ⟨hx, hb, hml, hown, hts, hr, hlk, hK⟩ := B0
  unfold fX13_behind_b2 at h
  refine lv_iload_n hx hb dX13_behind_2 rfl (lv_at hl 1 rfl) ?_
  refine lv_aload_n hx hb dX13_behind_3 rfl (lv_at hl 0 rfl) ?_
  replace h := bo_o h
  obtain ⟨x1, e2, h⟩ := h
  refine h_get (ci := 20) (k := 2) (v := va_rf x1) hx hb hts hown hK hR in_X13 rfl (by decide) (fun _ _ => rfl) q2279 (fun _ h9 => h9) (gR_o e2) dX13_behind_4 ?_
  replace h := bo_o h
  obtain ⟨a3, e4, h⟩ := h
  subst e4
  replace h := bo_o h
  obtain ⟨x5, e6, h⟩ := h
  refine h_getN (ci := 22) (k := 1) (v := va_rf x5) hx hb hts hown hK hR in_X3 rfl (by decide) (fun _ _ => rfl) (hK.fn 4 rfl) (fun _ h9 => h9) (gR_o e6) dX13_behind_7 ?_
  replace h := bo_o h
  obtain ⟨a7, e8, h⟩ := h
  subst e8
  replace h := bo_o h
  obtain ⟨_, e10, h⟩ := h
  replace h := b2_o h
  obtain ⟨x12, w9, e11, h⟩ := h
  refine h_callF 0  (As := []) (rest := [.int v2]) (v := (some (.int x12))) (w' := w9) (st1 := [.int x12, .int v2]) hx hb hml hown hts hK hR hS (Nat.le_refl _) (Nat.le_refl _) (h_recv (ci := 2) hK hR hS rfl e10) (mJ2_size e11) (lw_app (a := [.methodLink _ _ _, .selects _ _ _, .instanceMethod _, .initialized _]) (lw_4 q1550 q903 q905 q117) (lw_meth q907)) (hK.fw 0 rfl) (by decide +kernel) (Nat.le_of_ble_eq_true rfl) (Nat.le_of_ble_eq_true rfl) rfl hl.1 (Nat.le_of_ble_eq_true rfl) dX13_behind_10 rfl rfl (fun H locs hR hS => ?_)
  refine lv_icmp_ge (tgt := 53) hx hb dX13_behind_15 (by decide) (fun c13 => ?_) (fun c13 => ?_)
  · replace h := it_o c13 h
    refine lv_iload_n hx hb dX13_behind_53 rfl (lv_at hl 1 rfl) ?_
    have eR := kR _ (Option.some.inj h).symm
    subst eR
    exact h_ifin hx hb hr hlk hR hS dX13_behind_54
  · replace h := if_o c13 h
    refine lv_aload_n hx hb dX13_behind_18 rfl (lv_at hl 0 rfl) ?_
    replace h := bo_o h
    obtain ⟨x14, e15, h⟩ := h
    refine h_get (ci := 20) (k := 1) (v := va_rf x14) hx hb hts hown hK hR in_X13 rfl (by decide) (fun _ _ => rfl) q2278 (fun _ h9 => h9) (gR_o e15) dX13_behind_19 ?_
    refine lv_aload_n hx hb dX13_behind_22 rfl (lv_at hl 0 rfl) ?_
    replace h := bo_o h
    obtain ⟨x16, e17, h⟩ := h
    refine h_get (ci := 20) (k := 2) (v := va_rf x16) hx hb hts hown hK hR in_X13 rfl (by decide) (fun _ _ => rfl) q2279 (fun _ h9 => h9) (gR_o e17) dX13_behind_23 ?_
    replace h := bo_o h
    obtain ⟨a18, e19, h⟩ := h
    subst e19
    replace h := bo_o h
    obtain ⟨x20, e21, h⟩ := h
    refine h_getN (ci := 22) (k := 1) (v := va_rf x20) hx hb hts hown hK hR in_X3 rfl (by decide) (fun _ _ => rfl) (hK.fn 4 rfl) (fun _ h9 => h9) (gR_o e21) dX13_behind_26 ?_
    refine lv_iload_n hx hb dX13_behind_29 rfl (lv_at hl 1 rfl) ?_
    replace h := bo_o h
    obtain ⟨a22, e23, h⟩ := h
    subst e23
    replace h := bo_o h
    obtain ⟨_, e25, h⟩ := h
    replace h := b2_o h
    obtain ⟨x27, w24, e26, h⟩ := h
    refine h_callF 1  (As := [.int v2]) (rest := [va_rf x14]) (v := (some (va_rf x27))) (w' := w24) (st1 := [va_rf x27, va_rf x14]) hx hb hml hown hts hK hR hS (Nat.le_refl _) (Nat.le_refl _) (h_recv (ci := 2) hK hR hS rfl e25) (mJ2_get e26) (lw_app (a := [.methodLink _ _ _, .selects _ _ _, .instanceMethod _, .initialized _]) (lw_4 q1599 q1208 q1210 q117) (lw_meth q1212)) (hK.fw 1 rfl) (by decide +kernel) (Nat.le_of_ble_eq_true rfl) (Nat.le_of_ble_eq_true rfl) rfl hl.1 (cat_le (Nat.le_of_ble_eq_true rfl)) dX13_behind_30 rfl rfl (fun H locs hR hS => ?_)
    replace h := bo_o h
    obtain ⟨a28, e29, h⟩ := h
    subst e29
    replace h := bo_o h
    obtain ⟨_, e30, h⟩ := h
    refine h_castS (ci := 27) hx hb hts hown hK hR hS rfl e30 q1600 dX13_behind_35 ?_
    replace h := bo_o h
    obtain ⟨_, e32, h⟩ := h
    replace h := b2_o h
    obtain ⟨x34, w31, e33, h⟩ := h
    refine h_callV 0 (ci := 27) (As := []) (rest := [va_rf x14]) (v := (some (.int x34))) (w' := w31) (st1 := [.int x34, va_rf x14]) hx hb hml hown hts hK hR hS (Nat.le_refl _) (Nat.le_refl _) rfl e32 (mX8_from e33) (lw_V q1606 q1367 q1368 q141 q1369) (by decide +kernel) (Nat.le_of_ble_eq_true rfl) (Nat.le_of_ble_eq_true rfl) rfl hl.1 (cat_le (Nat.le_of_ble_eq_true rfl)) dX13_behind_38 rfl rfl (fun H locs hR hS => ?_)
    replace h := bo_o h
    obtain ⟨a35, e36, h⟩ := h
    subst e36
    replace h := bo_o h
    obtain ⟨_, e38, h⟩ := h
    replace h := b2_o h
    obtain ⟨x40, w37, e39, h⟩ := h
    refine h_callV 1 (ci := 0) (As := [.int x34]) (rest := []) (v := (some (.int x40))) (w' := w37) (st1 := [.int x40]) hx hb hml hown hts hK hR hS (Nat.le_refl _) (Nat.le_refl _) rfl e38 (mJ17_get e39) (lw_V q1607 q1309 q1310 q134 q1311) (by decide +kernel) (Nat.le_of_ble_eq_true rfl) (Nat.le_of_ble_eq_true rfl) rfl hl.1 (Nat.le_of_ble_eq_true rfl) dX13_behind_41 rfl rfl (fun H locs hR hS => ?_)
    refine lv_if_ne (tgt := 53) hx hb dX13_behind_44 (by decide) (fun c41 => ?_) (fun c41 => ?_)
    · replace h := if_o c41 h
      refine lv_iload_n hx hb dX13_behind_53 rfl (lv_at hl 1 rfl) ?_
      have eR := kR _ (Option.some.inj h).symm
      subst eR
      exact h_ifin hx hb hr hlk hR hS dX13_behind_54
    · replace h := it_o c41 h
      refine lv_iinc (v := v2 + 1) (lv' := [(2, .int (v2 + 1)), (0, .ref v0)]) hx hb dX13_behind_47 hl (k := 1) rfl rfl (by decide) rfl (fun ls hl => ?_)
      refine lv_goto (tgt := 2) hx hb dX13_behind_50 (by decide) ?_
      exact k2 _ _ (Option.some.inj h).symm H locs ls hR hS (lv_sub hl [1, 0] rfl)
noncomputable def fX13_behind_l2 (v0 : Nat) (v2 : Int32) (w : WH) : Option ((Int32 × WH)) := whileO (fun q => fX13_behind_b2 v0 q.1 q.2) (v2, w)
theorem lX13_behind_2 {p : Program} {l : Launch} {e : Env} {s : State} {m : MethodId} {args : Array Value} {below : List Frame} {meth : Method} {c : Code} {G : gE} {A : Nat → Prop} {w0 : WH} (B : gB G RX13 cX13_behind 3 (some .int) p s m args meth c) {v0 : Nat} {r : (Int32 × WH)}   : ∀ (v2 : Int32) (w : WH), fX13_behind_l2 v0 v2 w = some r → ∀ (H : Heap) (locs : List Loc) (ls : Array Slot), RepH G A w H → Cu A s w0 w H locs → lv_has ls 3 [(0, .ref v0), (2, .int v2)] → W p l e (hRm 13 291 w0) s m args below meth c H locs (wC w0 - wC w) (wS w0 - wS w) (hZ below args s G A w0 (some (.int r.1)) r.2) (F0 m 2 ls []) := by
  intro v2 w h
  refine wh_walk (body := (fun q => fX13_behind_b2 v0 q.1 q.2)) (P := (fun q : (Int32 × WH) => ∀ (H : Heap) (locs : List Loc) (ls : Array Slot), RepH G A (q.2) H → Cu A s w0 (q.2) H locs → lv_has ls 3 [(0, .ref v0), (2, .int (q.1))] → W p l e (hRm 13 291 w0) s m args below meth c H locs (wC w0 - wC (q.2)) (wS w0 - wS (q.2)) (hZ below args s G A w0 (some (.int r.1)) r.2) (F0 m 2 ls []))) (r := r) ?_ (v2, w) h
  intro q y hy hL hr H locs ls hR hS hl
  exact bX13_behind_2 (r := r) B hy (fun a0 a1 e => hL (a0, a1) e) (fun q e => hr q e) hR hS hl
noncomputable def fX13_behind (v0 : Nat) (v1 : Int32) (w : WH) : Option ((Int32 × WH)) :=
  fX13_behind_l2 v0 v1 w
theorem bX13_behind_0 {p : Program} {l : Launch} {e : Env} {s : State} {m : MethodId} {args : Array Value} {below : List Frame} {meth : Method} {c : Code} {H : Heap} {locs : List Loc} {ls : Array Slot} {G : gE} {A : Nat → Prop} {w0 : WH} (B : gB G RX13 cX13_behind 3 (some .int) p s m args meth c) {v0 : Nat} {v1 : Int32} {w : WH} {r : (Int32 × WH)} (h : fX13_behind v0 v1 w = some r)   (hR : RepH G A w H) (hS : Cu A s w0 w H locs) (hl : lv_has ls 3 [(0, .ref v0), (1, .int v1)]) : W p l e (hRm 13 291 w0) s m args below meth c H locs (wC w0 - wC w) (wS w0 - wS w) (hZ below args s G A w0 (some (.int r.1)) r.2) (F0 m 0 ls []) := by
  have B0 := B
  obtain ⟨hx, hb, hml, hown, hts, hr, hlk, hK⟩ := B0
  unfold fX13_behind at h
  refine lv_iload_n hx hb dX13_behind_0 rfl (lv_at hl 1 rfl) ?_
  refine lv_istore_n (lv' := [(2, .int v1), (0, .ref v0), (1, .int v1)]) hx hb dX13_behind_1 rfl hl (by decide) rfl (fun ls hl => ?_)
  exact lX13_behind_2 B _ _ h H locs ls hR hS (lv_sub hl [1, 0] rfl)
theorem mX13_behind {l : Launch} {G : gE} {A : Nat → Prop} {v0 : Nat} {v1 : Int32} {w : WH} {r : (Int32 × WH)} (h : fX13_behind v0 v1 w = some r) : hM l G A yX13_behind cX13_behind 3 (some .int) 13 291 [.ref v0, .int v1] w (some (.int r.1)) r.2 :=
  h_of (by decide +kernel) (Nat.le_of_ble_eq_true rfl) (fun p e s m args below meth c ls B hnm hR hS hl => bX13_behind_0 B h hR hS hl)
noncomputable def fX13_init (v0 : Nat) (v1 : Nat) (v2 : Nat) (w : WH) : Option (WH) :=
  (hPut w v0 20 2 (.ref v1)).bind fun w1 =>
  (hPut w1 v0 20 1 (.ref v2)).bind fun w3 =>
  (hIs w3 v0 20).bind fun _ =>
  b2_ (fX13_behind v0 0 w3) fun x8 w5 =>
  (hPut w5 v0 20 0 (.int x8)).bind fun w9 =>
  some w9
theorem bX13_init_0 {p : Program} {l : Launch} {e : Env} {s : State} {m : MethodId} {args : Array Value} {below : List Frame} {meth : Method} {c : Code} {H : Heap} {locs : List Loc} {ls : Array Slot} {G : gE} {A : Nat → Prop} {w0 : WH} (B : gB G RX13 cX13_init 3 none p s m args meth c) (hnm : meth.name = "<init>") {v0 : Nat} {v1 : Nat} {v2 : Nat} {w : WH} {r : WH} (h : fX13_init v0 v1 v2 w = some r)   (hR : RepH G A w H) (hS : Cu A s w0 w H locs) (hl : lv_has ls 3 [(0, .ref v0), (1, .ref v1), (2, .ref v2)]) : W p l e (hRm 14 313 w0) s m args below meth c H locs (wC w0 - wC w) (wS w0 - wS w) (hZ below args s G A w0 none r) (F0 m 0 ls []) := by
  have B0 := B
  obtain ⟨hx, hb, hml, hown, hts, hr, hlk, hK⟩ := B0
  unfold fX13_init at h
  refine lv_aload_n hx hb dX13_init_0 rfl (lv_at hl 0 rfl) ?_
  refine lv_aload_n hx hb dX13_init_1 rfl (lv_at hl 1 rfl) ?_
  replace h := bo_o h
  obtain ⟨w1, e2, h⟩ := h
  refine h_putF (ci := 20) (k := 2) (ty := tyX13 2) hx hb hts hown hK hR hS in_X13 tyX13 tyX13_ok nmX13 rfl (by decide) q2279 (fun _ h9 => h9) rfl hnm rfl (tyX13_ok 2 (by decide)) rfl rfl e2 dX13_init_2 (fun H locs hR hS => ?_)
  refine lv_aload_n hx hb dX13_init_5 rfl (lv_at hl 0 rfl) ?_
  refine lv_aload_n hx hb dX13_init_6 rfl (lv_at hl 2 rfl) ?_
  replace h := bo_o h
  obtain ⟨w3, e4, h⟩ := h
  refine h_putF (ci := 20) (k := 1) (ty := tyX13 1) hx hb hts hown hK hR hS in_X13 tyX13 tyX13_ok nmX13 rfl (by decide) q2278 (fun _ h9 => h9) rfl hnm rfl (tyX13_ok 1 (by decide)) rfl rfl e4 dX13_init_7 (fun H locs hR hS => ?_)
  refine lv_aload_n hx hb dX13_init_10 rfl (lv_at hl 0 rfl) ?_
  refine W.objInit hx hb hown (hts _ q2276) (hts _ q168) (hts _ q169) rfl (by rw [hml]; exact hl.1) rfl dX13_init_11 (Nat.le_of_ble_eq_true rfl) (Nat.le_of_ble_eq_true rfl) ?_
  refine W.eq (g2 := F0 m 14 ls []) rfl ?_
  refine lv_aload_n hx hb dX13_init_14 rfl (lv_at hl 0 rfl) ?_
  refine lv_aload_n hx hb dX13_init_15 rfl (lv_at hl 0 rfl) ?_
  refine lv_iconst (v := 0) hx hb dX13_init_16 (by decide) ?_
  replace h := bo_o h
  obtain ⟨_, e6, h⟩ := h
  replace h := b2_o h
  obtain ⟨x8, w5, e7, h⟩ := h
  refine h_callV 1 (ci := 20) (As := [.int 0]) (rest := [.ref v0]) (v := (some (.int x8))) (w' := w5) (st1 := [.int x8, .ref v0]) hx hb hml hown hts hK hR hS (Nat.le_refl _) (Nat.le_refl _) rfl e6 (mX13_behind e7) (lw_V q1601 q1603 qs35 q159 q1605) (by decide +kernel) (Nat.le_of_ble_eq_true rfl) (Nat.le_of_ble_eq_true rfl) rfl hl.1 (Nat.le_of_ble_eq_true rfl) dX13_init_17 rfl rfl (fun H locs hR hS => ?_)
  replace h := bo_o h
  obtain ⟨w9, e10, h⟩ := h
  refine h_put (ci := 20) (k := 0) (ty := tyX13 0) hx hb hts hown hK hR hS in_X13 tyX13 tyX13_ok nmX13 rfl (by decide) q2277 (fun _ h9 => h9) rfl (tyX13_ok 0 (by decide)) rfl rfl e10 dX13_init_20 (fun H locs hR hS => ?_)
  have eR := Option.some.inj h
  subst eR
  exact h_vfin hx hb hr hlk hR hS dX13_init_23
theorem mX13_init {l : Launch} {G : gE} {A : Nat → Prop} {v0 : Nat} {v1 : Nat} {v2 : Nat} {w : WH} {r : WH} (h : fX13_init v0 v1 v2 w = some r) : hM l G A yX13_init cX13_init 3 none 14 313 [.ref v0, .ref v1, .ref v2] w none r :=
  h_of (by decide +kernel) (Nat.le_of_ble_eq_true rfl) (fun p e s m args below meth c ls B hnm hR hS hl => bX13_init_0 B hnm h hR hS hl)
noncomputable def fX3_leading (v0 : Nat) (v1 : Nat) (w : WH) : Option ((Option Nat × WH)) :=
  b2_ (hNw w 3 20 [.int 0, .null, .null]) fun a1 w2 =>
  (fX13_init a1 v0 v1 w2).bind fun w4 =>
  some (some a1, w4)
theorem bX3_leading_0 {p : Program} {l : Launch} {e : Env} {s : State} {m : MethodId} {args : Array Value} {below : List Frame} {meth : Method} {c : Code} {H : Heap} {locs : List Loc} {ls : Array Slot} {G : gE} {A : Nat → Prop} {w0 : WH} (B : gB G RX3 cX3_leading 2 (some (.object "java/util/Iterator")) p s m args meth c) {v0 : Nat} {v1 : Nat} {w : WH} {r : (Option Nat × WH)} (h : fX3_leading v0 v1 w = some r)   (hR : RepH G A w H) (hS : Cu A s w0 w H locs) (hl : lv_has ls 2 [(0, .ref v0), (1, .ref v1)]) : W p l e (hRm 15 335 w0) s m args below meth c H locs (wC w0 - wC w) (wS w0 - wS w) (hZ below args s G A w0 (some (va_rf r.1)) r.2) (F0 m 0 ls []) := by
  have B0 := B
  obtain ⟨hx, hb, hml, hown, hts, hr, hlk, hK⟩ := B0
  unfold fX3_leading at h
  replace h := b2_o h
  obtain ⟨a1, w2, e3, h⟩ := h
  refine h_new (ci := 20) (fs := [.int 0, .null, .null]) hx hb hts hown hK hR hS (Nat.le_refl _) (Nat.le_refl _) in_X13 tyX13 tyX13_ok rfl (by decide +kernel) q2272 q1604 q159 e3 dX3_leading_0 (fun H locs hR hS => ?_)
  refine lv_dup hx hb dX3_leading_3 rfl ?_
  refine lv_aload_n hx hb dX3_leading_4 rfl (lv_at hl 0 rfl) ?_
  refine lv_aload_n hx hb dX3_leading_5 rfl (lv_at hl 1 rfl) ?_
  replace h := bo_o h
  obtain ⟨w4, e5, h⟩ := h
  refine h_callI 2  (As := [.ref v0, .ref v1]) (rest := [.ref a1]) (w' := w4) hx hb hml hown hts hK hR hS (Nat.le_refl _) (Nat.le_refl _) (mX13_init e5) (lw_meth q2275) q159 q2273 q2274 rfl (by decide +kernel) (Nat.le_of_ble_eq_true rfl) (Nat.le_of_ble_eq_true rfl) rfl hl.1 (Nat.le_of_ble_eq_true rfl) dX3_leading_6 rfl (fun H locs hR hS => ?_)
  have eR := Option.some.inj h
  subst eR
  exact h_afin (x := some a1) hx hb hr hlk (by first | exact Or.inl ⟨_, rfl⟩ | exact Or.inr ⟨_, rfl⟩) hR hS dX3_leading_9
theorem mX3_leading {l : Launch} {G : gE} {A : Nat → Prop} {v0 : Nat} {v1 : Nat} {w : WH} {r : (Option Nat × WH)} (h : fX3_leading v0 v1 w = some r) : hM l G A yX3_leading cX3_leading 2 (some (.object "java/util/Iterator")) 15 335 [.ref v0, .ref v1] w (some (va_rf r.1)) r.2 :=
  h_of (by decide +kernel) (Nat.le_of_ble_eq_true rfl) (fun p e s m args below meth c ls B hnm hR hS hl => bX3_leading_0 B h hR hS hl)
