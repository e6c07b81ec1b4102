set_option maxRecDepth 100000
noncomputable def fX5_restoreSnapshot (v1 : Int32) (T : TW) : Option ((Int32 × TW)) :=
  b2_ (fX5_in v1 0 1 T) fun x3 T2 =>
  b2_ (fX5_isThrown x3 1 T2) fun x6 T5 =>
  if x6 = 0 then (
    (rd_ (tA T5 5) 2 v1).bind fun x8 =>
    if x8 = 0 then (
      some ((-1), T5)
    ) else (
      (fX5_copies 3 v1 1 0 T5).bind fun T12 =>
      nm_ (tsI T12 5 0) fun T13 =>
      (rd_ (tA T13 1) 172 1).bind fun x15 =>
      some (x15, T13)
    )
  ) else (
    some (0, T5)
  )
theorem bX5_restoreSnapshot_0 {p : Program} {l : Launch} {e : Env} {s : State} {m : MethodId} {args : Array Value} {below : List Frame} {meth : Method} {c : Code} {H : Heap} {locs : List Loc} {ls : Array Slot} {G : gE} {o : Nat} (B : gB G RX5 cX5_restoreSnapshot 2 (some .int) p s m args meth c) {v1 : Int32} {T : TW} {r : (Int32 × TW)} (h : fX5_restoreSnapshot v1 T = some r)   (hR : RepT G o T H) (hS : va_S (tFr o) s.heap H locs) (hl : lv_has ls 2 [(0, .ref o), (1, .int v1)]) : W p l e (gRm 1 24) s m args below meth c H locs 0 0 (twZ below args s G o (some (.int r.1)) r.2) (F0 m 0 ls []) := by
  have B0 := B
  obtain ⟨hx, hb, hml, hown, hts, hr, hlk, hK⟩ := B0
  unfold fX5_restoreSnapshot at h
  refine lv_aload_n hx hb dX5_restoreSnapshot_0 rfl (lv_at hl 0 rfl) ?_
  refine lv_iload_n hx hb dX5_restoreSnapshot_1 rfl (lv_at hl 1 rfl) ?_
  refine lv_iconst (v := 0) hx hb dX5_restoreSnapshot_2 (by decide) ?_
  refine lv_iconst (v := 1) hx hb dX5_restoreSnapshot_3 (by decide) ?_
  replace h := b2_o h
  obtain ⟨x3, T2, e1, h⟩ := h
  refine tw_callS 3 (As := [.int v1, .int 0, .int 1]) (rest := [.ref o]) (v := (some (.int x3))) (T' := T2) (st1 := [.int x3, .ref o]) hx hb hml hown hts hK hR (fun _ h9 => h9) (tw_A2 hR) hS (mX5_in e1) (lw_S q2562 q2563 q137 q2564) (by decide +kernel) (Nat.le_of_ble_eq_true rfl) (Nat.le_of_ble_eq_true rfl) (Nat.zero_le _) (Nat.zero_le _) rfl hl.1 (Nat.le_of_ble_eq_true rfl) dX5_restoreSnapshot_4 rfl rfl (fun H locs hR hS => ?_)
  refine lv_iconst (v := 1) hx hb dX5_restoreSnapshot_7 (by decide) ?_
  replace h := b2_o h
  obtain ⟨x6, T5, e4, h⟩ := h
  refine tw_callV 2 (As := [.int x3, .int 1]) (rest := []) (v := (some (.int x6))) (T' := T5) (st1 := [.int x6]) hx hb hml hown hts hK hR (fun _ h9 => h9) (tw_A2 hR) hS (mX5_isThrown e4) (lw_V q2633 q2635 qs68 q137 q2636) (by decide +kernel) (Nat.le_of_ble_eq_true rfl) (Nat.le_of_ble_eq_true rfl) (Nat.zero_le _) (Nat.zero_le _) rfl hl.1 (Nat.le_of_ble_eq_true rfl) dX5_restoreSnapshot_8 rfl rfl (fun H locs hR hS => ?_)
  refine lv_if_eq (tgt := 16) hx hb dX5_restoreSnapshot_11 (by decide) (fun c7 => ?_) (fun c7 => ?_)
  · replace h := it_o c7 h
    refine lv_aload_n hx hb dX5_restoreSnapshot_16 rfl (lv_at hl 0 rfl) ?_
    refine tw_get (k := 4) (v := .ref (o + 5)) hx hb hts hown hK hR (by decide) q2437 rfl (fun _ h9 => h9) dX5_restoreSnapshot_17 ?_
    refine lv_iload_n hx hb dX5_restoreSnapshot_20 rfl (lv_at hl 1 rfl) ?_
    replace h := bo_o h
    obtain ⟨x8, e9, h⟩ := h
    refine tw_zald (q := 5) hx hb hK hR rfl e9 dX5_restoreSnapshot_21 ?_
    refine lv_if_ne (tgt := 27) hx hb dX5_restoreSnapshot_22 (by decide) (fun c10 => ?_) (fun c10 => ?_)
    · replace h := if_o c10 h
      refine lv_aload_n hx hb dX5_restoreSnapshot_27 rfl (lv_at hl 0 rfl) ?_
      refine tw_get (k := 2) (v := .ref (o + 3)) hx hb hts hown hK hR (by decide) q2435 rfl (fun _ h9 => h9) dX5_restoreSnapshot_28 ?_
      refine lv_iload_n hx hb dX5_restoreSnapshot_31 rfl (lv_at hl 1 rfl) ?_
      refine lv_aload_n hx hb dX5_restoreSnapshot_32 rfl (lv_at hl 0 rfl) ?_
      refine tw_get (k := 0) (v := .ref (o + 1)) hx hb hts hown hK hR (by decide) q2433 rfl (fun _ h9 => h9) dX5_restoreSnapshot_33 ?_
      refine lv_iconst (v := 0) hx hb dX5_restoreSnapshot_36 (by decide) ?_
      replace h := bo_o h
      obtain ⟨T12, e11, h⟩ := h
      refine tw_callS 4 (As := [.ref (o + 3), .int v1, .ref (o + 1), .int 0]) (rest := []) (v := none) (T' := T12) (st1 := []) hx hb hml hown hts hK hR (fun _ h9 => h9) (tw_A2 hR) hS (mX5_copies (v0 := 3) (v2 := 1) (by decide) (by decide) e11) (lw_S q2618 q2619 q137 q2620) (by decide +kernel) (Nat.le_of_ble_eq_true rfl) (Nat.le_of_ble_eq_true rfl) (Nat.zero_le _) (Nat.zero_le _) rfl hl.1 (Nat.le_of_ble_eq_true rfl) dX5_restoreSnapshot_37 rfl rfl (fun H locs hR hS => ?_)
      refine lv_aload_n hx hb dX5_restoreSnapshot_40 rfl (lv_at hl 0 rfl) ?_
      refine lv_iconst (v := 0) hx hb dX5_restoreSnapshot_41 (by decide) ?_
      replace h := nm_o h
      obtain ⟨T13, e14, h⟩ := h
      refine tw_putI (k := 5) (x := 0) (ty := .int) (T' := T13) hx hb hts hown hK hR (fun _ h9 => h9) hS (by decide) rfl e14 q2438 (fun _ h9 => h9) rfl (by decide +kernel) rfl rfl dX5_restoreSnapshot_42 (fun H locs hR hS => ?_)
      refine lv_aload_n hx hb dX5_restoreSnapshot_45 rfl (lv_at hl 0 rfl) ?_
      refine tw_get (k := 0) (v := .ref (o + 1)) hx hb hts hown hK hR (by decide) q2433 rfl (fun _ h9 => h9) dX5_restoreSnapshot_46 ?_
      refine lv_iconst (v := 1) hx hb dX5_restoreSnapshot_49 (by decide) ?_
      replace h := bo_o h
      obtain ⟨x15, e16, h⟩ := h
      refine tw_iald (q := 1) hx hb hK hR rfl e16 dX5_restoreSnapshot_50 ?_
      have eR := Option.some.inj h
      subst eR
      exact W.iret (v := x15) hx hb hr (fun t ht _ => tw_fin hR hS ht) hS.2.2 dX5_restoreSnapshot_51
    · replace h := it_o c10 h
      refine lv_iconst (v := (-1)) hx hb dX5_restoreSnapshot_25 (by decide) ?_
      have eR := Option.some.inj h
      subst eR
      exact W.iret (v := (-1)) hx hb hr (fun t ht _ => tw_fin hR hS ht) hS.2.2 dX5_restoreSnapshot_26
  · replace h := if_o c7 h
    refine lv_iconst (v := 0) hx hb dX5_restoreSnapshot_14 (by decide) ?_
    have eR := Option.some.inj h
    subst eR
    exact W.iret (v := 0) hx hb hr (fun t ht _ => tw_fin hR hS ht) hS.2.2 dX5_restoreSnapshot_15
theorem mX5_restoreSnapshot {l : Launch} {G : gE} {o : Nat} {v1 : Int32} {T : TW} {r : (Int32 × TW)}  (h : fX5_restoreSnapshot v1 T = some r) : twM l G o yX5_restoreSnapshot cX5_restoreSnapshot 2 (some .int) 1 24 [.ref o, .int v1] T (some (.int r.1)) r.2 :=
  tw_of (by decide +kernel) (Nat.le_of_ble_eq_true rfl) (fun p e s m args below meth c ls B hR hl => bX5_restoreSnapshot_0 B h hR va_S.rf hl)

