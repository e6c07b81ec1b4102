set_option maxRecDepth 100000
noncomputable def fX5_swapTolls_b22 (v1 : Int32) (v2 : Int32) (s1 : Int32) (T : TW) : Option ((Int32 × TW)) :=
  b2_ (fX5_isThrown s1 1 T) fun x3 T2 =>
  if x3 = 0 then (
    b2_ (fX5_arc v1 4 T2) fun x7 T6 =>
    b2_ (fX5_arc v2 4 T6) fun x10 T9 =>
    b2_ (fX5_arc v1 3 T9) fun x13 T12 =>
    if x13 < x10 then (
      some (0, T12)
    ) else (
      b2_ (fX5_arc v2 3 T12) fun x17 T16 =>
      if x7 ≤ x17 then (
        (fX5_keeps T16).bind fun T20 =>
        b2_ (fX5_atArc v1 4 T20) fun x23 T22 =>
        (wrA T22 1 172 x23 x10).bind fun T24 =>
        b2_ (fX5_atArc v2 4 T24) fun x28 T27 =>
        (wrA T27 1 172 x28 x7).bind fun T29 =>
        some (1, T29)
      ) else (
        some (0, T16)
      )
    )
  ) else (
    some (0, T2)
  )
theorem bX5_swapTolls_22 {p : Program} {l : Launch} {e : Env} {s : State} {m : MethodId} {args : Array Value} {below : List Frame} {meth : Method} {c : Code} {H : Heap} {locs : List Loc} {ls : Array Slot} {G : gE} {o : Nat} (B : gB G RX5 cX5_swapTolls 5 (some .boolean) p s m args meth c) {v1 : Int32} {v2 : Int32} {s1 : Int32} {T : TW} {r : (Int32 × TW)} (h : fX5_swapTolls_b22 v1 v2 s1 T = some r)   (hR : RepT G o T H) (hS : va_S (tFr o) s.heap H locs) (hl : lv_has ls 5 [(0, .ref o), (1, .int v1), (2, .int v2)]) : W p l e (gRm 2 45) s m args below meth c H locs 0 0 (twZ below args s G o (some (.int r.1)) r.2) (F0 m 22 ls [.int s1, .ref o]) := by
  have B0 := B
  obtain ⟨hx, hb, hml, hown, hts, hr, hlk, hK⟩ := B0
  unfold fX5_swapTolls_b22 at h
  refine lv_iconst (v := 1) hx hb dX5_swapTolls_22 (by decide) ?_
  replace h := b2_o h
  obtain ⟨x3, T2, e1, h⟩ := h
  refine tw_callV 2 (As := [.int s1, .int 1]) (rest := []) (v := (some (.int x3))) (T' := T2) (st1 := [.int x3]) hx hb hml hown hts hK hR (fun _ h9 => h9) (tw_A2 hR) hS (mX5_isThrown e1) (lw_V q2633 q2635 qs68 q137 q2636) (by decide +kernel) (Nat.le_of_ble_eq_true rfl) (Nat.le_of_ble_eq_true rfl) (Nat.zero_le _) (Nat.zero_le _) rfl hl.1 (Nat.le_of_ble_eq_true rfl) dX5_swapTolls_23 rfl rfl (fun H locs hR hS => ?_)
  refine lv_if_eq (tgt := 31) hx hb dX5_swapTolls_26 (by decide) (fun c4 => ?_) (fun c4 => ?_)
  · replace h := it_o c4 h
    refine lv_aload_n hx hb dX5_swapTolls_31 rfl (lv_at hl 0 rfl) ?_
    refine lv_iload_n hx hb dX5_swapTolls_32 rfl (lv_at hl 1 rfl) ?_
    refine lv_iconst (v := 4) hx hb dX5_swapTolls_33 (by decide) ?_
    replace h := b2_o h
    obtain ⟨x7, T6, e5, h⟩ := h
    refine tw_callV 2 (As := [.int v1, .int 4]) (rest := []) (v := (some (.int x7))) (T' := T6) (st1 := [.int x7]) hx hb hml hown hts hK hR (fun _ h9 => h9) (tw_A2 hR) hS (mX5_arc e5) (lw_V q2637 q2639 qs69 q137 q2640) (by decide +kernel) (Nat.le_of_ble_eq_true rfl) (Nat.le_of_ble_eq_true rfl) (Nat.zero_le _) (Nat.zero_le _) rfl hl.1 (Nat.le_of_ble_eq_true rfl) dX5_swapTolls_34 rfl rfl (fun H locs hR hS => ?_)
    refine lv_istore_n (lv' := [(3, .int x7), (0, .ref o), (1, .int v1), (2, .int v2)]) hx hb dX5_swapTolls_37 rfl hl (by decide) rfl (fun ls hl => ?_)
    refine lv_aload_n hx hb dX5_swapTolls_38 rfl (lv_at hl 1 rfl) ?_
    refine lv_iload_n hx hb dX5_swapTolls_39 rfl (lv_at hl 3 rfl) ?_
    refine lv_iconst (v := 4) hx hb dX5_swapTolls_40 (by decide) ?_
    replace h := b2_o h
    obtain ⟨x10, T9, e8, h⟩ := h
    refine tw_callV 2 (As := [.int v2, .int 4]) (rest := []) (v := (some (.int x10))) (T' := T9) (st1 := [.int x10]) hx hb hml hown hts hK hR (fun _ h9 => h9) (tw_A2 hR) hS (mX5_arc e8) (lw_V q2637 q2639 qs69 q137 q2640) (by decide +kernel) (Nat.le_of_ble_eq_true rfl) (Nat.le_of_ble_eq_true rfl) (Nat.zero_le _) (Nat.zero_le _) rfl hl.1 (Nat.le_of_ble_eq_true rfl) dX5_swapTolls_41 rfl rfl (fun H locs hR hS => ?_)
    refine lv_istore (lv' := [(4, .int x10), (3, .int x7), (0, .ref o), (1, .int v1), (2, .int v2)]) hx hb dX5_swapTolls_44 hl (by decide) rfl (fun ls hl => ?_)
    refine lv_iload hx hb dX5_swapTolls_46 (lv_at hl 0 rfl) ?_
    refine lv_aload_n hx hb dX5_swapTolls_48 rfl (lv_at hl 2 rfl) ?_
    refine lv_iload_n hx hb dX5_swapTolls_49 rfl (lv_at hl 3 rfl) ?_
    refine lv_iconst (v := 3) hx hb dX5_swapTolls_50 (by decide) ?_
    replace h := b2_o h
    obtain ⟨x13, T12, e11, h⟩ := h
    refine tw_callV 2 (As := [.int v1, .int 3]) (rest := [.int x10]) (v := (some (.int x13))) (T' := T12) (st1 := [.int x13, .int x10]) hx hb hml hown hts hK hR (fun _ h9 => h9) (tw_A2 hR) hS (mX5_arc e11) (lw_V q2637 q2639 qs69 q137 q2640) (by decide +kernel) (Nat.le_of_ble_eq_true rfl) (Nat.le_of_ble_eq_true rfl) (Nat.zero_le _) (Nat.zero_le _) rfl hl.1 (Nat.le_of_ble_eq_true rfl) dX5_swapTolls_51 rfl rfl (fun H locs hR hS => ?_)
    refine lv_icmp_gt (tgt := 67) hx hb dX5_swapTolls_54 (by decide) (fun c14 => ?_) (fun c14 => ?_)
    · replace h := it_o c14 h
      refine lv_iconst (v := 0) hx hb dX5_swapTolls_67 (by decide) ?_
      have eR := Option.some.inj h
      subst eR
      exact W.zret (v := 0) hx hb hr rfl (fun t ht _ => tw_fin hR hS ht) hS.2.2 dX5_swapTolls_68
    · replace h := if_o c14 h
      refine lv_iload_n hx hb dX5_swapTolls_57 rfl (lv_at hl 1 rfl) ?_
      refine lv_aload_n hx hb dX5_swapTolls_58 rfl (lv_at hl 2 rfl) ?_
      refine lv_iload_n hx hb dX5_swapTolls_59 rfl (lv_at hl 4 rfl) ?_
      refine lv_iconst (v := 3) hx hb dX5_swapTolls_60 (by decide) ?_
      replace h := b2_o h
      obtain ⟨x17, T16, e15, h⟩ := h
      refine tw_callV 2 (As := [.int v2, .int 3]) (rest := [.int x7]) (v := (some (.int x17))) (T' := T16) (st1 := [.int x17, .int x7]) hx hb hml hown hts hK hR (fun _ h9 => h9) (tw_A2 hR) hS (mX5_arc e15) (lw_V q2637 q2639 qs69 q137 q2640) (by decide +kernel) (Nat.le_of_ble_eq_true rfl) (Nat.le_of_ble_eq_true rfl) (Nat.zero_le _) (Nat.zero_le _) rfl hl.1 (Nat.le_of_ble_eq_true rfl) dX5_swapTolls_61 rfl rfl (fun H locs hR hS => ?_)
      refine lv_icmp_le (tgt := 69) hx hb dX5_swapTolls_64 (by decide) (fun c18 => ?_) (fun c18 => ?_)
      · replace h := it_o c18 h
        refine lv_aload_n hx hb dX5_swapTolls_69 rfl (lv_at hl 2 rfl) ?_
        replace h := bo_o h
        obtain ⟨T20, e19, h⟩ := h
        refine tw_callV 0 (As := []) (rest := []) (v := none) (T' := T20) (st1 := []) hx hb hml hown hts hK hR (fun _ h9 => h9) (tw_A2 hR) hS (mX5_keeps e19) (lw_V q2669 q2671 qs74 q137 q2672) (by decide +kernel) (Nat.le_of_ble_eq_true rfl) (Nat.le_of_ble_eq_true rfl) (Nat.zero_le _) (Nat.zero_le _) rfl hl.1 (Nat.le_of_ble_eq_true rfl) dX5_swapTolls_70 rfl rfl (fun H locs hR hS => ?_)
        refine lv_aload_n hx hb dX5_swapTolls_73 rfl (lv_at hl 2 rfl) ?_
        refine tw_get (k := 0) (v := .ref (o + 1)) hx hb hts hown hK hR (by decide) q2433 rfl (fun _ h9 => h9) dX5_swapTolls_74 ?_
        refine lv_iload_n hx hb dX5_swapTolls_77 rfl (lv_at hl 3 rfl) ?_
        refine lv_iconst (v := 4) hx hb dX5_swapTolls_78 (by decide) ?_
        replace h := b2_o h
        obtain ⟨x23, T22, e21, h⟩ := h
        refine tw_callS 2 (As := [.int v1, .int 4]) (rest := [.ref (o + 1)]) (v := (some (.int x23))) (T' := T22) (st1 := [.int x23, .ref (o + 1)]) hx hb hml hown hts hK hR (fun _ h9 => h9) (tw_A2 hR) hS (mX5_atArc e21) (lw_S q2605 q2606 q137 q2607) (by decide +kernel) (Nat.le_of_ble_eq_true rfl) (Nat.le_of_ble_eq_true rfl) (Nat.zero_le _) (Nat.zero_le _) rfl hl.1 (Nat.le_of_ble_eq_true rfl) dX5_swapTolls_79 rfl rfl (fun H locs hR hS => ?_)
        refine lv_iload hx hb dX5_swapTolls_82 (lv_at hl 0 rfl) ?_
        replace h := bo_o h
        obtain ⟨T24, e25, h⟩ := h
        refine tw_iast (q := 1) hx hb hK hR (fun _ h9 => h9) hS rfl (fun _ => rfl) e25 dX5_swapTolls_84 (fun H locs hR hS => ?_)
        refine lv_aload_n hx hb dX5_swapTolls_85 rfl (lv_at hl 2 rfl) ?_
        refine tw_get (k := 0) (v := .ref (o + 1)) hx hb hts hown hK hR (by decide) q2433 rfl (fun _ h9 => h9) dX5_swapTolls_86 ?_
        refine lv_iload_n hx hb dX5_swapTolls_89 rfl (lv_at hl 4 rfl) ?_
        refine lv_iconst (v := 4) hx hb dX5_swapTolls_90 (by decide) ?_
        replace h := b2_o h
        obtain ⟨x28, T27, e26, h⟩ := h
        refine tw_callS 2 (As := [.int v2, .int 4]) (rest := [.ref (o + 1)]) (v := (some (.int x28))) (T' := T27) (st1 := [.int x28, .ref (o + 1)]) hx hb hml hown hts hK hR (fun _ h9 => h9) (tw_A2 hR) hS (mX5_atArc e26) (lw_S q2605 q2606 q137 q2607) (by decide +kernel) (Nat.le_of_ble_eq_true rfl) (Nat.le_of_ble_eq_true rfl) (Nat.zero_le _) (Nat.zero_le _) rfl hl.1 (Nat.le_of_ble_eq_true rfl) dX5_swapTolls_91 rfl rfl (fun H locs hR hS => ?_)
        refine lv_iload_n hx hb dX5_swapTolls_94 rfl (lv_at hl 1 rfl) ?_
        replace h := bo_o h
        obtain ⟨T29, e30, h⟩ := h
        refine tw_iast (q := 1) hx hb hK hR (fun _ h9 => h9) hS rfl (fun _ => rfl) e30 dX5_swapTolls_95 (fun H locs hR hS => ?_)
        refine lv_iconst (v := 1) hx hb dX5_swapTolls_96 (by decide) ?_
        have eR := Option.some.inj h
        subst eR
        exact W.zret (v := 1) hx hb hr rfl (fun t ht _ => tw_fin hR hS ht) hS.2.2 dX5_swapTolls_97
      · replace h := if_o c18 h
        refine lv_iconst (v := 0) hx hb dX5_swapTolls_67 (by decide) ?_
        have eR := Option.some.inj h
        subst eR
        exact W.zret (v := 0) hx hb hr rfl (fun t ht _ => tw_fin hR hS ht) hS.2.2 dX5_swapTolls_68
  · replace h := if_o c4 h
    refine lv_iconst (v := 0) hx hb dX5_swapTolls_29 (by decide) ?_
    have eR := Option.some.inj h
    subst eR
    exact W.zret (v := 0) hx hb hr rfl (fun t ht _ => tw_fin hR hS ht) hS.2.2 dX5_swapTolls_30
noncomputable def fX5_swapTolls_b21 (v1 : Int32) (v2 : Int32) (T : TW) : Option ((Int32 × TW)) :=
  fX5_swapTolls_b22 v1 v2 0 T
theorem bX5_swapTolls_21 {p : Program} {l : Launch} {e : Env} {s : State} {m : MethodId} {args : Array Value} {below : List Frame} {meth : Method} {c : Code} {H : Heap} {locs : List Loc} {ls : Array Slot} {G : gE} {o : Nat} (B : gB G RX5 cX5_swapTolls 5 (some .boolean) p s m args meth c) {v1 : Int32} {v2 : Int32} {T : TW} {r : (Int32 × TW)} (h : fX5_swapTolls_b21 v1 v2 T = some r)   (hR : RepT G o T H) (hS : va_S (tFr o) s.heap H locs) (hl : lv_has ls 5 [(0, .ref o), (1, .int v1), (2, .int v2)]) : W p l e (gRm 2 45) s m args below meth c H locs 0 0 (twZ below args s G o (some (.int r.1)) r.2) (F0 m 21 ls [.ref o]) := by
  have B0 := B
  obtain ⟨hx, hb, hml, hown, hts, hr, hlk, hK⟩ := B0
  unfold fX5_swapTolls_b21 at h
  refine lv_iconst (v := 0) hx hb dX5_swapTolls_21 (by decide) ?_
  exact bX5_swapTolls_22 B h  hR hS (lv_sub hl [0, 1, 2] rfl)
noncomputable def fX5_swapTolls (v1 : Int32) (v2 : Int32) (T : TW) : Option ((Int32 × TW)) :=
  b2_ (fX5_isArc v1 T) fun x3 T2 =>
  if x3 = 0 then (
    fX5_swapTolls_b21 v1 v2 T2
  ) else (
    b2_ (fX5_isArc v2 T2) fun x7 T6 =>
    if x7 = 0 then (
      fX5_swapTolls_b21 v1 v2 T6
    ) else (
      fX5_swapTolls_b22 v1 v2 1 T6
    )
  )
theorem bX5_swapTolls_0 {p : Program} {l : Launch} {e : Env} {s : State} {m : MethodId} {args : Array Value} {below : List Frame} {meth : Method} {c : Code} {H : Heap} {locs : List Loc} {ls : Array Slot} {G : gE} {o : Nat} (B : gB G RX5 cX5_swapTolls 5 (some .boolean) p s m args meth c) {v1 : Int32} {v2 : Int32} {T : TW} {r : (Int32 × TW)} (h : fX5_swapTolls v1 v2 T = some r)   (hR : RepT G o T H) (hS : va_S (tFr o) s.heap H locs) (hl : lv_has ls 5 [(0, .ref o), (1, .int v1), (2, .int v2)]) : W p l e (gRm 2 45) s m args below meth c H locs 0 0 (twZ below args s G o (some (.int r.1)) r.2) (F0 m 0 ls []) := by
  have B0 := B
  obtain ⟨hx, hb, hml, hown, hts, hr, hlk, hK⟩ := B0
  unfold fX5_swapTolls at h
  refine lv_aload_n hx hb dX5_swapTolls_0 rfl (lv_at hl 0 rfl) ?_
  refine lv_aload_n hx hb dX5_swapTolls_1 rfl (lv_at hl 0 rfl) ?_
  refine lv_iload_n hx hb dX5_swapTolls_2 rfl (lv_at hl 1 rfl) ?_
  replace h := b2_o h
  obtain ⟨x3, T2, e1, h⟩ := h
  refine tw_callV 1 (As := [.int v1]) (rest := [.ref o]) (v := (some (.int x3))) (T' := T2) (st1 := [.int x3, .ref o]) hx hb hml hown hts hK hR (fun _ h9 => h9) (tw_A2 hR) hS (mX5_isArc e1) (lw_V q2645 q2647 qs70 q137 q2648) (by decide +kernel) (Nat.le_of_ble_eq_true rfl) (Nat.le_of_ble_eq_true rfl) (Nat.zero_le _) (Nat.zero_le _) rfl hl.1 (Nat.le_of_ble_eq_true rfl) dX5_swapTolls_3 rfl rfl (fun H locs hR hS => ?_)
  refine lv_if_eq (tgt := 21) hx hb dX5_swapTolls_6 (by decide) (fun c4 => ?_) (fun c4 => ?_)
  · replace h := it_o c4 h
    exact bX5_swapTolls_21 B h  hR hS (lv_sub hl [0, 1, 2] rfl)
  · replace h := if_o c4 h
    refine lv_aload_n hx hb dX5_swapTolls_9 rfl (lv_at hl 0 rfl) ?_
    refine lv_iload_n hx hb dX5_swapTolls_10 rfl (lv_at hl 2 rfl) ?_
    replace h := b2_o h
    obtain ⟨x7, T6, e5, h⟩ := h
    refine tw_callV 1 (As := [.int v2]) (rest := [.ref o]) (v := (some (.int x7))) (T' := T6) (st1 := [.int x7, .ref o]) hx hb hml hown hts hK hR (fun _ h9 => h9) (tw_A2 hR) hS (mX5_isArc e5) (lw_V q2645 q2647 qs70 q137 q2648) (by decide +kernel) (Nat.le_of_ble_eq_true rfl) (Nat.le_of_ble_eq_true rfl) (Nat.zero_le _) (Nat.zero_le _) rfl hl.1 (Nat.le_of_ble_eq_true rfl) dX5_swapTolls_11 rfl rfl (fun H locs hR hS => ?_)
    refine lv_if_eq (tgt := 21) hx hb dX5_swapTolls_14 (by decide) (fun c8 => ?_) (fun c8 => ?_)
    · replace h := it_o c8 h
      exact bX5_swapTolls_21 B h  hR hS (lv_sub hl [0, 1, 2] rfl)
    · replace h := if_o c8 h
      refine lv_iconst (v := 1) hx hb dX5_swapTolls_17 (by decide) ?_
      refine lv_goto (tgt := 22) hx hb dX5_swapTolls_18 (by decide) ?_
      exact bX5_swapTolls_22 B h  hR hS (lv_sub hl [0, 1, 2] rfl)
theorem mX5_swapTolls {l : Launch} {G : gE} {o : Nat} {v1 : Int32} {v2 : Int32} {T : TW} {r : (Int32 × TW)}  (h : fX5_swapTolls v1 v2 T = some r) : twM l G o yX5_swapTolls cX5_swapTolls 5 (some .boolean) 2 45 [.ref o, .int v1, .int v2] T (some (.int r.1)) r.2 :=
  tw_of (by decide +kernel) (Nat.le_of_ble_eq_true rfl) (fun p e s m args below meth c ls B hR hl => bX5_swapTolls_0 B h hR va_S.rf hl)
noncomputable def fX5_setDemand (v1 : Int32) (v2 : Int32) (T : TW) : Option ((Int32 × TW)) :=
  b2_ (fX5_isTrip v1 T) fun x3 T2 =>
  b2_ (fX5_isThrown x3 1 T2) fun x6 T5 =>
  if x6 = 0 then (
    b2_ (fX5_in v2 0 999 T5) fun x10 T9 =>
    b2_ (fX5_isThrown x10 2 T9) fun x13 T12 =>
    if x13 = 0 then (
      b2_ (fX5_sets ((148 + (4 * v1)) + 2) v2 T12) fun x17 T16 =>
      some (x17, T16)
    ) else (
      some (0, T12)
    )
  ) else (
    some (0, T5)
  )
theorem bX5_setDemand_0 {p : Program} {l : Launch} {e : Env} {s : State} {m : MethodId} {args : Array Value} {below : List Frame} {meth : Method} {c : Code} {H : Heap} {locs : List Loc} {ls : Array Slot} {G : gE} {o : Nat} (B : gB G RX5 cX5_setDemand 3 (some .int) p s m args meth c) {v1 : Int32} {v2 : Int32} {T : TW} {r : (Int32 × TW)} (h : fX5_setDemand v1 v2 T = some r)   (hR : RepT G o T H) (hS : va_S (tFr o) s.heap H locs) (hl : lv_has ls 3 [(0, .ref o), (1, .int v1), (2, .int v2)]) : W p l e (gRm 3 68) s m args below meth c H locs 0 0 (twZ below args s G o (some (.int r.1)) r.2) (F0 m 0 ls []) := by
  have B0 := B
  obtain ⟨hx, hb, hml, hown, hts, hr, hlk, hK⟩ := B0
  unfold fX5_setDemand at h
  refine lv_aload_n hx hb dX5_setDemand_0 rfl (lv_at hl 0 rfl) ?_
  refine lv_aload_n hx hb dX5_setDemand_1 rfl (lv_at hl 0 rfl) ?_
  refine lv_iload_n hx hb dX5_setDemand_2 rfl (lv_at hl 1 rfl) ?_
  replace h := b2_o h
  obtain ⟨x3, T2, e1, h⟩ := h
  refine tw_callV 1 (As := [.int v1]) (rest := [.ref o]) (v := (some (.int x3))) (T' := T2) (st1 := [.int x3, .ref o]) hx hb hml hown hts hK hR (fun _ h9 => h9) (tw_A2 hR) hS (mX5_isTrip e1) (lw_V q2653 q2655 qs71 q137 q2656) (by decide +kernel) (Nat.le_of_ble_eq_true rfl) (Nat.le_of_ble_eq_true rfl) (Nat.zero_le _) (Nat.zero_le _) rfl hl.1 (Nat.le_of_ble_eq_true rfl) dX5_setDemand_3 rfl rfl (fun H locs hR hS => ?_)
  refine lv_iconst (v := 1) hx hb dX5_setDemand_6 (by decide) ?_
  replace h := b2_o h
  obtain ⟨x6, T5, e4, h⟩ := h
  refine tw_callV 2 (As := [.int x3, .int 1]) (rest := []) (v := (some (.int x6))) (T' := T5) (st1 := [.int x6]) hx hb hml hown hts hK hR (fun _ h9 => h9) (tw_A2 hR) hS (mX5_isThrown e4) (lw_V q2633 q2635 qs68 q137 q2636) (by decide +kernel) (Nat.le_of_ble_eq_true rfl) (Nat.le_of_ble_eq_true rfl) (Nat.zero_le _) (Nat.zero_le _) rfl hl.1 (Nat.le_of_ble_eq_true rfl) dX5_setDemand_7 rfl rfl (fun H locs hR hS => ?_)
  refine lv_if_ne (tgt := 29) hx hb dX5_setDemand_10 (by decide) (fun c7 => ?_) (fun c7 => ?_)
  · replace h := if_o c7 h
    refine lv_iconst (v := 0) hx hb dX5_setDemand_29 (by decide) ?_
    have eR := Option.some.inj h
    subst eR
    exact W.iret (v := 0) hx hb hr (fun t ht _ => tw_fin hR hS ht) hS.2.2 dX5_setDemand_30
  · replace h := it_o c7 h
    refine lv_aload_n hx hb dX5_setDemand_13 rfl (lv_at hl 0 rfl) ?_
    refine lv_iload_n hx hb dX5_setDemand_14 rfl (lv_at hl 2 rfl) ?_
    refine lv_iconst (v := 0) hx hb dX5_setDemand_15 (by decide) ?_
    refine lv_sipush (v := 999) hx hb dX5_setDemand_16 (by decide) ?_
    replace h := b2_o h
    obtain ⟨x10, T9, e8, h⟩ := h
    refine tw_callS 3 (As := [.int v2, .int 0, .int 999]) (rest := [.ref o]) (v := (some (.int x10))) (T' := T9) (st1 := [.int x10, .ref o]) hx hb hml hown hts hK hR (fun _ h9 => h9) (tw_A2 hR) hS (mX5_in e8) (lw_S q2562 q2563 q137 q2564) (by decide +kernel) (Nat.le_of_ble_eq_true rfl) (Nat.le_of_ble_eq_true rfl) (Nat.zero_le _) (Nat.zero_le _) rfl hl.1 (Nat.le_of_ble_eq_true rfl) dX5_setDemand_19 rfl rfl (fun H locs hR hS => ?_)
    refine lv_iconst (v := 2) hx hb dX5_setDemand_22 (by decide) ?_
    replace h := b2_o h
    obtain ⟨x13, T12, e11, h⟩ := h
    refine tw_callV 2 (As := [.int x10, .int 2]) (rest := []) (v := (some (.int x13))) (T' := T12) (st1 := [.int x13]) hx hb hml hown hts hK hR (fun _ h9 => h9) (tw_A2 hR) hS (mX5_isThrown e11) (lw_V q2633 q2635 qs68 q137 q2636) (by decide +kernel) (Nat.le_of_ble_eq_true rfl) (Nat.le_of_ble_eq_true rfl) (Nat.zero_le _) (Nat.zero_le _) rfl hl.1 (Nat.le_of_ble_eq_true rfl) dX5_setDemand_23 rfl rfl (fun H locs hR hS => ?_)
    refine lv_if_eq (tgt := 31) hx hb dX5_setDemand_26 (by decide) (fun c14 => ?_) (fun c14 => ?_)
    · replace h := it_o c14 h
      refine lv_aload_n hx hb dX5_setDemand_31 rfl (lv_at hl 0 rfl) ?_
      refine lv_sipush (v := 148) hx hb dX5_setDemand_32 (by decide) ?_
      refine lv_iconst (v := 4) hx hb dX5_setDemand_35 (by decide) ?_
      refine lv_iload_n hx hb dX5_setDemand_36 rfl (lv_at hl 1 rfl) ?_
      refine lv_imul hx hb dX5_setDemand_37 ?_
      refine lv_iadd hx hb dX5_setDemand_38 ?_
      refine lv_iconst (v := 2) hx hb dX5_setDemand_39 (by decide) ?_
      refine lv_iadd hx hb dX5_setDemand_40 ?_
      refine lv_iload_n hx hb dX5_setDemand_41 rfl (lv_at hl 2 rfl) ?_
      replace h := b2_o h
      obtain ⟨x17, T16, e15, h⟩ := h
      refine tw_callV 2 (As := [.int ((148 + (4 * v1)) + 2), .int v2]) (rest := []) (v := (some (.int x17))) (T' := T16) (st1 := [.int x17]) hx hb hml hown hts hK hR (fun _ h9 => h9) (tw_A2 hR) hS (mX5_sets e15) (lw_V q2665 q2667 qs73 q137 q2668) (by decide +kernel) (Nat.le_of_ble_eq_true rfl) (Nat.le_of_ble_eq_true rfl) (Nat.zero_le _) (Nat.zero_le _) rfl hl.1 (Nat.le_of_ble_eq_true rfl) dX5_setDemand_42 rfl rfl (fun H locs hR hS => ?_)
      have eR := Option.some.inj h
      subst eR
      exact W.iret (v := x17) hx hb hr (fun t ht _ => tw_fin hR hS ht) hS.2.2 dX5_setDemand_45
    · replace h := if_o c14 h
      refine lv_iconst (v := 0) hx hb dX5_setDemand_29 (by decide) ?_
      have eR := Option.some.inj h
      subst eR
      exact W.iret (v := 0) hx hb hr (fun t ht _ => tw_fin hR hS ht) hS.2.2 dX5_setDemand_30
theorem mX5_setDemand {l : Launch} {G : gE} {o : Nat} {v1 : Int32} {v2 : Int32} {T : TW} {r : (Int32 × TW)}  (h : fX5_setDemand v1 v2 T = some r) : twM l G o yX5_setDemand cX5_setDemand 3 (some .int) 3 68 [.ref o, .int v1, .int v2] T (some (.int r.1)) r.2 :=
  tw_of (by decide +kernel) (Nat.le_of_ble_eq_true rfl) (fun p e s m args below meth c ls B hR hl => bX5_setDemand_0 B h hR va_S.rf hl)
noncomputable def fX5_close_b28 (s1 : Int32) (s2 : Int32) (T : TW) : Option ((Int32 × TW)) :=
  b2_ (fX5_sets s1 s2 T) fun x3 T2 =>
  if x3 = 1 then (
    some (1, T2)
  ) else (
    some (0, T2)
  )
theorem bX5_close_28 {p : Program} {l : Launch} {e : Env} {s : State} {m : MethodId} {args : Array Value} {below : List Frame} {meth : Method} {c : Code} {H : Heap} {locs : List Loc} {ls : Array Slot} {G : gE} {o : Nat} (B : gB G RX5 cX5_close 3 (some .boolean) p s m args meth c) {s1 : Int32} {s2 : Int32} {T : TW} {r : (Int32 × TW)} (h : fX5_close_b28 s1 s2 T = some r)   (hR : RepT G o T H) (hS : va_S (tFr o) s.heap H locs) (hl : lv_has ls 3 []) : W p l e (gRm 3 68) s m args below meth c H locs 0 0 (twZ below args s G o (some (.int r.1)) r.2) (F0 m 28 ls [.int s2, .int s1, .ref o]) := by
  have B0 := B
  obtain ⟨hx, hb, hml, hown, hts, hr, hlk, hK⟩ := B0
  unfold fX5_close_b28 at h
  replace h := b2_o h
  obtain ⟨x3, T2, e1, h⟩ := h
  refine tw_callV 2 (As := [.int s1, .int s2]) (rest := []) (v := (some (.int x3))) (T' := T2) (st1 := [.int x3]) hx hb hml hown hts hK hR (fun _ h9 => h9) (tw_A2 hR) hS (mX5_sets e1) (lw_V q2665 q2667 qs73 q137 q2668) (by decide +kernel) (Nat.le_of_ble_eq_true rfl) (Nat.le_of_ble_eq_true rfl) (Nat.zero_le _) (Nat.zero_le _) rfl hl.1 (Nat.le_of_ble_eq_true rfl) dX5_close_28 rfl rfl (fun H locs hR hS => ?_)
  refine lv_iconst (v := 1) hx hb dX5_close_31 (by decide) ?_
  refine lv_icmp_ne (tgt := 39) hx hb dX5_close_32 (by decide) (fun c4 => ?_) (fun c4 => ?_)
  · replace h := if_o c4 h
    refine lv_iconst (v := 0) hx hb dX5_close_39 (by decide) ?_
    have eR := Option.some.inj h
    subst eR
    exact W.zret (v := 0) hx hb hr rfl (fun t ht _ => tw_fin hR hS ht) hS.2.2 dX5_close_40
  · replace h := it_o c4 h
    refine lv_iconst (v := 1) hx hb dX5_close_35 (by decide) ?_
    refine lv_goto (tgt := 40) hx hb dX5_close_36 (by decide) ?_
    have eR := Option.some.inj h
    subst eR
    exact W.zret (v := 1) hx hb hr rfl (fun t ht _ => tw_fin hR hS ht) hS.2.2 dX5_close_40
noncomputable def fX5_close (v1 : Int32) (v2 : Int32) (T : TW) : Option ((Int32 × TW)) :=
  b2_ (fX5_isArc v1 T) fun x3 T2 =>
  b2_ (fX5_isThrown x3 1 T2) fun x6 T5 =>
  if x6 = 0 then (
    b2_ (fX5_atArc v1 5 T5) fun x10 T9 =>
    if v2 = 0 then (
      fX5_close_b28 x10 0 T9
    ) else (
      fX5_close_b28 x10 1 T9
    )
  ) else (
    some (0, T5)
  )
theorem bX5_close_0 {p : Program} {l : Launch} {e : Env} {s : State} {m : MethodId} {args : Array Value} {below : List Frame} {meth : Method} {c : Code} {H : Heap} {locs : List Loc} {ls : Array Slot} {G : gE} {o : Nat} (B : gB G RX5 cX5_close 3 (some .boolean) p s m args meth c) {v1 : Int32} {v2 : Int32} {T : TW} {r : (Int32 × TW)} (h : fX5_close v1 v2 T = some r)   (hR : RepT G o T H) (hS : va_S (tFr o) s.heap H locs) (hl : lv_has ls 3 [(0, .ref o), (1, .int v1), (2, .int v2)]) : W p l e (gRm 3 68) s m args below meth c H locs 0 0 (twZ below args s G o (some (.int r.1)) r.2) (F0 m 0 ls []) := by
  have B0 := B
  obtain ⟨hx, hb, hml, hown, hts, hr, hlk, hK⟩ := B0
  unfold fX5_close at h
  refine lv_aload_n hx hb dX5_close_0 rfl (lv_at hl 0 rfl) ?_
  refine lv_aload_n hx hb dX5_close_1 rfl (lv_at hl 0 rfl) ?_
  refine lv_iload_n hx hb dX5_close_2 rfl (lv_at hl 1 rfl) ?_
  replace h := b2_o h
  obtain ⟨x3, T2, e1, h⟩ := h
  refine tw_callV 1 (As := [.int v1]) (rest := [.ref o]) (v := (some (.int x3))) (T' := T2) (st1 := [.int x3, .ref o]) hx hb hml hown hts hK hR (fun _ h9 => h9) (tw_A2 hR) hS (mX5_isArc e1) (lw_V q2645 q2647 qs70 q137 q2648) (by decide +kernel) (Nat.le_of_ble_eq_true rfl) (Nat.le_of_ble_eq_true rfl) (Nat.zero_le _) (Nat.zero_le _) rfl hl.1 (Nat.le_of_ble_eq_true rfl) dX5_close_3 rfl rfl (fun H locs hR hS => ?_)
  refine lv_iconst (v := 1) hx hb dX5_close_6 (by decide) ?_
  replace h := b2_o h
  obtain ⟨x6, T5, e4, h⟩ := h
  refine tw_callV 2 (As := [.int x3, .int 1]) (rest := []) (v := (some (.int x6))) (T' := T5) (st1 := [.int x6]) hx hb hml hown hts hK hR (fun _ h9 => h9) (tw_A2 hR) hS (mX5_isThrown e4) (lw_V q2633 q2635 qs68 q137 q2636) (by decide +kernel) (Nat.le_of_ble_eq_true rfl) (Nat.le_of_ble_eq_true rfl) (Nat.zero_le _) (Nat.zero_le _) rfl hl.1 (Nat.le_of_ble_eq_true rfl) dX5_close_7 rfl rfl (fun H locs hR hS => ?_)
  refine lv_if_ne (tgt := 39) hx hb dX5_close_10 (by decide) (fun c7 => ?_) (fun c7 => ?_)
  · replace h := if_o c7 h
    refine lv_iconst (v := 0) hx hb dX5_close_39 (by decide) ?_
    have eR := Option.some.inj h
    subst eR
    exact W.zret (v := 0) hx hb hr rfl (fun t ht _ => tw_fin hR hS ht) hS.2.2 dX5_close_40
  · replace h := it_o c7 h
    refine lv_aload_n hx hb dX5_close_13 rfl (lv_at hl 0 rfl) ?_
    refine lv_iload_n hx hb dX5_close_14 rfl (lv_at hl 1 rfl) ?_
    refine lv_iconst (v := 5) hx hb dX5_close_15 (by decide) ?_
    replace h := b2_o h
    obtain ⟨x10, T9, e8, h⟩ := h
    refine tw_callS 2 (As := [.int v1, .int 5]) (rest := [.ref o]) (v := (some (.int x10))) (T' := T9) (st1 := [.int x10, .ref o]) hx hb hml hown hts hK hR (fun _ h9 => h9) (tw_A2 hR) hS (mX5_atArc e8) (lw_S q2605 q2606 q137 q2607) (by decide +kernel) (Nat.le_of_ble_eq_true rfl) (Nat.le_of_ble_eq_true rfl) (Nat.zero_le _) (Nat.zero_le _) rfl hl.1 (Nat.le_of_ble_eq_true rfl) dX5_close_16 rfl rfl (fun H locs hR hS => ?_)
    refine lv_iload_n hx hb dX5_close_19 rfl (lv_at hl 2 rfl) ?_
    refine lv_if_eq (tgt := 27) hx hb dX5_close_20 (by decide) (fun c11 => ?_) (fun c11 => ?_)
    · replace h := it_o c11 h
      refine lv_iconst (v := 0) hx hb dX5_close_27 (by decide) ?_
      exact bX5_close_28 B h  hR hS (lv_sub hl [] rfl)
    · replace h := if_o c11 h
      refine lv_iconst (v := 1) hx hb dX5_close_23 (by decide) ?_
      refine lv_goto (tgt := 28) hx hb dX5_close_24 (by decide) ?_
      exact bX5_close_28 B h  hR hS (lv_sub hl [] rfl)
theorem mX5_close {l : Launch} {G : gE} {o : Nat} {v1 : Int32} {v2 : Int32} {T : TW} {r : (Int32 × TW)}  (h : fX5_close v1 v2 T = some r) : twM l G o yX5_close cX5_close 3 (some .boolean) 3 68 [.ref o, .int v1, .int v2] T (some (.int r.1)) r.2 :=
  tw_of (by decide +kernel) (Nat.le_of_ble_eq_true rfl) (fun p e s m args below meth c ls B hR hl => bX5_close_0 B h hR va_S.rf hl)
noncomputable def fX5_setTies_b16 (s1 : Int32) (s2 : Int32) (T : TW) : Option ((Int32 × TW)) :=
  b2_ (fX5_sets s1 s2 T) fun x3 T2 =>
  if x3 = 1 then (
    some (1, T2)
  ) else (
    some (0, T2)
  )
theorem bX5_setTies_16 {p : Program} {l : Launch} {e : Env} {s : State} {m : MethodId} {args : Array Value} {below : List Frame} {meth : Method} {c : Code} {H : Heap} {locs : List Loc} {ls : Array Slot} {G : gE} {o : Nat} (B : gB G RX5 cX5_setTies 2 (some .boolean) p s m args meth c) {s1 : Int32} {s2 : Int32} {T : TW} {r : (Int32 × TW)} (h : fX5_setTies_b16 s1 s2 T = some r)   (hR : RepT G o T H) (hS : va_S (tFr o) s.heap H locs) (hl : lv_has ls 2 []) : W p l e (gRm 3 68) s m args below meth c H locs 0 0 (twZ below args s G o (some (.int r.1)) r.2) (F0 m 16 ls [.int s2, .int s1, .ref o]) := by
  have B0 := B
  obtain ⟨hx, hb, hml, hown, hts, hr, hlk, hK⟩ := B0
  unfold fX5_setTies_b16 at h
  replace h := b2_o h
  obtain ⟨x3, T2, e1, h⟩ := h
  refine tw_callV 2 (As := [.int s1, .int s2]) (rest := []) (v := (some (.int x3))) (T' := T2) (st1 := [.int x3]) hx hb hml hown hts hK hR (fun _ h9 => h9) (tw_A2 hR) hS (mX5_sets e1) (lw_V q2665 q2667 qs73 q137 q2668) (by decide +kernel) (Nat.le_of_ble_eq_true rfl) (Nat.le_of_ble_eq_true rfl) (Nat.zero_le _) (Nat.zero_le _) rfl hl.1 (Nat.le_of_ble_eq_true rfl) dX5_setTies_16 rfl rfl (fun H locs hR hS => ?_)
  refine lv_iconst (v := 1) hx hb dX5_setTies_19 (by decide) ?_
  refine lv_icmp_ne (tgt := 27) hx hb dX5_setTies_20 (by decide) (fun c4 => ?_) (fun c4 => ?_)
  · replace h := if_o c4 h
    refine lv_iconst (v := 0) hx hb dX5_setTies_27 (by decide) ?_
    have eR := Option.some.inj h
    subst eR
    exact W.zret (v := 0) hx hb hr rfl (fun t ht _ => tw_fin hR hS ht) hS.2.2 dX5_setTies_28
  · replace h := it_o c4 h
    refine lv_iconst (v := 1) hx hb dX5_setTies_23 (by decide) ?_
    refine lv_goto (tgt := 28) hx hb dX5_setTies_24 (by decide) ?_
    have eR := Option.some.inj h
    subst eR
    exact W.zret (v := 1) hx hb hr rfl (fun t ht _ => tw_fin hR hS ht) hS.2.2 dX5_setTies_28
noncomputable def fX5_setTies (v1 : Int32) (T : TW) : Option ((Int32 × TW)) :=
  nm_ (tsI T 6 0) fun T1 =>
  if v1 = 0 then (
    fX5_setTies_b16 3 0 T1
  ) else (
    fX5_setTies_b16 3 1 T1
  )
theorem bX5_setTies_0 {p : Program} {l : Launch} {e : Env} {s : State} {m : MethodId} {args : Array Value} {below : List Frame} {meth : Method} {c : Code} {H : Heap} {locs : List Loc} {ls : Array Slot} {G : gE} {o : Nat} (B : gB G RX5 cX5_setTies 2 (some .boolean) p s m args meth c) {v1 : Int32} {T : TW} {r : (Int32 × TW)} (h : fX5_setTies v1 T = some r)   (hR : RepT G o T H) (hS : va_S (tFr o) s.heap H locs) (hl : lv_has ls 2 [(0, .ref o), (1, .int v1)]) : W p l e (gRm 3 68) s m args below meth c H locs 0 0 (twZ below args s G o (some (.int r.1)) r.2) (F0 m 0 ls []) := by
  have B0 := B
  obtain ⟨hx, hb, hml, hown, hts, hr, hlk, hK⟩ := B0
  unfold fX5_setTies at h
  refine lv_aload_n hx hb dX5_setTies_0 rfl (lv_at hl 0 rfl) ?_
  refine lv_iconst (v := 0) hx hb dX5_setTies_1 (by decide) ?_
  replace h := nm_o h
  obtain ⟨T1, e2, h⟩ := h
  refine tw_putI (k := 6) (x := 0) (ty := .int) (T' := T1) hx hb hts hown hK hR (fun _ h9 => h9) hS (by decide) rfl e2 q2439 (fun _ h9 => h9) rfl (by decide +kernel) rfl rfl dX5_setTies_2 (fun H locs hR hS => ?_)
  refine lv_aload_n hx hb dX5_setTies_5 rfl (lv_at hl 0 rfl) ?_
  refine lv_iconst (v := 3) hx hb dX5_setTies_6 (by decide) ?_
  refine lv_iload_n hx hb dX5_setTies_7 rfl (lv_at hl 1 rfl) ?_
  refine lv_if_eq (tgt := 15) hx hb dX5_setTies_8 (by decide) (fun c3 => ?_) (fun c3 => ?_)
  · replace h := it_o c3 h
    refine lv_iconst (v := 0) hx hb dX5_setTies_15 (by decide) ?_
    exact bX5_setTies_16 B h  hR hS (lv_sub hl [] rfl)
  · replace h := if_o c3 h
    refine lv_iconst (v := 1) hx hb dX5_setTies_11 (by decide) ?_
    refine lv_goto (tgt := 16) hx hb dX5_setTies_12 (by decide) ?_
    exact bX5_setTies_16 B h  hR hS (lv_sub hl [] rfl)
theorem mX5_setTies {l : Launch} {G : gE} {o : Nat} {v1 : Int32} {T : TW} {r : (Int32 × TW)}  (h : fX5_setTies v1 T = some r) : twM l G o yX5_setTies cX5_setTies 2 (some .boolean) 3 68 [.ref o, .int v1] T (some (.int r.1)) r.2 :=
  tw_of (by decide +kernel) (Nat.le_of_ble_eq_true rfl) (fun p e s m args below meth c ls B hR hl => bX5_setTies_0 B h hR va_S.rf hl)
noncomputable def fX5_tiesForLeader  (T : TW) : Option ((Int32 × TW)) :=
  nm_ (tsI T 6 0) fun T1 =>
  (rd_ (tA T1 1) 172 3).bind fun x3 =>
  if x3 = 1 then (
    some (1, T1)
  ) else (
    some (0, T1)
  )
theorem bX5_tiesForLeader_0 {p : Program} {l : Launch} {e : Env} {s : State} {m : MethodId} {args : Array Value} {below : List Frame} {meth : Method} {c : Code} {H : Heap} {locs : List Loc} {ls : Array Slot} {G : gE} {o : Nat} (B : gB G RX5 cX5_tiesForLeader 1 (some .boolean) p s m args meth c)  {T : TW} {r : (Int32 × TW)} (h : fX5_tiesForLeader T = some r)   (hR : RepT G o T H) (hS : va_S (tFr o) s.heap H locs) (hl : lv_has ls 1 [(0, .ref o)]) : W p l e (gRm 0 0) s m args below meth c H locs 0 0 (twZ below args s G o (some (.int r.1)) r.2) (F0 m 0 ls []) := by
  have B0 := B
  obtain ⟨hx, hb, hml, hown, hts, hr, hlk, hK⟩ := B0
  unfold fX5_tiesForLeader at h
  refine lv_aload_n hx hb dX5_tiesForLeader_0 rfl (lv_at hl 0 rfl) ?_
  refine lv_iconst (v := 0) hx hb dX5_tiesForLeader_1 (by decide) ?_
  replace h := nm_o h
  obtain ⟨T1, e2, h⟩ := h
  refine tw_putI (k := 6) (x := 0) (ty := .int) (T' := T1) hx hb hts hown hK hR (fun _ h9 => h9) hS (by decide) rfl e2 q2439 (fun _ h9 => h9) rfl (by decide +kernel) rfl rfl dX5_tiesForLeader_2 (fun H locs hR hS => ?_)
  refine lv_aload_n hx hb dX5_tiesForLeader_5 rfl (lv_at hl 0 rfl) ?_
  refine tw_get (k := 0) (v := .ref (o + 1)) hx hb hts hown hK hR (by decide) q2433 rfl (fun _ h9 => h9) dX5_tiesForLeader_6 ?_
  refine lv_iconst (v := 3) hx hb dX5_tiesForLeader_9 (by decide) ?_
  replace h := bo_o h
  obtain ⟨x3, e4, h⟩ := h
  refine tw_iald (q := 1) hx hb hK hR rfl e4 dX5_tiesForLeader_10 ?_
  refine lv_iconst (v := 1) hx hb dX5_tiesForLeader_11 (by decide) ?_
  refine lv_icmp_ne (tgt := 19) hx hb dX5_tiesForLeader_12 (by decide) (fun c5 => ?_) (fun c5 => ?_)
  · replace h := if_o c5 h
    refine lv_iconst (v := 0) hx hb dX5_tiesForLeader_19 (by decide) ?_
    have eR := Option.some.inj h
    subst eR
    exact W.zret (v := 0) hx hb hr rfl (fun t ht _ => tw_fin hR hS ht) hS.2.2 dX5_tiesForLeader_20
  · replace h := it_o c5 h
    refine lv_iconst (v := 1) hx hb dX5_tiesForLeader_15 (by decide) ?_
    refine lv_goto (tgt := 20) hx hb dX5_tiesForLeader_16 (by decide) ?_
    have eR := Option.some.inj h
    subst eR
    exact W.zret (v := 1) hx hb hr rfl (fun t ht _ => tw_fin hR hS ht) hS.2.2 dX5_tiesForLeader_20
theorem mX5_tiesForLeader {l : Launch} {G : gE} {o : Nat}  {T : TW} {r : (Int32 × TW)}  (h : fX5_tiesForLeader T = some r) : twM l G o yX5_tiesForLeader cX5_tiesForLeader 1 (some .boolean) 0 0 [.ref o] T (some (.int r.1)) r.2 :=
  tw_of (by decide +kernel) (Nat.le_of_ble_eq_true rfl) (fun p e s m args below meth c ls B hR hl => bX5_tiesForLeader_0 B h hR va_S.rf hl)
noncomputable def fX5_undo  (T : TW) : Option ((Int32 × TW)) :=
  nm_ (tsI T 6 0) fun T1 =>
  if tI T1 5 = 0 then (
    some ((-1), T1)
  ) else (
    nm_ (tsI T1 5 ((tI T1 5) - 1)) fun T4 =>
    (fX5_copies 4 (tI T4 5) 1 0 T4).bind fun T7 =>
    some (tI T7 5, T7)
  )
theorem bX5_undo_0 {p : Program} {l : Launch} {e : Env} {s : State} {m : MethodId} {args : Array Value} {below : List Frame} {meth : Method} {c : Code} {H : Heap} {locs : List Loc} {ls : Array Slot} {G : gE} {o : Nat} (B : gB G RX5 cX5_undo 1 (some .int) p s m args meth c)  {T : TW} {r : (Int32 × TW)} (h : fX5_undo T = some r)   (hR : RepT G o T H) (hS : va_S (tFr o) s.heap H locs) (hl : lv_has ls 1 [(0, .ref o)]) : W p l e (gRm 1 24) s m args below meth c H locs 0 0 (twZ below args s G o (some (.int r.1)) r.2) (F0 m 0 ls []) := by
  have B0 := B
  obtain ⟨hx, hb, hml, hown, hts, hr, hlk, hK⟩ := B0
  unfold fX5_undo at h
  refine lv_aload_n hx hb dX5_undo_0 rfl (lv_at hl 0 rfl) ?_
  refine lv_iconst (v := 0) hx hb dX5_undo_1 (by decide) ?_
  replace h := nm_o h
  obtain ⟨T1, e2, h⟩ := h
  refine tw_putI (k := 6) (x := 0) (ty := .int) (T' := T1) hx hb hts hown hK hR (fun _ h9 => h9) hS (by decide) rfl e2 q2439 (fun _ h9 => h9) rfl (by decide +kernel) rfl rfl dX5_undo_2 (fun H locs hR hS => ?_)
  refine lv_aload_n hx hb dX5_undo_5 rfl (lv_at hl 0 rfl) ?_
  refine tw_get (k := 5) (v := .int (tI T1 5)) hx hb hts hown hK hR (by decide) q2438 rfl (fun _ h9 => h9) dX5_undo_6 ?_
  refine lv_if_ne (tgt := 14) hx hb dX5_undo_9 (by decide) (fun c3 => ?_) (fun c3 => ?_)
  · replace h := if_o c3 h
    refine lv_aload_n hx hb dX5_undo_14 rfl (lv_at hl 0 rfl) ?_
    refine lv_dup hx hb dX5_undo_15 rfl ?_
    refine tw_get (k := 5) (v := .int (tI T1 5)) hx hb hts hown hK hR (by decide) q2438 rfl (fun _ h9 => h9) dX5_undo_16 ?_
    refine lv_iconst (v := 1) hx hb dX5_undo_19 (by decide) ?_
    refine lv_isub hx hb dX5_undo_20 ?_
    replace h := nm_o h
    obtain ⟨T4, e5, h⟩ := h
    refine tw_putI (k := 5) (x := (tI T1 5) - 1) (ty := .int) (T' := T4) hx hb hts hown hK hR (fun _ h9 => h9) hS (by decide) rfl e5 q2438 (fun _ h9 => h9) rfl (by decide +kernel) rfl rfl dX5_undo_21 (fun H locs hR hS => ?_)
    refine lv_aload_n hx hb dX5_undo_24 rfl (lv_at hl 0 rfl) ?_
    refine tw_get (k := 3) (v := .ref (o + 4)) hx hb hts hown hK hR (by decide) q2436 rfl (fun _ h9 => h9) dX5_undo_25 ?_
    refine lv_aload_n hx hb dX5_undo_28 rfl (lv_at hl 0 rfl) ?_
    refine tw_get (k := 5) (v := .int (tI T4 5)) hx hb hts hown hK hR (by decide) q2438 rfl (fun _ h9 => h9) dX5_undo_29 ?_
    refine lv_aload_n hx hb dX5_undo_32 rfl (lv_at hl 0 rfl) ?_
    refine tw_get (k := 0) (v := .ref (o + 1)) hx hb hts hown hK hR (by decide) q2433 rfl (fun _ h9 => h9) dX5_undo_33 ?_
    refine lv_iconst (v := 0) hx hb dX5_undo_36 (by decide) ?_
    replace h := bo_o h
    obtain ⟨T7, e6, h⟩ := h
    refine tw_callS 4 (As := [.ref (o + 4), .int (tI T4 5), .ref (o + 1), .int 0]) (rest := []) (v := none) (T' := T7) (st1 := []) hx hb hml hown hts hK hR (fun _ h9 => h9) (tw_A2 hR) hS (mX5_copies (v0 := 4) (v2 := 1) (by decide) (by decide) e6) (lw_S q2618 q2619 q137 q2620) (by decide +kernel) (Nat.le_of_ble_eq_true rfl) (Nat.le_of_ble_eq_true rfl) (Nat.zero_le _) (Nat.zero_le _) rfl hl.1 (Nat.le_of_ble_eq_true rfl) dX5_undo_37 rfl rfl (fun H locs hR hS => ?_)
    refine lv_aload_n hx hb dX5_undo_40 rfl (lv_at hl 0 rfl) ?_
    refine tw_get (k := 5) (v := .int (tI T7 5)) hx hb hts hown hK hR (by decide) q2438 rfl (fun _ h9 => h9) dX5_undo_41 ?_
    have eR := Option.some.inj h
    subst eR
    exact W.iret (v := tI T7 5) hx hb hr (fun t ht _ => tw_fin hR hS ht) hS.2.2 dX5_undo_44
  · replace h := it_o c3 h
    refine lv_iconst (v := (-1)) hx hb dX5_undo_12 (by decide) ?_
    have eR := Option.some.inj h
    subst eR
    exact W.iret (v := (-1)) hx hb hr (fun t ht _ => tw_fin hR hS ht) hS.2.2 dX5_undo_13
theorem mX5_undo {l : Launch} {G : gE} {o : Nat}  {T : TW} {r : (Int32 × TW)}  (h : fX5_undo T = some r) : twM l G o yX5_undo cX5_undo 1 (some .int) 1 24 [.ref o] T (some (.int r.1)) r.2 :=
  tw_of (by decide +kernel) (Nat.le_of_ble_eq_true rfl) (fun p e s m args below meth c ls B hR hl => bX5_undo_0 B h hR va_S.rf hl)
noncomputable def fX5_undoCount  (T : TW) : Option ((Int32 × TW)) :=
  nm_ (tsI T 6 0) fun T1 =>
  some (tI T1 5, T1)
theorem bX5_undoCount_0 {p : Program} {l : Launch} {e : Env} {s : State} {m : MethodId} {args : Array Value} {below : List Frame} {meth : Method} {c : Code} {H : Heap} {locs : List Loc} {ls : Array Slot} {G : gE} {o : Nat} (B : gB G RX5 cX5_undoCount 1 (some .int) p s m args meth c)  {T : TW} {r : (Int32 × TW)} (h : fX5_undoCount T = some r)   (hR : RepT G o T H) (hS : va_S (tFr o) s.heap H locs) (hl : lv_has ls 1 [(0, .ref o)]) : W p l e (gRm 0 0) s m args below meth c H locs 0 0 (twZ below args s G o (some (.int r.1)) r.2) (F0 m 0 ls []) := by
  have B0 := B
  obtain ⟨hx, hb, hml, hown, hts, hr, hlk, hK⟩ := B0
  unfold fX5_undoCount at h
  refine lv_aload_n hx hb dX5_undoCount_0 rfl (lv_at hl 0 rfl) ?_
  refine lv_iconst (v := 0) hx hb dX5_undoCount_1 (by decide) ?_
  replace h := nm_o h
  obtain ⟨T1, e2, h⟩ := h
  refine tw_putI (k := 6) (x := 0) (ty := .int) (T' := T1) hx hb hts hown hK hR (fun _ h9 => h9) hS (by decide) rfl e2 q2439 (fun _ h9 => h9) rfl (by decide +kernel) rfl rfl dX5_undoCount_2 (fun H locs hR hS => ?_)
  refine lv_aload_n hx hb dX5_undoCount_5 rfl (lv_at hl 0 rfl) ?_
  refine tw_get (k := 5) (v := .int (tI T1 5)) hx hb hts hown hK hR (by decide) q2438 rfl (fun _ h9 => h9) dX5_undoCount_6 ?_
  have eR := Option.some.inj h
  subst eR
  exact W.iret (v := tI T1 5) hx hb hr (fun t ht _ => tw_fin hR hS ht) hS.2.2 dX5_undoCount_9
theorem mX5_undoCount {l : Launch} {G : gE} {o : Nat}  {T : TW} {r : (Int32 × TW)}  (h : fX5_undoCount T = some r) : twM l G o yX5_undoCount cX5_undoCount 1 (some .int) 0 0 [.ref o] T (some (.int r.1)) r.2 :=
  tw_of (by decide +kernel) (Nat.le_of_ble_eq_true rfl) (fun p e s m args below meth c ls B hR hl => bX5_undoCount_0 B h hR va_S.rf hl)
noncomputable def fX5_has (v0 : Int32) (v1 : Int32) (T : TW) : Option ((Int32 × TW)) :=
  if (v0 >>> (v1 &&& 31)) &&& 1 = 1 then (
    some (1, T)
  ) else (
    some (0, T)
  )
theorem bX5_has_0 {p : Program} {l : Launch} {e : Env} {s : State} {m : MethodId} {args : Array Value} {below : List Frame} {meth : Method} {c : Code} {H : Heap} {locs : List Loc} {ls : Array Slot} {G : gE} {o : Nat} (B : gB G RX5 cX5_has 2 (some .boolean) p s m args meth c) {v0 : Int32} {v1 : Int32} {T : TW} {r : (Int32 × TW)} (h : fX5_has v0 v1 T = some r)   (hR : RepT G o T H) (hS : va_S (tFr o) s.heap H locs) (hl : lv_has ls 2 [(0, .int v0), (1, .int v1)]) : W p l e (gRm 0 0) s m args below meth c H locs 0 0 (twZ below args s G o (some (.int r.1)) r.2) (F0 m 0 ls []) := by
  have B0 := B
  obtain ⟨hx, hb, hml, hown, hts, hr, hlk, hK⟩ := B0
  unfold fX5_has at h
  refine lv_iload_n hx hb dX5_has_0 rfl (lv_at hl 0 rfl) ?_
  refine lv_iload_n hx hb dX5_has_1 rfl (lv_at hl 1 rfl) ?_
  refine lv_ishr hx hb dX5_has_2 ?_
  refine lv_iconst (v := 1) hx hb dX5_has_3 (by decide) ?_
  refine lv_iand hx hb dX5_has_4 ?_
  refine lv_iconst (v := 1) hx hb dX5_has_5 (by decide) ?_
  refine lv_icmp_ne (tgt := 13) hx hb dX5_has_6 (by decide) (fun c1 => ?_) (fun c1 => ?_)
  · replace h := if_o c1 h
    refine lv_iconst (v := 0) hx hb dX5_has_13 (by decide) ?_
    have eR := Option.some.inj h
    subst eR
    exact W.zret (v := 0) hx hb hr rfl (fun t ht _ => tw_fin hR hS ht) hS.2.2 dX5_has_14
  · replace h := it_o c1 h
    refine lv_iconst (v := 1) hx hb dX5_has_9 (by decide) ?_
    refine lv_goto (tgt := 14) hx hb dX5_has_10 (by decide) ?_
    have eR := Option.some.inj h
    subst eR
    exact W.zret (v := 1) hx hb hr rfl (fun t ht _ => tw_fin hR hS ht) hS.2.2 dX5_has_14
theorem mX5_has {l : Launch} {G : gE} {o : Nat} {v0 : Int32} {v1 : Int32} {T : TW} {r : (Int32 × TW)}  (h : fX5_has v0 v1 T = some r) : twM l G o yX5_has cX5_has 2 (some .boolean) 0 0 [.int v0, .int v1] T (some (.int r.1)) r.2 :=
  tw_of (by decide +kernel) (Nat.le_of_ble_eq_true rfl) (fun p e s m args below meth c ls B hR hl => bX5_has_0 B h hR va_S.rf hl)
noncomputable def fX5_isOpen_b45 (v1 : Int32) (s0 : Int32) (T : TW) : Option ((Int32 × TW)) :=
  if s0 = 0 then (
    some (0, T)
  ) else (
    b2_ (fX5_arc v1 5 T) fun x4 T3 =>
    if x4 = 0 then (
      if tI T3 19 = 0 then (
        some (1, T3)
      ) else (
        b2_ (fX5_arc v1 3 T3) fun x9 T8 =>
        if 0 < x9 then (
          some (0, T8)
        ) else (
          some (1, T8)
        )
      )
    ) else (
      some (0, T3)
    )
  )
theorem bX5_isOpen_45 {p : Program} {l : Launch} {e : Env} {s : State} {m : MethodId} {args : Array Value} {below : List Frame} {meth : Method} {c : Code} {H : Heap} {locs : List Loc} {ls : Array Slot} {G : gE} {o : Nat} (B : gB G RX5 cX5_isOpen 3 (some .boolean) p s m args meth c) {v1 : Int32} {s0 : Int32} {T : TW} {r : (Int32 × TW)} (h : fX5_isOpen_b45 v1 s0 T = some r)   (hR : RepT G o T H) (hS : va_S (tFr o) s.heap H locs) (hl : lv_has ls 3 [(0, .ref o), (1, .int v1)]) : W p l e (gRm 2 43) s m args below meth c H locs 0 0 (twZ below args s G o (some (.int r.1)) r.2) (F0 m 45 ls [.int s0]) := by
  have B0 := B
  obtain ⟨hx, hb, hml, hown, hts, hr, hlk, hK⟩ := B0
  unfold fX5_isOpen_b45 at h
  refine lv_istore_n (lv' := [(2, .int s0), (0, .ref o), (1, .int v1)]) hx hb dX5_isOpen_45 rfl hl (by decide) rfl (fun ls hl => ?_)
  refine lv_iload_n hx hb dX5_isOpen_46 rfl (lv_at hl 0 rfl) ?_
  refine lv_if_eq (tgt := 79) hx hb dX5_isOpen_47 (by decide) (fun c1 => ?_) (fun c1 => ?_)
  · replace h := it_o c1 h
    refine lv_iconst (v := 0) hx hb dX5_isOpen_79 (by decide) ?_
    have eR := Option.some.inj h
    subst eR
    exact W.zret (v := 0) hx hb hr rfl (fun t ht _ => tw_fin hR hS ht) hS.2.2 dX5_isOpen_80
  · replace h := if_o c1 h
    refine lv_aload_n hx hb dX5_isOpen_50 rfl (lv_at hl 1 rfl) ?_
    refine lv_iload_n hx hb dX5_isOpen_51 rfl (lv_at hl 2 rfl) ?_
    refine lv_iconst (v := 5) hx hb dX5_isOpen_52 (by decide) ?_
    replace h := b2_o h
    obtain ⟨x4, T3, e2, h⟩ := h
    refine tw_callV 2 (As := [.int v1, .int 5]) (rest := []) (v := (some (.int x4))) (T' := T3) (st1 := [.int x4]) hx hb hml hown hts hK hR (fun _ h9 => h9) (tw_A2 hR) hS (mX5_arc e2) (lw_V q2637 q2639 qs69 q137 q2640) (by decide +kernel) (Nat.le_of_ble_eq_true rfl) (Nat.le_of_ble_eq_true rfl) (Nat.zero_le _) (Nat.zero_le _) rfl hl.1 (Nat.le_of_ble_eq_true rfl) dX5_isOpen_53 rfl rfl (fun H locs hR hS => ?_)
    refine lv_if_ne (tgt := 79) hx hb dX5_isOpen_56 (by decide) (fun c5 => ?_) (fun c5 => ?_)
    · replace h := if_o c5 h
      refine lv_iconst (v := 0) hx hb dX5_isOpen_79 (by decide) ?_
      have eR := Option.some.inj h
      subst eR
      exact W.zret (v := 0) hx hb hr rfl (fun t ht _ => tw_fin hR hS ht) hS.2.2 dX5_isOpen_80
    · replace h := it_o c5 h
      refine lv_aload_n hx hb dX5_isOpen_59 rfl (lv_at hl 1 rfl) ?_
      refine tw_get (k := 19) (v := .int (tI T3 19)) hx hb hts hown hK hR (by decide) q2452 rfl (fun _ h9 => h9) dX5_isOpen_60 ?_
      refine lv_if_eq (tgt := 75) hx hb dX5_isOpen_63 (by decide) (fun c6 => ?_) (fun c6 => ?_)
      · replace h := it_o c6 h
        refine lv_iconst (v := 1) hx hb dX5_isOpen_75 (by decide) ?_
        refine lv_goto (tgt := 80) hx hb dX5_isOpen_76 (by decide) ?_
        have eR := Option.some.inj h
        subst eR
        exact W.zret (v := 1) hx hb hr rfl (fun t ht _ => tw_fin hR hS ht) hS.2.2 dX5_isOpen_80
      · replace h := if_o c6 h
        refine lv_aload_n hx hb dX5_isOpen_66 rfl (lv_at hl 1 rfl) ?_
        refine lv_iload_n hx hb dX5_isOpen_67 rfl (lv_at hl 2 rfl) ?_
        refine lv_iconst (v := 3) hx hb dX5_isOpen_68 (by decide) ?_
        replace h := b2_o h
        obtain ⟨x9, T8, e7, h⟩ := h
        refine tw_callV 2 (As := [.int v1, .int 3]) (rest := []) (v := (some (.int x9))) (T' := T8) (st1 := [.int x9]) hx hb hml hown hts hK hR (fun _ h9 => h9) (tw_A2 hR) hS (mX5_arc e7) (lw_V q2637 q2639 qs69 q137 q2640) (by decide +kernel) (Nat.le_of_ble_eq_true rfl) (Nat.le_of_ble_eq_true rfl) (Nat.zero_le _) (Nat.zero_le _) rfl hl.1 (Nat.le_of_ble_eq_true rfl) dX5_isOpen_69 rfl rfl (fun H locs hR hS => ?_)
        refine lv_if_gt (tgt := 79) hx hb dX5_isOpen_72 (by decide) (fun c10 => ?_) (fun c10 => ?_)
        · replace h := it_o c10 h
          refine lv_iconst (v := 0) hx hb dX5_isOpen_79 (by decide) ?_
          have eR := Option.some.inj h
          subst eR
          exact W.zret (v := 0) hx hb hr rfl (fun t ht _ => tw_fin hR hS ht) hS.2.2 dX5_isOpen_80
        · replace h := if_o c10 h
          refine lv_iconst (v := 1) hx hb dX5_isOpen_75 (by decide) ?_
          refine lv_goto (tgt := 80) hx hb dX5_isOpen_76 (by decide) ?_
          have eR := Option.some.inj h
          subst eR
          exact W.zret (v := 1) hx hb hr rfl (fun t ht _ => tw_fin hR hS ht) hS.2.2 dX5_isOpen_80
noncomputable def fX5_isOpen_b44 (v1 : Int32) (T : TW) : Option ((Int32 × TW)) :=
  fX5_isOpen_b45 v1 0 T
theorem bX5_isOpen_44 {p : Program} {l : Launch} {e : Env} {s : State} {m : MethodId} {args : Array Value} {below : List Frame} {meth : Method} {c : Code} {H : Heap} {locs : List Loc} {ls : Array Slot} {G : gE} {o : Nat} (B : gB G RX5 cX5_isOpen 3 (some .boolean) p s m args meth c) {v1 : Int32} {T : TW} {r : (Int32 × TW)} (h : fX5_isOpen_b44 v1 T = some r)   (hR : RepT G o T H) (hS : va_S (tFr o) s.heap H locs) (hl : lv_has ls 3 [(0, .ref o), (1, .int v1)]) : W p l e (gRm 2 43) s m args below meth c H locs 0 0 (twZ below args s G o (some (.int r.1)) r.2) (F0 m 44 ls []) := by
  have B0 := B
  obtain ⟨hx, hb, hml, hown, hts, hr, hlk, hK⟩ := B0
  unfold fX5_isOpen_b44 at h
  refine lv_iconst (v := 0) hx hb dX5_isOpen_44 (by decide) ?_
  exact bX5_isOpen_45 B h  hR hS (lv_sub hl [0, 1] rfl)
noncomputable def fX5_isOpen (v1 : Int32) (T : TW) : Option ((Int32 × TW)) :=
  if v1 = tI T 18 then (
    fX5_isOpen_b44 v1 T
  ) else (
    b2_ (fX5_arc v1 0 T) fun x4 T3 =>
    b2_ (fX5_has (tI T 17) x4 T3) fun x7 T6 =>
    if x7 = 0 then (
      b2_ (fX5_arc v1 1 T6) fun x11 T10 =>
      b2_ (fX5_has (tI T6 17) x11 T10) fun x14 T13 =>
      if x14 = 0 then (
        fX5_isOpen_b45 v1 1 T13
      ) else (
        fX5_isOpen_b44 v1 T13
      )
    ) else (
      fX5_isOpen_b44 v1 T6
    )
  )
theorem bX5_isOpen_0 {p : Program} {l : Launch} {e : Env} {s : State} {m : MethodId} {args : Array Value} {below : List Frame} {meth : Method} {c : Code} {H : Heap} {locs : List Loc} {ls : Array Slot} {G : gE} {o : Nat} (B : gB G RX5 cX5_isOpen 3 (some .boolean) p s m args meth c) {v1 : Int32} {T : TW} {r : (Int32 × TW)} (h : fX5_isOpen v1 T = some r)   (hR : RepT G o T H) (hS : va_S (tFr o) s.heap H locs) (hl : lv_has ls 3 [(0, .ref o), (1, .int v1)]) : W p l e (gRm 2 43) s m args below meth c H locs 0 0 (twZ below args s G o (some (.int r.1)) r.2) (F0 m 0 ls []) := by
  have B0 := B
  obtain ⟨hx, hb, hml, hown, hts, hr, hlk, hK⟩ := B0
  unfold fX5_isOpen at h
  refine lv_iload_n hx hb dX5_isOpen_0 rfl (lv_at hl 1 rfl) ?_
  refine lv_aload_n hx hb dX5_isOpen_1 rfl (lv_at hl 0 rfl) ?_
  refine tw_get (k := 18) (v := .int (tI T 18)) hx hb hts hown hK hR (by decide) q2451 rfl (fun _ h9 => h9) dX5_isOpen_2 ?_
  refine lv_icmp_eq (tgt := 44) hx hb dX5_isOpen_5 (by decide) (fun c1 => ?_) (fun c1 => ?_)
  · replace h := it_o c1 h
    exact bX5_isOpen_44 B h  hR hS (lv_sub hl [0, 1] rfl)
  · replace h := if_o c1 h
    refine lv_aload_n hx hb dX5_isOpen_8 rfl (lv_at hl 0 rfl) ?_
    refine tw_get (k := 17) (v := .int (tI T 17)) hx hb hts hown hK hR (by decide) q2450 rfl (fun _ h9 => h9) dX5_isOpen_9 ?_
    refine lv_aload_n hx hb dX5_isOpen_12 rfl (lv_at hl 0 rfl) ?_
    refine lv_iload_n hx hb dX5_isOpen_13 rfl (lv_at hl 1 rfl) ?_
    refine lv_iconst (v := 0) hx hb dX5_isOpen_14 (by decide) ?_
    replace h := b2_o h
    obtain ⟨x4, T3, e2, h⟩ := h
    refine tw_callV 2 (As := [.int v1, .int 0]) (rest := [.int (tI T 17)]) (v := (some (.int x4))) (T' := T3) (st1 := [.int x4, .int (tI T 17)]) hx hb hml hown hts hK hR (fun _ h9 => h9) (tw_A2 hR) hS (mX5_arc e2) (lw_V q2637 q2639 qs69 q137 q2640) (by decide +kernel) (Nat.le_of_ble_eq_true rfl) (Nat.le_of_ble_eq_true rfl) (Nat.zero_le _) (Nat.zero_le _) rfl hl.1 (Nat.le_of_ble_eq_true rfl) dX5_isOpen_15 rfl rfl (fun H locs hR hS => ?_)
    replace h := b2_o h
    obtain ⟨x7, T6, e5, h⟩ := h
    refine tw_callS 2 (As := [.int (tI T 17), .int x4]) (rest := []) (v := (some (.int x7))) (T' := T6) (st1 := [.int x7]) hx hb hml hown hts hK hR (fun _ h9 => h9) (tw_A2 hR) hS (mX5_has e5) (lw_S q2739 q2740 q137 q2741) (by decide +kernel) (Nat.le_of_ble_eq_true rfl) (Nat.le_of_ble_eq_true rfl) (Nat.zero_le _) (Nat.zero_le _) rfl hl.1 (Nat.le_of_ble_eq_true rfl) dX5_isOpen_18 rfl rfl (fun H locs hR hS => ?_)
    refine lv_if_ne (tgt := 44) hx hb dX5_isOpen_21 (by decide) (fun c8 => ?_) (fun c8 => ?_)
    · replace h := if_o c8 h
      exact bX5_isOpen_44 B h  hR hS (lv_sub hl [0, 1] rfl)
    · replace h := it_o c8 h
      refine lv_aload_n hx hb dX5_isOpen_24 rfl (lv_at hl 0 rfl) ?_
      refine tw_get (k := 17) (v := .int (tI T6 17)) hx hb hts hown hK hR (by decide) q2450 rfl (fun _ h9 => h9) dX5_isOpen_25 ?_
      refine lv_aload_n hx hb dX5_isOpen_28 rfl (lv_at hl 0 rfl) ?_
      refine lv_iload_n hx hb dX5_isOpen_29 rfl (lv_at hl 1 rfl) ?_
      refine lv_iconst (v := 1) hx hb dX5_isOpen_30 (by decide) ?_
      replace h := b2_o h
      obtain ⟨x11, T10, e9, h⟩ := h
      refine tw_callV 2 (As := [.int v1, .int 1]) (rest := [.int (tI T6 17)]) (v := (some (.int x11))) (T' := T10) (st1 := [.int x11, .int (tI T6 17)]) hx hb hml hown hts hK hR (fun _ h9 => h9) (tw_A2 hR) hS (mX5_arc e9) (lw_V q2637 q2639 qs69 q137 q2640) (by decide +kernel) (Nat.le_of_ble_eq_true rfl) (Nat.le_of_ble_eq_true rfl) (Nat.zero_le _) (Nat.zero_le _) rfl hl.1 (Nat.le_of_ble_eq_true rfl) dX5_isOpen_31 rfl rfl (fun H locs hR hS => ?_)
      replace h := b2_o h
      obtain ⟨x14, T13, e12, h⟩ := h
      refine tw_callS 2 (As := [.int (tI T6 17), .int x11]) (rest := []) (v := (some (.int x14))) (T' := T13) (st1 := [.int x14]) hx hb hml hown hts hK hR (fun _ h9 => h9) (tw_A2 hR) hS (mX5_has e12) (lw_S q2739 q2740 q137 q2741) (by decide +kernel) (Nat.le_of_ble_eq_true rfl) (Nat.le_of_ble_eq_true rfl) (Nat.zero_le _) (Nat.zero_le _) rfl hl.1 (Nat.le_of_ble_eq_true rfl) dX5_isOpen_34 rfl rfl (fun H locs hR hS => ?_)
      refine lv_if_ne (tgt := 44) hx hb dX5_isOpen_37 (by decide) (fun c15 => ?_) (fun c15 => ?_)
      · replace h := if_o c15 h
        exact bX5_isOpen_44 B h  hR hS (lv_sub hl [0, 1] rfl)
      · replace h := it_o c15 h
        refine lv_iconst (v := 1) hx hb dX5_isOpen_40 (by decide) ?_
        refine lv_goto (tgt := 45) hx hb dX5_isOpen_41 (by decide) ?_
        exact bX5_isOpen_45 B h  hR hS (lv_sub hl [0, 1] rfl)
theorem mX5_isOpen {l : Launch} {G : gE} {o : Nat} {v1 : Int32} {T : TW} {r : (Int32 × TW)}  (h : fX5_isOpen v1 T = some r) : twM l G o yX5_isOpen cX5_isOpen 3 (some .boolean) 2 43 [.ref o, .int v1] T (some (.int r.1)) r.2 :=
  tw_of (by decide +kernel) (Nat.le_of_ble_eq_true rfl) (fun p e s m args below meth c ls B hR hl => bX5_isOpen_0 B h hR va_S.rf hl)
noncomputable def fX5_feltOn (v1 : Int32) (v2 : Int32) (T : TW) : Option ((Int32 × TW)) :=
  b2_ (fX5_trip v1 3 T) fun x3 T2 =>
  b2_ (fX5_arc v2 2 T2) fun x6 T5 =>
  b2_ (fX5_arc v2 4 T5) fun x9 T8 =>
  some ((x3 * x6) + x9, T8)
theorem bX5_feltOn_0 {p : Program} {l : Launch} {e : Env} {s : State} {m : MethodId} {args : Array Value} {below : List Frame} {meth : Method} {c : Code} {H : Heap} {locs : List Loc} {ls : Array Slot} {G : gE} {o : Nat} (B : gB G RX5 cX5_feltOn 3 (some .int) p s m args meth c) {v1 : Int32} {v2 : Int32} {T : TW} {r : (Int32 × TW)} (h : fX5_feltOn v1 v2 T = some r)   (hR : RepT G o T H) (hS : va_S (tFr o) s.heap H locs) (hl : lv_has ls 3 [(0, .ref o), (1, .int v1), (2, .int v2)]) : W p l e (gRm 2 43) s m args below meth c H locs 0 0 (twZ below args s G o (some (.int r.1)) r.2) (F0 m 0 ls []) := by
  have B0 := B
  obtain ⟨hx, hb, hml, hown, hts, hr, hlk, hK⟩ := B0
  unfold fX5_feltOn at h
  refine lv_aload_n hx hb dX5_feltOn_0 rfl (lv_at hl 0 rfl) ?_
  refine lv_iload_n hx hb dX5_feltOn_1 rfl (lv_at hl 1 rfl) ?_
  refine lv_iconst (v := 3) hx hb dX5_feltOn_2 (by decide) ?_
  replace h := b2_o h
  obtain ⟨x3, T2, e1, h⟩ := h
  refine tw_callV 2 (As := [.int v1, .int 3]) (rest := []) (v := (some (.int x3))) (T' := T2) (st1 := [.int x3]) hx hb hml hown hts hK hR (fun _ h9 => h9) (tw_A2 hR) hS (mX5_trip e1) (lw_V q2657 q2659 qs72 q137 q2660) (by decide +kernel) (Nat.le_of_ble_eq_true rfl) (Nat.le_of_ble_eq_true rfl) (Nat.zero_le _) (Nat.zero_le _) rfl hl.1 (Nat.le_of_ble_eq_true rfl) dX5_feltOn_3 rfl rfl (fun H locs hR hS => ?_)
  refine lv_aload_n hx hb dX5_feltOn_6 rfl (lv_at hl 0 rfl) ?_
  refine lv_iload_n hx hb dX5_feltOn_7 rfl (lv_at hl 2 rfl) ?_
  refine lv_iconst (v := 2) hx hb dX5_feltOn_8 (by decide) ?_
  replace h := b2_o h
  obtain ⟨x6, T5, e4, h⟩ := h
  refine tw_callV 2 (As := [.int v2, .int 2]) (rest := [.int x3]) (v := (some (.int x6))) (T' := T5) (st1 := [.int x6, .int x3]) hx hb hml hown hts hK hR (fun _ h9 => h9) (tw_A2 hR) hS (mX5_arc e4) (lw_V q2637 q2639 qs69 q137 q2640) (by decide +kernel) (Nat.le_of_ble_eq_true rfl) (Nat.le_of_ble_eq_true rfl) (Nat.zero_le _) (Nat.zero_le _) rfl hl.1 (Nat.le_of_ble_eq_true rfl) dX5_feltOn_9 rfl rfl (fun H locs hR hS => ?_)
  refine lv_imul hx hb dX5_feltOn_12 ?_
  refine lv_aload_n hx hb dX5_feltOn_13 rfl (lv_at hl 0 rfl) ?_
  refine lv_iload_n hx hb dX5_feltOn_14 rfl (lv_at hl 2 rfl) ?_
  refine lv_iconst (v := 4) hx hb dX5_feltOn_15 (by decide) ?_
  replace h := b2_o h
  obtain ⟨x9, T8, e7, h⟩ := h
  refine tw_callV 2 (As := [.int v2, .int 4]) (rest := [.int (x3 * x6)]) (v := (some (.int x9))) (T' := T8) (st1 := [.int x9, .int (x3 * x6)]) hx hb hml hown hts hK hR (fun _ h9 => h9) (tw_A2 hR) hS (mX5_arc e7) (lw_V q2637 q2639 qs69 q137 q2640) (by decide +kernel) (Nat.le_of_ble_eq_true rfl) (Nat.le_of_ble_eq_true rfl) (Nat.zero_le _) (Nat.zero_le _) rfl hl.1 (Nat.le_of_ble_eq_true rfl) dX5_feltOn_16 rfl rfl (fun H locs hR hS => ?_)
  refine lv_iadd hx hb dX5_feltOn_19 ?_
  have eR := Option.some.inj h
  subst eR
  exact W.iret (v := (x3 * x6) + x9) hx hb hr (fun t ht _ => tw_fin hR hS ht) hS.2.2 dX5_feltOn_20
theorem mX5_feltOn {l : Launch} {G : gE} {o : Nat} {v1 : Int32} {v2 : Int32} {T : TW} {r : (Int32 × TW)}  (h : fX5_feltOn v1 v2 T = some r) : twM l G o yX5_feltOn cX5_feltOn 3 (some .int) 2 43 [.ref o, .int v1, .int v2] T (some (.int r.1)) r.2 :=
  tw_of (by decide +kernel) (Nat.le_of_ble_eq_true rfl) (fun p e s m args below meth c ls B hR hl => bX5_feltOn_0 B h hR va_S.rf hl)
noncomputable def fX5_weight_b38 (v3 : Int64) (s0 : Int64) (s1 : Int64) (T : TW) : Option ((Int64 × TW)) :=
  some ((s0 + (s1 * v3)) + 1, T)
theorem bX5_weight_38 {p : Program} {l : Launch} {e : Env} {s : State} {m : MethodId} {args : Array Value} {below : List Frame} {meth : Method} {c : Code} {H : Heap} {locs : List Loc} {ls : Array Slot} {G : gE} {o : Nat} (B : gB G RX5 cX5_weight 5 (some .long) p s m args meth c) {v3 : Int64} {s0 : Int64} {s1 : Int64} {T : TW} {r : (Int64 × TW)} (h : fX5_weight_b38 v3 s0 s1 T = some r)   (hR : RepT G o T H) (hS : va_S (tFr o) s.heap H locs) (hl : lv_has ls 5 [(3, .long v3)]) : W p l e (gRm 3 65) s m args below meth c H locs 0 0 (twZ below args s G o (some (.long r.1)) r.2) (F0 m 38 ls [.long s1, .long s0]) := by
  have B0 := B
  obtain ⟨hx, hb, hml, hown, hts, hr, hlk, hK⟩ := B0
  unfold fX5_weight_b38 at h
  refine lv_lload_n hx hb dX5_weight_38 rfl (lv_at hl 0 rfl) ?_
  refine lv_lmul hx hb dX5_weight_39 ?_
  refine lv_ladd hx hb dX5_weight_40 ?_
  refine lv_lconst (v := 1) hx hb dX5_weight_41 (by decide) ?_
  refine lv_ladd hx hb dX5_weight_42 ?_
  have eR := Option.some.inj h
  subst eR
  exact W.lret (v := (s0 + (s1 * v3)) + 1) hx hb hr (fun t ht _ => tw_fin hR hS ht) hS.2.2 dX5_weight_43
noncomputable def fX5_weight (v1 : Int32) (v2 : Int32) (T : TW) : Option ((Int64 × TW)) :=
  b2_ (fX5_arc v2 4 T) fun x3 T2 =>
  nm_ (x3.toInt64) fun x4 =>
  b2_ (fX5_feltOn v1 v2 T2) fun x8 T7 =>
  (rd_ (tA T7 1) 172 3).bind fun x9 =>
  if x9 = 1 then (
    fX5_weight_b38 x4 (1000000000 * (x8.toInt64)) (-100) T7
  ) else (
    fX5_weight_b38 x4 (1000000000 * (x8.toInt64)) 100 T7
  )
theorem bX5_weight_0 {p : Program} {l : Launch} {e : Env} {s : State} {m : MethodId} {args : Array Value} {below : List Frame} {meth : Method} {c : Code} {H : Heap} {locs : List Loc} {ls : Array Slot} {G : gE} {o : Nat} (B : gB G RX5 cX5_weight 5 (some .long) p s m args meth c) {v1 : Int32} {v2 : Int32} {T : TW} {r : (Int64 × TW)} (h : fX5_weight v1 v2 T = some r)   (hR : RepT G o T H) (hS : va_S (tFr o) s.heap H locs) (hl : lv_has ls 5 [(0, .ref o), (1, .int v1), (2, .int v2)]) : W p l e (gRm 3 65) s m args below meth c H locs 0 0 (twZ below args s G o (some (.long r.1)) r.2) (F0 m 0 ls []) := by
  have B0 := B
  obtain ⟨hx, hb, hml, hown, hts, hr, hlk, hK⟩ := B0
  unfold fX5_weight at h
  refine lv_aload_n hx hb dX5_weight_0 rfl (lv_at hl 0 rfl) ?_
  refine lv_iload_n hx hb dX5_weight_1 rfl (lv_at hl 2 rfl) ?_
  refine lv_iconst (v := 4) hx hb dX5_weight_2 (by decide) ?_
  replace h := b2_o h
  obtain ⟨x3, T2, e1, h⟩ := h
  refine tw_callV 2 (As := [.int v2, .int 4]) (rest := []) (v := (some (.int x3))) (T' := T2) (st1 := [.int x3]) hx hb hml hown hts hK hR (fun _ h9 => h9) (tw_A2 hR) hS (mX5_arc e1) (lw_V q2637 q2639 qs69 q137 q2640) (by decide +kernel) (Nat.le_of_ble_eq_true rfl) (Nat.le_of_ble_eq_true rfl) (Nat.zero_le _) (Nat.zero_le _) rfl hl.1 (Nat.le_of_ble_eq_true rfl) dX5_weight_3 rfl rfl (fun H locs hR hS => ?_)
  refine lv_i2l hx hb dX5_weight_6 rfl ?_
  replace h := nm_o h
  obtain ⟨x4, e5, h⟩ := h
  refine lv_lstore_n (lv' := [(3, .long x4), (0, .ref o), (1, .int v1), (2, .int v2)]) hx hb dX5_weight_7 rfl hl (by decide) (by subst e5; rfl) (fun ls hl => ?_)
  refine lv_ldc2 (v := 1000000000) hx hb hown (hts _ q2746) dX5_weight_8 ?_
  refine lv_aload_n hx hb dX5_weight_11 rfl (lv_at hl 1 rfl) ?_
  refine lv_iload_n hx hb dX5_weight_12 rfl (lv_at hl 2 rfl) ?_
  refine lv_iload_n hx hb dX5_weight_13 rfl (lv_at hl 3 rfl) ?_
  replace h := b2_o h
  obtain ⟨x8, T7, e6, h⟩ := h
  refine tw_callV 2 (As := [.int v1, .int v2]) (rest := [.long 1000000000]) (v := (some (.int x8))) (T' := T7) (st1 := [.int x8, .long 1000000000]) hx hb hml hown hts hK hR (fun _ h9 => h9) (tw_A2 hR) hS (mX5_feltOn e6) (lw_V q2747 q2749 qs81 q137 q2750) (by decide +kernel) (Nat.le_of_ble_eq_true rfl) (Nat.le_of_ble_eq_true rfl) (Nat.zero_le _) (Nat.zero_le _) rfl hl.1 (Nat.le_of_ble_eq_true rfl) dX5_weight_14 rfl rfl (fun H locs hR hS => ?_)
  refine lv_i2l hx hb dX5_weight_17 rfl ?_
  refine lv_lmul hx hb dX5_weight_18 ?_
  refine lv_aload_n hx hb dX5_weight_19 rfl (lv_at hl 1 rfl) ?_
  refine tw_get (k := 0) (v := .ref (o + 1)) hx hb hts hown hK hR (by decide) q2433 rfl (fun _ h9 => h9) dX5_weight_20 ?_
  refine lv_iconst (v := 3) hx hb dX5_weight_23 (by decide) ?_
  replace h := bo_o h
  obtain ⟨x9, e10, h⟩ := h
  refine tw_iald (q := 1) hx hb hK hR rfl e10 dX5_weight_24 ?_
  refine lv_iconst (v := 1) hx hb dX5_weight_25 (by decide) ?_
  refine lv_icmp_ne (tgt := 35) hx hb dX5_weight_26 (by decide) (fun c11 => ?_) (fun c11 => ?_)
  · replace h := if_o c11 h
    refine lv_ldc2 (v := 100) hx hb hown (hts _ q2752) dX5_weight_35 ?_
    exact bX5_weight_38 B h  hR hS (lv_sub hl [0] rfl)
  · replace h := it_o c11 h
    refine lv_ldc2 (v := (-100)) hx hb hown (hts _ q2751) dX5_weight_29 ?_
    refine lv_goto (tgt := 38) hx hb dX5_weight_32 (by decide) ?_
    exact bX5_weight_38 B h  hR hS (lv_sub hl [0] rfl)
theorem mX5_weight {l : Launch} {G : gE} {o : Nat} {v1 : Int32} {v2 : Int32} {T : TW} {r : (Int64 × TW)}  (h : fX5_weight v1 v2 T = some r) : twM l G o yX5_weight cX5_weight 5 (some .long) 3 65 [.ref o, .int v1, .int v2] T (some (.long r.1)) r.2 :=
  tw_of (by decide +kernel) (Nat.le_of_ble_eq_true rfl) (fun p e s m args below meth c ls B hR hl => bX5_weight_0 B h hR va_S.rf hl)
noncomputable def fX5_laysFar_b151 (v1 : Int32) (v2 : Int32) (T : TW) : Option (Sum (Int32 × TW) (TW)) :=
  some (.inl (v2, T))
theorem bX5_laysFar_151 {p : Program} {l : Launch} {e : Env} {s : State} {m : MethodId} {args : Array Value} {below : List Frame} {meth : Method} {c : Code} {H : Heap} {locs : List Loc} {ls : Array Slot} {G : gE} {o : Nat} (B : gB G RX5 cX5_laysFar 4 none p s m args meth c) {v1 : Int32} {v2 : Int32} {T : TW} {x : Sum (Int32 × TW) (TW)} {r : TW} (h : fX5_laysFar_b151 v1 v2 T = some x)  (k37 : ∀ (v2' : Int32) (T' : TW), x = (.inl (v2', T')) → ∀ (H : Heap) (locs : List Loc) (ls : Array Slot), RepT G o (T') H → va_S (tFr o) s.heap H locs → lv_has ls 4 [(0, .ref o), (1, .int v1), (2, .int v2')] → W p l e (gRm 4 89) s m args below meth c H locs 0 0 (twZ below args s G o none r) (F0 m 37 ls [])) (kR : ∀ q, x = (.inr q) → q = r) (hR : RepT G o T H) (hS : va_S (tFr o) s.heap H locs) (hl : lv_has ls 4 [(0, .ref o), (1, .int v1), (2, .int v2)]) : W p l e (gRm 4 89) s m args below meth c H locs 0 0 (twZ below args s G o none r) (F0 m 151 ls []) := by
  have B0 := B
  obtain ⟨hx, hb, hml, hown, hts, hr, hlk, hK⟩ := B0
  unfold fX5_laysFar_b151 at h
  refine lv_goto (tgt := 37) hx hb dX5_laysFar_151 (by decide) ?_
  exact k37 _ _ (Option.some.inj h).symm H locs ls hR hS (lv_sub hl [0, 1, 2] rfl)
noncomputable def fX5_laysFar_b145 (v1 : Int32) (v2 : Int32) (v3 : Int32) (T : TW) : Option (Sum (Int32 × Int32 × TW) (Sum (Int32 × TW) (TW))) :=
  some (.inl (v2, v3 + 1, T))
theorem bX5_laysFar_145 {p : Program} {l : Launch} {e : Env} {s : State} {m : MethodId} {args : Array Value} {below : List Frame} {meth : Method} {c : Code} {H : Heap} {locs : List Loc} {ls : Array Slot} {G : gE} {o : Nat} (B : gB G RX5 cX5_laysFar 4 none p s m args meth c) {v1 : Int32} {v2 : Int32} {v3 : Int32} {T : TW} {x : Sum (Int32 × Int32 × TW) (Sum (Int32 × TW) (TW))} {r : TW} (h : fX5_laysFar_b145 v1 v2 v3 T = some x)  (k45 : ∀ (v2' : Int32) (v3' : Int32) (T' : TW), x = (.inl (v2', v3', T')) → ∀ (H : Heap) (locs : List Loc) (ls : Array Slot), RepT G o (T') H → va_S (tFr o) s.heap H locs → lv_has ls 4 [(0, .ref o), (1, .int v1), (2, .int v2'), (3, .int v3')] → W p l e (gRm 4 89) s m args below meth c H locs 0 0 (twZ below args s G o none r) (F0 m 45 ls [])) (k37 : ∀ (v2' : Int32) (T' : TW), x = (.inr (.inl (v2', T'))) → ∀ (H : Heap) (locs : List Loc) (ls : Array Slot), RepT G o (T') H → va_S (tFr o) s.heap H locs → lv_has ls 4 [(0, .ref o), (1, .int v1), (2, .int v2')] → W p l e (gRm 4 89) s m args below meth c H locs 0 0 (twZ below args s G o none r) (F0 m 37 ls [])) (kR : ∀ q, x = (.inr (.inr q)) → q = r) (hR : RepT G o T H) (hS : va_S (tFr o) s.heap H locs) (hl : lv_has ls 4 [(0, .ref o), (1, .int v1), (2, .int v2), (3, .int v3)]) : W p l e (gRm 4 89) s m args below meth c H locs 0 0 (twZ below args s G o none r) (F0 m 145 ls []) := by
  have B0 := B
  obtain ⟨hx, hb, hml, hown, hts, hr, hlk, hK⟩ := B0
  unfold fX5_laysFar_b145 at h
  refine lv_iinc (v := v3 + 1) (lv' := [(3, .int (v3 + 1)), (0, .ref o), (1, .int v1), (2, .int v2)]) hx hb dX5_laysFar_145 hl (k := 3) rfl rfl (by decide) rfl (fun ls hl => ?_)
  refine lv_goto (tgt := 45) hx hb dX5_laysFar_148 (by decide) ?_
  exact k45 _ _ _ (Option.some.inj h).symm H locs ls hR hS (lv_sub hl [1, 2, 3, 0] rfl)
noncomputable def fX5_laysFar_b45 (v1 : Int32) (v2 : Int32) (v3 : Int32) (T : TW) : Option (Sum (Int32 × Int32 × TW) (Sum (Int32 × TW) (TW))) :=
  (rd_ (tA T 1) 172 1).bind fun x1 =>
  if x1 ≤ v3 then (
    (fX5_laysFar_b151 v1 v2 T).map (fun y => (.inr y))
  ) else (
    b2_ (fX5_isOpen v3 T) fun x6 T5 =>
    if x6 = 0 then (
      fX5_laysFar_b145 v1 v2 v3 T5
    ) else (
      b2_ (fX5_arc v3 1 T5) fun x10 T9 =>
      (rd_ (tB T9 7) 10 x10).bind fun x11 =>
      if 0 ≤ lg_cmp x11 2305843009213693951 then (
        fX5_laysFar_b145 v1 v2 v3 T9
      ) else (
        b2_ (fX5_arc v3 1 T9) fun x16 T15 =>
        (rd_ (tB T15 7) 10 x16).bind fun x17 =>
        b2_ (fX5_weight v1 v3 T15) fun x21 T20 =>
        b2_ (fX5_arc v3 0 T20) fun x24 T23 =>
        (rd_ (tB T23 7) 10 x24).bind fun x25 =>
        if 0 ≤ lg_cmp (x17 + x21) x25 then (
          fX5_laysFar_b145 v1 v2 v3 T23
        ) else (
          b2_ (fX5_arc v3 0 T23) fun x30 T29 =>
          b2_ (fX5_arc v3 1 T29) fun x33 T32 =>
          (rd_ (tB T32 7) 10 x33).bind fun x34 =>
          b2_ (fX5_weight v1 v3 T32) fun x38 T37 =>
          (wrB T37 7 10 x30 (x34 + x38)).bind fun T39 =>
          fX5_laysFar_b145 v1 1 v3 T39
        )
      )
    )
  )
theorem bX5_laysFar_45 {p : Program} {l : Launch} {e : Env} {s : State} {m : MethodId} {args : Array Value} {below : List Frame} {meth : Method} {c : Code} {H : Heap} {locs : List Loc} {ls : Array Slot} {G : gE} {o : Nat} (B : gB G RX5 cX5_laysFar 4 none p s m args meth c) {v1 : Int32} {v2 : Int32} {v3 : Int32} {T : TW} {x : Sum (Int32 × Int32 × TW) (Sum (Int32 × TW) (TW))} {r : TW} (h : fX5_laysFar_b45 v1 v2 v3 T = some x)  (k45 : ∀ (v2' : Int32) (v3' : Int32) (T' : TW), x = (.inl (v2', v3', T')) → ∀ (H : Heap) (locs : List Loc) (ls : Array Slot), RepT G o (T') H → va_S (tFr o) s.heap H locs → lv_has ls 4 [(0, .ref o), (1, .int v1), (2, .int v2'), (3, .int v3')] → W p l e (gRm 4 89) s m args below meth c H locs 0 0 (twZ below args s G o none r) (F0 m 45 ls [])) (k37 : ∀ (v2' : Int32) (T' : TW), x = (.inr (.inl (v2', T'))) → ∀ (H : Heap) (locs : List Loc) (ls : Array Slot), RepT G o (T') H → va_S (tFr o) s.heap H locs → lv_has ls 4 [(0, .ref o), (1, .int v1), (2, .int v2')] → W p l e (gRm 4 89) s m args below meth c H locs 0 0 (twZ below args s G o none r) (F0 m 37 ls [])) (kR : ∀ q, x = (.inr (.inr q)) → q = r) (hR : RepT G o T H) (hS : va_S (tFr o) s.heap H locs) (hl : lv_has ls 4 [(0, .ref o), (1, .int v1), (2, .int v2), (3, .int v3)]) : W p l e (gRm 4 89) s m args below meth c H locs 0 0 (twZ below args s G o none r) (F0 m 45 ls []) := by
  have B0 := B
  obtain ⟨hx, hb, hml, hown, hts, hr, hlk, hK⟩ := B0
  unfold fX5_laysFar_b45 at h
  refine lv_iload_n hx hb dX5_laysFar_45 rfl (lv_at hl 3 rfl) ?_
  refine lv_aload_n hx hb dX5_laysFar_46 rfl (lv_at hl 0 rfl) ?_
  refine tw_get (k := 0) (v := .ref (o + 1)) hx hb hts hown hK hR (by decide) q2433 rfl (fun _ h9 => h9) dX5_laysFar_47 ?_
  refine lv_iconst (v := 1) hx hb dX5_laysFar_50 (by decide) ?_
  replace h := bo_o h
  obtain ⟨x1, e2, h⟩ := h
  refine tw_iald (q := 1) hx hb hK hR rfl e2 dX5_laysFar_51 ?_
  refine lv_icmp_ge (tgt := 151) hx hb dX5_laysFar_52 (by decide) (fun c3 => ?_) (fun c3 => ?_)
  · replace h := it_o c3 h
    obtain ⟨y, h, ey⟩ := mp_o h
    exact bX5_laysFar_151 B h (fun _ _ e => k37 _ _ (by rw [← ey, e])) (fun q e => kR q (by rw [← ey, e])) hR hS (lv_sub hl [0, 1, 2] rfl)
  · replace h := if_o c3 h
    refine lv_aload_n hx hb dX5_laysFar_55 rfl (lv_at hl 0 rfl) ?_
    refine lv_iload_n hx hb dX5_laysFar_56 rfl (lv_at hl 3 rfl) ?_
    replace h := b2_o h
    obtain ⟨x6, T5, e4, h⟩ := h
    refine tw_callV 1 (As := [.int v3]) (rest := []) (v := (some (.int x6))) (T' := T5) (st1 := [.int x6]) hx hb hml hown hts hK hR (fun _ h9 => h9) (tw_A2 hR) hS (mX5_isOpen e4) (lw_V q2735 q2737 qs79 q137 q2738) (by decide +kernel) (Nat.le_of_ble_eq_true rfl) (Nat.le_of_ble_eq_true rfl) (Nat.zero_le _) (Nat.zero_le _) rfl hl.1 (Nat.le_of_ble_eq_true rfl) dX5_laysFar_57 rfl rfl (fun H locs hR hS => ?_)
    refine lv_if_eq (tgt := 145) hx hb dX5_laysFar_60 (by decide) (fun c7 => ?_) (fun c7 => ?_)
    · replace h := it_o c7 h
      exact bX5_laysFar_145 B h k45 k37 kR hR hS (lv_sub hl [0, 1, 2, 3] rfl)
    · replace h := if_o c7 h
      refine lv_aload_n hx hb dX5_laysFar_63 rfl (lv_at hl 0 rfl) ?_
      refine tw_get (k := 16) (v := .ref (o + 7)) hx hb hts hown hK hR (by decide) q2449 rfl (fun _ h9 => h9) dX5_laysFar_64 ?_
      refine lv_aload_n hx hb dX5_laysFar_67 rfl (lv_at hl 0 rfl) ?_
      refine lv_iload_n hx hb dX5_laysFar_68 rfl (lv_at hl 3 rfl) ?_
      refine lv_iconst (v := 1) hx hb dX5_laysFar_69 (by decide) ?_
      replace h := b2_o h
      obtain ⟨x10, T9, e8, h⟩ := h
      refine tw_callV 2 (As := [.int v3, .int 1]) (rest := [.ref (o + 7)]) (v := (some (.int x10))) (T' := T9) (st1 := [.int x10, .ref (o + 7)]) hx hb hml hown hts hK hR (fun _ h9 => h9) (tw_A2 hR) hS (mX5_arc e8) (lw_V q2637 q2639 qs69 q137 q2640) (by decide +kernel) (Nat.le_of_ble_eq_true rfl) (Nat.le_of_ble_eq_true rfl) (Nat.zero_le _) (Nat.zero_le _) rfl hl.1 (Nat.le_of_ble_eq_true rfl) dX5_laysFar_70 rfl rfl (fun H locs hR hS => ?_)
      replace h := bo_o h
      obtain ⟨x11, e12, h⟩ := h
      refine tw_lald (q := 7) hx hb hK hR rfl e12 dX5_laysFar_73 ?_
      refine lv_ldc2 (v := 2305843009213693951) hx hb hown (hts _ q2734) dX5_laysFar_74 ?_
      refine W.lcmp hx hb dX5_laysFar_77 ?_
      refine lv_if_ge (tgt := 145) hx hb dX5_laysFar_78 (by decide) (fun c13 => ?_) (fun c13 => ?_)
      · replace h := it_o c13 h
        exact bX5_laysFar_145 B h k45 k37 kR hR hS (lv_sub hl [0, 1, 2, 3] rfl)
      · replace h := if_o c13 h
        refine lv_aload_n hx hb dX5_laysFar_81 rfl (lv_at hl 0 rfl) ?_
        refine tw_get (k := 16) (v := .ref (o + 7)) hx hb hts hown hK hR (by decide) q2449 rfl (fun _ h9 => h9) dX5_laysFar_82 ?_
        refine lv_aload_n hx hb dX5_laysFar_85 rfl (lv_at hl 0 rfl) ?_
        refine lv_iload_n hx hb dX5_laysFar_86 rfl (lv_at hl 3 rfl) ?_
        refine lv_iconst (v := 1) hx hb dX5_laysFar_87 (by decide) ?_
        replace h := b2_o h
        obtain ⟨x16, T15, e14, h⟩ := h
        refine tw_callV 2 (As := [.int v3, .int 1]) (rest := [.ref (o + 7)]) (v := (some (.int x16))) (T' := T15) (st1 := [.int x16, .ref (o + 7)]) hx hb hml hown hts hK hR (fun _ h9 => h9) (tw_A2 hR) hS (mX5_arc e14) (lw_V q2637 q2639 qs69 q137 q2640) (by decide +kernel) (Nat.le_of_ble_eq_true rfl) (Nat.le_of_ble_eq_true rfl) (Nat.zero_le _) (Nat.zero_le _) rfl hl.1 (Nat.le_of_ble_eq_true rfl) dX5_laysFar_88 rfl rfl (fun H locs hR hS => ?_)
        replace h := bo_o h
        obtain ⟨x17, e18, h⟩ := h
        refine tw_lald (q := 7) hx hb hK hR rfl e18 dX5_laysFar_91 ?_
        refine lv_aload_n hx hb dX5_laysFar_92 rfl (lv_at hl 0 rfl) ?_
        refine lv_iload_n hx hb dX5_laysFar_93 rfl (lv_at hl 1 rfl) ?_
        refine lv_iload_n hx hb dX5_laysFar_94 rfl (lv_at hl 3 rfl) ?_
        replace h := b2_o h
        obtain ⟨x21, T20, e19, h⟩ := h
        refine tw_callV 2 (As := [.int v1, .int v3]) (rest := [.long x17]) (v := (some (.long x21))) (T' := T20) (st1 := [.long x21, .long x17]) hx hb hml hown hts hK hR (fun _ h9 => h9) (tw_A2 hR) hS (mX5_weight e19) (lw_V q2742 q2744 qs80 q137 q2745) (by decide +kernel) (Nat.le_of_ble_eq_true rfl) (Nat.le_of_ble_eq_true rfl) (Nat.zero_le _) (Nat.zero_le _) rfl hl.1 (Nat.le_of_ble_eq_true rfl) dX5_laysFar_95 rfl rfl (fun H locs hR hS => ?_)
        refine lv_ladd hx hb dX5_laysFar_98 ?_
        refine lv_aload_n hx hb dX5_laysFar_99 rfl (lv_at hl 0 rfl) ?_
        refine tw_get (k := 16) (v := .ref (o + 7)) hx hb hts hown hK hR (by decide) q2449 rfl (fun _ h9 => h9) dX5_laysFar_100 ?_
        refine lv_aload_n hx hb dX5_laysFar_103 rfl (lv_at hl 0 rfl) ?_
        refine lv_iload_n hx hb dX5_laysFar_104 rfl (lv_at hl 3 rfl) ?_
        refine lv_iconst (v := 0) hx hb dX5_laysFar_105 (by decide) ?_
        replace h := b2_o h
        obtain ⟨x24, T23, e22, h⟩ := h
        refine tw_callV 2 (As := [.int v3, .int 0]) (rest := [.ref (o + 7), .long (x17 + x21)]) (v := (some (.int x24))) (T' := T23) (st1 := [.int x24, .ref (o + 7), .long (x17 + x21)]) hx hb hml hown hts hK hR (fun _ h9 => h9) (tw_A2 hR) hS (mX5_arc e22) (lw_V q2637 q2639 qs69 q137 q2640) (by decide +kernel) (Nat.le_of_ble_eq_true rfl) (Nat.le_of_ble_eq_true rfl) (Nat.zero_le _) (Nat.zero_le _) rfl hl.1 (Nat.le_of_ble_eq_true rfl) dX5_laysFar_106 rfl rfl (fun H locs hR hS => ?_)
        replace h := bo_o h
        obtain ⟨x25, e26, h⟩ := h
        refine tw_lald (q := 7) hx hb hK hR rfl e26 dX5_laysFar_109 ?_
        refine W.lcmp hx hb dX5_laysFar_110 ?_
        refine lv_if_ge (tgt := 145) hx hb dX5_laysFar_111 (by decide) (fun c27 => ?_) (fun c27 => ?_)
        · replace h := it_o c27 h
          exact bX5_laysFar_145 B h k45 k37 kR hR hS (lv_sub hl [0, 1, 2, 3] rfl)
        · replace h := if_o c27 h
          refine lv_aload_n hx hb dX5_laysFar_114 rfl (lv_at hl 0 rfl) ?_
          refine tw_get (k := 16) (v := .ref (o + 7)) hx hb hts hown hK hR (by decide) q2449 rfl (fun _ h9 => h9) dX5_laysFar_115 ?_
          refine lv_aload_n hx hb dX5_laysFar_118 rfl (lv_at hl 0 rfl) ?_
          refine lv_iload_n hx hb dX5_laysFar_119 rfl (lv_at hl 3 rfl) ?_
          refine lv_iconst (v := 0) hx hb dX5_laysFar_120 (by decide) ?_
          replace h := b2_o h
          obtain ⟨x30, T29, e28, h⟩ := h
          refine tw_callV 2 (As := [.int v3, .int 0]) (rest := [.ref (o + 7)]) (v := (some (.int x30))) (T' := T29) (st1 := [.int x30, .ref (o + 7)]) hx hb hml hown hts hK hR (fun _ h9 => h9) (tw_A2 hR) hS (mX5_arc e28) (lw_V q2637 q2639 qs69 q137 q2640) (by decide +kernel) (Nat.le_of_ble_eq_true rfl) (Nat.le_of_ble_eq_true rfl) (Nat.zero_le _) (Nat.zero_le _) rfl hl.1 (Nat.le_of_ble_eq_true rfl) dX5_laysFar_121 rfl rfl (fun H locs hR hS => ?_)
          refine lv_aload_n hx hb dX5_laysFar_124 rfl (lv_at hl 0 rfl) ?_
          refine tw_get (k := 16) (v := .ref (o + 7)) hx hb hts hown hK hR (by decide) q2449 rfl (fun _ h9 => h9) dX5_laysFar_125 ?_
          refine lv_aload_n hx hb dX5_laysFar_128 rfl (lv_at hl 0 rfl) ?_
          refine lv_iload_n hx hb dX5_laysFar_129 rfl (lv_at hl 3 rfl) ?_
          refine lv_iconst (v := 1) hx hb dX5_laysFar_130 (by decide) ?_
          replace h := b2_o h
          obtain ⟨x33, T32, e31, h⟩ := h
          refine tw_callV 2 (As := [.int v3, .int 1]) (rest := [.ref (o + 7), .int x30, .ref (o + 7)]) (v := (some (.int x33))) (T' := T32) (st1 := [.int x33, .ref (o + 7), .int x30, .ref (o + 7)]) hx hb hml hown hts hK hR (fun _ h9 => h9) (tw_A2 hR) hS (mX5_arc e31) (lw_V q2637 q2639 qs69 q137 q2640) (by decide +kernel) (Nat.le_of_ble_eq_true rfl) (Nat.le_of_ble_eq_true rfl) (Nat.zero_le _) (Nat.zero_le _) rfl hl.1 (Nat.le_of_ble_eq_true rfl) dX5_laysFar_131 rfl rfl (fun H locs hR hS => ?_)
          replace h := bo_o h
          obtain ⟨x34, e35, h⟩ := h
          refine tw_lald (q := 7) hx hb hK hR rfl e35 dX5_laysFar_134 ?_
          refine lv_aload_n hx hb dX5_laysFar_135 rfl (lv_at hl 0 rfl) ?_
          refine lv_iload_n hx hb dX5_laysFar_136 rfl (lv_at hl 1 rfl) ?_
          refine lv_iload_n hx hb dX5_laysFar_137 rfl (lv_at hl 3 rfl) ?_
          replace h := b2_o h
          obtain ⟨x38, T37, e36, h⟩ := h
          refine tw_callV 2 (As := [.int v1, .int v3]) (rest := [.long x34, .int x30, .ref (o + 7)]) (v := (some (.long x38))) (T' := T37) (st1 := [.long x38, .long x34, .int x30, .ref (o + 7)]) hx hb hml hown hts hK hR (fun _ h9 => h9) (tw_A2 hR) hS (mX5_weight e36) (lw_V q2742 q2744 qs80 q137 q2745) (by decide +kernel) (Nat.le_of_ble_eq_true rfl) (Nat.le_of_ble_eq_true rfl) (Nat.zero_le _) (Nat.zero_le _) rfl hl.1 (Nat.le_of_ble_eq_true rfl) dX5_laysFar_138 rfl rfl (fun H locs hR hS => ?_)
          refine lv_ladd hx hb dX5_laysFar_141 ?_
          replace h := bo_o h
          obtain ⟨T39, e40, h⟩ := h
          refine tw_last (q := 7) hx hb hK hR (fun _ h9 => h9) hS rfl (fun _ => rfl) e40 dX5_laysFar_142 (fun H locs hR hS => ?_)
          refine lv_iconst (v := 1) hx hb dX5_laysFar_143 (by decide) ?_
          refine lv_istore_n (lv' := [(2, .int 1), (0, .ref o), (1, .int v1), (3, .int v3)]) hx hb dX5_laysFar_144 rfl hl (by decide) rfl (fun ls hl => ?_)
          exact bX5_laysFar_145 B h k45 k37 kR hR hS (lv_sub hl [1, 2, 0, 3] rfl)
noncomputable def fX5_laysFar_l45 (v1 : Int32) (v2 : Int32) (v3 : Int32) (T : TW) : Option (Sum (Int32 × TW) (TW)) := whileO (fun q => fX5_laysFar_b45 v1 q.1 q.2.1 q.2.2) (v2, v3, T)
theorem lX5_laysFar_45 {p : Program} {l : Launch} {e : Env} {s : State} {m : MethodId} {args : Array Value} {below : List Frame} {meth : Method} {c : Code} {G : gE} {o : Nat} (B : gB G RX5 cX5_laysFar 4 none p s m args meth c) {v1 : Int32} {x : Sum (Int32 × TW) (TW)} {r : TW}  (k37 : ∀ (v2' : Int32) (T' : TW), x = (.inl (v2', T')) → ∀ (H : Heap) (locs : List Loc) (ls : Array Slot), RepT G o (T') H → va_S (tFr o) s.heap H locs → lv_has ls 4 [(0, .ref o), (1, .int v1), (2, .int v2')] → W p l e (gRm 4 89) s m args below meth c H locs 0 0 (twZ below args s G o none r) (F0 m 37 ls [])) (kR : ∀ q, x = (.inr q) → q = r) : ∀ (v2 : Int32) (v3 : Int32) (T : TW), fX5_laysFar_l45 v1 v2 v3 T = some x → ∀ (H : Heap) (locs : List Loc) (ls : Array Slot), RepT G o (T) H → va_S (tFr o) s.heap H locs → lv_has ls 4 [(0, .ref o), (1, .int v1), (2, .int v2), (3, .int v3)] → W p l e (gRm 4 89) s m args below meth c H locs 0 0 (twZ below args s G o none r) (F0 m 45 ls []) := by
  intro v2 v3 T h
  refine wh_walk (body := (fun q => fX5_laysFar_b45 v1 q.1 q.2.1 q.2.2)) (P := (fun q : (Int32 × Int32 × TW) => ∀ (H : Heap) (locs : List Loc) (ls : Array Slot), RepT G o (q.2.2) H → va_S (tFr o) s.heap H locs → lv_has ls 4 [(0, .ref o), (1, .int v1), (2, .int (q.1)), (3, .int (q.2.1))] → W p l e (gRm 4 89) s m args below meth c H locs 0 0 (twZ below args s G o none r) (F0 m 45 ls []))) (r := x) ?_ (v2, v3, T) h
  intro q y hy hL hr H locs ls hR hS hl
  exact bX5_laysFar_45 (r := r) B hy (fun a0 a1 a2 e => hL (a0, a1, a2) e) (fun a0 a1 e H locs ls hR hS hl => k37 _ _ ((hr _ e).symm) H locs ls hR hS hl) (fun q e => kR q ((hr _ e).symm)) hR hS hl
noncomputable def fX5_laysFar_b37 (v1 : Int32) (v2 : Int32) (T : TW) : Option (Sum (Int32 × TW) (TW)) :=
  if v2 = 0 then (
    some (.inr T)
  ) else (
    fX5_laysFar_l45 v1 0 0 T
  )
theorem bX5_laysFar_37 {p : Program} {l : Launch} {e : Env} {s : State} {m : MethodId} {args : Array Value} {below : List Frame} {meth : Method} {c : Code} {H : Heap} {locs : List Loc} {ls : Array Slot} {G : gE} {o : Nat} (B : gB G RX5 cX5_laysFar 4 none p s m args meth c) {v1 : Int32} {v2 : Int32} {T : TW} {x : Sum (Int32 × TW) (TW)} {r : TW} (h : fX5_laysFar_b37 v1 v2 T = some x)  (k37 : ∀ (v2' : Int32) (T' : TW), x = (.inl (v2', T')) → ∀ (H : Heap) (locs : List Loc) (ls : Array Slot), RepT G o (T') H → va_S (tFr o) s.heap H locs → lv_has ls 4 [(0, .ref o), (1, .int v1), (2, .int v2')] → W p l e (gRm 4 89) s m args below meth c H locs 0 0 (twZ below args s G o none r) (F0 m 37 ls [])) (kR : ∀ q, x = (.inr q) → q = r) (hR : RepT G o T H) (hS : va_S (tFr o) s.heap H locs) (hl : lv_has ls 4 [(0, .ref o), (1, .int v1), (2, .int v2)]) : W p l e (gRm 4 89) s m args below meth c H locs 0 0 (twZ below args s G o none r) (F0 m 37 ls []) := by
  have B0 := B
  obtain ⟨hx, hb, hml, hown, hts, hr, hlk, hK⟩ := B0
  unfold fX5_laysFar_b37 at h
  refine lv_iload_n hx hb dX5_laysFar_37 rfl (lv_at hl 2 rfl) ?_
  refine lv_if_eq (tgt := 154) hx hb dX5_laysFar_38 (by decide) (fun c1 => ?_) (fun c1 => ?_)
  · replace h := it_o c1 h
    have eR := kR _ (Option.some.inj h).symm
    subst eR
    exact W.vret hx hb hr (fun t ht _ => tw_fin hR hS ht) hS.2.2 dX5_laysFar_154
  · replace h := if_o c1 h
    refine lv_iconst (v := 0) hx hb dX5_laysFar_41 (by decide) ?_
    refine lv_istore_n (lv' := [(2, .int 0), (0, .ref o), (1, .int v1)]) hx hb dX5_laysFar_42 rfl hl (by decide) rfl (fun ls hl => ?_)
    refine lv_iconst (v := 0) hx hb dX5_laysFar_43 (by decide) ?_
    refine lv_istore_n (lv' := [(3, .int 0), (2, .int 0), (0, .ref o), (1, .int v1)]) hx hb dX5_laysFar_44 rfl hl (by decide) rfl (fun ls hl => ?_)
    exact lX5_laysFar_45 (x := x) (r := r) B k37 kR _ _ _ h H locs ls hR hS (lv_sub hl [2, 3, 1, 0] rfl)
noncomputable def fX5_laysFar_l37 (v1 : Int32) (v2 : Int32) (T : TW) : Option (TW) := whileO (fun q => fX5_laysFar_b37 v1 q.1 q.2) (v2, T)
theorem lX5_laysFar_37 {p : Program} {l : Launch} {e : Env} {s : State} {m : MethodId} {args : Array Value} {below : List Frame} {meth : Method} {c : Code} {G : gE} {o : Nat} (B : gB G RX5 cX5_laysFar 4 none p s m args meth c) {v1 : Int32} {r : TW}   : ∀ (v2 : Int32) (T : TW), fX5_laysFar_l37 v1 v2 T = some r → ∀ (H : Heap) (locs : List Loc) (ls : Array Slot), RepT G o (T) H → va_S (tFr o) s.heap H locs → lv_has ls 4 [(0, .ref o), (1, .int v1), (2, .int v2)] → W p l e (gRm 4 89) s m args below meth c H locs 0 0 (twZ below args s G o none r) (F0 m 37 ls []) := by
  intro v2 T h
  refine wh_walk (body := (fun q => fX5_laysFar_b37 v1 q.1 q.2)) (P := (fun q : (Int32 × TW) => ∀ (H : Heap) (locs : List Loc) (ls : Array Slot), RepT G o (q.2) H → va_S (tFr o) s.heap H locs → lv_has ls 4 [(0, .ref o), (1, .int v1), (2, .int (q.1))] → W p l e (gRm 4 89) s m args below meth c H locs 0 0 (twZ below args s G o none r) (F0 m 37 ls []))) (r := r) ?_ (v2, T) h
  intro q y hy hL hr H locs ls hR hS hl
  exact bX5_laysFar_37 (r := r) B hy (fun a0 a1 e => hL (a0, a1) e) (fun q e => hr q e) hR hS hl
noncomputable def fX5_laysFar_b23 (v1 : Int32) (T : TW) : Option (TW) :=
  b2_ (fX5_trip v1 1 T) fun x3 T2 =>
  (wrB T2 7 10 x3 0).bind fun T4 =>
  fX5_laysFar_l37 v1 1 T4
theorem bX5_laysFar_23 {p : Program} {l : Launch} {e : Env} {s : State} {m : MethodId} {args : Array Value} {below : List Frame} {meth : Method} {c : Code} {H : Heap} {locs : List Loc} {ls : Array Slot} {G : gE} {o : Nat} (B : gB G RX5 cX5_laysFar 4 none p s m args meth c) {v1 : Int32} {T : TW} {r : TW} (h : fX5_laysFar_b23 v1 T = some r)   (hR : RepT G o T H) (hS : va_S (tFr o) s.heap H locs) (hl : lv_has ls 4 [(0, .ref o), (1, .int v1)]) : W p l e (gRm 4 89) s m args below meth c H locs 0 0 (twZ below args s G o none r) (F0 m 23 ls []) := by
  have B0 := B
  obtain ⟨hx, hb, hml, hown, hts, hr, hlk, hK⟩ := B0
  unfold fX5_laysFar_b23 at h
  refine lv_aload_n hx hb dX5_laysFar_23 rfl (lv_at hl 0 rfl) ?_
  refine tw_get (k := 16) (v := .ref (o + 7)) hx hb hts hown hK hR (by decide) q2449 rfl (fun _ h9 => h9) dX5_laysFar_24 ?_
  refine lv_aload_n hx hb dX5_laysFar_27 rfl (lv_at hl 0 rfl) ?_
  refine lv_iload_n hx hb dX5_laysFar_28 rfl (lv_at hl 1 rfl) ?_
  refine lv_iconst (v := 1) hx hb dX5_laysFar_29 (by decide) ?_
  replace h := b2_o h
  obtain ⟨x3, T2, e1, h⟩ := h
  refine tw_callV 2 (As := [.int v1, .int 1]) (rest := [.ref (o + 7)]) (v := (some (.int x3))) (T' := T2) (st1 := [.int x3, .ref (o + 7)]) hx hb hml hown hts hK hR (fun _ h9 => h9) (tw_A2 hR) hS (mX5_trip e1) (lw_V q2657 q2659 qs72 q137 q2660) (by decide +kernel) (Nat.le_of_ble_eq_true rfl) (Nat.le_of_ble_eq_true rfl) (Nat.zero_le _) (Nat.zero_le _) rfl hl.1 (Nat.le_of_ble_eq_true rfl) dX5_laysFar_30 rfl rfl (fun H locs hR hS => ?_)
  refine lv_lconst (v := 0) hx hb dX5_laysFar_33 (by decide) ?_
  replace h := bo_o h
  obtain ⟨T4, e5, h⟩ := h
  refine tw_last (q := 7) hx hb hK hR (fun _ h9 => h9) hS rfl (fun _ => rfl) e5 dX5_laysFar_34 (fun H locs hR hS => ?_)
  refine lv_iconst (v := 1) hx hb dX5_laysFar_35 (by decide) ?_
  refine lv_istore_n (lv' := [(2, .int 1), (0, .ref o), (1, .int v1)]) hx hb dX5_laysFar_36 rfl hl (by decide) rfl (fun ls hl => ?_)
  exact lX5_laysFar_37 B _ _ h H locs ls hR hS (lv_sub hl [1, 2, 0] rfl)
noncomputable def fX5_laysFar_b2 (v1 : Int32) (v2 : Int32) (T : TW) : Option (Sum (Int32 × TW) (TW)) :=
  if 10 ≤ v2 then (
    (fX5_laysFar_b23 v1 T).map (fun y => (.inr y))
  ) else (
    (wrB T 7 10 v2 2305843009213693951).bind fun T2 =>
    some (.inl (v2 + 1, T2))
  )
theorem bX5_laysFar_2 {p : Program} {l : Launch} {e : Env} {s : State} {m : MethodId} {args : Array Value} {below : List Frame} {meth : Method} {c : Code} {H : Heap} {locs : List Loc} {ls : Array Slot} {G : gE} {o : Nat} (B : gB G RX5 cX5_laysFar 4 none p s m args meth c) {v1 : Int32} {v2 : Int32} {T : TW} {x : Sum (Int32 × TW) (TW)} {r : TW} (h : fX5_laysFar_b2 v1 v2 T = some x)  (k2 : ∀ (v2' : Int32) (T' : TW), x = (.inl (v2', T')) → ∀ (H : Heap) (locs : List Loc) (ls : Array Slot), RepT G o (T') H → va_S (tFr o) s.heap H locs → lv_has ls 4 [(0, .ref o), (1, .int v1), (2, .int v2')] → W p l e (gRm 4 89) s m args below meth c H locs 0 0 (twZ below args s G o none r) (F0 m 2 ls [])) (kR : ∀ q, x = (.inr q) → q = r) (hR : RepT G o T H) (hS : va_S (tFr o) s.heap H locs) (hl : lv_has ls 4 [(0, .ref o), (1, .int v1), (2, .int v2)]) : W p l e (gRm 4 89) s m args below meth c H locs 0 0 (twZ below args s G o none r) (F0 m 2 ls []) := by
  have B0 := B
  obtain ⟨hx, hb, hml, hown, hts, hr, hlk, hK⟩ := B0
  unfold fX5_laysFar_b2 at h
  refine lv_iload_n hx hb dX5_laysFar_2 rfl (lv_at hl 2 rfl) ?_
  refine lv_bipush (v := 10) hx hb dX5_laysFar_3 (by decide) ?_
  refine lv_icmp_ge (tgt := 23) hx hb dX5_laysFar_5 (by decide) (fun c1 => ?_) (fun c1 => ?_)
  · replace h := it_o c1 h
    obtain ⟨y, h, ey⟩ := mp_o h
    have ey := kR _ ey.symm
    subst ey
    exact bX5_laysFar_23 B h  hR hS (lv_sub hl [0, 1] rfl)
  · replace h := if_o c1 h
    refine lv_aload_n hx hb dX5_laysFar_8 rfl (lv_at hl 0 rfl) ?_
    refine tw_get (k := 16) (v := .ref (o + 7)) hx hb hts hown hK hR (by decide) q2449 rfl (fun _ h9 => h9) dX5_laysFar_9 ?_
    refine lv_iload_n hx hb dX5_laysFar_12 rfl (lv_at hl 2 rfl) ?_
    refine lv_ldc2 (v := 2305843009213693951) hx hb hown (hts _ q2734) dX5_laysFar_13 ?_
    replace h := bo_o h
    obtain ⟨T2, e3, h⟩ := h
    refine tw_last (q := 7) hx hb hK hR (fun _ h9 => h9) hS rfl (fun _ => rfl) e3 dX5_laysFar_16 (fun H locs hR hS => ?_)
    refine lv_iinc (v := v2 + 1) (lv' := [(2, .int (v2 + 1)), (0, .ref o), (1, .int v1)]) hx hb dX5_laysFar_17 hl (k := 2) rfl rfl (by decide) rfl (fun ls hl => ?_)
    refine lv_goto (tgt := 2) hx hb dX5_laysFar_20 (by decide) ?_
    exact k2 _ _ (Option.some.inj h).symm H locs ls hR hS (lv_sub hl [1, 2, 0] rfl)
noncomputable def fX5_laysFar_l2 (v1 : Int32) (v2 : Int32) (T : TW) : Option (TW) := whileO (fun q => fX5_laysFar_b2 v1 q.1 q.2) (v2, T)
theorem lX5_laysFar_2 {p : Program} {l : Launch} {e : Env} {s : State} {m : MethodId} {args : Array Value} {below : List Frame} {meth : Method} {c : Code} {G : gE} {o : Nat} (B : gB G RX5 cX5_laysFar 4 none p s m args meth c) {v1 : Int32} {r : TW}   : ∀ (v2 : Int32) (T : TW), fX5_laysFar_l2 v1 v2 T = some r → ∀ (H : Heap) (locs : List Loc) (ls : Array Slot), RepT G o (T) H → va_S (tFr o) s.heap H locs → lv_has ls 4 [(0, .ref o), (1, .int v1), (2, .int v2)] → W p l e (gRm 4 89) s m args below meth c H locs 0 0 (twZ below args s G o none r) (F0 m 2 ls []) := by
  intro v2 T h
  refine wh_walk (body := (fun q => fX5_laysFar_b2 v1 q.1 q.2)) (P := (fun q : (Int32 × TW) => ∀ (H : Heap) (locs : List Loc) (ls : Array Slot), RepT G o (q.2) H → va_S (tFr o) s.heap H locs → lv_has ls 4 [(0, .ref o), (1, .int v1), (2, .int (q.1))] → W p l e (gRm 4 89) s m args below meth c H locs 0 0 (twZ below args s G o none r) (F0 m 2 ls []))) (r := r) ?_ (v2, T) h
  intro q y hy hL hr H locs ls hR hS hl
  exact bX5_laysFar_2 (r := r) B hy (fun a0 a1 e => hL (a0, a1) e) (fun q e => hr q e) hR hS hl
noncomputable def fX5_laysFar (v1 : Int32) (T : TW) : Option (TW) :=
  fX5_laysFar_l2 v1 0 T
theorem bX5_laysFar_0 {p : Program} {l : Launch} {e : Env} {s : State} {m : MethodId} {args : Array Value} {below : List Frame} {meth : Method} {c : Code} {H : Heap} {locs : List Loc} {ls : Array Slot} {G : gE} {o : Nat} (B : gB G RX5 cX5_laysFar 4 none p s m args meth c) {v1 : Int32} {T : TW} {r : TW} (h : fX5_laysFar v1 T = some r)   (hR : RepT G o T H) (hS : va_S (tFr o) s.heap H locs) (hl : lv_has ls 4 [(0, .ref o), (1, .int v1)]) : W p l e (gRm 4 89) s m args below meth c H locs 0 0 (twZ below args s G o none r) (F0 m 0 ls []) := by
  have B0 := B
  obtain ⟨hx, hb, hml, hown, hts, hr, hlk, hK⟩ := B0
  unfold fX5_laysFar at h
  refine lv_iconst (v := 0) hx hb dX5_laysFar_0 (by decide) ?_
  refine lv_istore_n (lv' := [(2, .int 0), (0, .ref o), (1, .int v1)]) hx hb dX5_laysFar_1 rfl hl (by decide) rfl (fun ls hl => ?_)
  exact lX5_laysFar_2 B _ _ h H locs ls hR hS (lv_sub hl [1, 2, 0] rfl)
theorem mX5_laysFar {l : Launch} {G : gE} {o : Nat} {v1 : Int32} {T : TW} {r : TW}  (h : fX5_laysFar v1 T = some r) : twM l G o yX5_laysFar cX5_laysFar 4 none 4 89 [.ref o, .int v1] T none r :=
  tw_of (by decide +kernel) (Nat.le_of_ble_eq_true rfl) (fun p e s m args below meth c ls B hR hl => bX5_laysFar_0 B h hR va_S.rf hl)
noncomputable def fX5_best (v1 : Int32) (T : TW) : Option ((Int64 × TW)) :=
  (fX5_laysFar v1 T).bind fun T2 =>
  b2_ (fX5_trip v1 0 T2) fun x5 T4 =>
  (rd_ (tB T4 7) 10 x5).bind fun x6 =>
  some (x6, T4)
theorem bX5_best_0 {p : Program} {l : Launch} {e : Env} {s : State} {m : MethodId} {args : Array Value} {below : List Frame} {meth : Method} {c : Code} {H : Heap} {locs : List Loc} {ls : Array Slot} {G : gE} {o : Nat} (B : gB G RX5 cX5_best 2 (some .long) p s m args meth c) {v1 : Int32} {T : TW} {r : (Int64 × TW)} (h : fX5_best v1 T = some r)   (hR : RepT G o T H) (hS : va_S (tFr o) s.heap H locs) (hl : lv_has ls 2 [(0, .ref o), (1, .int v1)]) : W p l e (gRm 5 112) s m args below meth c H locs 0 0 (twZ below args s G o (some (.long r.1)) r.2) (F0 m 0 ls []) := by
  have B0 := B
  obtain ⟨hx, hb, hml, hown, hts, hr, hlk, hK⟩ := B0
  unfold fX5_best at h
  refine lv_aload_n hx hb dX5_best_0 rfl (lv_at hl 0 rfl) ?_
  refine lv_iload_n hx hb dX5_best_1 rfl (lv_at hl 1 rfl) ?_
  replace h := bo_o h
  obtain ⟨T2, e1, h⟩ := h
  refine tw_callV 1 (As := [.int v1]) (rest := []) (v := none) (T' := T2) (st1 := []) hx hb hml hown hts hK hR (fun _ h9 => h9) (tw_A2 hR) hS (mX5_laysFar e1) (lw_V q2730 q2732 qs78 q137 q2733) (by decide +kernel) (Nat.le_of_ble_eq_true rfl) (Nat.le_of_ble_eq_true rfl) (Nat.zero_le _) (Nat.zero_le _) rfl hl.1 (Nat.le_of_ble_eq_true rfl) dX5_best_2 rfl rfl (fun H locs hR hS => ?_)
  refine lv_aload_n hx hb dX5_best_5 rfl (lv_at hl 0 rfl) ?_
  refine tw_get (k := 16) (v := .ref (o + 7)) hx hb hts hown hK hR (by decide) q2449 rfl (fun _ h9 => h9) dX5_best_6 ?_
  refine lv_aload_n hx hb dX5_best_9 rfl (lv_at hl 0 rfl) ?_
  refine lv_iload_n hx hb dX5_best_10 rfl (lv_at hl 1 rfl) ?_
  refine lv_iconst (v := 0) hx hb dX5_best_11 (by decide) ?_
  replace h := b2_o h
  obtain ⟨x5, T4, e3, h⟩ := h
  refine tw_callV 2 (As := [.int v1, .int 0]) (rest := [.ref (o + 7)]) (v := (some (.int x5))) (T' := T4) (st1 := [.int x5, .ref (o + 7)]) hx hb hml hown hts hK hR (fun _ h9 => h9) (tw_A2 hR) hS (mX5_trip e3) (lw_V q2657 q2659 qs72 q137 q2660) (by decide +kernel) (Nat.le_of_ble_eq_true rfl) (Nat.le_of_ble_eq_true rfl) (Nat.zero_le _) (Nat.zero_le _) rfl hl.1 (Nat.le_of_ble_eq_true rfl) dX5_best_12 rfl rfl (fun H locs hR hS => ?_)
  replace h := bo_o h
  obtain ⟨x6, e7, h⟩ := h
  refine tw_lald (q := 7) hx hb hK hR rfl e7 dX5_best_15 ?_
  have eR := Option.some.inj h
  subst eR
  exact W.lret (v := x6) hx hb hr (fun t ht _ => tw_fin hR hS ht) hS.2.2 dX5_best_16
theorem mX5_best {l : Launch} {G : gE} {o : Nat} {v1 : Int32} {T : TW} {r : (Int64 × TW)}  (h : fX5_best v1 T = some r) : twM l G o yX5_best cX5_best 2 (some .long) 5 112 [.ref o, .int v1] T (some (.long r.1)) r.2 :=
  tw_of (by decide +kernel) (Nat.le_of_ble_eq_true rfl) (fun p e s m args below meth c ls B hR hl => bX5_best_0 B h hR va_S.rf hl)
noncomputable def fX5_isBestFrom (v1 : Int32) (v2 : Int32) (v3 : Int32) (T : TW) : Option ((Int32 × TW)) :=
  b2_ (fX5_isOpen v2 T) fun x3 T2 =>
  if x3 = 0 then (
    some (0, T2)
  ) else (
    b2_ (fX5_arc v2 0 T2) fun x7 T6 =>
    if x7 = v3 then (
      b2_ (fX5_arc v2 1 T6) fun x11 T10 =>
      (rd_ (tB T10 7) 10 x11).bind fun x12 =>
      if 0 ≤ lg_cmp x12 2305843009213693951 then (
        some (0, T10)
      ) else (
        b2_ (fX5_arc v2 1 T10) fun x17 T16 =>
        (rd_ (tB T16 7) 10 x17).bind fun x18 =>
        b2_ (fX5_weight v1 v2 T16) fun x22 T21 =>
        (rd_ (tB T21 7) 10 v3).bind fun x23 =>
        if lg_cmp (x18 + x22) x23 = 0 then (
          some (1, T21)
        ) else (
          some (0, T21)
        )
      )
    ) else (
      some (0, T6)
    )
  )
theorem bX5_isBestFrom_0 {p : Program} {l : Launch} {e : Env} {s : State} {m : MethodId} {args : Array Value} {below : List Frame} {meth : Method} {c : Code} {H : Heap} {locs : List Loc} {ls : Array Slot} {G : gE} {o : Nat} (B : gB G RX5 cX5_isBestFrom 4 (some .boolean) p s m args meth c) {v1 : Int32} {v2 : Int32} {v3 : Int32} {T : TW} {r : (Int32 × TW)} (h : fX5_isBestFrom v1 v2 v3 T = some r)   (hR : RepT G o T H) (hS : va_S (tFr o) s.heap H locs) (hl : lv_has ls 4 [(0, .ref o), (1, .int v1), (2, .int v2), (3, .int v3)]) : W p l e (gRm 4 89) s m args below meth c H locs 0 0 (twZ below args s G o (some (.int r.1)) r.2) (F0 m 0 ls []) := by
  have B0 := B
  obtain ⟨hx, hb, hml, hown, hts, hr, hlk, hK⟩ := B0
  unfold fX5_isBestFrom at h
  refine lv_aload_n hx hb dX5_isBestFrom_0 rfl (lv_at hl 0 rfl) ?_
  refine lv_iload_n hx hb dX5_isBestFrom_1 rfl (lv_at hl 2 rfl) ?_
  replace h := b2_o h
  obtain ⟨x3, T2, e1, h⟩ := h
  refine tw_callV 1 (As := [.int v2]) (rest := []) (v := (some (.int x3))) (T' := T2) (st1 := [.int x3]) hx hb hml hown hts hK hR (fun _ h9 => h9) (tw_A2 hR) hS (mX5_isOpen e1) (lw_V q2735 q2737 qs79 q137 q2738) (by decide +kernel) (Nat.le_of_ble_eq_true rfl) (Nat.le_of_ble_eq_true rfl) (Nat.zero_le _) (Nat.zero_le _) rfl hl.1 (Nat.le_of_ble_eq_true rfl) dX5_isBestFrom_2 rfl rfl (fun H locs hR hS => ?_)
  refine lv_if_eq (tgt := 68) hx hb dX5_isBestFrom_5 (by decide) (fun c4 => ?_) (fun c4 => ?_)
  · replace h := it_o c4 h
    refine lv_iconst (v := 0) hx hb dX5_isBestFrom_68 (by decide) ?_
    have eR := Option.some.inj h
    subst eR
    exact W.zret (v := 0) hx hb hr rfl (fun t ht _ => tw_fin hR hS ht) hS.2.2 dX5_isBestFrom_69
  · replace h := if_o c4 h
    refine lv_aload_n hx hb dX5_isBestFrom_8 rfl (lv_at hl 0 rfl) ?_
    refine lv_iload_n hx hb dX5_isBestFrom_9 rfl (lv_at hl 2 rfl) ?_
    refine lv_iconst (v := 0) hx hb dX5_isBestFrom_10 (by decide) ?_
    replace h := b2_o h
    obtain ⟨x7, T6, e5, h⟩ := h
    refine tw_callV 2 (As := [.int v2, .int 0]) (rest := []) (v := (some (.int x7))) (T' := T6) (st1 := [.int x7]) hx hb hml hown hts hK hR (fun _ h9 => h9) (tw_A2 hR) hS (mX5_arc e5) (lw_V q2637 q2639 qs69 q137 q2640) (by decide +kernel) (Nat.le_of_ble_eq_true rfl) (Nat.le_of_ble_eq_true rfl) (Nat.zero_le _) (Nat.zero_le _) rfl hl.1 (Nat.le_of_ble_eq_true rfl) dX5_isBestFrom_11 rfl rfl (fun H locs hR hS => ?_)
    refine lv_iload_n hx hb dX5_isBestFrom_14 rfl (lv_at hl 3 rfl) ?_
    refine lv_icmp_ne (tgt := 68) hx hb dX5_isBestFrom_15 (by decide) (fun c8 => ?_) (fun c8 => ?_)
    · replace h := if_o c8 h
      refine lv_iconst (v := 0) hx hb dX5_isBestFrom_68 (by decide) ?_
      have eR := Option.some.inj h
      subst eR
      exact W.zret (v := 0) hx hb hr rfl (fun t ht _ => tw_fin hR hS ht) hS.2.2 dX5_isBestFrom_69
    · replace h := it_o c8 h
      refine lv_aload_n hx hb dX5_isBestFrom_18 rfl (lv_at hl 0 rfl) ?_
      refine tw_get (k := 16) (v := .ref (o + 7)) hx hb hts hown hK hR (by decide) q2449 rfl (fun _ h9 => h9) dX5_isBestFrom_19 ?_
      refine lv_aload_n hx hb dX5_isBestFrom_22 rfl (lv_at hl 0 rfl) ?_
      refine lv_iload_n hx hb dX5_isBestFrom_23 rfl (lv_at hl 2 rfl) ?_
      refine lv_iconst (v := 1) hx hb dX5_isBestFrom_24 (by decide) ?_
      replace h := b2_o h
      obtain ⟨x11, T10, e9, h⟩ := h
      refine tw_callV 2 (As := [.int v2, .int 1]) (rest := [.ref (o + 7)]) (v := (some (.int x11))) (T' := T10) (st1 := [.int x11, .ref (o + 7)]) hx hb hml hown hts hK hR (fun _ h9 => h9) (tw_A2 hR) hS (mX5_arc e9) (lw_V q2637 q2639 qs69 q137 q2640) (by decide +kernel) (Nat.le_of_ble_eq_true rfl) (Nat.le_of_ble_eq_true rfl) (Nat.zero_le _) (Nat.zero_le _) rfl hl.1 (Nat.le_of_ble_eq_true rfl) dX5_isBestFrom_25 rfl rfl (fun H locs hR hS => ?_)
      replace h := bo_o h
      obtain ⟨x12, e13, h⟩ := h
      refine tw_lald (q := 7) hx hb hK hR rfl e13 dX5_isBestFrom_28 ?_
      refine lv_ldc2 (v := 2305843009213693951) hx hb hown (hts _ q2734) dX5_isBestFrom_29 ?_
      refine W.lcmp hx hb dX5_isBestFrom_32 ?_
      refine lv_if_ge (tgt := 68) hx hb dX5_isBestFrom_33 (by decide) (fun c14 => ?_) (fun c14 => ?_)
      · replace h := it_o c14 h
        refine lv_iconst (v := 0) hx hb dX5_isBestFrom_68 (by decide) ?_
        have eR := Option.some.inj h
        subst eR
        exact W.zret (v := 0) hx hb hr rfl (fun t ht _ => tw_fin hR hS ht) hS.2.2 dX5_isBestFrom_69
      · replace h := if_o c14 h
        refine lv_aload_n hx hb dX5_isBestFrom_36 rfl (lv_at hl 0 rfl) ?_
        refine tw_get (k := 16) (v := .ref (o + 7)) hx hb hts hown hK hR (by decide) q2449 rfl (fun _ h9 => h9) dX5_isBestFrom_37 ?_
        refine lv_aload_n hx hb dX5_isBestFrom_40 rfl (lv_at hl 0 rfl) ?_
        refine lv_iload_n hx hb dX5_isBestFrom_41 rfl (lv_at hl 2 rfl) ?_
        refine lv_iconst (v := 1) hx hb dX5_isBestFrom_42 (by decide) ?_
        replace h := b2_o h
        obtain ⟨x17, T16, e15, h⟩ := h
        refine tw_callV 2 (As := [.int v2, .int 1]) (rest := [.ref (o + 7)]) (v := (some (.int x17))) (T' := T16) (st1 := [.int x17, .ref (o + 7)]) hx hb hml hown hts hK hR (fun _ h9 => h9) (tw_A2 hR) hS (mX5_arc e15) (lw_V q2637 q2639 qs69 q137 q2640) (by decide +kernel) (Nat.le_of_ble_eq_true rfl) (Nat.le_of_ble_eq_true rfl) (Nat.zero_le _) (Nat.zero_le _) rfl hl.1 (Nat.le_of_ble_eq_true rfl) dX5_isBestFrom_43 rfl rfl (fun H locs hR hS => ?_)
        replace h := bo_o h
        obtain ⟨x18, e19, h⟩ := h
        refine tw_lald (q := 7) hx hb hK hR rfl e19 dX5_isBestFrom_46 ?_
        refine lv_aload_n hx hb dX5_isBestFrom_47 rfl (lv_at hl 0 rfl) ?_
        refine lv_iload_n hx hb dX5_isBestFrom_48 rfl (lv_at hl 1 rfl) ?_
        refine lv_iload_n hx hb dX5_isBestFrom_49 rfl (lv_at hl 2 rfl) ?_
        replace h := b2_o h
        obtain ⟨x22, T21, e20, h⟩ := h
        refine tw_callV 2 (As := [.int v1, .int v2]) (rest := [.long x18]) (v := (some (.long x22))) (T' := T21) (st1 := [.long x22, .long x18]) hx hb hml hown hts hK hR (fun _ h9 => h9) (tw_A2 hR) hS (mX5_weight e20) (lw_V q2742 q2744 qs80 q137 q2745) (by decide +kernel) (Nat.le_of_ble_eq_true rfl) (Nat.le_of_ble_eq_true rfl) (Nat.zero_le _) (Nat.zero_le _) rfl hl.1 (Nat.le_of_ble_eq_true rfl) dX5_isBestFrom_50 rfl rfl (fun H locs hR hS => ?_)
        refine lv_ladd hx hb dX5_isBestFrom_53 ?_
        refine lv_aload_n hx hb dX5_isBestFrom_54 rfl (lv_at hl 0 rfl) ?_
        refine tw_get (k := 16) (v := .ref (o + 7)) hx hb hts hown hK hR (by decide) q2449 rfl (fun _ h9 => h9) dX5_isBestFrom_55 ?_
        refine lv_iload_n hx hb dX5_isBestFrom_58 rfl (lv_at hl 3 rfl) ?_
        replace h := bo_o h
        obtain ⟨x23, e24, h⟩ := h
        refine tw_lald (q := 7) hx hb hK hR rfl e24 dX5_isBestFrom_59 ?_
        refine W.lcmp hx hb dX5_isBestFrom_60 ?_
        refine lv_if_ne (tgt := 68) hx hb dX5_isBestFrom_61 (by decide) (fun c25 => ?_) (fun c25 => ?_)
        · replace h := if_o c25 h
          refine lv_iconst (v := 0) hx hb dX5_isBestFrom_68 (by decide) ?_
          have eR := Option.some.inj h
          subst eR
          exact W.zret (v := 0) hx hb hr rfl (fun t ht _ => tw_fin hR hS ht) hS.2.2 dX5_isBestFrom_69
        · replace h := it_o c25 h
          refine lv_iconst (v := 1) hx hb dX5_isBestFrom_64 (by decide) ?_
          refine lv_goto (tgt := 69) hx hb dX5_isBestFrom_65 (by decide) ?_
          have eR := Option.some.inj h
          subst eR
          exact W.zret (v := 1) hx hb hr rfl (fun t ht _ => tw_fin hR hS ht) hS.2.2 dX5_isBestFrom_69
theorem mX5_isBestFrom {l : Launch} {G : gE} {o : Nat} {v1 : Int32} {v2 : Int32} {v3 : Int32} {T : TW} {r : (Int32 × TW)}  (h : fX5_isBestFrom v1 v2 v3 T = some r) : twM l G o yX5_isBestFrom cX5_isBestFrom 4 (some .boolean) 4 89 [.ref o, .int v1, .int v2, .int v3] T (some (.int r.1)) r.2 :=
  tw_of (by decide +kernel) (Nat.le_of_ble_eq_true rfl) (fun p e s m args below meth c ls B hR hl => bX5_isBestFrom_0 B h hR va_S.rf hl)
noncomputable def fX5_laysPath_b54 (v1 : Int32) (v3 : Int32) (T : TW) : Option (Sum (Int32 × TW) ((Int32 × TW))) :=
  (wrA T 8 10 (tI T 21) v3).bind fun T1 =>
  nm_ (tsI T1 21 ((tI T1 21) + 1)) fun T3 =>
  b2_ (fX5_arc v3 1 T3) fun x7 T6 =>
  some (.inl (x7, T6))
theorem bX5_laysPath_54 {p : Program} {l : Launch} {e : Env} {s : State} {m : MethodId} {args : Array Value} {below : List Frame} {meth : Method} {c : Code} {H : Heap} {locs : List Loc} {ls : Array Slot} {G : gE} {o : Nat} (B : gB G RX5 cX5_laysPath 4 (some .boolean) p s m args meth c) {v1 : Int32} {v3 : Int32} {T : TW} {x : Sum (Int32 × TW) ((Int32 × TW))} {r : (Int32 × TW)} (h : fX5_laysPath_b54 v1 v3 T = some x)  (k26 : ∀ (v2' : Int32) (T' : TW), x = (.inl (v2', T')) → ∀ (H : Heap) (locs : List Loc) (ls : Array Slot), RepT G o (T') H → va_S (tFr o) s.heap H locs → lv_has ls 4 [(0, .ref o), (1, .int v1), (2, .int v2')] → W p l e (gRm 6 133) s m args below meth c H locs 0 0 (twZ below args s G o (some (.int r.1)) r.2) (F0 m 26 ls [])) (kR : ∀ q, x = (.inr q) → q = r) (hR : RepT G o T H) (hS : va_S (tFr o) s.heap H locs) (hl : lv_has ls 4 [(0, .ref o), (1, .int v1), (3, .int v3)]) : W p l e (gRm 6 133) s m args below meth c H locs 0 0 (twZ below args s G o (some (.int r.1)) r.2) (F0 m 54 ls []) := by
  have B0 := B
  obtain ⟨hx, hb, hml, hown, hts, hr, hlk, hK⟩ := B0
  unfold fX5_laysPath_b54 at h
  refine lv_aload_n hx hb dX5_laysPath_54 rfl (lv_at hl 0 rfl) ?_
  refine tw_get (k := 20) (v := .ref (o + 8)) hx hb hts hown hK hR (by decide) q2453 rfl (fun _ h9 => h9) dX5_laysPath_55 ?_
  refine lv_aload_n hx hb dX5_laysPath_58 rfl (lv_at hl 0 rfl) ?_
  refine tw_get (k := 21) (v := .int (tI T 21)) hx hb hts hown hK hR (by decide) q2454 rfl (fun _ h9 => h9) dX5_laysPath_59 ?_
  refine lv_iload_n hx hb dX5_laysPath_62 rfl (lv_at hl 2 rfl) ?_
  replace h := bo_o h
  obtain ⟨T1, e2, h⟩ := h
  refine tw_iast (q := 8) hx hb hK hR (fun _ h9 => h9) hS rfl (fun _ => rfl) e2 dX5_laysPath_63 (fun H locs hR hS => ?_)
  refine lv_aload_n hx hb dX5_laysPath_64 rfl (lv_at hl 0 rfl) ?_
  refine lv_dup hx hb dX5_laysPath_65 rfl ?_
  refine tw_get (k := 21) (v := .int (tI T1 21)) hx hb hts hown hK hR (by decide) q2454 rfl (fun _ h9 => h9) dX5_laysPath_66 ?_
  refine lv_iconst (v := 1) hx hb dX5_laysPath_69 (by decide) ?_
  refine lv_iadd hx hb dX5_laysPath_70 ?_
  replace h := nm_o h
  obtain ⟨T3, e4, h⟩ := h
  refine tw_putI (k := 21) (x := (tI T1 21) + 1) (ty := .int) (T' := T3) hx hb hts hown hK hR (fun _ h9 => h9) hS (by decide) rfl e4 q2454 (fun _ h9 => h9) rfl (by decide +kernel) rfl rfl dX5_laysPath_71 (fun H locs hR hS => ?_)
  refine lv_aload_n hx hb dX5_laysPath_74 rfl (lv_at hl 0 rfl) ?_
  refine lv_iload_n hx hb dX5_laysPath_75 rfl (lv_at hl 2 rfl) ?_
  refine lv_iconst (v := 1) hx hb dX5_laysPath_76 (by decide) ?_
  replace h := b2_o h
  obtain ⟨x7, T6, e5, h⟩ := h
  refine tw_callV 2 (As := [.int v3, .int 1]) (rest := []) (v := (some (.int x7))) (T' := T6) (st1 := [.int x7]) hx hb hml hown hts hK hR (fun _ h9 => h9) (tw_A2 hR) hS (mX5_arc e5) (lw_V q2637 q2639 qs69 q137 q2640) (by decide +kernel) (Nat.le_of_ble_eq_true rfl) (Nat.le_of_ble_eq_true rfl) (Nat.zero_le _) (Nat.zero_le _) rfl hl.1 (Nat.le_of_ble_eq_true rfl) dX5_laysPath_77 rfl rfl (fun H locs hR hS => ?_)
  refine lv_istore_n (lv' := [(2, .int x7), (0, .ref o), (1, .int v1), (3, .int v3)]) hx hb dX5_laysPath_80 rfl hl (by decide) rfl (fun ls hl => ?_)
  refine lv_goto (tgt := 26) hx hb dX5_laysPath_81 (by decide) ?_
  exact k26 _ _ (Option.some.inj h).symm H locs ls hR hS (lv_sub hl [1, 2, 0] rfl)
noncomputable def fX5_laysPath_b38 (v1 : Int32) (v2 : Int32) (v3 : Int32) (T : TW) : Option (Sum (Int32 × TW) (Sum (Int32 × TW) ((Int32 × TW)))) :=
  b2_ (fX5_isBestFrom v1 v3 v2 T) fun x3 T2 =>
  if x3 = 0 then (
    some (.inl (v3 + 1, T2))
  ) else (
    (fX5_laysPath_b54 v1 v3 T2).map (fun y => (.inr y))
  )
theorem bX5_laysPath_38 {p : Program} {l : Launch} {e : Env} {s : State} {m : MethodId} {args : Array Value} {below : List Frame} {meth : Method} {c : Code} {H : Heap} {locs : List Loc} {ls : Array Slot} {G : gE} {o : Nat} (B : gB G RX5 cX5_laysPath 4 (some .boolean) p s m args meth c) {v1 : Int32} {v2 : Int32} {v3 : Int32} {T : TW} {x : Sum (Int32 × TW) (Sum (Int32 × TW) ((Int32 × TW)))} {r : (Int32 × TW)} (h : fX5_laysPath_b38 v1 v2 v3 T = some x)  (k38 : ∀ (v3' : Int32) (T' : TW), x = (.inl (v3', T')) → ∀ (H : Heap) (locs : List Loc) (ls : Array Slot), RepT G o (T') H → va_S (tFr o) s.heap H locs → lv_has ls 4 [(0, .ref o), (1, .int v1), (2, .int v2), (3, .int v3')] → W p l e (gRm 6 133) s m args below meth c H locs 0 0 (twZ below args s G o (some (.int r.1)) r.2) (F0 m 38 ls [])) (k26 : ∀ (v2' : Int32) (T' : TW), x = (.inr (.inl (v2', T'))) → ∀ (H : Heap) (locs : List Loc) (ls : Array Slot), RepT G o (T') H → va_S (tFr o) s.heap H locs → lv_has ls 4 [(0, .ref o), (1, .int v1), (2, .int v2')] → W p l e (gRm 6 133) s m args below meth c H locs 0 0 (twZ below args s G o (some (.int r.1)) r.2) (F0 m 26 ls [])) (kR : ∀ q, x = (.inr (.inr q)) → q = r) (hR : RepT G o T H) (hS : va_S (tFr o) s.heap H locs) (hl : lv_has ls 4 [(0, .ref o), (1, .int v1), (2, .int v2), (3, .int v3)]) : W p l e (gRm 6 133) s m args below meth c H locs 0 0 (twZ below args s G o (some (.int r.1)) r.2) (F0 m 38 ls []) := by
  have B0 := B
  obtain ⟨hx, hb, hml, hown, hts, hr, hlk, hK⟩ := B0
  unfold fX5_laysPath_b38 at h
  refine lv_aload_n hx hb dX5_laysPath_38 rfl (lv_at hl 0 rfl) ?_
  refine lv_iload_n hx hb dX5_laysPath_39 rfl (lv_at hl 1 rfl) ?_
  refine lv_iload_n hx hb dX5_laysPath_40 rfl (lv_at hl 3 rfl) ?_
  refine lv_iload_n hx hb dX5_laysPath_41 rfl (lv_at hl 2 rfl) ?_
  replace h := b2_o h
  obtain ⟨x3, T2, e1, h⟩ := h
  refine tw_callV 3 (As := [.int v1, .int v3, .int v2]) (rest := []) (v := (some (.int x3))) (T' := T2) (st1 := [.int x3]) hx hb hml hown hts hK hR (fun _ h9 => h9) (tw_A2 hR) hS (mX5_isBestFrom e1) (lw_V q2753 q2755 qs82 q137 q2756) (by decide +kernel) (Nat.le_of_ble_eq_true rfl) (Nat.le_of_ble_eq_true rfl) (Nat.zero_le _) (Nat.zero_le _) rfl hl.1 (Nat.le_of_ble_eq_true rfl) dX5_laysPath_42 rfl rfl (fun H locs hR hS => ?_)
  refine lv_if_ne (tgt := 54) hx hb dX5_laysPath_45 (by decide) (fun c4 => ?_) (fun c4 => ?_)
  · replace h := if_o c4 h
    obtain ⟨y, h, ey⟩ := mp_o h
    exact bX5_laysPath_54 B h (fun _ _ e => k26 _ _ (by rw [← ey, e])) (fun q e => kR q (by rw [← ey, e])) hR hS (lv_sub hl [0, 1, 3] rfl)
  · replace h := it_o c4 h
    refine lv_iinc (v := v3 + 1) (lv' := [(3, .int (v3 + 1)), (0, .ref o), (1, .int v1), (2, .int v2)]) hx hb dX5_laysPath_48 hl (k := 3) rfl rfl (by decide) rfl (fun ls hl => ?_)
    refine lv_goto (tgt := 38) hx hb dX5_laysPath_51 (by decide) ?_
    exact k38 _ _ (Option.some.inj h).symm H locs ls hR hS (lv_sub hl [1, 2, 3, 0] rfl)
noncomputable def fX5_laysPath_l38 (v1 : Int32) (v2 : Int32) (v3 : Int32) (T : TW) : Option (Sum (Int32 × TW) ((Int32 × TW))) := whileO (fun q => fX5_laysPath_b38 v1 v2 q.1 q.2) (v3, T)
theorem lX5_laysPath_38 {p : Program} {l : Launch} {e : Env} {s : State} {m : MethodId} {args : Array Value} {below : List Frame} {meth : Method} {c : Code} {G : gE} {o : Nat} (B : gB G RX5 cX5_laysPath 4 (some .boolean) p s m args meth c) {v1 : Int32} {v2 : Int32} {x : Sum (Int32 × TW) ((Int32 × TW))} {r : (Int32 × TW)}  (k26 : ∀ (v2' : Int32) (T' : TW), x = (.inl (v2', T')) → ∀ (H : Heap) (locs : List Loc) (ls : Array Slot), RepT G o (T') H → va_S (tFr o) s.heap H locs → lv_has ls 4 [(0, .ref o), (1, .int v1), (2, .int v2')] → W p l e (gRm 6 133) s m args below meth c H locs 0 0 (twZ below args s G o (some (.int r.1)) r.2) (F0 m 26 ls [])) (kR : ∀ q, x = (.inr q) → q = r) : ∀ (v3 : Int32) (T : TW), fX5_laysPath_l38 v1 v2 v3 T = some x → ∀ (H : Heap) (locs : List Loc) (ls : Array Slot), RepT G o (T) H → va_S (tFr o) s.heap H locs → lv_has ls 4 [(0, .ref o), (1, .int v1), (2, .int v2), (3, .int v3)] → W p l e (gRm 6 133) s m args below meth c H locs 0 0 (twZ below args s G o (some (.int r.1)) r.2) (F0 m 38 ls []) := by
  intro v3 T h
  refine wh_walk (body := (fun q => fX5_laysPath_b38 v1 v2 q.1 q.2)) (P := (fun q : (Int32 × TW) => ∀ (H : Heap) (locs : List Loc) (ls : Array Slot), RepT G o (q.2) H → va_S (tFr o) s.heap H locs → lv_has ls 4 [(0, .ref o), (1, .int v1), (2, .int v2), (3, .int (q.1))] → W p l e (gRm 6 133) s m args below meth c H locs 0 0 (twZ below args s G o (some (.int r.1)) r.2) (F0 m 38 ls []))) (r := x) ?_ (v3, T) h
  intro q y hy hL hr H locs ls hR hS hl
  exact bX5_laysPath_38 (r := r) B hy (fun a0 a1 e => hL (a0, a1) e) (fun a0 a1 e H locs ls hR hS hl => k26 _ _ ((hr _ e).symm) H locs ls hR hS hl) (fun q e => kR q ((hr _ e).symm)) hR hS hl
noncomputable def fX5_laysPath_b26 (v1 : Int32) (v2 : Int32) (T : TW) : Option (Sum (Int32 × TW) ((Int32 × TW))) :=
  b2_ (fX5_trip v1 1 T) fun x3 T2 =>
  if v2 = x3 then (
    some (.inr (1, T2))
  ) else (
    fX5_laysPath_l38 v1 v2 0 T2
  )
theorem bX5_laysPath_26 {p : Program} {l : Launch} {e : Env} {s : State} {m : MethodId} {args : Array Value} {below : List Frame} {meth : Method} {c : Code} {H : Heap} {locs : List Loc} {ls : Array Slot} {G : gE} {o : Nat} (B : gB G RX5 cX5_laysPath 4 (some .boolean) p s m args meth c) {v1 : Int32} {v2 : Int32} {T : TW} {x : Sum (Int32 × TW) ((Int32 × TW))} {r : (Int32 × TW)} (h : fX5_laysPath_b26 v1 v2 T = some x)  (k26 : ∀ (v2' : Int32) (T' : TW), x = (.inl (v2', T')) → ∀ (H : Heap) (locs : List Loc) (ls : Array Slot), RepT G o (T') H → va_S (tFr o) s.heap H locs → lv_has ls 4 [(0, .ref o), (1, .int v1), (2, .int v2')] → W p l e (gRm 6 133) s m args below meth c H locs 0 0 (twZ below args s G o (some (.int r.1)) r.2) (F0 m 26 ls [])) (kR : ∀ q, x = (.inr q) → q = r) (hR : RepT G o T H) (hS : va_S (tFr o) s.heap H locs) (hl : lv_has ls 4 [(0, .ref o), (1, .int v1), (2, .int v2)]) : W p l e (gRm 6 133) s m args below meth c H locs 0 0 (twZ below args s G o (some (.int r.1)) r.2) (F0 m 26 ls []) := by
  have B0 := B
  obtain ⟨hx, hb, hml, hown, hts, hr, hlk, hK⟩ := B0
  unfold fX5_laysPath_b26 at h
  refine lv_iload_n hx hb dX5_laysPath_26 rfl (lv_at hl 2 rfl) ?_
  refine lv_aload_n hx hb dX5_laysPath_27 rfl (lv_at hl 0 rfl) ?_
  refine lv_iload_n hx hb dX5_laysPath_28 rfl (lv_at hl 1 rfl) ?_
  refine lv_iconst (v := 1) hx hb dX5_laysPath_29 (by decide) ?_
  replace h := b2_o h
  obtain ⟨x3, T2, e1, h⟩ := h
  refine tw_callV 2 (As := [.int v1, .int 1]) (rest := [.int v2]) (v := (some (.int x3))) (T' := T2) (st1 := [.int x3, .int v2]) hx hb hml hown hts hK hR (fun _ h9 => h9) (tw_A2 hR) hS (mX5_trip e1) (lw_V q2657 q2659 qs72 q137 q2660) (by decide +kernel) (Nat.le_of_ble_eq_true rfl) (Nat.le_of_ble_eq_true rfl) (Nat.zero_le _) (Nat.zero_le _) rfl hl.1 (Nat.le_of_ble_eq_true rfl) dX5_laysPath_30 rfl rfl (fun H locs hR hS => ?_)
  refine lv_icmp_eq (tgt := 84) hx hb dX5_laysPath_33 (by decide) (fun c4 => ?_) (fun c4 => ?_)
  · replace h := it_o c4 h
    refine lv_iconst (v := 1) hx hb dX5_laysPath_84 (by decide) ?_
    have eR := kR _ (Option.some.inj h).symm
    subst eR
    exact W.zret (v := 1) hx hb hr rfl (fun t ht _ => tw_fin hR hS ht) hS.2.2 dX5_laysPath_85
  · replace h := if_o c4 h
    refine lv_iconst (v := 0) hx hb dX5_laysPath_36 (by decide) ?_
    refine lv_istore_n (lv' := [(3, .int 0), (0, .ref o), (1, .int v1), (2, .int v2)]) hx hb dX5_laysPath_37 rfl hl (by decide) rfl (fun ls hl => ?_)
    exact lX5_laysPath_38 (x := x) (r := r) B k26 kR _ _ h H locs ls hR hS (lv_sub hl [1, 2, 3, 0] rfl)
noncomputable def fX5_laysPath_l26 (v1 : Int32) (v2 : Int32) (T : TW) : Option ((Int32 × TW)) := whileO (fun q => fX5_laysPath_b26 v1 q.1 q.2) (v2, T)
theorem lX5_laysPath_26 {p : Program} {l : Launch} {e : Env} {s : State} {m : MethodId} {args : Array Value} {below : List Frame} {meth : Method} {c : Code} {G : gE} {o : Nat} (B : gB G RX5 cX5_laysPath 4 (some .boolean) p s m args meth c) {v1 : Int32} {r : (Int32 × TW)}   : ∀ (v2 : Int32) (T : TW), fX5_laysPath_l26 v1 v2 T = some r → ∀ (H : Heap) (locs : List Loc) (ls : Array Slot), RepT G o (T) H → va_S (tFr o) s.heap H locs → lv_has ls 4 [(0, .ref o), (1, .int v1), (2, .int v2)] → W p l e (gRm 6 133) s m args below meth c H locs 0 0 (twZ below args s G o (some (.int r.1)) r.2) (F0 m 26 ls []) := by
  intro v2 T h
  refine wh_walk (body := (fun q => fX5_laysPath_b26 v1 q.1 q.2)) (P := (fun q : (Int32 × TW) => ∀ (H : Heap) (locs : List Loc) (ls : Array Slot), RepT G o (q.2) H → va_S (tFr o) s.heap H locs → lv_has ls 4 [(0, .ref o), (1, .int v1), (2, .int (q.1))] → W p l e (gRm 6 133) s m args below meth c H locs 0 0 (twZ below args s G o (some (.int r.1)) r.2) (F0 m 26 ls []))) (r := r) ?_ (v2, T) h
  intro q y hy hL hr H locs ls hR hS hl
  exact bX5_laysPath_26 (r := r) B hy (fun a0 a1 e => hL (a0, a1) e) (fun q e => hr q e) hR hS hl
noncomputable def fX5_laysPath (v1 : Int32) (T : TW) : Option ((Int32 × TW)) :=
  nm_ (tsI T 21 0) fun T1 =>
  b2_ (fX5_best v1 T1) fun x5 T4 =>
  if lg_cmp x5 2305843009213693951 < 0 then (
    b2_ (fX5_trip v1 0 T4) fun x9 T8 =>
    fX5_laysPath_l26 v1 x9 T8
  ) else (
    some (0, T4)
  )
theorem bX5_laysPath_0 {p : Program} {l : Launch} {e : Env} {s : State} {m : MethodId} {args : Array Value} {below : List Frame} {meth : Method} {c : Code} {H : Heap} {locs : List Loc} {ls : Array Slot} {G : gE} {o : Nat} (B : gB G RX5 cX5_laysPath 4 (some .boolean) p s m args meth c) {v1 : Int32} {T : TW} {r : (Int32 × TW)} (h : fX5_laysPath v1 T = some r)   (hR : RepT G o T H) (hS : va_S (tFr o) s.heap H locs) (hl : lv_has ls 4 [(0, .ref o), (1, .int v1)]) : W p l e (gRm 6 133) s m args below meth c H locs 0 0 (twZ below args s G o (some (.int r.1)) r.2) (F0 m 0 ls []) := by
  have B0 := B
  obtain ⟨hx, hb, hml, hown, hts, hr, hlk, hK⟩ := B0
  unfold fX5_laysPath at h
  refine lv_aload_n hx hb dX5_laysPath_0 rfl (lv_at hl 0 rfl) ?_
  refine lv_iconst (v := 0) hx hb dX5_laysPath_1 (by decide) ?_
  replace h := nm_o h
  obtain ⟨T1, e2, h⟩ := h
  refine tw_putI (k := 21) (x := 0) (ty := .int) (T' := T1) hx hb hts hown hK hR (fun _ h9 => h9) hS (by decide) rfl e2 q2454 (fun _ h9 => h9) rfl (by decide +kernel) rfl rfl dX5_laysPath_2 (fun H locs hR hS => ?_)
  refine lv_aload_n hx hb dX5_laysPath_5 rfl (lv_at hl 0 rfl) ?_
  refine lv_iload_n hx hb dX5_laysPath_6 rfl (lv_at hl 1 rfl) ?_
  replace h := b2_o h
  obtain ⟨x5, T4, e3, h⟩ := h
  refine tw_callV 1 (As := [.int v1]) (rest := []) (v := (some (.long x5))) (T' := T4) (st1 := [.long x5]) hx hb hml hown hts hK hR (fun _ h9 => h9) (tw_A2 hR) hS (mX5_best e3) (lw_V q2726 q2728 qs77 q137 q2729) (by decide +kernel) (Nat.le_of_ble_eq_true rfl) (Nat.le_of_ble_eq_true rfl) (Nat.zero_le _) (Nat.zero_le _) rfl hl.1 (Nat.le_of_ble_eq_true rfl) dX5_laysPath_7 rfl rfl (fun H locs hR hS => ?_)
  refine lv_ldc2 (v := 2305843009213693951) hx hb hown (hts _ q2734) dX5_laysPath_10 ?_
  refine W.lcmp hx hb dX5_laysPath_13 ?_
  refine lv_if_lt (tgt := 19) hx hb dX5_laysPath_14 (by decide) (fun c6 => ?_) (fun c6 => ?_)
  · replace h := it_o c6 h
    refine lv_aload_n hx hb dX5_laysPath_19 rfl (lv_at hl 0 rfl) ?_
    refine lv_iload_n hx hb dX5_laysPath_20 rfl (lv_at hl 1 rfl) ?_
    refine lv_iconst (v := 0) hx hb dX5_laysPath_21 (by decide) ?_
    replace h := b2_o h
    obtain ⟨x9, T8, e7, h⟩ := h
    refine tw_callV 2 (As := [.int v1, .int 0]) (rest := []) (v := (some (.int x9))) (T' := T8) (st1 := [.int x9]) hx hb hml hown hts hK hR (fun _ h9 => h9) (tw_A2 hR) hS (mX5_trip e7) (lw_V q2657 q2659 qs72 q137 q2660) (by decide +kernel) (Nat.le_of_ble_eq_true rfl) (Nat.le_of_ble_eq_true rfl) (Nat.zero_le _) (Nat.zero_le _) rfl hl.1 (Nat.le_of_ble_eq_true rfl) dX5_laysPath_22 rfl rfl (fun H locs hR hS => ?_)
    refine lv_istore_n (lv' := [(2, .int x9), (0, .ref o), (1, .int v1)]) hx hb dX5_laysPath_25 rfl hl (by decide) rfl (fun ls hl => ?_)
    exact lX5_laysPath_26 B _ _ h H locs ls hR hS (lv_sub hl [1, 2, 0] rfl)
  · replace h := if_o c6 h
    refine lv_iconst (v := 0) hx hb dX5_laysPath_17 (by decide) ?_
    have eR := Option.some.inj h
    subst eR
    exact W.zret (v := 0) hx hb hr rfl (fun t ht _ => tw_fin hR hS ht) hS.2.2 dX5_laysPath_18
theorem mX5_laysPath {l : Launch} {G : gE} {o : Nat} {v1 : Int32} {T : TW} {r : (Int32 × TW)}  (h : fX5_laysPath v1 T = some r) : twM l G o yX5_laysPath cX5_laysPath 4 (some .boolean) 6 133 [.ref o, .int v1] T (some (.int r.1)) r.2 :=
  tw_of (by decide +kernel) (Nat.le_of_ble_eq_true rfl) (fun p e s m args below meth c ls B hR hl => bX5_laysPath_0 B h hR va_S.rf hl)
noncomputable def fX5_hasPath (v1 : Int32) (T : TW) : Option ((Int32 × TW)) :=
  b2_ (fX5_isTrip v1 T) fun x3 T2 =>
  b2_ (fX5_isThrown x3 1 T2) fun x6 T5 =>
  if x6 = 0 then (
    b2_ (fX5_laysPath v1 T5) fun x10 T9 =>
    if x10 = 0 then (
      some (0, T9)
    ) else (
      some (1, T9)
    )
  ) else (
    some (0, T5)
  )
theorem bX5_hasPath_0 {p : Program} {l : Launch} {e : Env} {s : State} {m : MethodId} {args : Array Value} {below : List Frame} {meth : Method} {c : Code} {H : Heap} {locs : List Loc} {ls : Array Slot} {G : gE} {o : Nat} (B : gB G RX5 cX5_hasPath 2 (some .boolean) p s m args meth c) {v1 : Int32} {T : TW} {r : (Int32 × TW)} (h : fX5_hasPath v1 T = some r)   (hR : RepT G o T H) (hS : va_S (tFr o) s.heap H locs) (hl : lv_has ls 2 [(0, .ref o), (1, .int v1)]) : W p l e (gRm 7 156) s m args below meth c H locs 0 0 (twZ below args s G o (some (.int r.1)) r.2) (F0 m 0 ls []) := by
  have B0 := B
  obtain ⟨hx, hb, hml, hown, hts, hr, hlk, hK⟩ := B0
  unfold fX5_hasPath at h
  refine lv_aload_n hx hb dX5_hasPath_0 rfl (lv_at hl 0 rfl) ?_
  refine lv_aload_n hx hb dX5_hasPath_1 rfl (lv_at hl 0 rfl) ?_
  refine lv_iload_n hx hb dX5_hasPath_2 rfl (lv_at hl 1 rfl) ?_
  replace h := b2_o h
  obtain ⟨x3, T2, e1, h⟩ := h
  refine tw_callV 1 (As := [.int v1]) (rest := [.ref o]) (v := (some (.int x3))) (T' := T2) (st1 := [.int x3, .ref o]) hx hb hml hown hts hK hR (fun _ h9 => h9) (tw_A2 hR) hS (mX5_isTrip e1) (lw_V q2653 q2655 qs71 q137 q2656) (by decide +kernel) (Nat.le_of_ble_eq_true rfl) (Nat.le_of_ble_eq_true rfl) (Nat.zero_le _) (Nat.zero_le _) rfl hl.1 (Nat.le_of_ble_eq_true rfl) dX5_hasPath_3 rfl rfl (fun H locs hR hS => ?_)
  refine lv_iconst (v := 1) hx hb dX5_hasPath_6 (by decide) ?_
  replace h := b2_o h
  obtain ⟨x6, T5, e4, h⟩ := h
  refine tw_callV 2 (As := [.int x3, .int 1]) (rest := []) (v := (some (.int x6))) (T' := T5) (st1 := [.int x6]) hx hb hml hown hts hK hR (fun _ h9 => h9) (tw_A2 hR) hS (mX5_isThrown e4) (lw_V q2633 q2635 qs68 q137 q2636) (by decide +kernel) (Nat.le_of_ble_eq_true rfl) (Nat.le_of_ble_eq_true rfl) (Nat.zero_le _) (Nat.zero_le _) rfl hl.1 (Nat.le_of_ble_eq_true rfl) dX5_hasPath_7 rfl rfl (fun H locs hR hS => ?_)
  refine lv_if_ne (tgt := 25) hx hb dX5_hasPath_10 (by decide) (fun c7 => ?_) (fun c7 => ?_)
  · replace h := if_o c7 h
    refine lv_iconst (v := 0) hx hb dX5_hasPath_25 (by decide) ?_
    have eR := Option.some.inj h
    subst eR
    exact W.zret (v := 0) hx hb hr rfl (fun t ht _ => tw_fin hR hS ht) hS.2.2 dX5_hasPath_26
  · replace h := it_o c7 h
    refine lv_aload_n hx hb dX5_hasPath_13 rfl (lv_at hl 0 rfl) ?_
    refine lv_iload_n hx hb dX5_hasPath_14 rfl (lv_at hl 1 rfl) ?_
    replace h := b2_o h
    obtain ⟨x10, T9, e8, h⟩ := h
    refine tw_callV 1 (As := [.int v1]) (rest := []) (v := (some (.int x10))) (T' := T9) (st1 := [.int x10]) hx hb hml hown hts hK hR (fun _ h9 => h9) (tw_A2 hR) hS (mX5_laysPath e8) (lw_V q2722 q2724 qs76 q137 q2725) (by decide +kernel) (Nat.le_of_ble_eq_true rfl) (Nat.le_of_ble_eq_true rfl) (Nat.zero_le _) (Nat.zero_le _) rfl hl.1 (Nat.le_of_ble_eq_true rfl) dX5_hasPath_15 rfl rfl (fun H locs hR hS => ?_)
    refine lv_if_eq (tgt := 25) hx hb dX5_hasPath_18 (by decide) (fun c11 => ?_) (fun c11 => ?_)
    · replace h := it_o c11 h
      refine lv_iconst (v := 0) hx hb dX5_hasPath_25 (by decide) ?_
      have eR := Option.some.inj h
      subst eR
      exact W.zret (v := 0) hx hb hr rfl (fun t ht _ => tw_fin hR hS ht) hS.2.2 dX5_hasPath_26
    · replace h := if_o c11 h
      refine lv_iconst (v := 1) hx hb dX5_hasPath_21 (by decide) ?_
      refine lv_goto (tgt := 26) hx hb dX5_hasPath_22 (by decide) ?_
      have eR := Option.some.inj h
      subst eR
      exact W.zret (v := 1) hx hb hr rfl (fun t ht _ => tw_fin hR hS ht) hS.2.2 dX5_hasPath_26
theorem mX5_hasPath {l : Launch} {G : gE} {o : Nat} {v1 : Int32} {T : TW} {r : (Int32 × TW)}  (h : fX5_hasPath v1 T = some r) : twM l G o yX5_hasPath cX5_hasPath 2 (some .boolean) 7 156 [.ref o, .int v1] T (some (.int r.1)) r.2 :=
  tw_of (by decide +kernel) (Nat.le_of_ble_eq_true rfl) (fun p e s m args below meth c ls B hR hl => bX5_hasPath_0 B h hR va_S.rf hl)
noncomputable def fX5_pathLength (v1 : Int32) (T : TW) : Option ((Int32 × TW)) :=
  b2_ (fX5_isTrip v1 T) fun x3 T2 =>
  b2_ (fX5_isThrown x3 1 T2) fun x6 T5 =>
  if x6 = 0 then (
    b2_ (fX5_laysPath v1 T5) fun x10 T9 =>
    if x10 = 0 then (
      some ((-1), T9)
    ) else (
      some (tI T9 21, T9)
    )
  ) else (
    some (0, T5)
  )
theorem bX5_pathLength_0 {p : Program} {l : Launch} {e : Env} {s : State} {m : MethodId} {args : Array Value} {below : List Frame} {meth : Method} {c : Code} {H : Heap} {locs : List Loc} {ls : Array Slot} {G : gE} {o : Nat} (B : gB G RX5 cX5_pathLength 2 (some .int) p s m args meth c) {v1 : Int32} {T : TW} {r : (Int32 × TW)} (h : fX5_pathLength v1 T = some r)   (hR : RepT G o T H) (hS : va_S (tFr o) s.heap H locs) (hl : lv_has ls 2 [(0, .ref o), (1, .int v1)]) : W p l e (gRm 7 156) s m args below meth c H locs 0 0 (twZ below args s G o (some (.int r.1)) r.2) (F0 m 0 ls []) := by
  have B0 := B
  obtain ⟨hx, hb, hml, hown, hts, hr, hlk, hK⟩ := B0
  unfold fX5_pathLength at h
  refine lv_aload_n hx hb dX5_pathLength_0 rfl (lv_at hl 0 rfl) ?_
  refine lv_aload_n hx hb dX5_pathLength_1 rfl (lv_at hl 0 rfl) ?_
  refine lv_iload_n hx hb dX5_pathLength_2 rfl (lv_at hl 1 rfl) ?_
  replace h := b2_o h
  obtain ⟨x3, T2, e1, h⟩ := h
  refine tw_callV 1 (As := [.int v1]) (rest := [.ref o]) (v := (some (.int x3))) (T' := T2) (st1 := [.int x3, .ref o]) hx hb hml hown hts hK hR (fun _ h9 => h9) (tw_A2 hR) hS (mX5_isTrip e1) (lw_V q2653 q2655 qs71 q137 q2656) (by decide +kernel) (Nat.le_of_ble_eq_true rfl) (Nat.le_of_ble_eq_true rfl) (Nat.zero_le _) (Nat.zero_le _) rfl hl.1 (Nat.le_of_ble_eq_true rfl) dX5_pathLength_3 rfl rfl (fun H locs hR hS => ?_)
  refine lv_iconst (v := 1) hx hb dX5_pathLength_6 (by decide) ?_
  replace h := b2_o h
  obtain ⟨x6, T5, e4, h⟩ := h
  refine tw_callV 2 (As := [.int x3, .int 1]) (rest := []) (v := (some (.int x6))) (T' := T5) (st1 := [.int x6]) hx hb hml hown hts hK hR (fun _ h9 => h9) (tw_A2 hR) hS (mX5_isThrown e4) (lw_V q2633 q2635 qs68 q137 q2636) (by decide +kernel) (Nat.le_of_ble_eq_true rfl) (Nat.le_of_ble_eq_true rfl) (Nat.zero_le _) (Nat.zero_le _) rfl hl.1 (Nat.le_of_ble_eq_true rfl) dX5_pathLength_7 rfl rfl (fun H locs hR hS => ?_)
  refine lv_if_eq (tgt := 15) hx hb dX5_pathLength_10 (by decide) (fun c7 => ?_) (fun c7 => ?_)
  · replace h := it_o c7 h
    refine lv_aload_n hx hb dX5_pathLength_15 rfl (lv_at hl 0 rfl) ?_
    refine lv_iload_n hx hb dX5_pathLength_16 rfl (lv_at hl 1 rfl) ?_
    replace h := b2_o h
    obtain ⟨x10, T9, e8, h⟩ := h
    refine tw_callV 1 (As := [.int v1]) (rest := []) (v := (some (.int x10))) (T' := T9) (st1 := [.int x10]) hx hb hml hown hts hK hR (fun _ h9 => h9) (tw_A2 hR) hS (mX5_laysPath e8) (lw_V q2722 q2724 qs76 q137 q2725) (by decide +kernel) (Nat.le_of_ble_eq_true rfl) (Nat.le_of_ble_eq_true rfl) (Nat.zero_le _) (Nat.zero_le _) rfl hl.1 (Nat.le_of_ble_eq_true rfl) dX5_pathLength_17 rfl rfl (fun H locs hR hS => ?_)
    refine lv_if_eq (tgt := 30) hx hb dX5_pathLength_20 (by decide) (fun c11 => ?_) (fun c11 => ?_)
    · replace h := it_o c11 h
      refine lv_iconst (v := (-1)) hx hb dX5_pathLength_30 (by decide) ?_
      have eR := Option.some.inj h
      subst eR
      exact W.iret (v := (-1)) hx hb hr (fun t ht _ => tw_fin hR hS ht) hS.2.2 dX5_pathLength_31
    · replace h := if_o c11 h
      refine lv_aload_n hx hb dX5_pathLength_23 rfl (lv_at hl 0 rfl) ?_
      refine tw_get (k := 21) (v := .int (tI T9 21)) hx hb hts hown hK hR (by decide) q2454 rfl (fun _ h9 => h9) dX5_pathLength_24 ?_
      refine lv_goto (tgt := 31) hx hb dX5_pathLength_27 (by decide) ?_
      have eR := Option.some.inj h
      subst eR
      exact W.iret (v := tI T9 21) hx hb hr (fun t ht _ => tw_fin hR hS ht) hS.2.2 dX5_pathLength_31
  · replace h := if_o c7 h
    refine lv_iconst (v := 0) hx hb dX5_pathLength_13 (by decide) ?_
    have eR := Option.some.inj h
    subst eR
    exact W.iret (v := 0) hx hb hr (fun t ht _ => tw_fin hR hS ht) hS.2.2 dX5_pathLength_14
theorem mX5_pathLength {l : Launch} {G : gE} {o : Nat} {v1 : Int32} {T : TW} {r : (Int32 × TW)}  (h : fX5_pathLength v1 T = some r) : twM l G o yX5_pathLength cX5_pathLength 2 (some .int) 7 156 [.ref o, .int v1] T (some (.int r.1)) r.2 :=
  tw_of (by decide +kernel) (Nat.le_of_ble_eq_true rfl) (fun p e s m args below meth c ls B hR hl => bX5_pathLength_0 B h hR va_S.rf hl)
noncomputable def fX5_pathArc (v1 : Int32) (v2 : Int32) (T : TW) : Option ((Int32 × TW)) :=
  b2_ (fX5_isTrip v1 T) fun x3 T2 =>
  b2_ (fX5_isThrown x3 1 T2) fun x6 T5 =>
  if x6 = 0 then (
    b2_ (fX5_laysPath v1 T5) fun x10 T9 =>
    if x10 = 0 then (
      some ((-1), T9)
    ) else (
      b2_ (fX5_in v2 0 ((tI T9 21) - 1) T9) fun x14 T13 =>
      if x14 = 0 then (
        some ((-1), T13)
      ) else (
        (rd_ (tA T13 8) 10 v2).bind fun x16 =>
        some (x16, T13)
      )
    )
  ) else (
    some (0, T5)
  )
theorem bX5_pathArc_0 {p : Program} {l : Launch} {e : Env} {s : State} {m : MethodId} {args : Array Value} {below : List Frame} {meth : Method} {c : Code} {H : Heap} {locs : List Loc} {ls : Array Slot} {G : gE} {o : Nat} (B : gB G RX5 cX5_pathArc 3 (some .int) p s m args meth c) {v1 : Int32} {v2 : Int32} {T : TW} {r : (Int32 × TW)} (h : fX5_pathArc v1 v2 T = some r)   (hR : RepT G o T H) (hS : va_S (tFr o) s.heap H locs) (hl : lv_has ls 3 [(0, .ref o), (1, .int v1), (2, .int v2)]) : W p l e (gRm 7 156) s m args below meth c H locs 0 0 (twZ below args s G o (some (.int r.1)) r.2) (F0 m 0 ls []) := by
  have B0 := B
  obtain ⟨hx, hb, hml, hown, hts, hr, hlk, hK⟩ := B0
  unfold fX5_pathArc at h
  refine lv_aload_n hx hb dX5_pathArc_0 rfl (lv_at hl 0 rfl) ?_
  refine lv_aload_n hx hb dX5_pathArc_1 rfl (lv_at hl 0 rfl) ?_
  refine lv_iload_n hx hb dX5_pathArc_2 rfl (lv_at hl 1 rfl) ?_
  replace h := b2_o h
  obtain ⟨x3, T2, e1, h⟩ := h
  refine tw_callV 1 (As := [.int v1]) (rest := [.ref o]) (v := (some (.int x3))) (T' := T2) (st1 := [.int x3, .ref o]) hx hb hml hown hts hK hR (fun _ h9 => h9) (tw_A2 hR) hS (mX5_isTrip e1) (lw_V q2653 q2655 qs71 q137 q2656) (by decide +kernel) (Nat.le_of_ble_eq_true rfl) (Nat.le_of_ble_eq_true rfl) (Nat.zero_le _) (Nat.zero_le _) rfl hl.1 (Nat.le_of_ble_eq_true rfl) dX5_pathArc_3 rfl rfl (fun H locs hR hS => ?_)
  refine lv_iconst (v := 1) hx hb dX5_pathArc_6 (by decide) ?_
  replace h := b2_o h
  obtain ⟨x6, T5, e4, h⟩ := h
  refine tw_callV 2 (As := [.int x3, .int 1]) (rest := []) (v := (some (.int x6))) (T' := T5) (st1 := [.int x6]) hx hb hml hown hts hK hR (fun _ h9 => h9) (tw_A2 hR) hS (mX5_isThrown e4) (lw_V q2633 q2635 qs68 q137 q2636) (by decide +kernel) (Nat.le_of_ble_eq_true rfl) (Nat.le_of_ble_eq_true rfl) (Nat.zero_le _) (Nat.zero_le _) rfl hl.1 (Nat.le_of_ble_eq_true rfl) dX5_pathArc_7 rfl rfl (fun H locs hR hS => ?_)
  refine lv_if_eq (tgt := 15) hx hb dX5_pathArc_10 (by decide) (fun c7 => ?_) (fun c7 => ?_)
  · replace h := it_o c7 h
    refine lv_aload_n hx hb dX5_pathArc_15 rfl (lv_at hl 0 rfl) ?_
    refine lv_iload_n hx hb dX5_pathArc_16 rfl (lv_at hl 1 rfl) ?_
    replace h := b2_o h
    obtain ⟨x10, T9, e8, h⟩ := h
    refine tw_callV 1 (As := [.int v1]) (rest := []) (v := (some (.int x10))) (T' := T9) (st1 := [.int x10]) hx hb hml hown hts hK hR (fun _ h9 => h9) (tw_A2 hR) hS (mX5_laysPath e8) (lw_V q2722 q2724 qs76 q137 q2725) (by decide +kernel) (Nat.le_of_ble_eq_true rfl) (Nat.le_of_ble_eq_true rfl) (Nat.zero_le _) (Nat.zero_le _) rfl hl.1 (Nat.le_of_ble_eq_true rfl) dX5_pathArc_17 rfl rfl (fun H locs hR hS => ?_)
    refine lv_if_eq (tgt := 46) hx hb dX5_pathArc_20 (by decide) (fun c11 => ?_) (fun c11 => ?_)
    · replace h := it_o c11 h
      refine lv_iconst (v := (-1)) hx hb dX5_pathArc_46 (by decide) ?_
      have eR := Option.some.inj h
      subst eR
      exact W.iret (v := (-1)) hx hb hr (fun t ht _ => tw_fin hR hS ht) hS.2.2 dX5_pathArc_47
    · replace h := if_o c11 h
      refine lv_iload_n hx hb dX5_pathArc_23 rfl (lv_at hl 2 rfl) ?_
      refine lv_iconst (v := 0) hx hb dX5_pathArc_24 (by decide) ?_
      refine lv_aload_n hx hb dX5_pathArc_25 rfl (lv_at hl 0 rfl) ?_
      refine tw_get (k := 21) (v := .int (tI T9 21)) hx hb hts hown hK hR (by decide) q2454 rfl (fun _ h9 => h9) dX5_pathArc_26 ?_
      refine lv_iconst (v := 1) hx hb dX5_pathArc_29 (by decide) ?_
      refine lv_isub hx hb dX5_pathArc_30 ?_
      replace h := b2_o h
      obtain ⟨x14, T13, e12, h⟩ := h
      refine tw_callS 3 (As := [.int v2, .int 0, .int ((tI T9 21) - 1)]) (rest := []) (v := (some (.int x14))) (T' := T13) (st1 := [.int x14]) hx hb hml hown hts hK hR (fun _ h9 => h9) (tw_A2 hR) hS (mX5_in e12) (lw_S q2562 q2563 q137 q2564) (by decide +kernel) (Nat.le_of_ble_eq_true rfl) (Nat.le_of_ble_eq_true rfl) (Nat.zero_le _) (Nat.zero_le _) rfl hl.1 (Nat.le_of_ble_eq_true rfl) dX5_pathArc_31 rfl rfl (fun H locs hR hS => ?_)
      refine lv_if_eq (tgt := 46) hx hb dX5_pathArc_34 (by decide) (fun c15 => ?_) (fun c15 => ?_)
      · replace h := it_o c15 h
        refine lv_iconst (v := (-1)) hx hb dX5_pathArc_46 (by decide) ?_
        have eR := Option.some.inj h
        subst eR
        exact W.iret (v := (-1)) hx hb hr (fun t ht _ => tw_fin hR hS ht) hS.2.2 dX5_pathArc_47
      · replace h := if_o c15 h
        refine lv_aload_n hx hb dX5_pathArc_37 rfl (lv_at hl 0 rfl) ?_
        refine tw_get (k := 20) (v := .ref (o + 8)) hx hb hts hown hK hR (by decide) q2453 rfl (fun _ h9 => h9) dX5_pathArc_38 ?_
        refine lv_iload_n hx hb dX5_pathArc_41 rfl (lv_at hl 2 rfl) ?_
        replace h := bo_o h
        obtain ⟨x16, e17, h⟩ := h
        refine tw_iald (q := 8) hx hb hK hR rfl e17 dX5_pathArc_42 ?_
        refine lv_goto (tgt := 47) hx hb dX5_pathArc_43 (by decide) ?_
        have eR := Option.some.inj h
        subst eR
        exact W.iret (v := x16) hx hb hr (fun t ht _ => tw_fin hR hS ht) hS.2.2 dX5_pathArc_47
  · replace h := if_o c7 h
    refine lv_iconst (v := 0) hx hb dX5_pathArc_13 (by decide) ?_
    have eR := Option.some.inj h
    subst eR
    exact W.iret (v := 0) hx hb hr (fun t ht _ => tw_fin hR hS ht) hS.2.2 dX5_pathArc_14
theorem mX5_pathArc {l : Launch} {G : gE} {o : Nat} {v1 : Int32} {v2 : Int32} {T : TW} {r : (Int32 × TW)}  (h : fX5_pathArc v1 v2 T = some r) : twM l G o yX5_pathArc cX5_pathArc 3 (some .int) 7 156 [.ref o, .int v1, .int v2] T (some (.int r.1)) r.2 :=
  tw_of (by decide +kernel) (Nat.le_of_ble_eq_true rfl) (fun p e s m args below meth c ls B hR hl => bX5_pathArc_0 B h hR va_S.rf hl)
noncomputable def fX5_sumOf_b4 (v1 : Int32) (v2 : Int32) (v3 : Int32) (T : TW) : Option (Sum (Int32 × Int32 × TW) ((Int32 × TW))) :=
  if tI T 21 ≤ v3 then (
    some (.inr (v2, T))
  ) else (
    (rd_ (tA T 8) 10 v3).bind fun x2 =>
    b2_ (fX5_arc x2 v1 T) fun x6 T5 =>
    nm_ (v2 + x6) fun x7 =>
    some (.inl (x7, v3 + 1, T5))
  )
theorem bX5_sumOf_4 {p : Program} {l : Launch} {e : Env} {s : State} {m : MethodId} {args : Array Value} {below : List Frame} {meth : Method} {c : Code} {H : Heap} {locs : List Loc} {ls : Array Slot} {G : gE} {o : Nat} (B : gB G RX5 cX5_sumOf 4 (some .int) p s m args meth c) {v1 : Int32} {v2 : Int32} {v3 : Int32} {T : TW} {x : Sum (Int32 × Int32 × TW) ((Int32 × TW))} {r : (Int32 × TW)} (h : fX5_sumOf_b4 v1 v2 v3 T = some x)  (k4 : ∀ (v2' : Int32) (v3' : Int32) (T' : TW), x = (.inl (v2', v3', T')) → ∀ (H : Heap) (locs : List Loc) (ls : Array Slot), RepT G o (T') H → va_S (tFr o) s.heap H locs → lv_has ls 4 [(0, .ref o), (1, .int v1), (2, .int v2'), (3, .int v3')] → W p l e (gRm 2 43) s m args below meth c H locs 0 0 (twZ below args s G o (some (.int r.1)) r.2) (F0 m 4 ls [])) (kR : ∀ q, x = (.inr q) → q = r) (hR : RepT G o T H) (hS : va_S (tFr o) s.heap H locs) (hl : lv_has ls 4 [(0, .ref o), (1, .int v1), (2, .int v2), (3, .int v3)]) : W p l e (gRm 2 43) s m args below meth c H locs 0 0 (twZ below args s G o (some (.int r.1)) r.2) (F0 m 4 ls []) := by
  have B0 := B
  obtain ⟨hx, hb, hml, hown, hts, hr, hlk, hK⟩ := B0
  unfold fX5_sumOf_b4 at h
  refine lv_iload_n hx hb dX5_sumOf_4 rfl (lv_at hl 3 rfl) ?_
  refine lv_aload_n hx hb dX5_sumOf_5 rfl (lv_at hl 0 rfl) ?_
  refine tw_get (k := 21) (v := .int (tI T 21)) hx hb hts hown hK hR (by decide) q2454 rfl (fun _ h9 => h9) dX5_sumOf_6 ?_
  refine lv_icmp_ge (tgt := 32) hx hb dX5_sumOf_9 (by decide) (fun c1 => ?_) (fun c1 => ?_)
  · replace h := it_o c1 h
    refine lv_iload_n hx hb dX5_sumOf_32 rfl (lv_at hl 2 rfl) ?_
    have eR := kR _ (Option.some.inj h).symm
    subst eR
    exact W.iret (v := v2) hx hb hr (fun t ht _ => tw_fin hR hS ht) hS.2.2 dX5_sumOf_33
  · replace h := if_o c1 h
    refine lv_iload_n hx hb dX5_sumOf_12 rfl (lv_at hl 2 rfl) ?_
    refine lv_aload_n hx hb dX5_sumOf_13 rfl (lv_at hl 0 rfl) ?_
    refine lv_aload_n hx hb dX5_sumOf_14 rfl (lv_at hl 0 rfl) ?_
    refine tw_get (k := 20) (v := .ref (o + 8)) hx hb hts hown hK hR (by decide) q2453 rfl (fun _ h9 => h9) dX5_sumOf_15 ?_
    refine lv_iload_n hx hb dX5_sumOf_18 rfl (lv_at hl 3 rfl) ?_
    replace h := bo_o h
    obtain ⟨x2, e3, h⟩ := h
    refine tw_iald (q := 8) hx hb hK hR rfl e3 dX5_sumOf_19 ?_
    refine lv_iload_n hx hb dX5_sumOf_20 rfl (lv_at hl 1 rfl) ?_
    replace h := b2_o h
    obtain ⟨x6, T5, e4, h⟩ := h
    refine tw_callV 2 (As := [.int x2, .int v1]) (rest := [.int v2]) (v := (some (.int x6))) (T' := T5) (st1 := [.int x6, .int v2]) hx hb hml hown hts hK hR (fun _ h9 => h9) (tw_A2 hR) hS (mX5_arc e4) (lw_V q2637 q2639 qs69 q137 q2640) (by decide +kernel) (Nat.le_of_ble_eq_true rfl) (Nat.le_of_ble_eq_true rfl) (Nat.zero_le _) (Nat.zero_le _) rfl hl.1 (Nat.le_of_ble_eq_true rfl) dX5_sumOf_21 rfl rfl (fun H locs hR hS => ?_)
    refine lv_iadd hx hb dX5_sumOf_24 ?_
    replace h := nm_o h
    obtain ⟨x7, e8, h⟩ := h
    refine lv_istore_n (lv' := [(2, .int x7), (0, .ref o), (1, .int v1), (3, .int v3)]) hx hb dX5_sumOf_25 rfl hl (by decide) (by subst e8; rfl) (fun ls hl => ?_)
    refine lv_iinc (v := v3 + 1) (lv' := [(3, .int (v3 + 1)), (2, .int x7), (0, .ref o), (1, .int v1)]) hx hb dX5_sumOf_26 hl (k := 3) rfl rfl (by decide) rfl (fun ls hl => ?_)
    refine lv_goto (tgt := 4) hx hb dX5_sumOf_29 (by decide) ?_
    exact k4 _ _ _ (Option.some.inj h).symm H locs ls hR hS (lv_sub hl [2, 3, 1, 0] rfl)
noncomputable def fX5_sumOf_l4 (v1 : Int32) (v2 : Int32) (v3 : Int32) (T : TW) : Option ((Int32 × TW)) := whileO (fun q => fX5_sumOf_b4 v1 q.1 q.2.1 q.2.2) (v2, v3, T)
theorem lX5_sumOf_4 {p : Program} {l : Launch} {e : Env} {s : State} {m : MethodId} {args : Array Value} {below : List Frame} {meth : Method} {c : Code} {G : gE} {o : Nat} (B : gB G RX5 cX5_sumOf 4 (some .int) p s m args meth c) {v1 : Int32} {r : (Int32 × TW)}   : ∀ (v2 : Int32) (v3 : Int32) (T : TW), fX5_sumOf_l4 v1 v2 v3 T = some r → ∀ (H : Heap) (locs : List Loc) (ls : Array Slot), RepT G o (T) H → va_S (tFr o) s.heap H locs → lv_has ls 4 [(0, .ref o), (1, .int v1), (2, .int v2), (3, .int v3)] → W p l e (gRm 2 43) s m args below meth c H locs 0 0 (twZ below args s G o (some (.int r.1)) r.2) (F0 m 4 ls []) := by
  intro v2 v3 T h
  refine wh_walk (body := (fun q => fX5_sumOf_b4 v1 q.1 q.2.1 q.2.2)) (P := (fun q : (Int32 × Int32 × TW) => ∀ (H : Heap) (locs : List Loc) (ls : Array Slot), RepT G o (q.2.2) H → va_S (tFr o) s.heap H locs → lv_has ls 4 [(0, .ref o), (1, .int v1), (2, .int (q.1)), (3, .int (q.2.1))] → W p l e (gRm 2 43) s m args below meth c H locs 0 0 (twZ below args s G o (some (.int r.1)) r.2) (F0 m 4 ls []))) (r := r) ?_ (v2, v3, T) h
  intro q y hy hL hr H locs ls hR hS hl
  exact bX5_sumOf_4 (r := r) B hy (fun a0 a1 a2 e => hL (a0, a1, a2) e) (fun q e => hr q e) hR hS hl
noncomputable def fX5_sumOf (v1 : Int32) (T : TW) : Option ((Int32 × TW)) :=
  fX5_sumOf_l4 v1 0 0 T
theorem bX5_sumOf_0 {p : Program} {l : Launch} {e : Env} {s : State} {m : MethodId} {args : Array Value} {below : List Frame} {meth : Method} {c : Code} {H : Heap} {locs : List Loc} {ls : Array Slot} {G : gE} {o : Nat} (B : gB G RX5 cX5_sumOf 4 (some .int) p s m args meth c) {v1 : Int32} {T : TW} {r : (Int32 × TW)} (h : fX5_sumOf v1 T = some r)   (hR : RepT G o T H) (hS : va_S (tFr o) s.heap H locs) (hl : lv_has ls 4 [(0, .ref o), (1, .int v1)]) : W p l e (gRm 2 43) s m args below meth c H locs 0 0 (twZ below args s G o (some (.int r.1)) r.2) (F0 m 0 ls []) := by
  have B0 := B
  obtain ⟨hx, hb, hml, hown, hts, hr, hlk, hK⟩ := B0
  unfold fX5_sumOf at h
  refine lv_iconst (v := 0) hx hb dX5_sumOf_0 (by decide) ?_
  refine lv_istore_n (lv' := [(2, .int 0), (0, .ref o), (1, .int v1)]) hx hb dX5_sumOf_1 rfl hl (by decide) rfl (fun ls hl => ?_)
  refine lv_iconst (v := 0) hx hb dX5_sumOf_2 (by decide) ?_
  refine lv_istore_n (lv' := [(3, .int 0), (2, .int 0), (0, .ref o), (1, .int v1)]) hx hb dX5_sumOf_3 rfl hl (by decide) rfl (fun ls hl => ?_)
  exact lX5_sumOf_4 B _ _ _ h H locs ls hR hS (lv_sub hl [2, 3, 1, 0] rfl)
theorem mX5_sumOf {l : Launch} {G : gE} {o : Nat} {v1 : Int32} {T : TW} {r : (Int32 × TW)}  (h : fX5_sumOf v1 T = some r) : twM l G o yX5_sumOf cX5_sumOf 4 (some .int) 2 43 [.ref o, .int v1] T (some (.int r.1)) r.2 :=
  tw_of (by decide +kernel) (Nat.le_of_ble_eq_true rfl) (fun p e s m args below meth c ls B hR hl => bX5_sumOf_0 B h hR va_S.rf hl)
noncomputable def fX5_pathCost (v1 : Int32) (T : TW) : Option ((Int32 × TW)) :=
  b2_ (fX5_isTrip v1 T) fun x3 T2 =>
  b2_ (fX5_isThrown x3 1 T2) fun x6 T5 =>
  if x6 = 0 then (
    b2_ (fX5_laysPath v1 T5) fun x10 T9 =>
    if x10 = 0 then (
      some ((-1), T9)
    ) else (
      b2_ (fX5_sumOf 2 T9) fun x14 T13 =>
      some (x14, T13)
    )
  ) else (
    some (0, T5)
  )
theorem bX5_pathCost_0 {p : Program} {l : Launch} {e : Env} {s : State} {m : MethodId} {args : Array Value} {below : List Frame} {meth : Method} {c : Code} {H : Heap} {locs : List Loc} {ls : Array Slot} {G : gE} {o : Nat} (B : gB G RX5 cX5_pathCost 2 (some .int) p s m args meth c) {v1 : Int32} {T : TW} {r : (Int32 × TW)} (h : fX5_pathCost v1 T = some r)   (hR : RepT G o T H) (hS : va_S (tFr o) s.heap H locs) (hl : lv_has ls 2 [(0, .ref o), (1, .int v1)]) : W p l e (gRm 7 156) s m args below meth c H locs 0 0 (twZ below args s G o (some (.int r.1)) r.2) (F0 m 0 ls []) := by
  have B0 := B
  obtain ⟨hx, hb, hml, hown, hts, hr, hlk, hK⟩ := B0
  unfold fX5_pathCost at h
  refine lv_aload_n hx hb dX5_pathCost_0 rfl (lv_at hl 0 rfl) ?_
  refine lv_aload_n hx hb dX5_pathCost_1 rfl (lv_at hl 0 rfl) ?_
  refine lv_iload_n hx hb dX5_pathCost_2 rfl (lv_at hl 1 rfl) ?_
  replace h := b2_o h
  obtain ⟨x3, T2, e1, h⟩ := h
  refine tw_callV 1 (As := [.int v1]) (rest := [.ref o]) (v := (some (.int x3))) (T' := T2) (st1 := [.int x3, .ref o]) hx hb hml hown hts hK hR (fun _ h9 => h9) (tw_A2 hR) hS (mX5_isTrip e1) (lw_V q2653 q2655 qs71 q137 q2656) (by decide +kernel) (Nat.le_of_ble_eq_true rfl) (Nat.le_of_ble_eq_true rfl) (Nat.zero_le _) (Nat.zero_le _) rfl hl.1 (Nat.le_of_ble_eq_true rfl) dX5_pathCost_3 rfl rfl (fun H locs hR hS => ?_)
  refine lv_iconst (v := 1) hx hb dX5_pathCost_6 (by decide) ?_
  replace h := b2_o h
  obtain ⟨x6, T5, e4, h⟩ := h
  refine tw_callV 2 (As := [.int x3, .int 1]) (rest := []) (v := (some (.int x6))) (T' := T5) (st1 := [.int x6]) hx hb hml hown hts hK hR (fun _ h9 => h9) (tw_A2 hR) hS (mX5_isThrown e4) (lw_V q2633 q2635 qs68 q137 q2636) (by decide +kernel) (Nat.le_of_ble_eq_true rfl) (Nat.le_of_ble_eq_true rfl) (Nat.zero_le _) (Nat.zero_le _) rfl hl.1 (Nat.le_of_ble_eq_true rfl) dX5_pathCost_7 rfl rfl (fun H locs hR hS => ?_)
  refine lv_if_eq (tgt := 15) hx hb dX5_pathCost_10 (by decide) (fun c7 => ?_) (fun c7 => ?_)
  · replace h := it_o c7 h
    refine lv_aload_n hx hb dX5_pathCost_15 rfl (lv_at hl 0 rfl) ?_
    refine lv_iload_n hx hb dX5_pathCost_16 rfl (lv_at hl 1 rfl) ?_
    replace h := b2_o h
    obtain ⟨x10, T9, e8, h⟩ := h
    refine tw_callV 1 (As := [.int v1]) (rest := []) (v := (some (.int x10))) (T' := T9) (st1 := [.int x10]) hx hb hml hown hts hK hR (fun _ h9 => h9) (tw_A2 hR) hS (mX5_laysPath e8) (lw_V q2722 q2724 qs76 q137 q2725) (by decide +kernel) (Nat.le_of_ble_eq_true rfl) (Nat.le_of_ble_eq_true rfl) (Nat.zero_le _) (Nat.zero_le _) rfl hl.1 (Nat.le_of_ble_eq_true rfl) dX5_pathCost_17 rfl rfl (fun H locs hR hS => ?_)
    refine lv_if_eq (tgt := 31) hx hb dX5_pathCost_20 (by decide) (fun c11 => ?_) (fun c11 => ?_)
    · replace h := it_o c11 h
      refine lv_iconst (v := (-1)) hx hb dX5_pathCost_31 (by decide) ?_
      have eR := Option.some.inj h
      subst eR
      exact W.iret (v := (-1)) hx hb hr (fun t ht _ => tw_fin hR hS ht) hS.2.2 dX5_pathCost_32
    · replace h := if_o c11 h
      refine lv_aload_n hx hb dX5_pathCost_23 rfl (lv_at hl 0 rfl) ?_
      refine lv_iconst (v := 2) hx hb dX5_pathCost_24 (by decide) ?_
      replace h := b2_o h
      obtain ⟨x14, T13, e12, h⟩ := h
      refine tw_callV 1 (As := [.int 2]) (rest := []) (v := (some (.int x14))) (T' := T13) (st1 := [.int x14]) hx hb hml hown hts hK hR (fun _ h9 => h9) (tw_A2 hR) hS (mX5_sumOf e12) (lw_V q2769 q2771 qs83 q137 q2772) (by decide +kernel) (Nat.le_of_ble_eq_true rfl) (Nat.le_of_ble_eq_true rfl) (Nat.zero_le _) (Nat.zero_le _) rfl hl.1 (Nat.le_of_ble_eq_true rfl) dX5_pathCost_25 rfl rfl (fun H locs hR hS => ?_)
      refine lv_goto (tgt := 32) hx hb dX5_pathCost_28 (by decide) ?_
      have eR := Option.some.inj h
      subst eR
      exact W.iret (v := x14) hx hb hr (fun t ht _ => tw_fin hR hS ht) hS.2.2 dX5_pathCost_32
  · replace h := if_o c7 h
    refine lv_iconst (v := 0) hx hb dX5_pathCost_13 (by decide) ?_
    have eR := Option.some.inj h
    subst eR
    exact W.iret (v := 0) hx hb hr (fun t ht _ => tw_fin hR hS ht) hS.2.2 dX5_pathCost_14
theorem mX5_pathCost {l : Launch} {G : gE} {o : Nat} {v1 : Int32} {T : TW} {r : (Int32 × TW)}  (h : fX5_pathCost v1 T = some r) : twM l G o yX5_pathCost cX5_pathCost 2 (some .int) 7 156 [.ref o, .int v1] T (some (.int r.1)) r.2 :=
  tw_of (by decide +kernel) (Nat.le_of_ble_eq_true rfl) (fun p e s m args below meth c ls B hR hl => bX5_pathCost_0 B h hR va_S.rf hl)
noncomputable def fX5_pathToll (v1 : Int32) (T : TW) : Option ((Int32 × TW)) :=
  b2_ (fX5_isTrip v1 T) fun x3 T2 =>
  b2_ (fX5_isThrown x3 1 T2) fun x6 T5 =>
  if x6 = 0 then (
    b2_ (fX5_laysPath v1 T5) fun x10 T9 =>
    if x10 = 0 then (
      some ((-1), T9)
    ) else (
      b2_ (fX5_sumOf 4 T9) fun x14 T13 =>
      some (x14, T13)
    )
  ) else (
    some (0, T5)
  )
theorem bX5_pathToll_0 {p : Program} {l : Launch} {e : Env} {s : State} {m : MethodId} {args : Array Value} {below : List Frame} {meth : Method} {c : Code} {H : Heap} {locs : List Loc} {ls : Array Slot} {G : gE} {o : Nat} (B : gB G RX5 cX5_pathToll 2 (some .int) p s m args meth c) {v1 : Int32} {T : TW} {r : (Int32 × TW)} (h : fX5_pathToll v1 T = some r)   (hR : RepT G o T H) (hS : va_S (tFr o) s.heap H locs) (hl : lv_has ls 2 [(0, .ref o), (1, .int v1)]) : W p l e (gRm 7 156) s m args below meth c H locs 0 0 (twZ below args s G o (some (.int r.1)) r.2) (F0 m 0 ls []) := by
  have B0 := B
  obtain ⟨hx, hb, hml, hown, hts, hr, hlk, hK⟩ := B0
  unfold fX5_pathToll at h
  refine lv_aload_n hx hb dX5_pathToll_0 rfl (lv_at hl 0 rfl) ?_
  refine lv_aload_n hx hb dX5_pathToll_1 rfl (lv_at hl 0 rfl) ?_
  refine lv_iload_n hx hb dX5_pathToll_2 rfl (lv_at hl 1 rfl) ?_
  replace h := b2_o h
  obtain ⟨x3, T2, e1, h⟩ := h
  refine tw_callV 1 (As := [.int v1]) (rest := [.ref o]) (v := (some (.int x3))) (T' := T2) (st1 := [.int x3, .ref o]) hx hb hml hown hts hK hR (fun _ h9 => h9) (tw_A2 hR) hS (mX5_isTrip e1) (lw_V q2653 q2655 qs71 q137 q2656) (by decide +kernel) (Nat.le_of_ble_eq_true rfl) (Nat.le_of_ble_eq_true rfl) (Nat.zero_le _) (Nat.zero_le _) rfl hl.1 (Nat.le_of_ble_eq_true rfl) dX5_pathToll_3 rfl rfl (fun H locs hR hS => ?_)
  refine lv_iconst (v := 1) hx hb dX5_pathToll_6 (by decide) ?_
  replace h := b2_o h
  obtain ⟨x6, T5, e4, h⟩ := h
  refine tw_callV 2 (As := [.int x3, .int 1]) (rest := []) (v := (some (.int x6))) (T' := T5) (st1 := [.int x6]) hx hb hml hown hts hK hR (fun _ h9 => h9) (tw_A2 hR) hS (mX5_isThrown e4) (lw_V q2633 q2635 qs68 q137 q2636) (by decide +kernel) (Nat.le_of_ble_eq_true rfl) (Nat.le_of_ble_eq_true rfl) (Nat.zero_le _) (Nat.zero_le _) rfl hl.1 (Nat.le_of_ble_eq_true rfl) dX5_pathToll_7 rfl rfl (fun H locs hR hS => ?_)
  refine lv_if_eq (tgt := 15) hx hb dX5_pathToll_10 (by decide) (fun c7 => ?_) (fun c7 => ?_)
  · replace h := it_o c7 h
    refine lv_aload_n hx hb dX5_pathToll_15 rfl (lv_at hl 0 rfl) ?_
    refine lv_iload_n hx hb dX5_pathToll_16 rfl (lv_at hl 1 rfl) ?_
    replace h := b2_o h
    obtain ⟨x10, T9, e8, h⟩ := h
    refine tw_callV 1 (As := [.int v1]) (rest := []) (v := (some (.int x10))) (T' := T9) (st1 := [.int x10]) hx hb hml hown hts hK hR (fun _ h9 => h9) (tw_A2 hR) hS (mX5_laysPath e8) (lw_V q2722 q2724 qs76 q137 q2725) (by decide +kernel) (Nat.le_of_ble_eq_true rfl) (Nat.le_of_ble_eq_true rfl) (Nat.zero_le _) (Nat.zero_le _) rfl hl.1 (Nat.le_of_ble_eq_true rfl) dX5_pathToll_17 rfl rfl (fun H locs hR hS => ?_)
    refine lv_if_eq (tgt := 31) hx hb dX5_pathToll_20 (by decide) (fun c11 => ?_) (fun c11 => ?_)
    · replace h := it_o c11 h
      refine lv_iconst (v := (-1)) hx hb dX5_pathToll_31 (by decide) ?_
      have eR := Option.some.inj h
      subst eR
      exact W.iret (v := (-1)) hx hb hr (fun t ht _ => tw_fin hR hS ht) hS.2.2 dX5_pathToll_32
    · replace h := if_o c11 h
      refine lv_aload_n hx hb dX5_pathToll_23 rfl (lv_at hl 0 rfl) ?_
      refine lv_iconst (v := 4) hx hb dX5_pathToll_24 (by decide) ?_
      replace h := b2_o h
      obtain ⟨x14, T13, e12, h⟩ := h
      refine tw_callV 1 (As := [.int 4]) (rest := []) (v := (some (.int x14))) (T' := T13) (st1 := [.int x14]) hx hb hml hown hts hK hR (fun _ h9 => h9) (tw_A2 hR) hS (mX5_sumOf e12) (lw_V q2769 q2771 qs83 q137 q2772) (by decide +kernel) (Nat.le_of_ble_eq_true rfl) (Nat.le_of_ble_eq_true rfl) (Nat.zero_le _) (Nat.zero_le _) rfl hl.1 (Nat.le_of_ble_eq_true rfl) dX5_pathToll_25 rfl rfl (fun H locs hR hS => ?_)
      refine lv_goto (tgt := 32) hx hb dX5_pathToll_28 (by decide) ?_
      have eR := Option.some.inj h
      subst eR
      exact W.iret (v := x14) hx hb hr (fun t ht _ => tw_fin hR hS ht) hS.2.2 dX5_pathToll_32
  · replace h := if_o c7 h
    refine lv_iconst (v := 0) hx hb dX5_pathToll_13 (by decide) ?_
    have eR := Option.some.inj h
    subst eR
    exact W.iret (v := 0) hx hb hr (fun t ht _ => tw_fin hR hS ht) hS.2.2 dX5_pathToll_14
theorem mX5_pathToll {l : Launch} {G : gE} {o : Nat} {v1 : Int32} {T : TW} {r : (Int32 × TW)}  (h : fX5_pathToll v1 T = some r) : twM l G o yX5_pathToll cX5_pathToll 2 (some .int) 7 156 [.ref o, .int v1] T (some (.int r.1)) r.2 :=
  tw_of (by decide +kernel) (Nat.le_of_ble_eq_true rfl) (fun p e s m args below meth c ls B hR hl => bX5_pathToll_0 B h hR va_S.rf hl)
noncomputable def fX5_feltNow (v1 : Int32) (T : TW) : Option ((Int32 × TW)) :=
  b2_ (fX5_trip v1 3 T) fun x3 T2 =>
  b2_ (fX5_sumOf 2 T2) fun x6 T5 =>
  b2_ (fX5_sumOf 4 T5) fun x9 T8 =>
  some ((x3 * x6) + x9, T8)
theorem bX5_feltNow_0 {p : Program} {l : Launch} {e : Env} {s : State} {m : MethodId} {args : Array Value} {below : List Frame} {meth : Method} {c : Code} {H : Heap} {locs : List Loc} {ls : Array Slot} {G : gE} {o : Nat} (B : gB G RX5 cX5_feltNow 2 (some .int) p s m args meth c) {v1 : Int32} {T : TW} {r : (Int32 × TW)} (h : fX5_feltNow v1 T = some r)   (hR : RepT G o T H) (hS : va_S (tFr o) s.heap H locs) (hl : lv_has ls 2 [(0, .ref o), (1, .int v1)]) : W p l e (gRm 3 66) s m args below meth c H locs 0 0 (twZ below args s G o (some (.int r.1)) r.2) (F0 m 0 ls []) := by
  have B0 := B
  obtain ⟨hx, hb, hml, hown, hts, hr, hlk, hK⟩ := B0
  unfold fX5_feltNow at h
  refine lv_aload_n hx hb dX5_feltNow_0 rfl (lv_at hl 0 rfl) ?_
  refine lv_iload_n hx hb dX5_feltNow_1 rfl (lv_at hl 1 rfl) ?_
  refine lv_iconst (v := 3) hx hb dX5_feltNow_2 (by decide) ?_
  replace h := b2_o h
  obtain ⟨x3, T2, e1, h⟩ := h
  refine tw_callV 2 (As := [.int v1, .int 3]) (rest := []) (v := (some (.int x3))) (T' := T2) (st1 := [.int x3]) hx hb hml hown hts hK hR (fun _ h9 => h9) (tw_A2 hR) hS (mX5_trip e1) (lw_V q2657 q2659 qs72 q137 q2660) (by decide +kernel) (Nat.le_of_ble_eq_true rfl) (Nat.le_of_ble_eq_true rfl) (Nat.zero_le _) (Nat.zero_le _) rfl hl.1 (Nat.le_of_ble_eq_true rfl) dX5_feltNow_3 rfl rfl (fun H locs hR hS => ?_)
  refine lv_aload_n hx hb dX5_feltNow_6 rfl (lv_at hl 0 rfl) ?_
  refine lv_iconst (v := 2) hx hb dX5_feltNow_7 (by decide) ?_
  replace h := b2_o h
  obtain ⟨x6, T5, e4, h⟩ := h
  refine tw_callV 1 (As := [.int 2]) (rest := [.int x3]) (v := (some (.int x6))) (T' := T5) (st1 := [.int x6, .int x3]) hx hb hml hown hts hK hR (fun _ h9 => h9) (tw_A2 hR) hS (mX5_sumOf e4) (lw_V q2769 q2771 qs83 q137 q2772) (by decide +kernel) (Nat.le_of_ble_eq_true rfl) (Nat.le_of_ble_eq_true rfl) (Nat.zero_le _) (Nat.zero_le _) rfl hl.1 (Nat.le_of_ble_eq_true rfl) dX5_feltNow_8 rfl rfl (fun H locs hR hS => ?_)
  refine lv_imul hx hb dX5_feltNow_11 ?_
  refine lv_aload_n hx hb dX5_feltNow_12 rfl (lv_at hl 0 rfl) ?_
  refine lv_iconst (v := 4) hx hb dX5_feltNow_13 (by decide) ?_
  replace h := b2_o h
  obtain ⟨x9, T8, e7, h⟩ := h
  refine tw_callV 1 (As := [.int 4]) (rest := [.int (x3 * x6)]) (v := (some (.int x9))) (T' := T8) (st1 := [.int x9, .int (x3 * x6)]) hx hb hml hown hts hK hR (fun _ h9 => h9) (tw_A2 hR) hS (mX5_sumOf e7) (lw_V q2769 q2771 qs83 q137 q2772) (by decide +kernel) (Nat.le_of_ble_eq_true rfl) (Nat.le_of_ble_eq_true rfl) (Nat.zero_le _) (Nat.zero_le _) rfl hl.1 (Nat.le_of_ble_eq_true rfl) dX5_feltNow_14 rfl rfl (fun H locs hR hS => ?_)
  refine lv_iadd hx hb dX5_feltNow_17 ?_
  have eR := Option.some.inj h
  subst eR
  exact W.iret (v := (x3 * x6) + x9) hx hb hr (fun t ht _ => tw_fin hR hS ht) hS.2.2 dX5_feltNow_18
theorem mX5_feltNow {l : Launch} {G : gE} {o : Nat} {v1 : Int32} {T : TW} {r : (Int32 × TW)}  (h : fX5_feltNow v1 T = some r) : twM l G o yX5_feltNow cX5_feltNow 2 (some .int) 3 66 [.ref o, .int v1] T (some (.int r.1)) r.2 :=
  tw_of (by decide +kernel) (Nat.le_of_ble_eq_true rfl) (fun p e s m args below meth c ls B hR hl => bX5_feltNow_0 B h hR va_S.rf hl)
noncomputable def fX5_felts (v1 : Int32) (T : TW) : Option ((Int32 × TW)) :=
  b2_ (fX5_laysPath v1 T) fun x3 T2 =>
  if x3 = 0 then (
    some ((-1), T2)
  ) else (
    b2_ (fX5_feltNow v1 T2) fun x7 T6 =>
    some (x7, T6)
  )
theorem bX5_felts_0 {p : Program} {l : Launch} {e : Env} {s : State} {m : MethodId} {args : Array Value} {below : List Frame} {meth : Method} {c : Code} {H : Heap} {locs : List Loc} {ls : Array Slot} {G : gE} {o : Nat} (B : gB G RX5 cX5_felts 2 (some .int) p s m args meth c) {v1 : Int32} {T : TW} {r : (Int32 × TW)} (h : fX5_felts v1 T = some r)   (hR : RepT G o T H) (hS : va_S (tFr o) s.heap H locs) (hl : lv_has ls 2 [(0, .ref o), (1, .int v1)]) : W p l e (gRm 7 156) s m args below meth c H locs 0 0 (twZ below args s G o (some (.int r.1)) r.2) (F0 m 0 ls []) := by
  have B0 := B
  obtain ⟨hx, hb, hml, hown, hts, hr, hlk, hK⟩ := B0
  unfold fX5_felts at h
  refine lv_aload_n hx hb dX5_felts_0 rfl (lv_at hl 0 rfl) ?_
  refine lv_iload_n hx hb dX5_felts_1 rfl (lv_at hl 1 rfl) ?_
  replace h := b2_o h
  obtain ⟨x3, T2, e1, h⟩ := h
  refine tw_callV 1 (As := [.int v1]) (rest := []) (v := (some (.int x3))) (T' := T2) (st1 := [.int x3]) hx hb hml hown hts hK hR (fun _ h9 => h9) (tw_A2 hR) hS (mX5_laysPath e1) (lw_V q2722 q2724 qs76 q137 q2725) (by decide +kernel) (Nat.le_of_ble_eq_true rfl) (Nat.le_of_ble_eq_true rfl) (Nat.zero_le _) (Nat.zero_le _) rfl hl.1 (Nat.le_of_ble_eq_true rfl) dX5_felts_2 rfl rfl (fun H locs hR hS => ?_)
  refine lv_if_eq (tgt := 16) hx hb dX5_felts_5 (by decide) (fun c4 => ?_) (fun c4 => ?_)
  · replace h := it_o c4 h
    refine lv_iconst (v := (-1)) hx hb dX5_felts_16 (by decide) ?_
    have eR := Option.some.inj h
    subst eR
    exact W.iret (v := (-1)) hx hb hr (fun t ht _ => tw_fin hR hS ht) hS.2.2 dX5_felts_17
  · replace h := if_o c4 h
    refine lv_aload_n hx hb dX5_felts_8 rfl (lv_at hl 0 rfl) ?_
    refine lv_iload_n hx hb dX5_felts_9 rfl (lv_at hl 1 rfl) ?_
    replace h := b2_o h
    obtain ⟨x7, T6, e5, h⟩ := h
    refine tw_callV 1 (As := [.int v1]) (rest := []) (v := (some (.int x7))) (T' := T6) (st1 := [.int x7]) hx hb hml hown hts hK hR (fun _ h9 => h9) (tw_A2 hR) hS (mX5_feltNow e5) (lw_V q2785 q2787 qs85 q137 q2788) (by decide +kernel) (Nat.le_of_ble_eq_true rfl) (Nat.le_of_ble_eq_true rfl) (Nat.zero_le _) (Nat.zero_le _) rfl hl.1 (Nat.le_of_ble_eq_true rfl) dX5_felts_10 rfl rfl (fun H locs hR hS => ?_)
    refine lv_goto (tgt := 17) hx hb dX5_felts_13 (by decide) ?_
    have eR := Option.some.inj h
    subst eR
    exact W.iret (v := x7) hx hb hr (fun t ht _ => tw_fin hR hS ht) hS.2.2 dX5_felts_17
theorem mX5_felts {l : Launch} {G : gE} {o : Nat} {v1 : Int32} {T : TW} {r : (Int32 × TW)}  (h : fX5_felts v1 T = some r) : twM l G o yX5_felts cX5_felts 2 (some .int) 7 156 [.ref o, .int v1] T (some (.int r.1)) r.2 :=
  tw_of (by decide +kernel) (Nat.le_of_ble_eq_true rfl) (fun p e s m args below meth c ls B hR hl => bX5_felts_0 B h hR va_S.rf hl)
noncomputable def fX5_felt (v1 : Int32) (T : TW) : Option ((Int32 × TW)) :=
  b2_ (fX5_isTrip v1 T) fun x3 T2 =>
  b2_ (fX5_isThrown x3 1 T2) fun x6 T5 =>
  if x6 = 0 then (
    b2_ (fX5_felts v1 T5) fun x10 T9 =>
    some (x10, T9)
  ) else (
    some (0, T5)
  )
theorem bX5_felt_0 {p : Program} {l : Launch} {e : Env} {s : State} {m : MethodId} {args : Array Value} {below : List Frame} {meth : Method} {c : Code} {H : Heap} {locs : List Loc} {ls : Array Slot} {G : gE} {o : Nat} (B : gB G RX5 cX5_felt 2 (some .int) p s m args meth c) {v1 : Int32} {T : TW} {r : (Int32 × TW)} (h : fX5_felt v1 T = some r)   (hR : RepT G o T H) (hS : va_S (tFr o) s.heap H locs) (hl : lv_has ls 2 [(0, .ref o), (1, .int v1)]) : W p l e (gRm 8 177) s m args below meth c H locs 0 0 (twZ below args s G o (some (.int r.1)) r.2) (F0 m 0 ls []) := by
  have B0 := B
  obtain ⟨hx, hb, hml, hown, hts, hr, hlk, hK⟩ := B0
  unfold fX5_felt at h
  refine lv_aload_n hx hb dX5_felt_0 rfl (lv_at hl 0 rfl) ?_
  refine lv_aload_n hx hb dX5_felt_1 rfl (lv_at hl 0 rfl) ?_
  refine lv_iload_n hx hb dX5_felt_2 rfl (lv_at hl 1 rfl) ?_
  replace h := b2_o h
  obtain ⟨x3, T2, e1, h⟩ := h
  refine tw_callV 1 (As := [.int v1]) (rest := [.ref o]) (v := (some (.int x3))) (T' := T2) (st1 := [.int x3, .ref o]) hx hb hml hown hts hK hR (fun _ h9 => h9) (tw_A2 hR) hS (mX5_isTrip e1) (lw_V q2653 q2655 qs71 q137 q2656) (by decide +kernel) (Nat.le_of_ble_eq_true rfl) (Nat.le_of_ble_eq_true rfl) (Nat.zero_le _) (Nat.zero_le _) rfl hl.1 (Nat.le_of_ble_eq_true rfl) dX5_felt_3 rfl rfl (fun H locs hR hS => ?_)
  refine lv_iconst (v := 1) hx hb dX5_felt_6 (by decide) ?_
  replace h := b2_o h
  obtain ⟨x6, T5, e4, h⟩ := h
  refine tw_callV 2 (As := [.int x3, .int 1]) (rest := []) (v := (some (.int x6))) (T' := T5) (st1 := [.int x6]) hx hb hml hown hts hK hR (fun _ h9 => h9) (tw_A2 hR) hS (mX5_isThrown e4) (lw_V q2633 q2635 qs68 q137 q2636) (by decide +kernel) (Nat.le_of_ble_eq_true rfl) (Nat.le_of_ble_eq_true rfl) (Nat.zero_le _) (Nat.zero_le _) rfl hl.1 (Nat.le_of_ble_eq_true rfl) dX5_felt_7 rfl rfl (fun H locs hR hS => ?_)
  refine lv_if_eq (tgt := 17) hx hb dX5_felt_10 (by decide) (fun c7 => ?_) (fun c7 => ?_)
  · replace h := it_o c7 h
    refine lv_aload_n hx hb dX5_felt_17 rfl (lv_at hl 0 rfl) ?_
    refine lv_iload_n hx hb dX5_felt_18 rfl (lv_at hl 1 rfl) ?_
    replace h := b2_o h
    obtain ⟨x10, T9, e8, h⟩ := h
    refine tw_callV 1 (As := [.int v1]) (rest := []) (v := (some (.int x10))) (T' := T9) (st1 := [.int x10]) hx hb hml hown hts hK hR (fun _ h9 => h9) (tw_A2 hR) hS (mX5_felts e8) (lw_V q2781 q2783 qs84 q137 q2784) (by decide +kernel) (Nat.le_of_ble_eq_true rfl) (Nat.le_of_ble_eq_true rfl) (Nat.zero_le _) (Nat.zero_le _) rfl hl.1 (Nat.le_of_ble_eq_true rfl) dX5_felt_19 rfl rfl (fun H locs hR hS => ?_)
    have eR := Option.some.inj h
    subst eR
    exact W.iret (v := x10) hx hb hr (fun t ht _ => tw_fin hR hS ht) hS.2.2 dX5_felt_22
  · replace h := if_o c7 h
    refine lv_iconst (v := 0) hx hb dX5_felt_13 (by decide) ?_
    refine lv_goto (tgt := 22) hx hb dX5_felt_14 (by decide) ?_
    have eR := Option.some.inj h
    subst eR
    exact W.iret (v := 0) hx hb hr (fun t ht _ => tw_fin hR hS ht) hS.2.2 dX5_felt_22
theorem mX5_felt {l : Launch} {G : gE} {o : Nat} {v1 : Int32} {T : TW} {r : (Int32 × TW)}  (h : fX5_felt v1 T = some r) : twM l G o yX5_felt cX5_felt 2 (some .int) 8 177 [.ref o, .int v1] T (some (.int r.1)) r.2 :=
  tw_of (by decide +kernel) (Nat.le_of_ble_eq_true rfl) (fun p e s m args below meth c ls B hR hl => bX5_felt_0 B h hR va_S.rf hl)
noncomputable def fX5_isOnPath_b2 (v1 : Int32) (v2 : Int32) (T : TW) : Option (Sum (Int32 × TW) ((Int32 × TW))) :=
  if tI T 21 ≤ v2 then (
    some (.inr (0, T))
  ) else (
    (rd_ (tA T 8) 10 v2).bind fun x2 =>
    if x2 = v1 then (
      some (.inr (1, T))
    ) else (
      some (.inl (v2 + 1, T))
    )
  )
theorem bX5_isOnPath_2 {p : Program} {l : Launch} {e : Env} {s : State} {m : MethodId} {args : Array Value} {below : List Frame} {meth : Method} {c : Code} {H : Heap} {locs : List Loc} {ls : Array Slot} {G : gE} {o : Nat} (B : gB G RX5 cX5_isOnPath 3 (some .boolean) p s m args meth c) {v1 : Int32} {v2 : Int32} {T : TW} {x : Sum (Int32 × TW) ((Int32 × TW))} {r : (Int32 × TW)} (h : fX5_isOnPath_b2 v1 v2 T = some x)  (k2 : ∀ (v2' : Int32) (T' : TW), x = (.inl (v2', T')) → ∀ (H : Heap) (locs : List Loc) (ls : Array Slot), RepT G o (T') H → va_S (tFr o) s.heap H locs → lv_has ls 3 [(0, .ref o), (1, .int v1), (2, .int v2')] → W p l e (gRm 0 0) s m args below meth c H locs 0 0 (twZ below args s G o (some (.int r.1)) r.2) (F0 m 2 ls [])) (kR : ∀ q, x = (.inr q) → q = r) (hR : RepT G o T H) (hS : va_S (tFr o) s.heap H locs) (hl : lv_has ls 3 [(0, .ref o), (1, .int v1), (2, .int v2)]) : W p l e (gRm 0 0) s m args below meth c H locs 0 0 (twZ below args s G o (some (.int r.1)) r.2) (F0 m 2 ls []) := by
  have B0 := B
  obtain ⟨hx, hb, hml, hown, hts, hr, hlk, hK⟩ := B0
  unfold fX5_isOnPath_b2 at h
  refine lv_iload_n hx hb dX5_isOnPath_2 rfl (lv_at hl 2 rfl) ?_
  refine lv_aload_n hx hb dX5_isOnPath_3 rfl (lv_at hl 0 rfl) ?_
  refine tw_get (k := 21) (v := .int (tI T 21)) hx hb hts hown hK hR (by decide) q2454 rfl (fun _ h9 => h9) dX5_isOnPath_4 ?_
  refine lv_icmp_ge (tgt := 28) hx hb dX5_isOnPath_7 (by decide) (fun c1 => ?_) (fun c1 => ?_)
  · replace h := it_o c1 h
    refine lv_iconst (v := 0) hx hb dX5_isOnPath_28 (by decide) ?_
    have eR := kR _ (Option.some.inj h).symm
    subst eR
    exact W.zret (v := 0) hx hb hr rfl (fun t ht _ => tw_fin hR hS ht) hS.2.2 dX5_isOnPath_29
  · replace h := if_o c1 h
    refine lv_aload_n hx hb dX5_isOnPath_10 rfl (lv_at hl 0 rfl) ?_
    refine tw_get (k := 20) (v := .ref (o + 8)) hx hb hts hown hK hR (by decide) q2453 rfl (fun _ h9 => h9) dX5_isOnPath_11 ?_
    refine lv_iload_n hx hb dX5_isOnPath_14 rfl (lv_at hl 2 rfl) ?_
    replace h := bo_o h
    obtain ⟨x2, e3, h⟩ := h
    refine tw_iald (q := 8) hx hb hK hR rfl e3 dX5_isOnPath_15 ?_
    refine lv_iload_n hx hb dX5_isOnPath_16 rfl (lv_at hl 1 rfl) ?_
    refine lv_icmp_ne (tgt := 22) hx hb dX5_isOnPath_17 (by decide) (fun c4 => ?_) (fun c4 => ?_)
    · replace h := if_o c4 h
      refine lv_iinc (v := v2 + 1) (lv' := [(2, .int (v2 + 1)), (0, .ref o), (1, .int v1)]) hx hb dX5_isOnPath_22 hl (k := 2) rfl rfl (by decide) rfl (fun ls hl => ?_)
      refine lv_goto (tgt := 2) hx hb dX5_isOnPath_25 (by decide) ?_
      exact k2 _ _ (Option.some.inj h).symm H locs ls hR hS (lv_sub hl [1, 2, 0] rfl)
    · replace h := it_o c4 h
      refine lv_iconst (v := 1) hx hb dX5_isOnPath_20 (by decide) ?_
      have eR := kR _ (Option.some.inj h).symm
      subst eR
      exact W.zret (v := 1) hx hb hr rfl (fun t ht _ => tw_fin hR hS ht) hS.2.2 dX5_isOnPath_21
noncomputable def fX5_isOnPath_l2 (v1 : Int32) (v2 : Int32) (T : TW) : Option ((Int32 × TW)) := whileO (fun q => fX5_isOnPath_b2 v1 q.1 q.2) (v2, T)
theorem lX5_isOnPath_2 {p : Program} {l : Launch} {e : Env} {s : State} {m : MethodId} {args : Array Value} {below : List Frame} {meth : Method} {c : Code} {G : gE} {o : Nat} (B : gB G RX5 cX5_isOnPath 3 (some .boolean) p s m args meth c) {v1 : Int32} {r : (Int32 × TW)}   : ∀ (v2 : Int32) (T : TW), fX5_isOnPath_l2 v1 v2 T = some r → ∀ (H : Heap) (locs : List Loc) (ls : Array Slot), RepT G o (T) H → va_S (tFr o) s.heap H locs → lv_has ls 3 [(0, .ref o), (1, .int v1), (2, .int v2)] → W p l e (gRm 0 0) s m args below meth c H locs 0 0 (twZ below args s G o (some (.int r.1)) r.2) (F0 m 2 ls []) := by
  intro v2 T h
  refine wh_walk (body := (fun q => fX5_isOnPath_b2 v1 q.1 q.2)) (P := (fun q : (Int32 × TW) => ∀ (H : Heap) (locs : List Loc) (ls : Array Slot), RepT G o (q.2) H → va_S (tFr o) s.heap H locs → lv_has ls 3 [(0, .ref o), (1, .int v1), (2, .int (q.1))] → W p l e (gRm 0 0) s m args below meth c H locs 0 0 (twZ below args s G o (some (.int r.1)) r.2) (F0 m 2 ls []))) (r := r) ?_ (v2, T) h
  intro q y hy hL hr H locs ls hR hS hl
  exact bX5_isOnPath_2 (r := r) B hy (fun a0 a1 e => hL (a0, a1) e) (fun q e => hr q e) hR hS hl
noncomputable def fX5_isOnPath (v1 : Int32) (T : TW) : Option ((Int32 × TW)) :=
  fX5_isOnPath_l2 v1 0 T
theorem bX5_isOnPath_0 {p : Program} {l : Launch} {e : Env} {s : State} {m : MethodId} {args : Array Value} {below : List Frame} {meth : Method} {c : Code} {H : Heap} {locs : List Loc} {ls : Array Slot} {G : gE} {o : Nat} (B : gB G RX5 cX5_isOnPath 3 (some .boolean) p s m args meth c) {v1 : Int32} {T : TW} {r : (Int32 × TW)} (h : fX5_isOnPath v1 T = some r)   (hR : RepT G o T H) (hS : va_S (tFr o) s.heap H locs) (hl : lv_has ls 3 [(0, .ref o), (1, .int v1)]) : W p l e (gRm 0 0) s m args below meth c H locs 0 0 (twZ below args s G o (some (.int r.1)) r.2) (F0 m 0 ls []) := by
  have B0 := B
  obtain ⟨hx, hb, hml, hown, hts, hr, hlk, hK⟩ := B0
  unfold fX5_isOnPath at h
  refine lv_iconst (v := 0) hx hb dX5_isOnPath_0 (by decide) ?_
  refine lv_istore_n (lv' := [(2, .int 0), (0, .ref o), (1, .int v1)]) hx hb dX5_isOnPath_1 rfl hl (by decide) rfl (fun ls hl => ?_)
  exact lX5_isOnPath_2 B _ _ h H locs ls hR hS (lv_sub hl [1, 2, 0] rfl)
theorem mX5_isOnPath {l : Launch} {G : gE} {o : Nat} {v1 : Int32} {T : TW} {r : (Int32 × TW)}  (h : fX5_isOnPath v1 T = some r) : twM l G o yX5_isOnPath cX5_isOnPath 3 (some .boolean) 0 0 [.ref o, .int v1] T (some (.int r.1)) r.2 :=
  tw_of (by decide +kernel) (Nat.le_of_ble_eq_true rfl) (fun p e s m args below meth c ls B hR hl => bX5_isOnPath_0 B h hR va_S.rf hl)
noncomputable def fX5_doesUse (v1 : Int32) (v2 : Int32) (T : TW) : Option ((Int32 × TW)) :=
  b2_ (fX5_laysPath v1 T) fun x3 T2 =>
  if x3 = 0 then (
    some (0, T2)
  ) else (
    b2_ (fX5_isOnPath v2 T2) fun x7 T6 =>
    if x7 = 0 then (
      some (0, T6)
    ) else (
      some (1, T6)
    )
  )
theorem bX5_doesUse_0 {p : Program} {l : Launch} {e : Env} {s : State} {m : MethodId} {args : Array Value} {below : List Frame} {meth : Method} {c : Code} {H : Heap} {locs : List Loc} {ls : Array Slot} {G : gE} {o : Nat} (B : gB G RX5 cX5_doesUse 3 (some .boolean) p s m args meth c) {v1 : Int32} {v2 : Int32} {T : TW} {r : (Int32 × TW)} (h : fX5_doesUse v1 v2 T = some r)   (hR : RepT G o T H) (hS : va_S (tFr o) s.heap H locs) (hl : lv_has ls 3 [(0, .ref o), (1, .int v1), (2, .int v2)]) : W p l e (gRm 7 156) s m args below meth c H locs 0 0 (twZ below args s G o (some (.int r.1)) r.2) (F0 m 0 ls []) := by
  have B0 := B
  obtain ⟨hx, hb, hml, hown, hts, hr, hlk, hK⟩ := B0
  unfold fX5_doesUse at h
  refine lv_aload_n hx hb dX5_doesUse_0 rfl (lv_at hl 0 rfl) ?_
  refine lv_iload_n hx hb dX5_doesUse_1 rfl (lv_at hl 1 rfl) ?_
  replace h := b2_o h
  obtain ⟨x3, T2, e1, h⟩ := h
  refine tw_callV 1 (As := [.int v1]) (rest := []) (v := (some (.int x3))) (T' := T2) (st1 := [.int x3]) hx hb hml hown hts hK hR (fun _ h9 => h9) (tw_A2 hR) hS (mX5_laysPath e1) (lw_V q2722 q2724 qs76 q137 q2725) (by decide +kernel) (Nat.le_of_ble_eq_true rfl) (Nat.le_of_ble_eq_true rfl) (Nat.zero_le _) (Nat.zero_le _) rfl hl.1 (Nat.le_of_ble_eq_true rfl) dX5_doesUse_2 rfl rfl (fun H locs hR hS => ?_)
  refine lv_if_eq (tgt := 20) hx hb dX5_doesUse_5 (by decide) (fun c4 => ?_) (fun c4 => ?_)
  · replace h := it_o c4 h
    refine lv_iconst (v := 0) hx hb dX5_doesUse_20 (by decide) ?_
    have eR := Option.some.inj h
    subst eR
    exact W.zret (v := 0) hx hb hr rfl (fun t ht _ => tw_fin hR hS ht) hS.2.2 dX5_doesUse_21
  · replace h := if_o c4 h
    refine lv_aload_n hx hb dX5_doesUse_8 rfl (lv_at hl 0 rfl) ?_
    refine lv_iload_n hx hb dX5_doesUse_9 rfl (lv_at hl 2 rfl) ?_
    replace h := b2_o h
    obtain ⟨x7, T6, e5, h⟩ := h
    refine tw_callV 1 (As := [.int v2]) (rest := []) (v := (some (.int x7))) (T' := T6) (st1 := [.int x7]) hx hb hml hown hts hK hR (fun _ h9 => h9) (tw_A2 hR) hS (mX5_isOnPath e5) (lw_V q2797 q2799 qs87 q137 q2800) (by decide +kernel) (Nat.le_of_ble_eq_true rfl) (Nat.le_of_ble_eq_true rfl) (Nat.zero_le _) (Nat.zero_le _) rfl hl.1 (Nat.le_of_ble_eq_true rfl) dX5_doesUse_10 rfl rfl (fun H locs hR hS => ?_)
    refine lv_if_eq (tgt := 20) hx hb dX5_doesUse_13 (by decide) (fun c8 => ?_) (fun c8 => ?_)
    · replace h := it_o c8 h
      refine lv_iconst (v := 0) hx hb dX5_doesUse_20 (by decide) ?_
      have eR := Option.some.inj h
      subst eR
      exact W.zret (v := 0) hx hb hr rfl (fun t ht _ => tw_fin hR hS ht) hS.2.2 dX5_doesUse_21
    · replace h := if_o c8 h
      refine lv_iconst (v := 1) hx hb dX5_doesUse_16 (by decide) ?_
      refine lv_goto (tgt := 21) hx hb dX5_doesUse_17 (by decide) ?_
      have eR := Option.some.inj h
      subst eR
      exact W.zret (v := 1) hx hb hr rfl (fun t ht _ => tw_fin hR hS ht) hS.2.2 dX5_doesUse_21
theorem mX5_doesUse {l : Launch} {G : gE} {o : Nat} {v1 : Int32} {v2 : Int32} {T : TW} {r : (Int32 × TW)}  (h : fX5_doesUse v1 v2 T = some r) : twM l G o yX5_doesUse cX5_doesUse 3 (some .boolean) 7 156 [.ref o, .int v1, .int v2] T (some (.int r.1)) r.2 :=
  tw_of (by decide +kernel) (Nat.le_of_ble_eq_true rfl) (fun p e s m args below meth c ls B hR hl => bX5_doesUse_0 B h hR va_S.rf hl)
noncomputable def fX5_uses_b22 (v1 : Int32) (v2 : Int32) (s1 : Int32) (T : TW) : Option ((Int32 × TW)) :=
  b2_ (fX5_isThrown s1 1 T) fun x3 T2 =>
  if x3 = 0 then (
    b2_ (fX5_doesUse v1 v2 T2) fun x7 T6 =>
    if x7 = 0 then (
      some (0, T6)
    ) else (
      some (1, T6)
    )
  ) else (
    some (0, T2)
  )
theorem bX5_uses_22 {p : Program} {l : Launch} {e : Env} {s : State} {m : MethodId} {args : Array Value} {below : List Frame} {meth : Method} {c : Code} {H : Heap} {locs : List Loc} {ls : Array Slot} {G : gE} {o : Nat} (B : gB G RX5 cX5_uses 3 (some .boolean) p s m args meth c) {v1 : Int32} {v2 : Int32} {s1 : Int32} {T : TW} {r : (Int32 × TW)} (h : fX5_uses_b22 v1 v2 s1 T = some r)   (hR : RepT G o T H) (hS : va_S (tFr o) s.heap H locs) (hl : lv_has ls 3 [(0, .ref o), (1, .int v1), (2, .int v2)]) : W p l e (gRm 8 178) s m args below meth c H locs 0 0 (twZ below args s G o (some (.int r.1)) r.2) (F0 m 22 ls [.int s1, .ref o]) := by
  have B0 := B
  obtain ⟨hx, hb, hml, hown, hts, hr, hlk, hK⟩ := B0
  unfold fX5_uses_b22 at h
  refine lv_iconst (v := 1) hx hb dX5_uses_22 (by decide) ?_
  replace h := b2_o h
  obtain ⟨x3, T2, e1, h⟩ := h
  refine tw_callV 2 (As := [.int s1, .int 1]) (rest := []) (v := (some (.int x3))) (T' := T2) (st1 := [.int x3]) hx hb hml hown hts hK hR (fun _ h9 => h9) (tw_A2 hR) hS (mX5_isThrown e1) (lw_V q2633 q2635 qs68 q137 q2636) (by decide +kernel) (Nat.le_of_ble_eq_true rfl) (Nat.le_of_ble_eq_true rfl) (Nat.zero_le _) (Nat.zero_le _) rfl hl.1 (Nat.le_of_ble_eq_true rfl) dX5_uses_23 rfl rfl (fun H locs hR hS => ?_)
  refine lv_if_ne (tgt := 42) hx hb dX5_uses_26 (by decide) (fun c4 => ?_) (fun c4 => ?_)
  · replace h := if_o c4 h
    refine lv_iconst (v := 0) hx hb dX5_uses_42 (by decide) ?_
    have eR := Option.some.inj h
    subst eR
    exact W.zret (v := 0) hx hb hr rfl (fun t ht _ => tw_fin hR hS ht) hS.2.2 dX5_uses_43
  · replace h := it_o c4 h
    refine lv_aload_n hx hb dX5_uses_29 rfl (lv_at hl 0 rfl) ?_
    refine lv_iload_n hx hb dX5_uses_30 rfl (lv_at hl 1 rfl) ?_
    refine lv_iload_n hx hb dX5_uses_31 rfl (lv_at hl 2 rfl) ?_
    replace h := b2_o h
    obtain ⟨x7, T6, e5, h⟩ := h
    refine tw_callV 2 (As := [.int v1, .int v2]) (rest := []) (v := (some (.int x7))) (T' := T6) (st1 := [.int x7]) hx hb hml hown hts hK hR (fun _ h9 => h9) (tw_A2 hR) hS (mX5_doesUse e5) (lw_V q2793 q2795 qs86 q137 q2796) (by decide +kernel) (Nat.le_of_ble_eq_true rfl) (Nat.le_of_ble_eq_true rfl) (Nat.zero_le _) (Nat.zero_le _) rfl hl.1 (Nat.le_of_ble_eq_true rfl) dX5_uses_32 rfl rfl (fun H locs hR hS => ?_)
    refine lv_if_eq (tgt := 42) hx hb dX5_uses_35 (by decide) (fun c8 => ?_) (fun c8 => ?_)
    · replace h := it_o c8 h
      refine lv_iconst (v := 0) hx hb dX5_uses_42 (by decide) ?_
      have eR := Option.some.inj h
      subst eR
      exact W.zret (v := 0) hx hb hr rfl (fun t ht _ => tw_fin hR hS ht) hS.2.2 dX5_uses_43
    · replace h := if_o c8 h
      refine lv_iconst (v := 1) hx hb dX5_uses_38 (by decide) ?_
      refine lv_goto (tgt := 43) hx hb dX5_uses_39 (by decide) ?_
      have eR := Option.some.inj h
      subst eR
      exact W.zret (v := 1) hx hb hr rfl (fun t ht _ => tw_fin hR hS ht) hS.2.2 dX5_uses_43
noncomputable def fX5_uses_b21 (v1 : Int32) (v2 : Int32) (T : TW) : Option ((Int32 × TW)) :=
  fX5_uses_b22 v1 v2 0 T
theorem bX5_uses_21 {p : Program} {l : Launch} {e : Env} {s : State} {m : MethodId} {args : Array Value} {below : List Frame} {meth : Method} {c : Code} {H : Heap} {locs : List Loc} {ls : Array Slot} {G : gE} {o : Nat} (B : gB G RX5 cX5_uses 3 (some .boolean) p s m args meth c) {v1 : Int32} {v2 : Int32} {T : TW} {r : (Int32 × TW)} (h : fX5_uses_b21 v1 v2 T = some r)   (hR : RepT G o T H) (hS : va_S (tFr o) s.heap H locs) (hl : lv_has ls 3 [(0, .ref o), (1, .int v1), (2, .int v2)]) : W p l e (gRm 8 178) s m args below meth c H locs 0 0 (twZ below args s G o (some (.int r.1)) r.2) (F0 m 21 ls [.ref o]) := by
  have B0 := B
  obtain ⟨hx, hb, hml, hown, hts, hr, hlk, hK⟩ := B0
  unfold fX5_uses_b21 at h
  refine lv_iconst (v := 0) hx hb dX5_uses_21 (by decide) ?_
  exact bX5_uses_22 B h  hR hS (lv_sub hl [0, 1, 2] rfl)
noncomputable def fX5_uses (v1 : Int32) (v2 : Int32) (T : TW) : Option ((Int32 × TW)) :=
  b2_ (fX5_isTrip v1 T) fun x3 T2 =>
  if x3 = 0 then (
    fX5_uses_b21 v1 v2 T2
  ) else (
    b2_ (fX5_isArc v2 T2) fun x7 T6 =>
    if x7 = 0 then (
      fX5_uses_b21 v1 v2 T6
    ) else (
      fX5_uses_b22 v1 v2 1 T6
    )
  )
theorem bX5_uses_0 {p : Program} {l : Launch} {e : Env} {s : State} {m : MethodId} {args : Array Value} {below : List Frame} {meth : Method} {c : Code} {H : Heap} {locs : List Loc} {ls : Array Slot} {G : gE} {o : Nat} (B : gB G RX5 cX5_uses 3 (some .boolean) p s m args meth c) {v1 : Int32} {v2 : Int32} {T : TW} {r : (Int32 × TW)} (h : fX5_uses v1 v2 T = some r)   (hR : RepT G o T H) (hS : va_S (tFr o) s.heap H locs) (hl : lv_has ls 3 [(0, .ref o), (1, .int v1), (2, .int v2)]) : W p l e (gRm 8 178) s m args below meth c H locs 0 0 (twZ below args s G o (some (.int r.1)) r.2) (F0 m 0 ls []) := by
  have B0 := B
  obtain ⟨hx, hb, hml, hown, hts, hr, hlk, hK⟩ := B0
  unfold fX5_uses at h
  refine lv_aload_n hx hb dX5_uses_0 rfl (lv_at hl 0 rfl) ?_
  refine lv_aload_n hx hb dX5_uses_1 rfl (lv_at hl 0 rfl) ?_
  refine lv_iload_n hx hb dX5_uses_2 rfl (lv_at hl 1 rfl) ?_
  replace h := b2_o h
  obtain ⟨x3, T2, e1, h⟩ := h
  refine tw_callV 1 (As := [.int v1]) (rest := [.ref o]) (v := (some (.int x3))) (T' := T2) (st1 := [.int x3, .ref o]) hx hb hml hown hts hK hR (fun _ h9 => h9) (tw_A2 hR) hS (mX5_isTrip e1) (lw_V q2653 q2655 qs71 q137 q2656) (by decide +kernel) (Nat.le_of_ble_eq_true rfl) (Nat.le_of_ble_eq_true rfl) (Nat.zero_le _) (Nat.zero_le _) rfl hl.1 (Nat.le_of_ble_eq_true rfl) dX5_uses_3 rfl rfl (fun H locs hR hS => ?_)
  refine lv_if_eq (tgt := 21) hx hb dX5_uses_6 (by decide) (fun c4 => ?_) (fun c4 => ?_)
  · replace h := it_o c4 h
    exact bX5_uses_21 B h  hR hS (lv_sub hl [0, 1, 2] rfl)
  · replace h := if_o c4 h
    refine lv_aload_n hx hb dX5_uses_9 rfl (lv_at hl 0 rfl) ?_
    refine lv_iload_n hx hb dX5_uses_10 rfl (lv_at hl 2 rfl) ?_
    replace h := b2_o h
    obtain ⟨x7, T6, e5, h⟩ := h
    refine tw_callV 1 (As := [.int v2]) (rest := [.ref o]) (v := (some (.int x7))) (T' := T6) (st1 := [.int x7, .ref o]) hx hb hml hown hts hK hR (fun _ h9 => h9) (tw_A2 hR) hS (mX5_isArc e5) (lw_V q2645 q2647 qs70 q137 q2648) (by decide +kernel) (Nat.le_of_ble_eq_true rfl) (Nat.le_of_ble_eq_true rfl) (Nat.zero_le _) (Nat.zero_le _) rfl hl.1 (Nat.le_of_ble_eq_true rfl) dX5_uses_11 rfl rfl (fun H locs hR hS => ?_)
    refine lv_if_eq (tgt := 21) hx hb dX5_uses_14 (by decide) (fun c8 => ?_) (fun c8 => ?_)
    · replace h := it_o c8 h
      exact bX5_uses_21 B h  hR hS (lv_sub hl [0, 1, 2] rfl)
    · replace h := if_o c8 h
      refine lv_iconst (v := 1) hx hb dX5_uses_17 (by decide) ?_
      refine lv_goto (tgt := 22) hx hb dX5_uses_18 (by decide) ?_
      exact bX5_uses_22 B h  hR hS (lv_sub hl [0, 1, 2] rfl)
theorem mX5_uses {l : Launch} {G : gE} {o : Nat} {v1 : Int32} {v2 : Int32} {T : TW} {r : (Int32 × TW)}  (h : fX5_uses v1 v2 T = some r) : twM l G o yX5_uses cX5_uses 3 (some .boolean) 8 178 [.ref o, .int v1, .int v2] T (some (.int r.1)) r.2 :=
  tw_of (by decide +kernel) (Nat.le_of_ble_eq_true rfl) (fun p e s m args below meth c ls B hR hl => bX5_uses_0 B h hR va_S.rf hl)
noncomputable def fX5_usersOf_b31 (v1 : Int32) (v3 : Int32) (s0 : Int32) (s1 : Int32) (T : TW) : Option (Sum (Int32 × Int32 × TW) ((Int32 × TW))) :=
  nm_ (s0 ||| s1) fun x1 =>
  some (.inl (x1, v3 + 1, T))
theorem bX5_usersOf_31 {p : Program} {l : Launch} {e : Env} {s : State} {m : MethodId} {args : Array Value} {below : List Frame} {meth : Method} {c : Code} {H : Heap} {locs : List Loc} {ls : Array Slot} {G : gE} {o : Nat} (B : gB G RX5 cX5_usersOf 4 (some .int) p s m args meth c) {v1 : Int32} {v3 : Int32} {s0 : Int32} {s1 : Int32} {T : TW} {x : Sum (Int32 × Int32 × TW) ((Int32 × TW))} {r : (Int32 × TW)} (h : fX5_usersOf_b31 v1 v3 s0 s1 T = some x)  (k4 : ∀ (v2' : Int32) (v3' : Int32) (T' : TW), x = (.inl (v2', v3', T')) → ∀ (H : Heap) (locs : List Loc) (ls : Array Slot), RepT G o (T') H → va_S (tFr o) s.heap H locs → lv_has ls 4 [(0, .ref o), (1, .int v1), (2, .int v2'), (3, .int v3')] → W p l e (gRm 8 178) s m args below meth c H locs 0 0 (twZ below args s G o (some (.int r.1)) r.2) (F0 m 4 ls [])) (kR : ∀ q, x = (.inr q) → q = r) (hR : RepT G o T H) (hS : va_S (tFr o) s.heap H locs) (hl : lv_has ls 4 [(0, .ref o), (1, .int v1), (3, .int v3)]) : W p l e (gRm 8 178) s m args below meth c H locs 0 0 (twZ below args s G o (some (.int r.1)) r.2) (F0 m 31 ls [.int s1, .int s0]) := by
  have B0 := B
  obtain ⟨hx, hb, hml, hown, hts, hr, hlk, hK⟩ := B0
  unfold fX5_usersOf_b31 at h
  refine lv_ior hx hb dX5_usersOf_31 ?_
  replace h := nm_o h
  obtain ⟨x1, e2, h⟩ := h
  refine lv_istore_n (lv' := [(2, .int x1), (0, .ref o), (1, .int v1), (3, .int v3)]) hx hb dX5_usersOf_32 rfl hl (by decide) (by subst e2; rfl) (fun ls hl => ?_)
  refine lv_iinc (v := v3 + 1) (lv' := [(3, .int (v3 + 1)), (2, .int x1), (0, .ref o), (1, .int v1)]) hx hb dX5_usersOf_33 hl (k := 3) rfl rfl (by decide) rfl (fun ls hl => ?_)
  refine lv_goto (tgt := 4) hx hb dX5_usersOf_36 (by decide) ?_
  exact k4 _ _ _ (Option.some.inj h).symm H locs ls hR hS (lv_sub hl [2, 3, 1, 0] rfl)
noncomputable def fX5_usersOf_b4 (v1 : Int32) (v2 : Int32) (v3 : Int32) (T : TW) : Option (Sum (Int32 × Int32 × TW) ((Int32 × TW))) :=
  (rd_ (tA T 1) 172 2).bind fun x1 =>
  if x1 ≤ v3 then (
    some (.inr (v2, T))
  ) else (
    b2_ (fX5_doesUse v3 v1 T) fun x6 T5 =>
    if x6 = 0 then (
      fX5_usersOf_b31 v1 v3 v2 0 T5
    ) else (
      fX5_usersOf_b31 v1 v3 v2 ((1 : Int32) <<< (v3 &&& 31)) T5
    )
  )
theorem bX5_usersOf_4 {p : Program} {l : Launch} {e : Env} {s : State} {m : MethodId} {args : Array Value} {below : List Frame} {meth : Method} {c : Code} {H : Heap} {locs : List Loc} {ls : Array Slot} {G : gE} {o : Nat} (B : gB G RX5 cX5_usersOf 4 (some .int) p s m args meth c) {v1 : Int32} {v2 : Int32} {v3 : Int32} {T : TW} {x : Sum (Int32 × Int32 × TW) ((Int32 × TW))} {r : (Int32 × TW)} (h : fX5_usersOf_b4 v1 v2 v3 T = some x)  (k4 : ∀ (v2' : Int32) (v3' : Int32) (T' : TW), x = (.inl (v2', v3', T')) → ∀ (H : Heap) (locs : List Loc) (ls : Array Slot), RepT G o (T') H → va_S (tFr o) s.heap H locs → lv_has ls 4 [(0, .ref o), (1, .int v1), (2, .int v2'), (3, .int v3')] → W p l e (gRm 8 178) s m args below meth c H locs 0 0 (twZ below args s G o (some (.int r.1)) r.2) (F0 m 4 ls [])) (kR : ∀ q, x = (.inr q) → q = r) (hR : RepT G o T H) (hS : va_S (tFr o) s.heap H locs) (hl : lv_has ls 4 [(0, .ref o), (1, .int v1), (2, .int v2), (3, .int v3)]) : W p l e (gRm 8 178) s m args below meth c H locs 0 0 (twZ below args s G o (some (.int r.1)) r.2) (F0 m 4 ls []) := by
  have B0 := B
  obtain ⟨hx, hb, hml, hown, hts, hr, hlk, hK⟩ := B0
  unfold fX5_usersOf_b4 at h
  refine lv_iload_n hx hb dX5_usersOf_4 rfl (lv_at hl 3 rfl) ?_
  refine lv_aload_n hx hb dX5_usersOf_5 rfl (lv_at hl 0 rfl) ?_
  refine tw_get (k := 0) (v := .ref (o + 1)) hx hb hts hown hK hR (by decide) q2433 rfl (fun _ h9 => h9) dX5_usersOf_6 ?_
  refine lv_iconst (v := 2) hx hb dX5_usersOf_9 (by decide) ?_
  replace h := bo_o h
  obtain ⟨x1, e2, h⟩ := h
  refine tw_iald (q := 1) hx hb hK hR rfl e2 dX5_usersOf_10 ?_
  refine lv_icmp_ge (tgt := 39) hx hb dX5_usersOf_11 (by decide) (fun c3 => ?_) (fun c3 => ?_)
  · replace h := it_o c3 h
    refine lv_iload_n hx hb dX5_usersOf_39 rfl (lv_at hl 2 rfl) ?_
    have eR := kR _ (Option.some.inj h).symm
    subst eR
    exact W.iret (v := v2) hx hb hr (fun t ht _ => tw_fin hR hS ht) hS.2.2 dX5_usersOf_40
  · replace h := if_o c3 h
    refine lv_iload_n hx hb dX5_usersOf_14 rfl (lv_at hl 2 rfl) ?_
    refine lv_aload_n hx hb dX5_usersOf_15 rfl (lv_at hl 0 rfl) ?_
    refine lv_iload_n hx hb dX5_usersOf_16 rfl (lv_at hl 3 rfl) ?_
    refine lv_iload_n hx hb dX5_usersOf_17 rfl (lv_at hl 1 rfl) ?_
    replace h := b2_o h
    obtain ⟨x6, T5, e4, h⟩ := h
    refine tw_callV 2 (As := [.int v3, .int v1]) (rest := [.int v2]) (v := (some (.int x6))) (T' := T5) (st1 := [.int x6, .int v2]) hx hb hml hown hts hK hR (fun _ h9 => h9) (tw_A2 hR) hS (mX5_doesUse e4) (lw_V q2793 q2795 qs86 q137 q2796) (by decide +kernel) (Nat.le_of_ble_eq_true rfl) (Nat.le_of_ble_eq_true rfl) (Nat.zero_le _) (Nat.zero_le _) rfl hl.1 (Nat.le_of_ble_eq_true rfl) dX5_usersOf_18 rfl rfl (fun H locs hR hS => ?_)
    refine lv_if_eq (tgt := 30) hx hb dX5_usersOf_21 (by decide) (fun c7 => ?_) (fun c7 => ?_)
    · replace h := it_o c7 h
      refine lv_iconst (v := 0) hx hb dX5_usersOf_30 (by decide) ?_
      exact bX5_usersOf_31 B h k4 kR hR hS (lv_sub hl [0, 1, 3] rfl)
    · replace h := if_o c7 h
      refine lv_iconst (v := 1) hx hb dX5_usersOf_24 (by decide) ?_
      refine lv_iload_n hx hb dX5_usersOf_25 rfl (lv_at hl 3 rfl) ?_
      refine lv_ishl hx hb dX5_usersOf_26 ?_
      refine lv_goto (tgt := 31) hx hb dX5_usersOf_27 (by decide) ?_
      exact bX5_usersOf_31 B h k4 kR hR hS (lv_sub hl [0, 1, 3] rfl)
noncomputable def fX5_usersOf_l4 (v1 : Int32) (v2 : Int32) (v3 : Int32) (T : TW) : Option ((Int32 × TW)) := whileO (fun q => fX5_usersOf_b4 v1 q.1 q.2.1 q.2.2) (v2, v3, T)
theorem lX5_usersOf_4 {p : Program} {l : Launch} {e : Env} {s : State} {m : MethodId} {args : Array Value} {below : List Frame} {meth : Method} {c : Code} {G : gE} {o : Nat} (B : gB G RX5 cX5_usersOf 4 (some .int) p s m args meth c) {v1 : Int32} {r : (Int32 × TW)}   : ∀ (v2 : Int32) (v3 : Int32) (T : TW), fX5_usersOf_l4 v1 v2 v3 T = some r → ∀ (H : Heap) (locs : List Loc) (ls : Array Slot), RepT G o (T) H → va_S (tFr o) s.heap H locs → lv_has ls 4 [(0, .ref o), (1, .int v1), (2, .int v2), (3, .int v3)] → W p l e (gRm 8 178) s m args below meth c H locs 0 0 (twZ below args s G o (some (.int r.1)) r.2) (F0 m 4 ls []) := by
  intro v2 v3 T h
  refine wh_walk (body := (fun q => fX5_usersOf_b4 v1 q.1 q.2.1 q.2.2)) (P := (fun q : (Int32 × Int32 × TW) => ∀ (H : Heap) (locs : List Loc) (ls : Array Slot), RepT G o (q.2.2) H → va_S (tFr o) s.heap H locs → lv_has ls 4 [(0, .ref o), (1, .int v1), (2, .int (q.1)), (3, .int (q.2.1))] → W p l e (gRm 8 178) s m args below meth c H locs 0 0 (twZ below args s G o (some (.int r.1)) r.2) (F0 m 4 ls []))) (r := r) ?_ (v2, v3, T) h
  intro q y hy hL hr H locs ls hR hS hl
  exact bX5_usersOf_4 (r := r) B hy (fun a0 a1 a2 e => hL (a0, a1, a2) e) (fun q e => hr q e) hR hS hl
noncomputable def fX5_usersOf (v1 : Int32) (T : TW) : Option ((Int32 × TW)) :=
  fX5_usersOf_l4 v1 0 0 T
theorem bX5_usersOf_0 {p : Program} {l : Launch} {e : Env} {s : State} {m : MethodId} {args : Array Value} {below : List Frame} {meth : Method} {c : Code} {H : Heap} {locs : List Loc} {ls : Array Slot} {G : gE} {o : Nat} (B : gB G RX5 cX5_usersOf 4 (some .int) p s m args meth c) {v1 : Int32} {T : TW} {r : (Int32 × TW)} (h : fX5_usersOf v1 T = some r)   (hR : RepT G o T H) (hS : va_S (tFr o) s.heap H locs) (hl : lv_has ls 4 [(0, .ref o), (1, .int v1)]) : W p l e (gRm 8 178) s m args below meth c H locs 0 0 (twZ below args s G o (some (.int r.1)) r.2) (F0 m 0 ls []) := by
  have B0 := B
  obtain ⟨hx, hb, hml, hown, hts, hr, hlk, hK⟩ := B0
  unfold fX5_usersOf at h
  refine lv_iconst (v := 0) hx hb dX5_usersOf_0 (by decide) ?_
  refine lv_istore_n (lv' := [(2, .int 0), (0, .ref o), (1, .int v1)]) hx hb dX5_usersOf_1 rfl hl (by decide) rfl (fun ls hl => ?_)
  refine lv_iconst (v := 0) hx hb dX5_usersOf_2 (by decide) ?_
  refine lv_istore_n (lv' := [(3, .int 0), (2, .int 0), (0, .ref o), (1, .int v1)]) hx hb dX5_usersOf_3 rfl hl (by decide) rfl (fun ls hl => ?_)
  exact lX5_usersOf_4 B _ _ _ h H locs ls hR hS (lv_sub hl [2, 3, 1, 0] rfl)
theorem mX5_usersOf {l : Launch} {G : gE} {o : Nat} {v1 : Int32} {T : TW} {r : (Int32 × TW)}  (h : fX5_usersOf v1 T = some r) : twM l G o yX5_usersOf cX5_usersOf 4 (some .int) 8 178 [.ref o, .int v1] T (some (.int r.1)) r.2 :=
  tw_of (by decide +kernel) (Nat.le_of_ble_eq_true rfl) (fun p e s m args below meth c ls B hR hl => bX5_usersOf_0 B h hR va_S.rf hl)
noncomputable def fX5_users (v1 : Int32) (T : TW) : Option ((Int32 × TW)) :=
  b2_ (fX5_isArc v1 T) fun x3 T2 =>
  b2_ (fX5_isThrown x3 1 T2) fun x6 T5 =>
  if x6 = 0 then (
    b2_ (fX5_usersOf v1 T5) fun x10 T9 =>
    some (x10, T9)
  ) else (
    some (0, T5)
  )
theorem bX5_users_0 {p : Program} {l : Launch} {e : Env} {s : State} {m : MethodId} {args : Array Value} {below : List Frame} {meth : Method} {c : Code} {H : Heap} {locs : List Loc} {ls : Array Slot} {G : gE} {o : Nat} (B : gB G RX5 cX5_users 2 (some .int) p s m args meth c) {v1 : Int32} {T : TW} {r : (Int32 × TW)} (h : fX5_users v1 T = some r)   (hR : RepT G o T H) (hS : va_S (tFr o) s.heap H locs) (hl : lv_has ls 2 [(0, .ref o), (1, .int v1)]) : W p l e (gRm 9 201) s m args below meth c H locs 0 0 (twZ below args s G o (some (.int r.1)) r.2) (F0 m 0 ls []) := by
  have B0 := B
  obtain ⟨hx, hb, hml, hown, hts, hr, hlk, hK⟩ := B0
  unfold fX5_users at h
  refine lv_aload_n hx hb dX5_users_0 rfl (lv_at hl 0 rfl) ?_
  refine lv_aload_n hx hb dX5_users_1 rfl (lv_at hl 0 rfl) ?_
  refine lv_iload_n hx hb dX5_users_2 rfl (lv_at hl 1 rfl) ?_
  replace h := b2_o h
  obtain ⟨x3, T2, e1, h⟩ := h
  refine tw_callV 1 (As := [.int v1]) (rest := [.ref o]) (v := (some (.int x3))) (T' := T2) (st1 := [.int x3, .ref o]) hx hb hml hown hts hK hR (fun _ h9 => h9) (tw_A2 hR) hS (mX5_isArc e1) (lw_V q2645 q2647 qs70 q137 q2648) (by decide +kernel) (Nat.le_of_ble_eq_true rfl) (Nat.le_of_ble_eq_true rfl) (Nat.zero_le _) (Nat.zero_le _) rfl hl.1 (Nat.le_of_ble_eq_true rfl) dX5_users_3 rfl rfl (fun H locs hR hS => ?_)
  refine lv_iconst (v := 1) hx hb dX5_users_6 (by decide) ?_
  replace h := b2_o h
  obtain ⟨x6, T5, e4, h⟩ := h
  refine tw_callV 2 (As := [.int x3, .int 1]) (rest := []) (v := (some (.int x6))) (T' := T5) (st1 := [.int x6]) hx hb hml hown hts hK hR (fun _ h9 => h9) (tw_A2 hR) hS (mX5_isThrown e4) (lw_V q2633 q2635 qs68 q137 q2636) (by decide +kernel) (Nat.le_of_ble_eq_true rfl) (Nat.le_of_ble_eq_true rfl) (Nat.zero_le _) (Nat.zero_le _) rfl hl.1 (Nat.le_of_ble_eq_true rfl) dX5_users_7 rfl rfl (fun H locs hR hS => ?_)
  refine lv_if_eq (tgt := 17) hx hb dX5_users_10 (by decide) (fun c7 => ?_) (fun c7 => ?_)
  · replace h := it_o c7 h
    refine lv_aload_n hx hb dX5_users_17 rfl (lv_at hl 0 rfl) ?_
    refine lv_iload_n hx hb dX5_users_18 rfl (lv_at hl 1 rfl) ?_
    replace h := b2_o h
    obtain ⟨x10, T9, e8, h⟩ := h
    refine tw_callV 1 (As := [.int v1]) (rest := []) (v := (some (.int x10))) (T' := T9) (st1 := [.int x10]) hx hb hml hown hts hK hR (fun _ h9 => h9) (tw_A2 hR) hS (mX5_usersOf e8) (lw_V q2805 q2807 qs88 q137 q2808) (by decide +kernel) (Nat.le_of_ble_eq_true rfl) (Nat.le_of_ble_eq_true rfl) (Nat.zero_le _) (Nat.zero_le _) rfl hl.1 (Nat.le_of_ble_eq_true rfl) dX5_users_19 rfl rfl (fun H locs hR hS => ?_)
    have eR := Option.some.inj h
    subst eR
    exact W.iret (v := x10) hx hb hr (fun t ht _ => tw_fin hR hS ht) hS.2.2 dX5_users_22
  · replace h := if_o c7 h
    refine lv_iconst (v := 0) hx hb dX5_users_13 (by decide) ?_
    refine lv_goto (tgt := 22) hx hb dX5_users_14 (by decide) ?_
    have eR := Option.some.inj h
    subst eR
    exact W.iret (v := 0) hx hb hr (fun t ht _ => tw_fin hR hS ht) hS.2.2 dX5_users_22
theorem mX5_users {l : Launch} {G : gE} {o : Nat} {v1 : Int32} {T : TW} {r : (Int32 × TW)}  (h : fX5_users v1 T = some r) : twM l G o yX5_users cX5_users 2 (some .int) 9 201 [.ref o, .int v1] T (some (.int r.1)) r.2 :=
  tw_of (by decide +kernel) (Nat.le_of_ble_eq_true rfl) (fun p e s m args below meth c ls B hR hl => bX5_users_0 B h hR va_S.rf hl)
noncomputable def fX5_flowOn_b43 (v2 : Int32) (v4 : Int32) (s0 : Int32) (s1 : Int32) (T : TW) : Option (Sum (Int32 × Int32 × TW) ((Int32 × TW))) :=
  nm_ (s0 + s1) fun x1 =>
  some (.inl (x1, v4 + 1, T))
theorem bX5_flowOn_43 {p : Program} {l : Launch} {e : Env} {s : State} {m : MethodId} {args : Array Value} {below : List Frame} {meth : Method} {c : Code} {H : Heap} {locs : List Loc} {ls : Array Slot} {G : gE} {o : Nat} (B : gB G RX5 cX5_flowOn 5 (some .int) p s m args meth c) {v2 : Int32} {v4 : Int32} {s0 : Int32} {s1 : Int32} {T : TW} {x : Sum (Int32 × Int32 × TW) ((Int32 × TW))} {r : (Int32 × TW)} (h : fX5_flowOn_b43 v2 v4 s0 s1 T = some x)  (k11 : ∀ (v3' : Int32) (v4' : Int32) (T' : TW), x = (.inl (v3', v4', T')) → ∀ (H : Heap) (locs : List Loc) (ls : Array Slot), RepT G o (T') H → va_S (tFr o) s.heap H locs → lv_has ls 5 [(0, .ref o), (2, .int v2), (3, .int v3'), (4, .int v4')] → W p l e (gRm 9 201) s m args below meth c H locs 0 0 (twZ below args s G o (some (.int r.1)) r.2) (F0 m 11 ls [])) (kR : ∀ q, x = (.inr q) → q = r) (hR : RepT G o T H) (hS : va_S (tFr o) s.heap H locs) (hl : lv_has ls 5 [(0, .ref o), (2, .int v2), (4, .int v4)]) : W p l e (gRm 9 201) s m args below meth c H locs 0 0 (twZ below args s G o (some (.int r.1)) r.2) (F0 m 43 ls [.int s1, .int s0]) := by
  have B0 := B
  obtain ⟨hx, hb, hml, hown, hts, hr, hlk, hK⟩ := B0
  unfold fX5_flowOn_b43 at h
  refine lv_iadd hx hb dX5_flowOn_43 ?_
  replace h := nm_o h
  obtain ⟨x1, e2, h⟩ := h
  refine lv_istore_n (lv' := [(3, .int x1), (0, .ref o), (2, .int v2), (4, .int v4)]) hx hb dX5_flowOn_44 rfl hl (by decide) (by subst e2; rfl) (fun ls hl => ?_)
  refine lv_iinc (v := v4 + 1) (lv' := [(4, .int (v4 + 1)), (3, .int x1), (0, .ref o), (2, .int v2)]) hx hb dX5_flowOn_45 hl (k := 3) rfl rfl (by decide) rfl (fun ls hl => ?_)
  refine lv_goto (tgt := 11) hx hb dX5_flowOn_48 (by decide) ?_
  exact k11 _ _ _ (Option.some.inj h).symm H locs ls hR hS (lv_sub hl [2, 3, 1, 0] rfl)
noncomputable def fX5_flowOn_b11 (v2 : Int32) (v3 : Int32) (v4 : Int32) (T : TW) : Option (Sum (Int32 × Int32 × TW) ((Int32 × TW))) :=
  (rd_ (tA T 1) 172 2).bind fun x1 =>
  if x1 ≤ v4 then (
    some (.inr (v3, T))
  ) else (
    b2_ (fX5_has v2 v4 T) fun x6 T5 =>
    if x6 = 0 then (
      fX5_flowOn_b43 v2 v4 v3 0 T5
    ) else (
      b2_ (fX5_trip v4 2 T5) fun x10 T9 =>
      fX5_flowOn_b43 v2 v4 v3 x10 T9
    )
  )
theorem bX5_flowOn_11 {p : Program} {l : Launch} {e : Env} {s : State} {m : MethodId} {args : Array Value} {below : List Frame} {meth : Method} {c : Code} {H : Heap} {locs : List Loc} {ls : Array Slot} {G : gE} {o : Nat} (B : gB G RX5 cX5_flowOn 5 (some .int) p s m args meth c) {v2 : Int32} {v3 : Int32} {v4 : Int32} {T : TW} {x : Sum (Int32 × Int32 × TW) ((Int32 × TW))} {r : (Int32 × TW)} (h : fX5_flowOn_b11 v2 v3 v4 T = some x)  (k11 : ∀ (v3' : Int32) (v4' : Int32) (T' : TW), x = (.inl (v3', v4', T')) → ∀ (H : Heap) (locs : List Loc) (ls : Array Slot), RepT G o (T') H → va_S (tFr o) s.heap H locs → lv_has ls 5 [(0, .ref o), (2, .int v2), (3, .int v3'), (4, .int v4')] → W p l e (gRm 9 201) s m args below meth c H locs 0 0 (twZ below args s G o (some (.int r.1)) r.2) (F0 m 11 ls [])) (kR : ∀ q, x = (.inr q) → q = r) (hR : RepT G o T H) (hS : va_S (tFr o) s.heap H locs) (hl : lv_has ls 5 [(0, .ref o), (2, .int v2), (3, .int v3), (4, .int v4)]) : W p l e (gRm 9 201) s m args below meth c H locs 0 0 (twZ below args s G o (some (.int r.1)) r.2) (F0 m 11 ls []) := by
  have B0 := B
  obtain ⟨hx, hb, hml, hown, hts, hr, hlk, hK⟩ := B0
  unfold fX5_flowOn_b11 at h
  refine lv_iload hx hb dX5_flowOn_11 (lv_at hl 3 rfl) ?_
  refine lv_aload_n hx hb dX5_flowOn_13 rfl (lv_at hl 0 rfl) ?_
  refine tw_get (k := 0) (v := .ref (o + 1)) hx hb hts hown hK hR (by decide) q2433 rfl (fun _ h9 => h9) dX5_flowOn_14 ?_
  refine lv_iconst (v := 2) hx hb dX5_flowOn_17 (by decide) ?_
  replace h := bo_o h
  obtain ⟨x1, e2, h⟩ := h
  refine tw_iald (q := 1) hx hb hK hR rfl e2 dX5_flowOn_18 ?_
  refine lv_icmp_ge (tgt := 51) hx hb dX5_flowOn_19 (by decide) (fun c3 => ?_) (fun c3 => ?_)
  · replace h := it_o c3 h
    refine lv_iload_n hx hb dX5_flowOn_51 rfl (lv_at hl 2 rfl) ?_
    have eR := kR _ (Option.some.inj h).symm
    subst eR
    exact W.iret (v := v3) hx hb hr (fun t ht _ => tw_fin hR hS ht) hS.2.2 dX5_flowOn_52
  · replace h := if_o c3 h
    refine lv_iload_n hx hb dX5_flowOn_22 rfl (lv_at hl 2 rfl) ?_
    refine lv_iload_n hx hb dX5_flowOn_23 rfl (lv_at hl 1 rfl) ?_
    refine lv_iload hx hb dX5_flowOn_24 (lv_at hl 3 rfl) ?_
    replace h := b2_o h
    obtain ⟨x6, T5, e4, h⟩ := h
    refine tw_callS 2 (As := [.int v2, .int v4]) (rest := [.int v3]) (v := (some (.int x6))) (T' := T5) (st1 := [.int x6, .int v3]) hx hb hml hown hts hK hR (fun _ h9 => h9) (tw_A2 hR) hS (mX5_has e4) (lw_S q2739 q2740 q137 q2741) (by decide +kernel) (Nat.le_of_ble_eq_true rfl) (Nat.le_of_ble_eq_true rfl) (Nat.zero_le _) (Nat.zero_le _) rfl hl.1 (Nat.le_of_ble_eq_true rfl) dX5_flowOn_26 rfl rfl (fun H locs hR hS => ?_)
    refine lv_if_eq (tgt := 42) hx hb dX5_flowOn_29 (by decide) (fun c7 => ?_) (fun c7 => ?_)
    · replace h := it_o c7 h
      refine lv_iconst (v := 0) hx hb dX5_flowOn_42 (by decide) ?_
      exact bX5_flowOn_43 B h k11 kR hR hS (lv_sub hl [0, 1, 3] rfl)
    · replace h := if_o c7 h
      refine lv_aload_n hx hb dX5_flowOn_32 rfl (lv_at hl 0 rfl) ?_
      refine lv_iload hx hb dX5_flowOn_33 (lv_at hl 3 rfl) ?_
      refine lv_iconst (v := 2) hx hb dX5_flowOn_35 (by decide) ?_
      replace h := b2_o h
      obtain ⟨x10, T9, e8, h⟩ := h
      refine tw_callV 2 (As := [.int v4, .int 2]) (rest := [.int v3]) (v := (some (.int x10))) (T' := T9) (st1 := [.int x10, .int v3]) hx hb hml hown hts hK hR (fun _ h9 => h9) (tw_A2 hR) hS (mX5_trip e8) (lw_V q2657 q2659 qs72 q137 q2660) (by decide +kernel) (Nat.le_of_ble_eq_true rfl) (Nat.le_of_ble_eq_true rfl) (Nat.zero_le _) (Nat.zero_le _) rfl hl.1 (Nat.le_of_ble_eq_true rfl) dX5_flowOn_36 rfl rfl (fun H locs hR hS => ?_)
      refine lv_goto (tgt := 43) hx hb dX5_flowOn_39 (by decide) ?_
      exact bX5_flowOn_43 B h k11 kR hR hS (lv_sub hl [0, 1, 3] rfl)
noncomputable def fX5_flowOn_l11 (v2 : Int32) (v3 : Int32) (v4 : Int32) (T : TW) : Option ((Int32 × TW)) := whileO (fun q => fX5_flowOn_b11 v2 q.1 q.2.1 q.2.2) (v3, v4, T)
theorem lX5_flowOn_11 {p : Program} {l : Launch} {e : Env} {s : State} {m : MethodId} {args : Array Value} {below : List Frame} {meth : Method} {c : Code} {G : gE} {o : Nat} (B : gB G RX5 cX5_flowOn 5 (some .int) p s m args meth c) {v2 : Int32} {r : (Int32 × TW)}   : ∀ (v3 : Int32) (v4 : Int32) (T : TW), fX5_flowOn_l11 v2 v3 v4 T = some r → ∀ (H : Heap) (locs : List Loc) (ls : Array Slot), RepT G o (T) H → va_S (tFr o) s.heap H locs → lv_has ls 5 [(0, .ref o), (2, .int v2), (3, .int v3), (4, .int v4)] → W p l e (gRm 9 201) s m args below meth c H locs 0 0 (twZ below args s G o (some (.int r.1)) r.2) (F0 m 11 ls []) := by
  intro v3 v4 T h
  refine wh_walk (body := (fun q => fX5_flowOn_b11 v2 q.1 q.2.1 q.2.2)) (P := (fun q : (Int32 × Int32 × TW) => ∀ (H : Heap) (locs : List Loc) (ls : Array Slot), RepT G o (q.2.2) H → va_S (tFr o) s.heap H locs → lv_has ls 5 [(0, .ref o), (2, .int v2), (3, .int (q.1)), (4, .int (q.2.1))] → W p l e (gRm 9 201) s m args below meth c H locs 0 0 (twZ below args s G o (some (.int r.1)) r.2) (F0 m 11 ls []))) (r := r) ?_ (v3, v4, T) h
  intro q y hy hL hr H locs ls hR hS hl
  exact bX5_flowOn_11 (r := r) B hy (fun a0 a1 a2 e => hL (a0, a1, a2) e) (fun q e => hr q e) hR hS hl
noncomputable def fX5_flowOn (v1 : Int32) (T : TW) : Option ((Int32 × TW)) :=
  b2_ (fX5_usersOf v1 T) fun x3 T2 =>
  fX5_flowOn_l11 x3 0 0 T2
theorem bX5_flowOn_0 {p : Program} {l : Launch} {e : Env} {s : State} {m : MethodId} {args : Array Value} {below : List Frame} {meth : Method} {c : Code} {H : Heap} {locs : List Loc} {ls : Array Slot} {G : gE} {o : Nat} (B : gB G RX5 cX5_flowOn 5 (some .int) p s m args meth c) {v1 : Int32} {T : TW} {r : (Int32 × TW)} (h : fX5_flowOn v1 T = some r)   (hR : RepT G o T H) (hS : va_S (tFr o) s.heap H locs) (hl : lv_has ls 5 [(0, .ref o), (1, .int v1)]) : W p l e (gRm 9 201) s m args below meth c H locs 0 0 (twZ below args s G o (some (.int r.1)) r.2) (F0 m 0 ls []) := by
  have B0 := B
  obtain ⟨hx, hb, hml, hown, hts, hr, hlk, hK⟩ := B0
  unfold fX5_flowOn at h
  refine lv_aload_n hx hb dX5_flowOn_0 rfl (lv_at hl 0 rfl) ?_
  refine lv_iload_n hx hb dX5_flowOn_1 rfl (lv_at hl 1 rfl) ?_
  replace h := b2_o h
  obtain ⟨x3, T2, e1, h⟩ := h
  refine tw_callV 1 (As := [.int v1]) (rest := []) (v := (some (.int x3))) (T' := T2) (st1 := [.int x3]) hx hb hml hown hts hK hR (fun _ h9 => h9) (tw_A2 hR) hS (mX5_usersOf e1) (lw_V q2805 q2807 qs88 q137 q2808) (by decide +kernel) (Nat.le_of_ble_eq_true rfl) (Nat.le_of_ble_eq_true rfl) (Nat.zero_le _) (Nat.zero_le _) rfl hl.1 (Nat.le_of_ble_eq_true rfl) dX5_flowOn_2 rfl rfl (fun H locs hR hS => ?_)
  refine lv_istore_n (lv' := [(2, .int x3), (0, .ref o), (1, .int v1)]) hx hb dX5_flowOn_5 rfl hl (by decide) rfl (fun ls hl => ?_)
  refine lv_iconst (v := 0) hx hb dX5_flowOn_6 (by decide) ?_
  refine lv_istore_n (lv' := [(3, .int 0), (2, .int x3), (0, .ref o), (1, .int v1)]) hx hb dX5_flowOn_7 rfl hl (by decide) rfl (fun ls hl => ?_)
  refine lv_iconst (v := 0) hx hb dX5_flowOn_8 (by decide) ?_
  refine lv_istore (lv' := [(4, .int 0), (3, .int 0), (2, .int x3), (0, .ref o), (1, .int v1)]) hx hb dX5_flowOn_9 hl (by decide) rfl (fun ls hl => ?_)
  exact lX5_flowOn_11 B _ _ _ h H locs ls hR hS (lv_sub hl [3, 2, 1, 0] rfl)
theorem mX5_flowOn {l : Launch} {G : gE} {o : Nat} {v1 : Int32} {T : TW} {r : (Int32 × TW)}  (h : fX5_flowOn v1 T = some r) : twM l G o yX5_flowOn cX5_flowOn 5 (some .int) 9 201 [.ref o, .int v1] T (some (.int r.1)) r.2 :=
  tw_of (by decide +kernel) (Nat.le_of_ble_eq_true rfl) (fun p e s m args below meth c ls B hR hl => bX5_flowOn_0 B h hR va_S.rf hl)
noncomputable def fX5_flow (v1 : Int32) (T : TW) : Option ((Int32 × TW)) :=
  b2_ (fX5_isArc v1 T) fun x3 T2 =>
  b2_ (fX5_isThrown x3 1 T2) fun x6 T5 =>
  if x6 = 0 then (
    b2_ (fX5_flowOn v1 T5) fun x10 T9 =>
    some (x10, T9)
  ) else (
    some (0, T5)
  )
theorem bX5_flow_0 {p : Program} {l : Launch} {e : Env} {s : State} {m : MethodId} {args : Array Value} {below : List Frame} {meth : Method} {c : Code} {H : Heap} {locs : List Loc} {ls : Array Slot} {G : gE} {o : Nat} (B : gB G RX5 cX5_flow 2 (some .int) p s m args meth c) {v1 : Int32} {T : TW} {r : (Int32 × TW)} (h : fX5_flow v1 T = some r)   (hR : RepT G o T H) (hS : va_S (tFr o) s.heap H locs) (hl : lv_has ls 2 [(0, .ref o), (1, .int v1)]) : W p l e (gRm 10 225) s m args below meth c H locs 0 0 (twZ below args s G o (some (.int r.1)) r.2) (F0 m 0 ls []) := by
  have B0 := B
  obtain ⟨hx, hb, hml, hown, hts, hr, hlk, hK⟩ := B0
  unfold fX5_flow at h
  refine lv_aload_n hx hb dX5_flow_0 rfl (lv_at hl 0 rfl) ?_
  refine lv_aload_n hx hb dX5_flow_1 rfl (lv_at hl 0 rfl) ?_
  refine lv_iload_n hx hb dX5_flow_2 rfl (lv_at hl 1 rfl) ?_
  replace h := b2_o h
  obtain ⟨x3, T2, e1, h⟩ := h
  refine tw_callV 1 (As := [.int v1]) (rest := [.ref o]) (v := (some (.int x3))) (T' := T2) (st1 := [.int x3, .ref o]) hx hb hml hown hts hK hR (fun _ h9 => h9) (tw_A2 hR) hS (mX5_isArc e1) (lw_V q2645 q2647 qs70 q137 q2648) (by decide +kernel) (Nat.le_of_ble_eq_true rfl) (Nat.le_of_ble_eq_true rfl) (Nat.zero_le _) (Nat.zero_le _) rfl hl.1 (Nat.le_of_ble_eq_true rfl) dX5_flow_3 rfl rfl (fun H locs hR hS => ?_)
  refine lv_iconst (v := 1) hx hb dX5_flow_6 (by decide) ?_
  replace h := b2_o h
  obtain ⟨x6, T5, e4, h⟩ := h
  refine tw_callV 2 (As := [.int x3, .int 1]) (rest := []) (v := (some (.int x6))) (T' := T5) (st1 := [.int x6]) hx hb hml hown hts hK hR (fun _ h9 => h9) (tw_A2 hR) hS (mX5_isThrown e4) (lw_V q2633 q2635 qs68 q137 q2636) (by decide +kernel) (Nat.le_of_ble_eq_true rfl) (Nat.le_of_ble_eq_true rfl) (Nat.zero_le _) (Nat.zero_le _) rfl hl.1 (Nat.le_of_ble_eq_true rfl) dX5_flow_7 rfl rfl (fun H locs hR hS => ?_)
  refine lv_if_eq (tgt := 17) hx hb dX5_flow_10 (by decide) (fun c7 => ?_) (fun c7 => ?_)
  · replace h := it_o c7 h
    refine lv_aload_n hx hb dX5_flow_17 rfl (lv_at hl 0 rfl) ?_
    refine lv_iload_n hx hb dX5_flow_18 rfl (lv_at hl 1 rfl) ?_
    replace h := b2_o h
    obtain ⟨x10, T9, e8, h⟩ := h
    refine tw_callV 1 (As := [.int v1]) (rest := []) (v := (some (.int x10))) (T' := T9) (st1 := [.int x10]) hx hb hml hown hts hK hR (fun _ h9 => h9) (tw_A2 hR) hS (mX5_flowOn e8) (lw_V q2813 q2815 qs89 q137 q2816) (by decide +kernel) (Nat.le_of_ble_eq_true rfl) (Nat.le_of_ble_eq_true rfl) (Nat.zero_le _) (Nat.zero_le _) rfl hl.1 (Nat.le_of_ble_eq_true rfl) dX5_flow_19 rfl rfl (fun H locs hR hS => ?_)
    have eR := Option.some.inj h
    subst eR
    exact W.iret (v := x10) hx hb hr (fun t ht _ => tw_fin hR hS ht) hS.2.2 dX5_flow_22
  · replace h := if_o c7 h
    refine lv_iconst (v := 0) hx hb dX5_flow_13 (by decide) ?_
    refine lv_goto (tgt := 22) hx hb dX5_flow_14 (by decide) ?_
    have eR := Option.some.inj h
    subst eR
    exact W.iret (v := 0) hx hb hr (fun t ht _ => tw_fin hR hS ht) hS.2.2 dX5_flow_22
theorem mX5_flow {l : Launch} {G : gE} {o : Nat} {v1 : Int32} {T : TW} {r : (Int32 × TW)}  (h : fX5_flow v1 T = some r) : twM l G o yX5_flow cX5_flow 2 (some .int) 10 225 [.ref o, .int v1] T (some (.int r.1)) r.2 :=
  tw_of (by decide +kernel) (Nat.le_of_ble_eq_true rfl) (fun p e s m args below meth c ls B hR hl => bX5_flow_0 B h hR va_S.rf hl)
noncomputable def fX5_busiest_b39 (v2 : Int32) (v3 : Int32) (v4 : Int32) (s0 : Int32) (T : TW) : Option (Sum (Int32 × Int32 × Int32 × TW) ((Int32 × TW))) :=
  nm_ (mxI v2 v4) fun x1 =>
  some (.inl (s0, x1, v3 + 1, T))
theorem bX5_busiest_39 {p : Program} {l : Launch} {e : Env} {s : State} {m : MethodId} {args : Array Value} {below : List Frame} {meth : Method} {c : Code} {H : Heap} {locs : List Loc} {ls : Array Slot} {G : gE} {o : Nat} (B : gB G RX5 cX5_busiest 5 (some .int) p s m args meth c) {v2 : Int32} {v3 : Int32} {v4 : Int32} {s0 : Int32} {T : TW} {x : Sum (Int32 × Int32 × Int32 × TW) ((Int32 × TW))} {r : (Int32 × TW)} (h : fX5_busiest_b39 v2 v3 v4 s0 T = some x)  (k11 : ∀ (v1' : Int32) (v2' : Int32) (v3' : Int32) (T' : TW), x = (.inl (v1', v2', v3', T')) → ∀ (H : Heap) (locs : List Loc) (ls : Array Slot), RepT G o (T') H → va_S (tFr o) s.heap H locs → lv_has ls 5 [(0, .ref o), (1, .int v1'), (2, .int v2'), (3, .int v3')] → W p l e (gRm 10 225) s m args below meth c H locs 0 0 (twZ below args s G o (some (.int r.1)) r.2) (F0 m 11 ls [])) (kR : ∀ q, x = (.inr q) → q = r) (hR : RepT G o T H) (hS : va_S (tFr o) s.heap H locs) (hl : lv_has ls 5 [(0, .ref o), (2, .int v2), (3, .int v3), (4, .int v4)]) : W p l e (gRm 10 225) s m args below meth c H locs 0 0 (twZ below args s G o (some (.int r.1)) r.2) (F0 m 39 ls [.int s0]) := by
  have B0 := B
  obtain ⟨hx, hb, hml, hown, hts, hr, hlk, hK⟩ := B0
  unfold fX5_busiest_b39 at h
  refine lv_istore_n (lv' := [(1, .int s0), (0, .ref o), (2, .int v2), (3, .int v3), (4, .int v4)]) hx hb dX5_busiest_39 rfl hl (by decide) rfl (fun ls hl => ?_)
  refine lv_iload_n hx hb dX5_busiest_40 rfl (lv_at hl 2 rfl) ?_
  refine lv_iload hx hb dX5_busiest_41 (lv_at hl 4 rfl) ?_
  replace h := nm_o h
  obtain ⟨x1, e2, h⟩ := h
  refine va_mmax hx hb (hml.trans hl.1.symm) hown (hts _ q2681) (hts _ q295) (hts _ q127) (hts _ q296) (Nat.le_of_ble_eq_true rfl) (Nat.le_of_ble_eq_true rfl) (Nat.zero_le _) (Nat.zero_le _) dX5_busiest_43 ?_
  refine W.eq (g2 := F0 m 46 ls [.int x1]) (by rw [e2]; rfl) ?_
  refine lv_istore_n (lv' := [(2, .int x1), (1, .int s0), (0, .ref o), (3, .int v3), (4, .int v4)]) hx hb dX5_busiest_46 rfl hl (by decide) rfl (fun ls hl => ?_)
  refine lv_iinc (v := v3 + 1) (lv' := [(3, .int (v3 + 1)), (2, .int x1), (1, .int s0), (0, .ref o), (4, .int v4)]) hx hb dX5_busiest_47 hl (k := 3) rfl rfl (by decide) rfl (fun ls hl => ?_)
  refine lv_goto (tgt := 11) hx hb dX5_busiest_50 (by decide) ?_
  exact k11 _ _ _ _ (Option.some.inj h).symm H locs ls hR hS (lv_sub hl [3, 2, 1, 0] rfl)
noncomputable def fX5_busiest_b11 (v1 : Int32) (v2 : Int32) (v3 : Int32) (T : TW) : Option (Sum (Int32 × Int32 × Int32 × TW) ((Int32 × TW))) :=
  (rd_ (tA T 1) 172 1).bind fun x1 =>
  if x1 ≤ v3 then (
    some (.inr (v1, T))
  ) else (
    b2_ (fX5_flowOn v3 T) fun x6 T5 =>
    if x6 ≤ v2 then (
      fX5_busiest_b39 v2 v3 x6 v1 T5
    ) else (
      fX5_busiest_b39 v2 v3 x6 v3 T5
    )
  )
theorem bX5_busiest_11 {p : Program} {l : Launch} {e : Env} {s : State} {m : MethodId} {args : Array Value} {below : List Frame} {meth : Method} {c : Code} {H : Heap} {locs : List Loc} {ls : Array Slot} {G : gE} {o : Nat} (B : gB G RX5 cX5_busiest 5 (some .int) p s m args meth c) {v1 : Int32} {v2 : Int32} {v3 : Int32} {T : TW} {x : Sum (Int32 × Int32 × Int32 × TW) ((Int32 × TW))} {r : (Int32 × TW)} (h : fX5_busiest_b11 v1 v2 v3 T = some x)  (k11 : ∀ (v1' : Int32) (v2' : Int32) (v3' : Int32) (T' : TW), x = (.inl (v1', v2', v3', T')) → ∀ (H : Heap) (locs : List Loc) (ls : Array Slot), RepT G o (T') H → va_S (tFr o) s.heap H locs → lv_has ls 5 [(0, .ref o), (1, .int v1'), (2, .int v2'), (3, .int v3')] → W p l e (gRm 10 225) s m args below meth c H locs 0 0 (twZ below args s G o (some (.int r.1)) r.2) (F0 m 11 ls [])) (kR : ∀ q, x = (.inr q) → q = r) (hR : RepT G o T H) (hS : va_S (tFr o) s.heap H locs) (hl : lv_has ls 5 [(0, .ref o), (1, .int v1), (2, .int v2), (3, .int v3)]) : W p l e (gRm 10 225) s m args below meth c H locs 0 0 (twZ below args s G o (some (.int r.1)) r.2) (F0 m 11 ls []) := by
  have B0 := B
  obtain ⟨hx, hb, hml, hown, hts, hr, hlk, hK⟩ := B0
  unfold fX5_busiest_b11 at h
  refine lv_iload_n hx hb dX5_busiest_11 rfl (lv_at hl 3 rfl) ?_
  refine lv_aload_n hx hb dX5_busiest_12 rfl (lv_at hl 0 rfl) ?_
  refine tw_get (k := 0) (v := .ref (o + 1)) hx hb hts hown hK hR (by decide) q2433 rfl (fun _ h9 => h9) dX5_busiest_13 ?_
  refine lv_iconst (v := 1) hx hb dX5_busiest_16 (by decide) ?_
  replace h := bo_o h
  obtain ⟨x1, e2, h⟩ := h
  refine tw_iald (q := 1) hx hb hK hR rfl e2 dX5_busiest_17 ?_
  refine lv_icmp_ge (tgt := 53) hx hb dX5_busiest_18 (by decide) (fun c3 => ?_) (fun c3 => ?_)
  · replace h := it_o c3 h
    refine lv_iload_n hx hb dX5_busiest_53 rfl (lv_at hl 1 rfl) ?_
    have eR := kR _ (Option.some.inj h).symm
    subst eR
    exact W.iret (v := v1) hx hb hr (fun t ht _ => tw_fin hR hS ht) hS.2.2 dX5_busiest_54
  · replace h := if_o c3 h
    refine lv_aload_n hx hb dX5_busiest_21 rfl (lv_at hl 0 rfl) ?_
    refine lv_iload_n hx hb dX5_busiest_22 rfl (lv_at hl 3 rfl) ?_
    replace h := b2_o h
    obtain ⟨x6, T5, e4, h⟩ := h
    refine tw_callV 1 (As := [.int v3]) (rest := []) (v := (some (.int x6))) (T' := T5) (st1 := [.int x6]) hx hb hml hown hts hK hR (fun _ h9 => h9) (tw_A2 hR) hS (mX5_flowOn e4) (lw_V q2813 q2815 qs89 q137 q2816) (by decide +kernel) (Nat.le_of_ble_eq_true rfl) (Nat.le_of_ble_eq_true rfl) (Nat.zero_le _) (Nat.zero_le _) rfl hl.1 (Nat.le_of_ble_eq_true rfl) dX5_busiest_23 rfl rfl (fun H locs hR hS => ?_)
    refine lv_istore (lv' := [(4, .int x6), (0, .ref o), (1, .int v1), (2, .int v2), (3, .int v3)]) hx hb dX5_busiest_26 hl (by decide) rfl (fun ls hl => ?_)
    refine lv_iload hx hb dX5_busiest_28 (lv_at hl 0 rfl) ?_
    refine lv_iload_n hx hb dX5_busiest_30 rfl (lv_at hl 3 rfl) ?_
    refine lv_icmp_le (tgt := 38) hx hb dX5_busiest_31 (by decide) (fun c7 => ?_) (fun c7 => ?_)
    · replace h := it_o c7 h
      refine lv_iload_n hx hb dX5_busiest_38 rfl (lv_at hl 2 rfl) ?_
      exact bX5_busiest_39 B h k11 kR hR hS (lv_sub hl [1, 3, 4, 0] rfl)
    · replace h := if_o c7 h
      refine lv_iload_n hx hb dX5_busiest_34 rfl (lv_at hl 4 rfl) ?_
      refine lv_goto (tgt := 39) hx hb dX5_busiest_35 (by decide) ?_
      exact bX5_busiest_39 B h k11 kR hR hS (lv_sub hl [1, 3, 4, 0] rfl)
noncomputable def fX5_busiest_l11 (v1 : Int32) (v2 : Int32) (v3 : Int32) (T : TW) : Option ((Int32 × TW)) := whileO (fun q => fX5_busiest_b11 q.1 q.2.1 q.2.2.1 q.2.2.2) (v1, v2, v3, T)
theorem lX5_busiest_11 {p : Program} {l : Launch} {e : Env} {s : State} {m : MethodId} {args : Array Value} {below : List Frame} {meth : Method} {c : Code} {G : gE} {o : Nat} (B : gB G RX5 cX5_busiest 5 (some .int) p s m args meth c)  {r : (Int32 × TW)}   : ∀ (v1 : Int32) (v2 : Int32) (v3 : Int32) (T : TW), fX5_busiest_l11 v1 v2 v3 T = some r → ∀ (H : Heap) (locs : List Loc) (ls : Array Slot), RepT G o (T) H → va_S (tFr o) s.heap H locs → lv_has ls 5 [(0, .ref o), (1, .int v1), (2, .int v2), (3, .int v3)] → W p l e (gRm 10 225) s m args below meth c H locs 0 0 (twZ below args s G o (some (.int r.1)) r.2) (F0 m 11 ls []) := by
  intro v1 v2 v3 T h
  refine wh_walk (body := (fun q => fX5_busiest_b11 q.1 q.2.1 q.2.2.1 q.2.2.2)) (P := (fun q : (Int32 × Int32 × Int32 × TW) => ∀ (H : Heap) (locs : List Loc) (ls : Array Slot), RepT G o (q.2.2.2) H → va_S (tFr o) s.heap H locs → lv_has ls 5 [(0, .ref o), (1, .int (q.1)), (2, .int (q.2.1)), (3, .int (q.2.2.1))] → W p l e (gRm 10 225) s m args below meth c H locs 0 0 (twZ below args s G o (some (.int r.1)) r.2) (F0 m 11 ls []))) (r := r) ?_ (v1, v2, v3, T) h
  intro q y hy hL hr H locs ls hR hS hl
  exact bX5_busiest_11 (r := r) B hy (fun a0 a1 a2 a3 e => hL (a0, a1, a2, a3) e) (fun q e => hr q e) hR hS hl
noncomputable def fX5_busiest  (T : TW) : Option ((Int32 × TW)) :=
  nm_ (tsI T 6 0) fun T1 =>
  fX5_busiest_l11 (-1) (-1) 0 T1
theorem bX5_busiest_0 {p : Program} {l : Launch} {e : Env} {s : State} {m : MethodId} {args : Array Value} {below : List Frame} {meth : Method} {c : Code} {H : Heap} {locs : List Loc} {ls : Array Slot} {G : gE} {o : Nat} (B : gB G RX5 cX5_busiest 5 (some .int) p s m args meth c)  {T : TW} {r : (Int32 × TW)} (h : fX5_busiest T = some r)   (hR : RepT G o T H) (hS : va_S (tFr o) s.heap H locs) (hl : lv_has ls 5 [(0, .ref o)]) : W p l e (gRm 10 225) s m args below meth c H locs 0 0 (twZ below args s G o (some (.int r.1)) r.2) (F0 m 0 ls []) := by
  have B0 := B
  obtain ⟨hx, hb, hml, hown, hts, hr, hlk, hK⟩ := B0
  unfold fX5_busiest at h
  refine lv_aload_n hx hb dX5_busiest_0 rfl (lv_at hl 0 rfl) ?_
  refine lv_iconst (v := 0) hx hb dX5_busiest_1 (by decide) ?_
  replace h := nm_o h
  obtain ⟨T1, e2, h⟩ := h
  refine tw_putI (k := 6) (x := 0) (ty := .int) (T' := T1) hx hb hts hown hK hR (fun _ h9 => h9) hS (by decide) rfl e2 q2439 (fun _ h9 => h9) rfl (by decide +kernel) rfl rfl dX5_busiest_2 (fun H locs hR hS => ?_)
  refine lv_iconst (v := (-1)) hx hb dX5_busiest_5 (by decide) ?_
  refine lv_istore_n (lv' := [(1, .int (-1)), (0, .ref o)]) hx hb dX5_busiest_6 rfl hl (by decide) rfl (fun ls hl => ?_)
  refine lv_iconst (v := (-1)) hx hb dX5_busiest_7 (by decide) ?_
  refine lv_istore_n (lv' := [(2, .int (-1)), (1, .int (-1)), (0, .ref o)]) hx hb dX5_busiest_8 rfl hl (by decide) rfl (fun ls hl => ?_)
  refine lv_iconst (v := 0) hx hb dX5_busiest_9 (by decide) ?_
  refine lv_istore_n (lv' := [(3, .int 0), (2, .int (-1)), (1, .int (-1)), (0, .ref o)]) hx hb dX5_busiest_10 rfl hl (by decide) rfl (fun ls hl => ?_)
  exact lX5_busiest_11 B _ _ _ _ h H locs ls hR hS (lv_sub hl [3, 2, 1, 0] rfl)
theorem mX5_busiest {l : Launch} {G : gE} {o : Nat}  {T : TW} {r : (Int32 × TW)}  (h : fX5_busiest T = some r) : twM l G o yX5_busiest cX5_busiest 5 (some .int) 10 225 [.ref o] T (some (.int r.1)) r.2 :=
  tw_of (by decide +kernel) (Nat.le_of_ble_eq_true rfl) (fun p e s m args below meth c ls B hR hl => bX5_busiest_0 B h hR va_S.rf hl)
noncomputable def fX5_unused_b35 (v2 : Int32) (s0 : Int32) (s1 : Int32) (T : TW) : Option (Sum (Int32 × Int32 × TW) ((Int32 × TW))) :=
  nm_ (s0 ||| s1) fun x1 =>
  some (.inl (x1, v2 + 1, T))
theorem bX5_unused_35 {p : Program} {l : Launch} {e : Env} {s : State} {m : MethodId} {args : Array Value} {below : List Frame} {meth : Method} {c : Code} {H : Heap} {locs : List Loc} {ls : Array Slot} {G : gE} {o : Nat} (B : gB G RX5 cX5_unused 3 (some .int) p s m args meth c) {v2 : Int32} {s0 : Int32} {s1 : Int32} {T : TW} {x : Sum (Int32 × Int32 × TW) ((Int32 × TW))} {r : (Int32 × TW)} (h : fX5_unused_b35 v2 s0 s1 T = some x)  (k9 : ∀ (v1' : Int32) (v2' : Int32) (T' : TW), x = (.inl (v1', v2', T')) → ∀ (H : Heap) (locs : List Loc) (ls : Array Slot), RepT G o (T') H → va_S (tFr o) s.heap H locs → lv_has ls 3 [(0, .ref o), (1, .int v1'), (2, .int v2')] → W p l e (gRm 9 201) s m args below meth c H locs 0 0 (twZ below args s G o (some (.int r.1)) r.2) (F0 m 9 ls [])) (kR : ∀ q, x = (.inr q) → q = r) (hR : RepT G o T H) (hS : va_S (tFr o) s.heap H locs) (hl : lv_has ls 3 [(0, .ref o), (2, .int v2)]) : W p l e (gRm 9 201) s m args below meth c H locs 0 0 (twZ below args s G o (some (.int r.1)) r.2) (F0 m 35 ls [.int s1, .int s0]) := by
  have B0 := B
  obtain ⟨hx, hb, hml, hown, hts, hr, hlk, hK⟩ := B0
  unfold fX5_unused_b35 at h
  refine lv_ior hx hb dX5_unused_35 ?_
  replace h := nm_o h
  obtain ⟨x1, e2, h⟩ := h
  refine lv_istore_n (lv' := [(1, .int x1), (0, .ref o), (2, .int v2)]) hx hb dX5_unused_36 rfl hl (by decide) (by subst e2; rfl) (fun ls hl => ?_)
  refine lv_iinc (v := v2 + 1) (lv' := [(2, .int (v2 + 1)), (1, .int x1), (0, .ref o)]) hx hb dX5_unused_37 hl (k := 2) rfl rfl (by decide) rfl (fun ls hl => ?_)
  refine lv_goto (tgt := 9) hx hb dX5_unused_40 (by decide) ?_
  exact k9 _ _ _ (Option.some.inj h).symm H locs ls hR hS (lv_sub hl [2, 1, 0] rfl)
noncomputable def fX5_unused_b9 (v1 : Int32) (v2 : Int32) (T : TW) : Option (Sum (Int32 × Int32 × TW) ((Int32 × TW))) :=
  (rd_ (tA T 1) 172 1).bind fun x1 =>
  if x1 ≤ v2 then (
    some (.inr (v1, T))
  ) else (
    b2_ (fX5_usersOf v2 T) fun x6 T5 =>
    if x6 = 0 then (
      fX5_unused_b35 v2 v1 ((1 : Int32) <<< (v2 &&& 31)) T5
    ) else (
      fX5_unused_b35 v2 v1 0 T5
    )
  )
theorem bX5_unused_9 {p : Program} {l : Launch} {e : Env} {s : State} {m : MethodId} {args : Array Value} {below : List Frame} {meth : Method} {c : Code} {H : Heap} {locs : List Loc} {ls : Array Slot} {G : gE} {o : Nat} (B : gB G RX5 cX5_unused 3 (some .int) p s m args meth c) {v1 : Int32} {v2 : Int32} {T : TW} {x : Sum (Int32 × Int32 × TW) ((Int32 × TW))} {r : (Int32 × TW)} (h : fX5_unused_b9 v1 v2 T = some x)  (k9 : ∀ (v1' : Int32) (v2' : Int32) (T' : TW), x = (.inl (v1', v2', T')) → ∀ (H : Heap) (locs : List Loc) (ls : Array Slot), RepT G o (T') H → va_S (tFr o) s.heap H locs → lv_has ls 3 [(0, .ref o), (1, .int v1'), (2, .int v2')] → W p l e (gRm 9 201) s m args below meth c H locs 0 0 (twZ below args s G o (some (.int r.1)) r.2) (F0 m 9 ls [])) (kR : ∀ q, x = (.inr q) → q = r) (hR : RepT G o T H) (hS : va_S (tFr o) s.heap H locs) (hl : lv_has ls 3 [(0, .ref o), (1, .int v1), (2, .int v2)]) : W p l e (gRm 9 201) s m args below meth c H locs 0 0 (twZ below args s G o (some (.int r.1)) r.2) (F0 m 9 ls []) := by
  have B0 := B
  obtain ⟨hx, hb, hml, hown, hts, hr, hlk, hK⟩ := B0
  unfold fX5_unused_b9 at h
  refine lv_iload_n hx hb dX5_unused_9 rfl (lv_at hl 2 rfl) ?_
  refine lv_aload_n hx hb dX5_unused_10 rfl (lv_at hl 0 rfl) ?_
  refine tw_get (k := 0) (v := .ref (o + 1)) hx hb hts hown hK hR (by decide) q2433 rfl (fun _ h9 => h9) dX5_unused_11 ?_
  refine lv_iconst (v := 1) hx hb dX5_unused_14 (by decide) ?_
  replace h := bo_o h
  obtain ⟨x1, e2, h⟩ := h
  refine tw_iald (q := 1) hx hb hK hR rfl e2 dX5_unused_15 ?_
  refine lv_icmp_ge (tgt := 43) hx hb dX5_unused_16 (by decide) (fun c3 => ?_) (fun c3 => ?_)
  · replace h := it_o c3 h
    refine lv_iload_n hx hb dX5_unused_43 rfl (lv_at hl 1 rfl) ?_
    have eR := kR _ (Option.some.inj h).symm
    subst eR
    exact W.iret (v := v1) hx hb hr (fun t ht _ => tw_fin hR hS ht) hS.2.2 dX5_unused_44
  · replace h := if_o c3 h
    refine lv_iload_n hx hb dX5_unused_19 rfl (lv_at hl 1 rfl) ?_
    refine lv_aload_n hx hb dX5_unused_20 rfl (lv_at hl 0 rfl) ?_
    refine lv_iload_n hx hb dX5_unused_21 rfl (lv_at hl 2 rfl) ?_
    replace h := b2_o h
    obtain ⟨x6, T5, e4, h⟩ := h
    refine tw_callV 1 (As := [.int v2]) (rest := [.int v1]) (v := (some (.int x6))) (T' := T5) (st1 := [.int x6, .int v1]) hx hb hml hown hts hK hR (fun _ h9 => h9) (tw_A2 hR) hS (mX5_usersOf e4) (lw_V q2805 q2807 qs88 q137 q2808) (by decide +kernel) (Nat.le_of_ble_eq_true rfl) (Nat.le_of_ble_eq_true rfl) (Nat.zero_le _) (Nat.zero_le _) rfl hl.1 (Nat.le_of_ble_eq_true rfl) dX5_unused_22 rfl rfl (fun H locs hR hS => ?_)
    refine lv_if_ne (tgt := 34) hx hb dX5_unused_25 (by decide) (fun c7 => ?_) (fun c7 => ?_)
    · replace h := if_o c7 h
      refine lv_iconst (v := 0) hx hb dX5_unused_34 (by decide) ?_
      exact bX5_unused_35 B h k9 kR hR hS (lv_sub hl [0, 2] rfl)
    · replace h := it_o c7 h
      refine lv_iconst (v := 1) hx hb dX5_unused_28 (by decide) ?_
      refine lv_iload_n hx hb dX5_unused_29 rfl (lv_at hl 2 rfl) ?_
      refine lv_ishl hx hb dX5_unused_30 ?_
      refine lv_goto (tgt := 35) hx hb dX5_unused_31 (by decide) ?_
      exact bX5_unused_35 B h k9 kR hR hS (lv_sub hl [0, 2] rfl)
noncomputable def fX5_unused_l9 (v1 : Int32) (v2 : Int32) (T : TW) : Option ((Int32 × TW)) := whileO (fun q => fX5_unused_b9 q.1 q.2.1 q.2.2) (v1, v2, T)
theorem lX5_unused_9 {p : Program} {l : Launch} {e : Env} {s : State} {m : MethodId} {args : Array Value} {below : List Frame} {meth : Method} {c : Code} {G : gE} {o : Nat} (B : gB G RX5 cX5_unused 3 (some .int) p s m args meth c)  {r : (Int32 × TW)}   : ∀ (v1 : Int32) (v2 : Int32) (T : TW), fX5_unused_l9 v1 v2 T = some r → ∀ (H : Heap) (locs : List Loc) (ls : Array Slot), RepT G o (T) H → va_S (tFr o) s.heap H locs → lv_has ls 3 [(0, .ref o), (1, .int v1), (2, .int v2)] → W p l e (gRm 9 201) s m args below meth c H locs 0 0 (twZ below args s G o (some (.int r.1)) r.2) (F0 m 9 ls []) := by
  intro v1 v2 T h
  refine wh_walk (body := (fun q => fX5_unused_b9 q.1 q.2.1 q.2.2)) (P := (fun q : (Int32 × Int32 × TW) => ∀ (H : Heap) (locs : List Loc) (ls : Array Slot), RepT G o (q.2.2) H → va_S (tFr o) s.heap H locs → lv_has ls 3 [(0, .ref o), (1, .int (q.1)), (2, .int (q.2.1))] → W p l e (gRm 9 201) s m args below meth c H locs 0 0 (twZ below args s G o (some (.int r.1)) r.2) (F0 m 9 ls []))) (r := r) ?_ (v1, v2, T) h
  intro q y hy hL hr H locs ls hR hS hl
  exact bX5_unused_9 (r := r) B hy (fun a0 a1 a2 e => hL (a0, a1, a2) e) (fun q e => hr q e) hR hS hl
noncomputable def fX5_unused  (T : TW) : Option ((Int32 × TW)) :=
  nm_ (tsI T 6 0) fun T1 =>
  fX5_unused_l9 0 0 T1
theorem bX5_unused_0 {p : Program} {l : Launch} {e : Env} {s : State} {m : MethodId} {args : Array Value} {below : List Frame} {meth : Method} {c : Code} {H : Heap} {locs : List Loc} {ls : Array Slot} {G : gE} {o : Nat} (B : gB G RX5 cX5_unused 3 (some .int) p s m args meth c)  {T : TW} {r : (Int32 × TW)} (h : fX5_unused T = some r)   (hR : RepT G o T H) (hS : va_S (tFr o) s.heap H locs) (hl : lv_has ls 3 [(0, .ref o)]) : W p l e (gRm 9 201) s m args below meth c H locs 0 0 (twZ below args s G o (some (.int r.1)) r.2) (F0 m 0 ls []) := by
  have B0 := B
  obtain ⟨hx, hb, hml, hown, hts, hr, hlk, hK⟩ := B0
  unfold fX5_unused at h
  refine lv_aload_n hx hb dX5_unused_0 rfl (lv_at hl 0 rfl) ?_
  refine lv_iconst (v := 0) hx hb dX5_unused_1 (by decide) ?_
  replace h := nm_o h
  obtain ⟨T1, e2, h⟩ := h
  refine tw_putI (k := 6) (x := 0) (ty := .int) (T' := T1) hx hb hts hown hK hR (fun _ h9 => h9) hS (by decide) rfl e2 q2439 (fun _ h9 => h9) rfl (by decide +kernel) rfl rfl dX5_unused_2 (fun H locs hR hS => ?_)
  refine lv_iconst (v := 0) hx hb dX5_unused_5 (by decide) ?_
  refine lv_istore_n (lv' := [(1, .int 0), (0, .ref o)]) hx hb dX5_unused_6 rfl hl (by decide) rfl (fun ls hl => ?_)
  refine lv_iconst (v := 0) hx hb dX5_unused_7 (by decide) ?_
  refine lv_istore_n (lv' := [(2, .int 0), (1, .int 0), (0, .ref o)]) hx hb dX5_unused_8 rfl hl (by decide) rfl (fun ls hl => ?_)
  exact lX5_unused_9 B _ _ _ h H locs ls hR hS (lv_sub hl [2, 1, 0] rfl)
theorem mX5_unused {l : Launch} {G : gE} {o : Nat}  {T : TW} {r : (Int32 × TW)}  (h : fX5_unused T = some r) : twM l G o yX5_unused cX5_unused 3 (some .int) 9 201 [.ref o] T (some (.int r.1)) r.2 :=
  tw_of (by decide +kernel) (Nat.le_of_ble_eq_true rfl) (fun p e s m args below meth c ls B hR hl => bX5_unused_0 B h hR va_S.rf hl)
noncomputable def fX5_laysLeast_b50 (v2 : Int32) (s1 : Int32) (s2 : Int32) (T : TW) : Option (Sum (Int32 × TW) (TW)) :=
  (wrA T 9 10 s1 s2).bind fun T1 =>
  some (.inl (v2 + 1, T1))
theorem bX5_laysLeast_50 {p : Program} {l : Launch} {e : Env} {s : State} {m : MethodId} {args : Array Value} {below : List Frame} {meth : Method} {c : Code} {H : Heap} {locs : List Loc} {ls : Array Slot} {G : gE} {o : Nat} (B : gB G RX5 cX5_laysLeast 3 none p s m args meth c) {v2 : Int32} {s1 : Int32} {s2 : Int32} {T : TW} {x : Sum (Int32 × TW) (TW)} {r : TW} (h : fX5_laysLeast_b50 v2 s1 s2 T = some x)  (k7 : ∀ (v2' : Int32) (T' : TW), x = (.inl (v2', T')) → ∀ (H : Heap) (locs : List Loc) (ls : Array Slot), RepT G o (T') H → va_S (tFr o) s.heap H locs → lv_has ls 3 [(0, .ref o), (2, .int v2')] → W p l e (gRm 5 112) s m args below meth c H locs 0 0 (twZ below args s G o none r) (F0 m 7 ls [])) (kR : ∀ q, x = (.inr q) → q = r) (hR : RepT G o T H) (hS : va_S (tFr o) s.heap H locs) (hl : lv_has ls 3 [(0, .ref o), (2, .int v2)]) : W p l e (gRm 5 112) s m args below meth c H locs 0 0 (twZ below args s G o none r) (F0 m 50 ls [.int s2, .int s1, .ref (o + 9)]) := by
  have B0 := B
  obtain ⟨hx, hb, hml, hown, hts, hr, hlk, hK⟩ := B0
  unfold fX5_laysLeast_b50 at h
  replace h := bo_o h
  obtain ⟨T1, e2, h⟩ := h
  refine tw_iast (q := 9) hx hb hK hR (fun _ h9 => h9) hS rfl (fun _ => rfl) e2 dX5_laysLeast_50 (fun H locs hR hS => ?_)
  refine lv_iinc (v := v2 + 1) (lv' := [(2, .int (v2 + 1)), (0, .ref o)]) hx hb dX5_laysLeast_51 hl (k := 1) rfl rfl (by decide) rfl (fun ls hl => ?_)
  refine lv_goto (tgt := 7) hx hb dX5_laysLeast_54 (by decide) ?_
  exact k7 _ _ (Option.some.inj h).symm H locs ls hR hS (lv_sub hl [1, 0] rfl)
noncomputable def fX5_laysLeast_b7 (v2 : Int32) (T : TW) : Option (Sum (Int32 × TW) (TW)) :=
  if 10 ≤ v2 then (
    some (.inr T)
  ) else (
    (rd_ (tB T 7) 10 v2).bind fun x2 =>
    if lg_cmp x2 2305843009213693951 < 0 then (
      (rd_ (tB T 7) 10 v2).bind fun x5 =>
      fX5_laysLeast_b50 v2 v2 (((x5 + 500000000) / 1000000000).toInt32) T
    ) else (
      fX5_laysLeast_b50 v2 v2 (-1) T
    )
  )
theorem bX5_laysLeast_7 {p : Program} {l : Launch} {e : Env} {s : State} {m : MethodId} {args : Array Value} {below : List Frame} {meth : Method} {c : Code} {H : Heap} {locs : List Loc} {ls : Array Slot} {G : gE} {o : Nat} (B : gB G RX5 cX5_laysLeast 3 none p s m args meth c) {v2 : Int32} {T : TW} {x : Sum (Int32 × TW) (TW)} {r : TW} (h : fX5_laysLeast_b7 v2 T = some x)  (k7 : ∀ (v2' : Int32) (T' : TW), x = (.inl (v2', T')) → ∀ (H : Heap) (locs : List Loc) (ls : Array Slot), RepT G o (T') H → va_S (tFr o) s.heap H locs → lv_has ls 3 [(0, .ref o), (2, .int v2')] → W p l e (gRm 5 112) s m args below meth c H locs 0 0 (twZ below args s G o none r) (F0 m 7 ls [])) (kR : ∀ q, x = (.inr q) → q = r) (hR : RepT G o T H) (hS : va_S (tFr o) s.heap H locs) (hl : lv_has ls 3 [(0, .ref o), (2, .int v2)]) : W p l e (gRm 5 112) s m args below meth c H locs 0 0 (twZ below args s G o none r) (F0 m 7 ls []) := by
  have B0 := B
  obtain ⟨hx, hb, hml, hown, hts, hr, hlk, hK⟩ := B0
  unfold fX5_laysLeast_b7 at h
  refine lv_iload_n hx hb dX5_laysLeast_7 rfl (lv_at hl 1 rfl) ?_
  refine lv_bipush (v := 10) hx hb dX5_laysLeast_8 (by decide) ?_
  refine lv_icmp_ge (tgt := 57) hx hb dX5_laysLeast_10 (by decide) (fun c1 => ?_) (fun c1 => ?_)
  · replace h := it_o c1 h
    have eR := kR _ (Option.some.inj h).symm
    subst eR
    exact W.vret hx hb hr (fun t ht _ => tw_fin hR hS ht) hS.2.2 dX5_laysLeast_57
  · replace h := if_o c1 h
    refine lv_aload_n hx hb dX5_laysLeast_13 rfl (lv_at hl 0 rfl) ?_
    refine tw_get (k := 22) (v := .ref (o + 9)) hx hb hts hown hK hR (by decide) q2455 rfl (fun _ h9 => h9) dX5_laysLeast_14 ?_
    refine lv_iload_n hx hb dX5_laysLeast_17 rfl (lv_at hl 1 rfl) ?_
    refine lv_aload_n hx hb dX5_laysLeast_18 rfl (lv_at hl 0 rfl) ?_
    refine tw_get (k := 16) (v := .ref (o + 7)) hx hb hts hown hK hR (by decide) q2449 rfl (fun _ h9 => h9) dX5_laysLeast_19 ?_
    refine lv_iload_n hx hb dX5_laysLeast_22 rfl (lv_at hl 1 rfl) ?_
    replace h := bo_o h
    obtain ⟨x2, e3, h⟩ := h
    refine tw_lald (q := 7) hx hb hK hR rfl e3 dX5_laysLeast_23 ?_
    refine lv_ldc2 (v := 2305843009213693951) hx hb hown (hts _ q2734) dX5_laysLeast_24 ?_
    refine W.lcmp hx hb dX5_laysLeast_27 ?_
    refine lv_if_lt (tgt := 35) hx hb dX5_laysLeast_28 (by decide) (fun c4 => ?_) (fun c4 => ?_)
    · replace h := it_o c4 h
      refine lv_aload_n hx hb dX5_laysLeast_35 rfl (lv_at hl 0 rfl) ?_
      refine tw_get (k := 16) (v := .ref (o + 7)) hx hb hts hown hK hR (by decide) q2449 rfl (fun _ h9 => h9) dX5_laysLeast_36 ?_
      refine lv_iload_n hx hb dX5_laysLeast_39 rfl (lv_at hl 1 rfl) ?_
      replace h := bo_o h
      obtain ⟨x5, e6, h⟩ := h
      refine tw_lald (q := 7) hx hb hK hR rfl e6 dX5_laysLeast_40 ?_
      refine lv_ldc2 (v := 500000000) hx hb hown (hts _ q2837) dX5_laysLeast_41 ?_
      refine lv_ladd hx hb dX5_laysLeast_44 ?_
      refine lv_ldc2 (v := 1000000000) hx hb hown (hts _ q2746) dX5_laysLeast_45 ?_
      refine lv_ldiv hx hb dX5_laysLeast_48 (by decide) ?_
      refine lv_l2i hx hb dX5_laysLeast_49 rfl ?_
      exact bX5_laysLeast_50 B h k7 kR hR hS (lv_sub hl [0, 1] rfl)
    · replace h := if_o c4 h
      refine lv_iconst (v := (-1)) hx hb dX5_laysLeast_31 (by decide) ?_
      refine lv_goto (tgt := 50) hx hb dX5_laysLeast_32 (by decide) ?_
      exact bX5_laysLeast_50 B h k7 kR hR hS (lv_sub hl [0, 1] rfl)
noncomputable def fX5_laysLeast_l7 (v2 : Int32) (T : TW) : Option (TW) := whileO (fun q => fX5_laysLeast_b7 q.1 q.2) (v2, T)
theorem lX5_laysLeast_7 {p : Program} {l : Launch} {e : Env} {s : State} {m : MethodId} {args : Array Value} {below : List Frame} {meth : Method} {c : Code} {G : gE} {o : Nat} (B : gB G RX5 cX5_laysLeast 3 none p s m args meth c)  {r : TW}   : ∀ (v2 : Int32) (T : TW), fX5_laysLeast_l7 v2 T = some r → ∀ (H : Heap) (locs : List Loc) (ls : Array Slot), RepT G o (T) H → va_S (tFr o) s.heap H locs → lv_has ls 3 [(0, .ref o), (2, .int v2)] → W p l e (gRm 5 112) s m args below meth c H locs 0 0 (twZ below args s G o none r) (F0 m 7 ls []) := by
  intro v2 T h
  refine wh_walk (body := (fun q => fX5_laysLeast_b7 q.1 q.2)) (P := (fun q : (Int32 × TW) => ∀ (H : Heap) (locs : List Loc) (ls : Array Slot), RepT G o (q.2) H → va_S (tFr o) s.heap H locs → lv_has ls 3 [(0, .ref o), (2, .int (q.1))] → W p l e (gRm 5 112) s m args below meth c H locs 0 0 (twZ below args s G o none r) (F0 m 7 ls []))) (r := r) ?_ (v2, T) h
  intro q y hy hL hr H locs ls hR hS hl
  exact bX5_laysLeast_7 (r := r) B hy (fun a0 a1 e => hL (a0, a1) e) (fun q e => hr q e) hR hS hl
noncomputable def fX5_laysLeast (v1 : Int32) (T : TW) : Option (TW) :=
  (fX5_laysFar v1 T).bind fun T2 =>
  fX5_laysLeast_l7 0 T2
theorem bX5_laysLeast_0 {p : Program} {l : Launch} {e : Env} {s : State} {m : MethodId} {args : Array Value} {below : List Frame} {meth : Method} {c : Code} {H : Heap} {locs : List Loc} {ls : Array Slot} {G : gE} {o : Nat} (B : gB G RX5 cX5_laysLeast 3 none p s m args meth c) {v1 : Int32} {T : TW} {r : TW} (h : fX5_laysLeast v1 T = some r)   (hR : RepT G o T H) (hS : va_S (tFr o) s.heap H locs) (hl : lv_has ls 3 [(0, .ref o), (1, .int v1)]) : W p l e (gRm 5 112) s m args below meth c H locs 0 0 (twZ below args s G o none r) (F0 m 0 ls []) := by
  have B0 := B
  obtain ⟨hx, hb, hml, hown, hts, hr, hlk, hK⟩ := B0
  unfold fX5_laysLeast at h
  refine lv_aload_n hx hb dX5_laysLeast_0 rfl (lv_at hl 0 rfl) ?_
  refine lv_iload_n hx hb dX5_laysLeast_1 rfl (lv_at hl 1 rfl) ?_
  replace h := bo_o h
  obtain ⟨T2, e1, h⟩ := h
  refine tw_callV 1 (As := [.int v1]) (rest := []) (v := none) (T' := T2) (st1 := []) hx hb hml hown hts hK hR (fun _ h9 => h9) (tw_A2 hR) hS (mX5_laysFar e1) (lw_V q2730 q2732 qs78 q137 q2733) (by decide +kernel) (Nat.le_of_ble_eq_true rfl) (Nat.le_of_ble_eq_true rfl) (Nat.zero_le _) (Nat.zero_le _) rfl hl.1 (Nat.le_of_ble_eq_true rfl) dX5_laysLeast_2 rfl rfl (fun H locs hR hS => ?_)
  refine lv_iconst (v := 0) hx hb dX5_laysLeast_5 (by decide) ?_
  refine lv_istore_n (lv' := [(2, .int 0), (0, .ref o), (1, .int v1)]) hx hb dX5_laysLeast_6 rfl hl (by decide) rfl (fun ls hl => ?_)
  exact lX5_laysLeast_7 B _ _ h H locs ls hR hS (lv_sub hl [1, 0] rfl)
theorem mX5_laysLeast {l : Launch} {G : gE} {o : Nat} {v1 : Int32} {T : TW} {r : TW}  (h : fX5_laysLeast v1 T = some r) : twM l G o yX5_laysLeast cX5_laysLeast 3 none 5 112 [.ref o, .int v1] T none r :=
  tw_of (by decide +kernel) (Nat.le_of_ble_eq_true rfl) (fun p e s m args below meth c ls B hR hl => bX5_laysLeast_0 B h hR va_S.rf hl)
