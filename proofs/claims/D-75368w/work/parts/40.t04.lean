set_option maxRecDepth 100000
noncomputable def fX5_improve  (T : TW) : Option ((Int32 × TW)) :=
  nm_ (tsI T 6 0) fun T1 =>
  (fX5_keeps T1).bind fun T4 =>
  b2_ (fX5_improves T4) fun x7 T6 =>
  some (x7, T6)
theorem bX5_improve_0 {p : Program} {l : Launch} {e : Env} {s : State} {m : MethodId} {args : Array Value} {below : List Frame} {meth : Method} {c : Code} {H : Heap} {locs : List Loc} {ls : Array Slot} {G : gE} {o : Nat} (B : gB G RX5 cX5_improve 1 (some .int) p s m args meth c)  {T : TW} {r : (Int32 × TW)} (h : fX5_improve T = some r)   (hR : RepT G o T H) (hS : va_S (tFr o) s.heap H locs) (hl : lv_has ls 1 [(0, .ref o)]) : W p l e (gRm 12 282) s m args below meth c H locs 0 0 (twZ below args s G o (some (.int r.1)) r.2) (F0 m 0 ls []) := by
  have B0 := B
  obtain ⟨hx, hb, hml, hown, hts, hr, hlk, hK⟩ := B0
  unfold fX5_improve at h
  refine lv_aload_n hx hb dX5_improve_0 rfl (lv_at hl 0 rfl) ?_
  refine lv_iconst (v := 0) hx hb dX5_improve_1 (by decide) ?_
  replace h := nm_o h
  obtain ⟨T1, e2, h⟩ := h
  refine tw_putI (k := 6) (x := 0) (ty := .int) (T' := T1) hx hb hts hown hK hR (fun _ h9 => h9) hS (by decide) rfl e2 q2439 (fun _ h9 => h9) rfl (by decide +kernel) rfl rfl dX5_improve_2 (fun H locs hR hS => ?_)
  refine lv_aload_n hx hb dX5_improve_5 rfl (lv_at hl 0 rfl) ?_
  replace h := bo_o h
  obtain ⟨T4, e3, h⟩ := h
  refine tw_callV 0 (As := []) (rest := []) (v := none) (T' := T4) (st1 := []) hx hb hml hown hts hK hR (fun _ h9 => h9) (tw_A2 hR) hS (mX5_keeps e3) (lw_V q2669 q2671 qs74 q137 q2672) (by decide +kernel) (Nat.le_of_ble_eq_true rfl) (Nat.le_of_ble_eq_true rfl) (Nat.zero_le _) (Nat.zero_le _) rfl hl.1 (Nat.le_of_ble_eq_true rfl) dX5_improve_6 rfl rfl (fun H locs hR hS => ?_)
  refine lv_aload_n hx hb dX5_improve_9 rfl (lv_at hl 0 rfl) ?_
  replace h := b2_o h
  obtain ⟨x7, T6, e5, h⟩ := h
  refine tw_callV 0 (As := []) (rest := []) (v := (some (.int x7))) (T' := T6) (st1 := [.int x7]) hx hb hml hown hts hK hR (fun _ h9 => h9) (tw_A2 hR) hS (mX5_improves e5) (lw_V q2940 q2942 qs104 q137 q2943) (by decide +kernel) (Nat.le_of_ble_eq_true rfl) (Nat.le_of_ble_eq_true rfl) (Nat.zero_le _) (Nat.zero_le _) rfl hl.1 (Nat.le_of_ble_eq_true rfl) dX5_improve_10 rfl rfl (fun H locs hR hS => ?_)
  have eR := Option.some.inj h
  subst eR
  exact W.iret (v := x7) hx hb hr (fun t ht _ => tw_fin hR hS ht) hS.2.2 dX5_improve_13
theorem mX5_improve {l : Launch} {G : gE} {o : Nat}  {T : TW} {r : (Int32 × TW)}  (h : fX5_improve T = some r) : twM l G o yX5_improve cX5_improve 1 (some .int) 12 282 [.ref o] T (some (.int r.1)) r.2 :=
  tw_of (by decide +kernel) (Nat.le_of_ble_eq_true rfl) (fun p e s m args below meth c ls B hR hl => bX5_improve_0 B h hR va_S.rf hl)
noncomputable def fX5_optimize_b23 (v1 : Int32) (v2 : Int32) (T : TW) : Option (Sum (Int32 × TW) ((Int32 × TW))) :=
  b2_ (fX5_improves T) fun x3 T2 =>
  if x3 ≤ 0 then (
    some (.inr (v2, T2))
  ) else (
    if v1 ≤ v2 then (
      some (.inr (v2, T2))
    ) else (
      some (.inl (v2 + 1, T2))
    )
  )
theorem bX5_optimize_23 {p : Program} {l : Launch} {e : Env} {s : State} {m : MethodId} {args : Array Value} {below : List Frame} {meth : Method} {c : Code} {H : Heap} {locs : List Loc} {ls : Array Slot} {G : gE} {o : Nat} (B : gB G RX5 cX5_optimize 3 (some .int) p s m args meth c) {v1 : Int32} {v2 : Int32} {T : TW} {x : Sum (Int32 × TW) ((Int32 × TW))} {r : (Int32 × TW)} (h : fX5_optimize_b23 v1 v2 T = some x)  (k23 : ∀ (v2' : Int32) (T' : TW), x = (.inl (v2', T')) → ∀ (H : Heap) (locs : List Loc) (ls : Array Slot), RepT G o (T') H → va_S (tFr o) s.heap H locs → lv_has ls 3 [(0, .ref o), (1, .int v1), (2, .int v2')] → W p l e (gRm 12 282) s m args below meth c H locs 0 0 (twZ below args s G o (some (.int r.1)) r.2) (F0 m 23 ls [])) (kR : ∀ q, x = (.inr q) → q = r) (hR : RepT G o T H) (hS : va_S (tFr o) s.heap H locs) (hl : lv_has ls 3 [(0, .ref o), (1, .int v1), (2, .int v2)]) : W p l e (gRm 12 282) s m args below meth c H locs 0 0 (twZ below args s G o (some (.int r.1)) r.2) (F0 m 23 ls []) := by
  have B0 := B
  obtain ⟨hx, hb, hml, hown, hts, hr, hlk, hK⟩ := B0
  unfold fX5_optimize_b23 at h
  refine lv_aload_n hx hb dX5_optimize_23 rfl (lv_at hl 0 rfl) ?_
  replace h := b2_o h
  obtain ⟨x3, T2, e1, h⟩ := h
  refine tw_callV 0 (As := []) (rest := []) (v := (some (.int x3))) (T' := T2) (st1 := [.int x3]) hx hb hml hown hts hK hR (fun _ h9 => h9) (tw_A2 hR) hS (mX5_improves e1) (lw_V q2940 q2942 qs104 q137 q2943) (by decide +kernel) (Nat.le_of_ble_eq_true rfl) (Nat.le_of_ble_eq_true rfl) (Nat.zero_le _) (Nat.zero_le _) rfl hl.1 (Nat.le_of_ble_eq_true rfl) dX5_optimize_24 rfl rfl (fun H locs hR hS => ?_)
  refine lv_if_le (tgt := 41) hx hb dX5_optimize_27 (by decide) (fun c4 => ?_) (fun c4 => ?_)
  · replace h := it_o c4 h
    refine lv_iload_n hx hb dX5_optimize_41 rfl (lv_at hl 2 rfl) ?_
    have eR := kR _ (Option.some.inj h).symm
    subst eR
    exact W.iret (v := v2) hx hb hr (fun t ht _ => tw_fin hR hS ht) hS.2.2 dX5_optimize_42
  · replace h := if_o c4 h
    refine lv_iload_n hx hb dX5_optimize_30 rfl (lv_at hl 2 rfl) ?_
    refine lv_iload_n hx hb dX5_optimize_31 rfl (lv_at hl 1 rfl) ?_
    refine lv_icmp_ge (tgt := 41) hx hb dX5_optimize_32 (by decide) (fun c5 => ?_) (fun c5 => ?_)
    · replace h := it_o c5 h
      refine lv_iload_n hx hb dX5_optimize_41 rfl (lv_at hl 2 rfl) ?_
      have eR := kR _ (Option.some.inj h).symm
      subst eR
      exact W.iret (v := v2) hx hb hr (fun t ht _ => tw_fin hR hS ht) hS.2.2 dX5_optimize_42
    · replace h := if_o c5 h
      refine lv_iinc (v := v2 + 1) (lv' := [(2, .int (v2 + 1)), (0, .ref o), (1, .int v1)]) hx hb dX5_optimize_35 hl (k := 2) rfl rfl (by decide) rfl (fun ls hl => ?_)
      refine lv_goto (tgt := 23) hx hb dX5_optimize_38 (by decide) ?_
      exact k23 _ _ (Option.some.inj h).symm H locs ls hR hS (lv_sub hl [1, 2, 0] rfl)
noncomputable def fX5_optimize_l23 (v1 : Int32) (v2 : Int32) (T : TW) : Option ((Int32 × TW)) := whileO (fun q => fX5_optimize_b23 v1 q.1 q.2) (v2, T)
theorem lX5_optimize_23 {p : Program} {l : Launch} {e : Env} {s : State} {m : MethodId} {args : Array Value} {below : List Frame} {meth : Method} {c : Code} {G : gE} {o : Nat} (B : gB G RX5 cX5_optimize 3 (some .int) p s m args meth c) {v1 : Int32} {r : (Int32 × TW)}   : ∀ (v2 : Int32) (T : TW), fX5_optimize_l23 v1 v2 T = some r → ∀ (H : Heap) (locs : List Loc) (ls : Array Slot), RepT G o (T) H → va_S (tFr o) s.heap H locs → lv_has ls 3 [(0, .ref o), (1, .int v1), (2, .int v2)] → W p l e (gRm 12 282) s m args below meth c H locs 0 0 (twZ below args s G o (some (.int r.1)) r.2) (F0 m 23 ls []) := by
  intro v2 T h
  refine wh_walk (body := (fun q => fX5_optimize_b23 v1 q.1 q.2)) (P := (fun q : (Int32 × TW) => ∀ (H : Heap) (locs : List Loc) (ls : Array Slot), RepT G o (q.2) H → va_S (tFr o) s.heap H locs → lv_has ls 3 [(0, .ref o), (1, .int v1), (2, .int (q.1))] → W p l e (gRm 12 282) s m args below meth c H locs 0 0 (twZ below args s G o (some (.int r.1)) r.2) (F0 m 23 ls []))) (r := r) ?_ (v2, T) h
  intro q y hy hL hr H locs ls hR hS hl
  exact bX5_optimize_23 (r := r) B hy (fun a0 a1 e => hL (a0, a1) e) (fun q e => hr q e) hR hS hl
noncomputable def fX5_optimize (v1 : Int32) (T : TW) : Option ((Int32 × TW)) :=
  b2_ (fX5_in v1 1 10 T) fun x3 T2 =>
  b2_ (fX5_isThrown x3 1 T2) fun x6 T5 =>
  if x6 = 0 then (
    (fX5_keeps T5).bind fun T9 =>
    fX5_optimize_l23 v1 1 T9
  ) else (
    some (0, T5)
  )
theorem bX5_optimize_0 {p : Program} {l : Launch} {e : Env} {s : State} {m : MethodId} {args : Array Value} {below : List Frame} {meth : Method} {c : Code} {H : Heap} {locs : List Loc} {ls : Array Slot} {G : gE} {o : Nat} (B : gB G RX5 cX5_optimize 3 (some .int) p s m args meth c) {v1 : Int32} {T : TW} {r : (Int32 × TW)} (h : fX5_optimize v1 T = some r)   (hR : RepT G o T H) (hS : va_S (tFr o) s.heap H locs) (hl : lv_has ls 3 [(0, .ref o), (1, .int v1)]) : W p l e (gRm 12 282) s m args below meth c H locs 0 0 (twZ below args s G o (some (.int r.1)) r.2) (F0 m 0 ls []) := by
  have B0 := B
  obtain ⟨hx, hb, hml, hown, hts, hr, hlk, hK⟩ := B0
  unfold fX5_optimize at h
  refine lv_aload_n hx hb dX5_optimize_0 rfl (lv_at hl 0 rfl) ?_
  refine lv_iload_n hx hb dX5_optimize_1 rfl (lv_at hl 1 rfl) ?_
  refine lv_iconst (v := 1) hx hb dX5_optimize_2 (by decide) ?_
  refine lv_bipush (v := 10) hx hb dX5_optimize_3 (by decide) ?_
  replace h := b2_o h
  obtain ⟨x3, T2, e1, h⟩ := h
  refine tw_callS 3 (As := [.int v1, .int 1, .int 10]) (rest := [.ref o]) (v := (some (.int x3))) (T' := T2) (st1 := [.int x3, .ref o]) hx hb hml hown hts hK hR (fun _ h9 => h9) (tw_A2 hR) hS (mX5_in e1) (lw_S q2562 q2563 q137 q2564) (by decide +kernel) (Nat.le_of_ble_eq_true rfl) (Nat.le_of_ble_eq_true rfl) (Nat.zero_le _) (Nat.zero_le _) rfl hl.1 (Nat.le_of_ble_eq_true rfl) dX5_optimize_5 rfl rfl (fun H locs hR hS => ?_)
  refine lv_iconst (v := 1) hx hb dX5_optimize_8 (by decide) ?_
  replace h := b2_o h
  obtain ⟨x6, T5, e4, h⟩ := h
  refine tw_callV 2 (As := [.int x3, .int 1]) (rest := []) (v := (some (.int x6))) (T' := T5) (st1 := [.int x6]) hx hb hml hown hts hK hR (fun _ h9 => h9) (tw_A2 hR) hS (mX5_isThrown e4) (lw_V q2633 q2635 qs68 q137 q2636) (by decide +kernel) (Nat.le_of_ble_eq_true rfl) (Nat.le_of_ble_eq_true rfl) (Nat.zero_le _) (Nat.zero_le _) rfl hl.1 (Nat.le_of_ble_eq_true rfl) dX5_optimize_9 rfl rfl (fun H locs hR hS => ?_)
  refine lv_if_eq (tgt := 17) hx hb dX5_optimize_12 (by decide) (fun c7 => ?_) (fun c7 => ?_)
  · replace h := it_o c7 h
    refine lv_aload_n hx hb dX5_optimize_17 rfl (lv_at hl 0 rfl) ?_
    replace h := bo_o h
    obtain ⟨T9, e8, h⟩ := h
    refine tw_callV 0 (As := []) (rest := []) (v := none) (T' := T9) (st1 := []) hx hb hml hown hts hK hR (fun _ h9 => h9) (tw_A2 hR) hS (mX5_keeps e8) (lw_V q2669 q2671 qs74 q137 q2672) (by decide +kernel) (Nat.le_of_ble_eq_true rfl) (Nat.le_of_ble_eq_true rfl) (Nat.zero_le _) (Nat.zero_le _) rfl hl.1 (Nat.le_of_ble_eq_true rfl) dX5_optimize_18 rfl rfl (fun H locs hR hS => ?_)
    refine lv_iconst (v := 1) hx hb dX5_optimize_21 (by decide) ?_
    refine lv_istore_n (lv' := [(2, .int 1), (0, .ref o), (1, .int v1)]) hx hb dX5_optimize_22 rfl hl (by decide) rfl (fun ls hl => ?_)
    exact lX5_optimize_23 B _ _ h H locs ls hR hS (lv_sub hl [1, 2, 0] rfl)
  · replace h := if_o c7 h
    refine lv_iconst (v := 0) hx hb dX5_optimize_15 (by decide) ?_
    have eR := Option.some.inj h
    subst eR
    exact W.iret (v := 0) hx hb hr (fun t ht _ => tw_fin hR hS ht) hS.2.2 dX5_optimize_16
theorem mX5_optimize {l : Launch} {G : gE} {o : Nat} {v1 : Int32} {T : TW} {r : (Int32 × TW)}  (h : fX5_optimize v1 T = some r) : twM l G o yX5_optimize cX5_optimize 3 (some .int) 12 282 [.ref o, .int v1] T (some (.int r.1)) r.2 :=
  tw_of (by decide +kernel) (Nat.le_of_ble_eq_true rfl) (fun p e s m args below meth c ls B hR hl => bX5_optimize_0 B h hR va_S.rf hl)
noncomputable def fX5_improvable_b45 (v2 : Int32) (s0 : Int32) (s1 : Int32) (T : TW) : Option (Sum (Int32 × Int32 × TW) ((Int32 × TW))) :=
  nm_ (s0 ||| s1) fun x1 =>
  some (.inl (x1, v2 + 1, T))
theorem bX5_improvable_45 {p : Program} {l : Launch} {e : Env} {s : State} {m : MethodId} {args : Array Value} {below : List Frame} {meth : Method} {c : Code} {H : Heap} {locs : List Loc} {ls : Array Slot} {G : gE} {o : Nat} (B : gB G RX5 cX5_improvable 4 (some .int) p s m args meth c) {v2 : Int32} {s0 : Int32} {s1 : Int32} {T : TW} {x : Sum (Int32 × Int32 × TW) ((Int32 × TW))} {r : (Int32 × TW)} (h : fX5_improvable_b45 v2 s0 s1 T = some x)  (k9 : ∀ (v1' : Int32) (v2' : Int32) (T' : TW), x = (.inl (v1', v2', T')) → ∀ (H : Heap) (locs : List Loc) (ls : Array Slot), RepT G o (T') H → va_S (tFr o) s.heap H locs → lv_has ls 4 [(0, .ref o), (1, .int v1'), (2, .int v2')] → W p l e (gRm 11 259) s m args below meth c H locs 0 0 (twZ below args s G o (some (.int r.1)) r.2) (F0 m 9 ls [])) (kR : ∀ q, x = (.inr q) → q = r) (hR : RepT G o T H) (hS : va_S (tFr o) s.heap H locs) (hl : lv_has ls 4 [(0, .ref o), (2, .int v2)]) : W p l e (gRm 11 259) s m args below meth c H locs 0 0 (twZ below args s G o (some (.int r.1)) r.2) (F0 m 45 ls [.int s1, .int s0]) := by
  have B0 := B
  obtain ⟨hx, hb, hml, hown, hts, hr, hlk, hK⟩ := B0
  unfold fX5_improvable_b45 at h
  refine lv_ior hx hb dX5_improvable_45 ?_
  replace h := nm_o h
  obtain ⟨x1, e2, h⟩ := h
  refine lv_istore_n (lv' := [(1, .int x1), (0, .ref o), (2, .int v2)]) hx hb dX5_improvable_46 rfl hl (by decide) (by subst e2; rfl) (fun ls hl => ?_)
  refine lv_iinc (v := v2 + 1) (lv' := [(2, .int (v2 + 1)), (1, .int x1), (0, .ref o)]) hx hb dX5_improvable_47 hl (k := 2) rfl rfl (by decide) rfl (fun ls hl => ?_)
  refine lv_goto (tgt := 9) hx hb dX5_improvable_50 (by decide) ?_
  exact k9 _ _ _ (Option.some.inj h).symm H locs ls hR hS (lv_sub hl [2, 1, 0] rfl)
noncomputable def fX5_improvable_b9 (v1 : Int32) (v2 : Int32) (T : TW) : Option (Sum (Int32 × Int32 × TW) ((Int32 × TW))) :=
  (rd_ (tA T 1) 172 1).bind fun x1 =>
  if x1 ≤ v2 then (
    some (.inr (v1, T))
  ) else (
    b2_ (fX5_bests v2 T) fun x6 T5 =>
    b2_ (fX5_all T5) fun x9 T8 =>
    if lg_cmp (tR T5) x9 ≤ 0 then (
      fX5_improvable_b45 v2 v1 0 T8
    ) else (
      fX5_improvable_b45 v2 v1 ((1 : Int32) <<< (v2 &&& 31)) T8
    )
  )
theorem bX5_improvable_9 {p : Program} {l : Launch} {e : Env} {s : State} {m : MethodId} {args : Array Value} {below : List Frame} {meth : Method} {c : Code} {H : Heap} {locs : List Loc} {ls : Array Slot} {G : gE} {o : Nat} (B : gB G RX5 cX5_improvable 4 (some .int) p s m args meth c) {v1 : Int32} {v2 : Int32} {T : TW} {x : Sum (Int32 × Int32 × TW) ((Int32 × TW))} {r : (Int32 × TW)} (h : fX5_improvable_b9 v1 v2 T = some x)  (k9 : ∀ (v1' : Int32) (v2' : Int32) (T' : TW), x = (.inl (v1', v2', T')) → ∀ (H : Heap) (locs : List Loc) (ls : Array Slot), RepT G o (T') H → va_S (tFr o) s.heap H locs → lv_has ls 4 [(0, .ref o), (1, .int v1'), (2, .int v2')] → W p l e (gRm 11 259) s m args below meth c H locs 0 0 (twZ below args s G o (some (.int r.1)) r.2) (F0 m 9 ls [])) (kR : ∀ q, x = (.inr q) → q = r) (hR : RepT G o T H) (hS : va_S (tFr o) s.heap H locs) (hl : lv_has ls 4 [(0, .ref o), (1, .int v1), (2, .int v2)]) : W p l e (gRm 11 259) s m args below meth c H locs 0 0 (twZ below args s G o (some (.int r.1)) r.2) (F0 m 9 ls []) := by
  have B0 := B
  obtain ⟨hx, hb, hml, hown, hts, hr, hlk, hK⟩ := B0
  unfold fX5_improvable_b9 at h
  refine lv_iload_n hx hb dX5_improvable_9 rfl (lv_at hl 2 rfl) ?_
  refine lv_aload_n hx hb dX5_improvable_10 rfl (lv_at hl 0 rfl) ?_
  refine tw_get (k := 0) (v := .ref (o + 1)) hx hb hts hown hK hR (by decide) q2433 rfl (fun _ h9 => h9) dX5_improvable_11 ?_
  refine lv_iconst (v := 1) hx hb dX5_improvable_14 (by decide) ?_
  replace h := bo_o h
  obtain ⟨x1, e2, h⟩ := h
  refine tw_iald (q := 1) hx hb hK hR rfl e2 dX5_improvable_15 ?_
  refine lv_icmp_ge (tgt := 53) hx hb dX5_improvable_16 (by decide) (fun c3 => ?_) (fun c3 => ?_)
  · replace h := it_o c3 h
    refine lv_iload_n hx hb dX5_improvable_53 rfl (lv_at hl 1 rfl) ?_
    have eR := kR _ (Option.some.inj h).symm
    subst eR
    exact W.iret (v := v1) hx hb hr (fun t ht _ => tw_fin hR hS ht) hS.2.2 dX5_improvable_54
  · replace h := if_o c3 h
    refine lv_aload_n hx hb dX5_improvable_19 rfl (lv_at hl 0 rfl) ?_
    refine lv_iload_n hx hb dX5_improvable_20 rfl (lv_at hl 2 rfl) ?_
    replace h := b2_o h
    obtain ⟨x6, T5, e4, h⟩ := h
    refine tw_callV 1 (As := [.int v2]) (rest := []) (v := (some (.int x6))) (T' := T5) (st1 := [.int x6]) hx hb hml hown hts hK hR (fun _ h9 => h9) (tw_A2 hR) hS (mX5_bests e4) (lw_V q2925 q2927 qs102 q137 q2928) (by decide +kernel) (Nat.le_of_ble_eq_true rfl) (Nat.le_of_ble_eq_true rfl) (Nat.zero_le _) (Nat.zero_le _) rfl hl.1 (Nat.le_of_ble_eq_true rfl) dX5_improvable_21 rfl rfl (fun H locs hR hS => ?_)
    refine lv_istore_n (lv' := [(3, .int x6), (0, .ref o), (1, .int v1), (2, .int v2)]) hx hb dX5_improvable_24 rfl hl (by decide) rfl (fun ls hl => ?_)
    refine lv_iload_n hx hb dX5_improvable_25 rfl (lv_at hl 2 rfl) ?_
    refine lv_aload_n hx hb dX5_improvable_26 rfl (lv_at hl 1 rfl) ?_
    refine tw_get (k := 29) (v := .long (tR T5)) hx hb hts hown hK hR (by decide) q2462 rfl (fun _ h9 => h9) dX5_improvable_27 ?_
    refine lv_aload_n hx hb dX5_improvable_30 rfl (lv_at hl 1 rfl) ?_
    replace h := b2_o h
    obtain ⟨x9, T8, e7, h⟩ := h
    refine tw_callV 0 (As := []) (rest := [.long (tR T5), .int v1]) (v := (some (.long x9))) (T' := T8) (st1 := [.long x9, .long (tR T5), .int v1]) hx hb hml hown hts hK hR (fun _ h9 => h9) (tw_A2 hR) hS (mX5_all e7) (lw_V q2856 q2858 qs94 q137 q2859) (by decide +kernel) (Nat.le_of_ble_eq_true rfl) (Nat.le_of_ble_eq_true rfl) (Nat.zero_le _) (Nat.zero_le _) rfl hl.1 (Nat.le_of_ble_eq_true rfl) dX5_improvable_31 rfl rfl (fun H locs hR hS => ?_)
    refine W.lcmp hx hb dX5_improvable_34 ?_
    refine lv_if_le (tgt := 44) hx hb dX5_improvable_35 (by decide) (fun c10 => ?_) (fun c10 => ?_)
    · replace h := it_o c10 h
      refine lv_iconst (v := 0) hx hb dX5_improvable_44 (by decide) ?_
      exact bX5_improvable_45 B h k9 kR hR hS (lv_sub hl [1, 3] rfl)
    · replace h := if_o c10 h
      refine lv_iconst (v := 1) hx hb dX5_improvable_38 (by decide) ?_
      refine lv_iload_n hx hb dX5_improvable_39 rfl (lv_at hl 3 rfl) ?_
      refine lv_ishl hx hb dX5_improvable_40 ?_
      refine lv_goto (tgt := 45) hx hb dX5_improvable_41 (by decide) ?_
      exact bX5_improvable_45 B h k9 kR hR hS (lv_sub hl [1, 3] rfl)
noncomputable def fX5_improvable_l9 (v1 : Int32) (v2 : Int32) (T : TW) : Option ((Int32 × TW)) := whileO (fun q => fX5_improvable_b9 q.1 q.2.1 q.2.2) (v1, v2, T)
theorem lX5_improvable_9 {p : Program} {l : Launch} {e : Env} {s : State} {m : MethodId} {args : Array Value} {below : List Frame} {meth : Method} {c : Code} {G : gE} {o : Nat} (B : gB G RX5 cX5_improvable 4 (some .int) p s m args meth c)  {r : (Int32 × TW)}   : ∀ (v1 : Int32) (v2 : Int32) (T : TW), fX5_improvable_l9 v1 v2 T = some r → ∀ (H : Heap) (locs : List Loc) (ls : Array Slot), RepT G o (T) H → va_S (tFr o) s.heap H locs → lv_has ls 4 [(0, .ref o), (1, .int v1), (2, .int v2)] → W p l e (gRm 11 259) s m args below meth c H locs 0 0 (twZ below args s G o (some (.int r.1)) r.2) (F0 m 9 ls []) := by
  intro v1 v2 T h
  refine wh_walk (body := (fun q => fX5_improvable_b9 q.1 q.2.1 q.2.2)) (P := (fun q : (Int32 × Int32 × TW) => ∀ (H : Heap) (locs : List Loc) (ls : Array Slot), RepT G o (q.2.2) H → va_S (tFr o) s.heap H locs → lv_has ls 4 [(0, .ref o), (1, .int (q.1)), (2, .int (q.2.1))] → W p l e (gRm 11 259) s m args below meth c H locs 0 0 (twZ below args s G o (some (.int r.1)) r.2) (F0 m 9 ls []))) (r := r) ?_ (v1, v2, T) h
  intro q y hy hL hr H locs ls hR hS hl
  exact bX5_improvable_9 (r := r) B hy (fun a0 a1 a2 e => hL (a0, a1, a2) e) (fun q e => hr q e) hR hS hl
noncomputable def fX5_improvable  (T : TW) : Option ((Int32 × TW)) :=
  nm_ (tsI T 6 0) fun T1 =>
  fX5_improvable_l9 0 0 T1
theorem bX5_improvable_0 {p : Program} {l : Launch} {e : Env} {s : State} {m : MethodId} {args : Array Value} {below : List Frame} {meth : Method} {c : Code} {H : Heap} {locs : List Loc} {ls : Array Slot} {G : gE} {o : Nat} (B : gB G RX5 cX5_improvable 4 (some .int) p s m args meth c)  {T : TW} {r : (Int32 × TW)} (h : fX5_improvable T = some r)   (hR : RepT G o T H) (hS : va_S (tFr o) s.heap H locs) (hl : lv_has ls 4 [(0, .ref o)]) : W p l e (gRm 11 259) s m args below meth c H locs 0 0 (twZ below args s G o (some (.int r.1)) r.2) (F0 m 0 ls []) := by
  have B0 := B
  obtain ⟨hx, hb, hml, hown, hts, hr, hlk, hK⟩ := B0
  unfold fX5_improvable at h
  refine lv_aload_n hx hb dX5_improvable_0 rfl (lv_at hl 0 rfl) ?_
  refine lv_iconst (v := 0) hx hb dX5_improvable_1 (by decide) ?_
  replace h := nm_o h
  obtain ⟨T1, e2, h⟩ := h
  refine tw_putI (k := 6) (x := 0) (ty := .int) (T' := T1) hx hb hts hown hK hR (fun _ h9 => h9) hS (by decide) rfl e2 q2439 (fun _ h9 => h9) rfl (by decide +kernel) rfl rfl dX5_improvable_2 (fun H locs hR hS => ?_)
  refine lv_iconst (v := 0) hx hb dX5_improvable_5 (by decide) ?_
  refine lv_istore_n (lv' := [(1, .int 0), (0, .ref o)]) hx hb dX5_improvable_6 rfl hl (by decide) rfl (fun ls hl => ?_)
  refine lv_iconst (v := 0) hx hb dX5_improvable_7 (by decide) ?_
  refine lv_istore_n (lv' := [(2, .int 0), (1, .int 0), (0, .ref o)]) hx hb dX5_improvable_8 rfl hl (by decide) rfl (fun ls hl => ?_)
  exact lX5_improvable_9 B _ _ _ h H locs ls hR hS (lv_sub hl [2, 1, 0] rfl)
theorem mX5_improvable {l : Launch} {G : gE} {o : Nat}  {T : TW} {r : (Int32 × TW)}  (h : fX5_improvable T = some r) : twM l G o yX5_improvable cX5_improvable 4 (some .int) 11 259 [.ref o] T (some (.int r.1)) r.2 :=
  tw_of (by decide +kernel) (Nat.le_of_ble_eq_true rfl) (fun p e s m args below meth c ls B hR hl => bX5_improvable_0 B h hR va_S.rf hl)
noncomputable def fX5_bestPair_b206 (v1 : Int32) (v4 : Int32) (v7 : Int32) (T : TW) : Option ((Int32 × TW)) :=
  b2_ (fX5_atArc v1 4 T) fun x3 T2 =>
  (wrA T2 1 172 x3 v4).bind fun T4 =>
  some (v7, T4)
theorem bX5_bestPair_206 {p : Program} {l : Launch} {e : Env} {s : State} {m : MethodId} {args : Array Value} {below : List Frame} {meth : Method} {c : Code} {H : Heap} {locs : List Loc} {ls : Array Slot} {G : gE} {o : Nat} (B : gB G RX5 cX5_bestPair 12 (some .int) p s m args meth c) {v1 : Int32} {v4 : Int32} {v7 : Int32} {T : TW} {r : (Int32 × TW)} (h : fX5_bestPair_b206 v1 v4 v7 T = some r)   (hR : RepT G o T H) (hS : va_S (tFr o) s.heap H locs) (hl : lv_has ls 12 [(0, .ref o), (1, .int v1), (4, .int v4), (7, .int v7)]) : W p l e (gRm 10 225) s m args below meth c H locs 0 0 (twZ below args s G o (some (.int r.1)) r.2) (F0 m 206 ls []) := by
  have B0 := B
  obtain ⟨hx, hb, hml, hown, hts, hr, hlk, hK⟩ := B0
  unfold fX5_bestPair_b206 at h
  refine lv_aload_n hx hb dX5_bestPair_206 rfl (lv_at hl 0 rfl) ?_
  refine tw_get (k := 0) (v := .ref (o + 1)) hx hb hts hown hK hR (by decide) q2433 rfl (fun _ h9 => h9) dX5_bestPair_207 ?_
  refine lv_iload_n hx hb dX5_bestPair_210 rfl (lv_at hl 1 rfl) ?_
  refine lv_iconst (v := 4) hx hb dX5_bestPair_211 (by decide) ?_
  replace h := b2_o h
  obtain ⟨x3, T2, e1, h⟩ := h
  refine tw_callS 2 (As := [.int v1, .int 4]) (rest := [.ref (o + 1)]) (v := (some (.int x3))) (T' := T2) (st1 := [.int x3, .ref (o + 1)]) hx hb hml hown hts hK hR (fun _ h9 => h9) (tw_A2 hR) hS (mX5_atArc e1) (lw_S q2605 q2606 q137 q2607) (by decide +kernel) (Nat.le_of_ble_eq_true rfl) (Nat.le_of_ble_eq_true rfl) (Nat.zero_le _) (Nat.zero_le _) rfl hl.1 (Nat.le_of_ble_eq_true rfl) dX5_bestPair_212 rfl rfl (fun H locs hR hS => ?_)
  refine lv_iload hx hb dX5_bestPair_215 (lv_at hl 2 rfl) ?_
  replace h := bo_o h
  obtain ⟨T4, e5, h⟩ := h
  refine tw_iast (q := 1) hx hb hK hR (fun _ h9 => h9) hS rfl (fun _ => rfl) e5 dX5_bestPair_217 (fun H locs hR hS => ?_)
  refine lv_iload hx hb dX5_bestPair_218 (lv_at hl 3 rfl) ?_
  have eR := Option.some.inj h
  subst eR
  exact W.iret (v := v7) hx hb hr (fun t ht _ => tw_fin hR hS ht) hS.2.2 dX5_bestPair_220
noncomputable def fX5_bestPair_b197 (v1 : Int32) (v2 : Int32) (v3 : Int32) (v4 : Int32) (v5 : Int64) (v7 : Int32) (v8 : Int32) (T : TW) : Option (Sum (Int64 × Int32 × Int32 × TW) ((Int32 × TW))) :=
  nm_ (v8 + v3) fun x1 =>
  some (.inl (v5, v7, x1, T))
theorem bX5_bestPair_197 {p : Program} {l : Launch} {e : Env} {s : State} {m : MethodId} {args : Array Value} {below : List Frame} {meth : Method} {c : Code} {H : Heap} {locs : List Loc} {ls : Array Slot} {G : gE} {o : Nat} (B : gB G RX5 cX5_bestPair 12 (some .int) p s m args meth c) {v1 : Int32} {v2 : Int32} {v3 : Int32} {v4 : Int32} {v5 : Int64} {v7 : Int32} {v8 : Int32} {T : TW} {x : Sum (Int64 × Int32 × Int32 × TW) ((Int32 × TW))} {r : (Int32 × TW)} (h : fX5_bestPair_b197 v1 v2 v3 v4 v5 v7 v8 T = some x)  (k109 : ∀ (v5' : Int64) (v7' : Int32) (v8' : Int32) (T' : TW), x = (.inl (v5', v7', v8', T')) → ∀ (H : Heap) (locs : List Loc) (ls : Array Slot), RepT G o (T') H → va_S (tFr o) s.heap H locs → lv_has ls 12 [(0, .ref o), (1, .int v1), (2, .int v2), (3, .int v3), (4, .int v4), (5, .long v5'), (7, .int v7'), (8, .int v8')] → W p l e (gRm 10 225) s m args below meth c H locs 0 0 (twZ below args s G o (some (.int r.1)) r.2) (F0 m 109 ls [])) (kR : ∀ q, x = (.inr q) → q = r) (hR : RepT G o T H) (hS : va_S (tFr o) s.heap H locs) (hl : lv_has ls 12 [(0, .ref o), (1, .int v1), (2, .int v2), (3, .int v3), (4, .int v4), (5, .long v5), (7, .int v7), (8, .int v8)]) : W p l e (gRm 10 225) s m args below meth c H locs 0 0 (twZ below args s G o (some (.int r.1)) r.2) (F0 m 197 ls []) := by
  have B0 := B
  obtain ⟨hx, hb, hml, hown, hts, hr, hlk, hK⟩ := B0
  unfold fX5_bestPair_b197 at h
  refine lv_iload hx hb dX5_bestPair_197 (lv_at hl 7 rfl) ?_
  refine lv_iload_n hx hb dX5_bestPair_199 rfl (lv_at hl 3 rfl) ?_
  refine lv_iadd hx hb dX5_bestPair_200 ?_
  replace h := nm_o h
  obtain ⟨x1, e2, h⟩ := h
  refine lv_istore (lv' := [(8, .int x1), (0, .ref o), (1, .int v1), (2, .int v2), (3, .int v3), (4, .int v4), (5, .long v5), (7, .int v7)]) hx hb dX5_bestPair_201 hl (by decide) (by subst e2; rfl) (fun ls hl => ?_)
  refine lv_goto (tgt := 109) hx hb dX5_bestPair_203 (by decide) ?_
  exact k109 _ _ _ _ (Option.some.inj h).symm H locs ls hR hS (lv_sub hl [1, 2, 3, 4, 5, 6, 7, 0] rfl)
noncomputable def fX5_bestPair_b177 (v1 : Int32) (v2 : Int32) (v3 : Int32) (v4 : Int32) (v5 : Int64) (v8 : Int32) (v9 : Int32) (v10 : Int64) (s0 : Int32) (T : TW) : Option (Sum (Int64 × Int32 × Int32 × TW) (Sum (Int64 × Int32 × Int32 × TW) ((Int32 × TW)))) :=
  nm_ (mxL v5 v10) fun x1 =>
  nm_ (v9 + v3) fun x3 =>
  some (.inl (x1, s0, x3, T))
theorem bX5_bestPair_177 {p : Program} {l : Launch} {e : Env} {s : State} {m : MethodId} {args : Array Value} {below : List Frame} {meth : Method} {c : Code} {H : Heap} {locs : List Loc} {ls : Array Slot} {G : gE} {o : Nat} (B : gB G RX5 cX5_bestPair 12 (some .int) p s m args meth c) {v1 : Int32} {v2 : Int32} {v3 : Int32} {v4 : Int32} {v5 : Int64} {v8 : Int32} {v9 : Int32} {v10 : Int64} {s0 : Int32} {T : TW} {x : Sum (Int64 × Int32 × Int32 × TW) (Sum (Int64 × Int32 × Int32 × TW) ((Int32 × TW)))} {r : (Int32 × TW)} (h : fX5_bestPair_b177 v1 v2 v3 v4 v5 v8 v9 v10 s0 T = some x)  (k135 : ∀ (v5' : Int64) (v7' : Int32) (v9' : Int32) (T' : TW), x = (.inl (v5', v7', v9', T')) → ∀ (H : Heap) (locs : List Loc) (ls : Array Slot), RepT G o (T') H → va_S (tFr o) s.heap H locs → lv_has ls 12 [(0, .ref o), (1, .int v1), (2, .int v2), (3, .int v3), (4, .int v4), (5, .long v5'), (7, .int v7'), (8, .int v8), (9, .int v9')] → W p l e (gRm 10 225) s m args below meth c H locs 0 0 (twZ below args s G o (some (.int r.1)) r.2) (F0 m 135 ls [])) (k109 : ∀ (v5' : Int64) (v7' : Int32) (v8' : Int32) (T' : TW), x = (.inr (.inl (v5', v7', v8', T'))) → ∀ (H : Heap) (locs : List Loc) (ls : Array Slot), RepT G o (T') H → va_S (tFr o) s.heap H locs → lv_has ls 12 [(0, .ref o), (1, .int v1), (2, .int v2), (3, .int v3), (4, .int v4), (5, .long v5'), (7, .int v7'), (8, .int v8')] → W p l e (gRm 10 225) s m args below meth c H locs 0 0 (twZ below args s G o (some (.int r.1)) r.2) (F0 m 109 ls [])) (kR : ∀ q, x = (.inr (.inr q)) → q = r) (hR : RepT G o T H) (hS : va_S (tFr o) s.heap H locs) (hl : lv_has ls 12 [(0, .ref o), (1, .int v1), (2, .int v2), (3, .int v3), (4, .int v4), (5, .long v5), (8, .int v8), (9, .int v9), (10, .long v10)]) : W p l e (gRm 10 225) s m args below meth c H locs 0 0 (twZ below args s G o (some (.int r.1)) r.2) (F0 m 177 ls [.int s0]) := by
  have B0 := B
  obtain ⟨hx, hb, hml, hown, hts, hr, hlk, hK⟩ := B0
  unfold fX5_bestPair_b177 at h
  refine lv_istore (lv' := [(7, .int s0), (0, .ref o), (1, .int v1), (2, .int v2), (3, .int v3), (4, .int v4), (5, .long v5), (8, .int v8), (9, .int v9), (10, .long v10)]) hx hb dX5_bestPair_177 hl (by decide) rfl (fun ls hl => ?_)
  refine lv_lload hx hb dX5_bestPair_179 (lv_at hl 6 rfl) ?_
  refine lv_lload hx hb dX5_bestPair_181 (lv_at hl 9 rfl) ?_
  replace h := nm_o h
  obtain ⟨x1, e2, h⟩ := h
  refine va_mmax_long hx hb (hml.trans hl.1.symm) hown (hts _ q2933) (hts _ q2934) (hts _ q127) (hts _ q2935) (Nat.le_of_ble_eq_true rfl) (Nat.le_of_ble_eq_true rfl) (Nat.zero_le _) (Nat.zero_le _) dX5_bestPair_183 ?_
  refine W.eq (g2 := F0 m 186 ls [.long x1]) (by rw [e2]; rfl) ?_
  refine lv_lstore (lv' := [(5, .long x1), (7, .int s0), (0, .ref o), (1, .int v1), (2, .int v2), (3, .int v3), (4, .int v4), (8, .int v8), (9, .int v9), (10, .long v10)]) hx hb dX5_bestPair_186 hl (by decide) rfl (fun ls hl => ?_)
  refine lv_iload hx hb dX5_bestPair_188 (lv_at hl 8 rfl) ?_
  refine lv_iload_n hx hb dX5_bestPair_190 rfl (lv_at hl 5 rfl) ?_
  refine lv_iadd hx hb dX5_bestPair_191 ?_
  replace h := nm_o h
  obtain ⟨x3, e4, h⟩ := h
  refine lv_istore (lv' := [(9, .int x3), (5, .long x1), (7, .int s0), (0, .ref o), (1, .int v1), (2, .int v2), (3, .int v3), (4, .int v4), (8, .int v8), (10, .long v10)]) hx hb dX5_bestPair_192 hl (by decide) (by subst e4; rfl) (fun ls hl => ?_)
  refine lv_goto (tgt := 135) hx hb dX5_bestPair_194 (by decide) ?_
  exact k135 _ _ _ _ (Option.some.inj h).symm H locs ls hR hS (lv_sub hl [3, 4, 5, 6, 7, 1, 2, 8, 0] rfl)
noncomputable def fX5_bestPair_b135 (v1 : Int32) (v2 : Int32) (v3 : Int32) (v4 : Int32) (v5 : Int64) (v7 : Int32) (v8 : Int32) (v9 : Int32) (T : TW) : Option (Sum (Int64 × Int32 × Int32 × TW) (Sum (Int64 × Int32 × Int32 × TW) ((Int32 × TW)))) :=
  b2_ (fX5_arc v2 3 T) fun x3 T2 =>
  if x3 < v9 then (
    (fX5_bestPair_b197 v1 v2 v3 v4 v5 v7 v8 T2).map (fun y => (.inr y))
  ) else (
    b2_ (fX5_allWith v2 v9 T2) fun x7 T6 =>
    if lg_cmp x7 v5 ≤ 0 then (
      fX5_bestPair_b177 v1 v2 v3 v4 v5 v8 v9 x7 v7 T6
    ) else (
      fX5_bestPair_b177 v1 v2 v3 v4 v5 v8 v9 x7 ((10000 * v8) + v9) T6
    )
  )
theorem bX5_bestPair_135 {p : Program} {l : Launch} {e : Env} {s : State} {m : MethodId} {args : Array Value} {below : List Frame} {meth : Method} {c : Code} {H : Heap} {locs : List Loc} {ls : Array Slot} {G : gE} {o : Nat} (B : gB G RX5 cX5_bestPair 12 (some .int) p s m args meth c) {v1 : Int32} {v2 : Int32} {v3 : Int32} {v4 : Int32} {v5 : Int64} {v7 : Int32} {v8 : Int32} {v9 : Int32} {T : TW} {x : Sum (Int64 × Int32 × Int32 × TW) (Sum (Int64 × Int32 × Int32 × TW) ((Int32 × TW)))} {r : (Int32 × TW)} (h : fX5_bestPair_b135 v1 v2 v3 v4 v5 v7 v8 v9 T = some x)  (k135 : ∀ (v5' : Int64) (v7' : Int32) (v9' : Int32) (T' : TW), x = (.inl (v5', v7', v9', T')) → ∀ (H : Heap) (locs : List Loc) (ls : Array Slot), RepT G o (T') H → va_S (tFr o) s.heap H locs → lv_has ls 12 [(0, .ref o), (1, .int v1), (2, .int v2), (3, .int v3), (4, .int v4), (5, .long v5'), (7, .int v7'), (8, .int v8), (9, .int v9')] → W p l e (gRm 10 225) s m args below meth c H locs 0 0 (twZ below args s G o (some (.int r.1)) r.2) (F0 m 135 ls [])) (k109 : ∀ (v5' : Int64) (v7' : Int32) (v8' : Int32) (T' : TW), x = (.inr (.inl (v5', v7', v8', T'))) → ∀ (H : Heap) (locs : List Loc) (ls : Array Slot), RepT G o (T') H → va_S (tFr o) s.heap H locs → lv_has ls 12 [(0, .ref o), (1, .int v1), (2, .int v2), (3, .int v3), (4, .int v4), (5, .long v5'), (7, .int v7'), (8, .int v8')] → W p l e (gRm 10 225) s m args below meth c H locs 0 0 (twZ below args s G o (some (.int r.1)) r.2) (F0 m 109 ls [])) (kR : ∀ q, x = (.inr (.inr q)) → q = r) (hR : RepT G o T H) (hS : va_S (tFr o) s.heap H locs) (hl : lv_has ls 12 [(0, .ref o), (1, .int v1), (2, .int v2), (3, .int v3), (4, .int v4), (5, .long v5), (7, .int v7), (8, .int v8), (9, .int v9)]) : W p l e (gRm 10 225) s m args below meth c H locs 0 0 (twZ below args s G o (some (.int r.1)) r.2) (F0 m 135 ls []) := by
  have B0 := B
  obtain ⟨hx, hb, hml, hown, hts, hr, hlk, hK⟩ := B0
  unfold fX5_bestPair_b135 at h
  refine lv_iload hx hb dX5_bestPair_135 (lv_at hl 8 rfl) ?_
  refine lv_aload_n hx hb dX5_bestPair_137 rfl (lv_at hl 0 rfl) ?_
  refine lv_iload_n hx hb dX5_bestPair_138 rfl (lv_at hl 2 rfl) ?_
  refine lv_iconst (v := 3) hx hb dX5_bestPair_139 (by decide) ?_
  replace h := b2_o h
  obtain ⟨x3, T2, e1, h⟩ := h
  refine tw_callV 2 (As := [.int v2, .int 3]) (rest := [.int v9]) (v := (some (.int x3))) (T' := T2) (st1 := [.int x3, .int v9]) hx hb hml hown hts hK hR (fun _ h9 => h9) (tw_A2 hR) hS (mX5_arc e1) (lw_V q2637 q2639 qs69 q137 q2640) (by decide +kernel) (Nat.le_of_ble_eq_true rfl) (Nat.le_of_ble_eq_true rfl) (Nat.zero_le _) (Nat.zero_le _) rfl hl.1 (Nat.le_of_ble_eq_true rfl) dX5_bestPair_140 rfl rfl (fun H locs hR hS => ?_)
  refine lv_icmp_gt (tgt := 197) hx hb dX5_bestPair_143 (by decide) (fun c4 => ?_) (fun c4 => ?_)
  · replace h := it_o c4 h
    obtain ⟨y, h, ey⟩ := mp_o h
    exact bX5_bestPair_197 B h (fun _ _ _ _ e => k109 _ _ _ _ (by rw [← ey, e])) (fun q e => kR q (by rw [← ey, e])) hR hS (lv_sub hl [0, 1, 2, 3, 4, 5, 6, 7] rfl)
  · replace h := if_o c4 h
    refine lv_aload_n hx hb dX5_bestPair_146 rfl (lv_at hl 0 rfl) ?_
    refine lv_iload_n hx hb dX5_bestPair_147 rfl (lv_at hl 2 rfl) ?_
    refine lv_iload hx hb dX5_bestPair_148 (lv_at hl 8 rfl) ?_
    replace h := b2_o h
    obtain ⟨x7, T6, e5, h⟩ := h
    refine tw_callV 2 (As := [.int v2, .int v9]) (rest := []) (v := (some (.long x7))) (T' := T6) (st1 := [.long x7]) hx hb hml hown hts hK hR (fun _ h9 => h9) (tw_A2 hR) hS (mX5_allWith e5) (lw_V q2917 q2919 qs101 q137 q2920) (by decide +kernel) (Nat.le_of_ble_eq_true rfl) (Nat.le_of_ble_eq_true rfl) (Nat.zero_le _) (Nat.zero_le _) rfl hl.1 (Nat.le_of_ble_eq_true rfl) dX5_bestPair_150 rfl rfl (fun H locs hR hS => ?_)
    refine lv_lstore (lv' := [(10, .long x7), (0, .ref o), (1, .int v1), (2, .int v2), (3, .int v3), (4, .int v4), (5, .long v5), (7, .int v7), (8, .int v8), (9, .int v9)]) hx hb dX5_bestPair_153 hl (by decide) rfl (fun ls hl => ?_)
    refine lv_lload hx hb dX5_bestPair_155 (lv_at hl 0 rfl) ?_
    refine lv_lload hx hb dX5_bestPair_157 (lv_at hl 6 rfl) ?_
    refine W.lcmp hx hb dX5_bestPair_159 ?_
    refine lv_if_le (tgt := 175) hx hb dX5_bestPair_160 (by decide) (fun c8 => ?_) (fun c8 => ?_)
    · replace h := it_o c8 h
      refine lv_iload hx hb dX5_bestPair_175 (lv_at hl 7 rfl) ?_
      exact bX5_bestPair_177 B h k135 k109 kR hR hS (lv_sub hl [1, 2, 3, 4, 5, 6, 8, 9, 0] rfl)
    · replace h := if_o c8 h
      refine lv_sipush (v := 10000) hx hb dX5_bestPair_163 (by decide) ?_
      refine lv_iload hx hb dX5_bestPair_166 (lv_at hl 8 rfl) ?_
      refine lv_imul hx hb dX5_bestPair_168 ?_
      refine lv_iload hx hb dX5_bestPair_169 (lv_at hl 9 rfl) ?_
      refine lv_iadd hx hb dX5_bestPair_171 ?_
      refine lv_goto (tgt := 177) hx hb dX5_bestPair_172 (by decide) ?_
      exact bX5_bestPair_177 B h k135 k109 kR hR hS (lv_sub hl [1, 2, 3, 4, 5, 6, 8, 9, 0] rfl)
noncomputable def fX5_bestPair_l135 (v1 : Int32) (v2 : Int32) (v3 : Int32) (v4 : Int32) (v5 : Int64) (v7 : Int32) (v8 : Int32) (v9 : Int32) (T : TW) : Option (Sum (Int64 × Int32 × Int32 × TW) ((Int32 × TW))) := whileO (fun q => fX5_bestPair_b135 v1 v2 v3 v4 q.1 q.2.1 v8 q.2.2.1 q.2.2.2) (v5, v7, v9, T)
theorem lX5_bestPair_135 {p : Program} {l : Launch} {e : Env} {s : State} {m : MethodId} {args : Array Value} {below : List Frame} {meth : Method} {c : Code} {G : gE} {o : Nat} (B : gB G RX5 cX5_bestPair 12 (some .int) p s m args meth c) {v1 : Int32} {v2 : Int32} {v3 : Int32} {v4 : Int32} {v8 : Int32} {x : Sum (Int64 × Int32 × Int32 × TW) ((Int32 × TW))} {r : (Int32 × TW)}  (k109 : ∀ (v5' : Int64) (v7' : Int32) (v8' : Int32) (T' : TW), x = (.inl (v5', v7', v8', T')) → ∀ (H : Heap) (locs : List Loc) (ls : Array Slot), RepT G o (T') H → va_S (tFr o) s.heap H locs → lv_has ls 12 [(0, .ref o), (1, .int v1), (2, .int v2), (3, .int v3), (4, .int v4), (5, .long v5'), (7, .int v7'), (8, .int v8')] → W p l e (gRm 10 225) s m args below meth c H locs 0 0 (twZ below args s G o (some (.int r.1)) r.2) (F0 m 109 ls [])) (kR : ∀ q, x = (.inr q) → q = r) : ∀ (v5 : Int64) (v7 : Int32) (v9 : Int32) (T : TW), fX5_bestPair_l135 v1 v2 v3 v4 v5 v7 v8 v9 T = some x → ∀ (H : Heap) (locs : List Loc) (ls : Array Slot), RepT G o (T) H → va_S (tFr o) s.heap H locs → lv_has ls 12 [(0, .ref o), (1, .int v1), (2, .int v2), (3, .int v3), (4, .int v4), (5, .long v5), (7, .int v7), (8, .int v8), (9, .int v9)] → W p l e (gRm 10 225) s m args below meth c H locs 0 0 (twZ below args s G o (some (.int r.1)) r.2) (F0 m 135 ls []) := by
  intro v5 v7 v9 T h
  refine wh_walk (body := (fun q => fX5_bestPair_b135 v1 v2 v3 v4 q.1 q.2.1 v8 q.2.2.1 q.2.2.2)) (P := (fun q : (Int64 × Int32 × Int32 × TW) => ∀ (H : Heap) (locs : List Loc) (ls : Array Slot), RepT G o (q.2.2.2) H → va_S (tFr o) s.heap H locs → lv_has ls 12 [(0, .ref o), (1, .int v1), (2, .int v2), (3, .int v3), (4, .int v4), (5, .long (q.1)), (7, .int (q.2.1)), (8, .int v8), (9, .int (q.2.2.1))] → W p l e (gRm 10 225) s m args below meth c H locs 0 0 (twZ below args s G o (some (.int r.1)) r.2) (F0 m 135 ls []))) (r := x) ?_ (v5, v7, v9, T) h
  intro q y hy hL hr H locs ls hR hS hl
  exact bX5_bestPair_135 (r := r) B hy (fun a0 a1 a2 a3 e => hL (a0, a1, a2, a3) e) (fun a0 a1 a2 a3 e H locs ls hR hS hl => k109 _ _ _ _ ((hr _ e).symm) H locs ls hR hS hl) (fun q e => kR q ((hr _ e).symm)) hR hS hl
noncomputable def fX5_bestPair_b109 (v1 : Int32) (v2 : Int32) (v3 : Int32) (v4 : Int32) (v5 : Int64) (v7 : Int32) (v8 : Int32) (T : TW) : Option (Sum (Int64 × Int32 × Int32 × TW) ((Int32 × TW))) :=
  b2_ (fX5_arc v1 3 T) fun x3 T2 =>
  if x3 < v8 then (
    (fX5_bestPair_b206 v1 v4 v7 T2).map (fun y => (.inr y))
  ) else (
    b2_ (fX5_atArc v1 4 T2) fun x7 T6 =>
    (wrA T6 1 172 x7 v8).bind fun T8 =>
    fX5_bestPair_l135 v1 v2 v3 v4 v5 v7 v8 0 T8
  )
theorem bX5_bestPair_109 {p : Program} {l : Launch} {e : Env} {s : State} {m : MethodId} {args : Array Value} {below : List Frame} {meth : Method} {c : Code} {H : Heap} {locs : List Loc} {ls : Array Slot} {G : gE} {o : Nat} (B : gB G RX5 cX5_bestPair 12 (some .int) p s m args meth c) {v1 : Int32} {v2 : Int32} {v3 : Int32} {v4 : Int32} {v5 : Int64} {v7 : Int32} {v8 : Int32} {T : TW} {x : Sum (Int64 × Int32 × Int32 × TW) ((Int32 × TW))} {r : (Int32 × TW)} (h : fX5_bestPair_b109 v1 v2 v3 v4 v5 v7 v8 T = some x)  (k109 : ∀ (v5' : Int64) (v7' : Int32) (v8' : Int32) (T' : TW), x = (.inl (v5', v7', v8', T')) → ∀ (H : Heap) (locs : List Loc) (ls : Array Slot), RepT G o (T') H → va_S (tFr o) s.heap H locs → lv_has ls 12 [(0, .ref o), (1, .int v1), (2, .int v2), (3, .int v3), (4, .int v4), (5, .long v5'), (7, .int v7'), (8, .int v8')] → W p l e (gRm 10 225) s m args below meth c H locs 0 0 (twZ below args s G o (some (.int r.1)) r.2) (F0 m 109 ls [])) (kR : ∀ q, x = (.inr q) → q = r) (hR : RepT G o T H) (hS : va_S (tFr o) s.heap H locs) (hl : lv_has ls 12 [(0, .ref o), (1, .int v1), (2, .int v2), (3, .int v3), (4, .int v4), (5, .long v5), (7, .int v7), (8, .int v8)]) : W p l e (gRm 10 225) s m args below meth c H locs 0 0 (twZ below args s G o (some (.int r.1)) r.2) (F0 m 109 ls []) := by
  have B0 := B
  obtain ⟨hx, hb, hml, hown, hts, hr, hlk, hK⟩ := B0
  unfold fX5_bestPair_b109 at h
  refine lv_iload hx hb dX5_bestPair_109 (lv_at hl 7 rfl) ?_
  refine lv_aload_n hx hb dX5_bestPair_111 rfl (lv_at hl 0 rfl) ?_
  refine lv_iload_n hx hb dX5_bestPair_112 rfl (lv_at hl 1 rfl) ?_
  refine lv_iconst (v := 3) hx hb dX5_bestPair_113 (by decide) ?_
  replace h := b2_o h
  obtain ⟨x3, T2, e1, h⟩ := h
  refine tw_callV 2 (As := [.int v1, .int 3]) (rest := [.int v8]) (v := (some (.int x3))) (T' := T2) (st1 := [.int x3, .int v8]) hx hb hml hown hts hK hR (fun _ h9 => h9) (tw_A2 hR) hS (mX5_arc e1) (lw_V q2637 q2639 qs69 q137 q2640) (by decide +kernel) (Nat.le_of_ble_eq_true rfl) (Nat.le_of_ble_eq_true rfl) (Nat.zero_le _) (Nat.zero_le _) rfl hl.1 (Nat.le_of_ble_eq_true rfl) dX5_bestPair_114 rfl rfl (fun H locs hR hS => ?_)
  refine lv_icmp_gt (tgt := 206) hx hb dX5_bestPair_117 (by decide) (fun c4 => ?_) (fun c4 => ?_)
  · replace h := it_o c4 h
    obtain ⟨y, h, ey⟩ := mp_o h
    have ey := kR _ ey.symm
    subst ey
    exact bX5_bestPair_206 B h  hR hS (lv_sub hl [0, 1, 4, 6] rfl)
  · replace h := if_o c4 h
    refine lv_aload_n hx hb dX5_bestPair_120 rfl (lv_at hl 0 rfl) ?_
    refine tw_get (k := 0) (v := .ref (o + 1)) hx hb hts hown hK hR (by decide) q2433 rfl (fun _ h9 => h9) dX5_bestPair_121 ?_
    refine lv_iload_n hx hb dX5_bestPair_124 rfl (lv_at hl 1 rfl) ?_
    refine lv_iconst (v := 4) hx hb dX5_bestPair_125 (by decide) ?_
    replace h := b2_o h
    obtain ⟨x7, T6, e5, h⟩ := h
    refine tw_callS 2 (As := [.int v1, .int 4]) (rest := [.ref (o + 1)]) (v := (some (.int x7))) (T' := T6) (st1 := [.int x7, .ref (o + 1)]) hx hb hml hown hts hK hR (fun _ h9 => h9) (tw_A2 hR) hS (mX5_atArc e5) (lw_S q2605 q2606 q137 q2607) (by decide +kernel) (Nat.le_of_ble_eq_true rfl) (Nat.le_of_ble_eq_true rfl) (Nat.zero_le _) (Nat.zero_le _) rfl hl.1 (Nat.le_of_ble_eq_true rfl) dX5_bestPair_126 rfl rfl (fun H locs hR hS => ?_)
    refine lv_iload hx hb dX5_bestPair_129 (lv_at hl 7 rfl) ?_
    replace h := bo_o h
    obtain ⟨T8, e9, h⟩ := h
    refine tw_iast (q := 1) hx hb hK hR (fun _ h9 => h9) hS rfl (fun _ => rfl) e9 dX5_bestPair_131 (fun H locs hR hS => ?_)
    refine lv_iconst (v := 0) hx hb dX5_bestPair_132 (by decide) ?_
    refine lv_istore (lv' := [(9, .int 0), (0, .ref o), (1, .int v1), (2, .int v2), (3, .int v3), (4, .int v4), (5, .long v5), (7, .int v7), (8, .int v8)]) hx hb dX5_bestPair_133 hl (by decide) rfl (fun ls hl => ?_)
    exact lX5_bestPair_135 (x := x) (r := r) B k109 kR _ _ _ _ h H locs ls hR hS (lv_sub hl [1, 2, 3, 4, 5, 6, 7, 8, 0] rfl)
noncomputable def fX5_bestPair_l109 (v1 : Int32) (v2 : Int32) (v3 : Int32) (v4 : Int32) (v5 : Int64) (v7 : Int32) (v8 : Int32) (T : TW) : Option ((Int32 × TW)) := whileO (fun q => fX5_bestPair_b109 v1 v2 v3 v4 q.1 q.2.1 q.2.2.1 q.2.2.2) (v5, v7, v8, T)
theorem lX5_bestPair_109 {p : Program} {l : Launch} {e : Env} {s : State} {m : MethodId} {args : Array Value} {below : List Frame} {meth : Method} {c : Code} {G : gE} {o : Nat} (B : gB G RX5 cX5_bestPair 12 (some .int) p s m args meth c) {v1 : Int32} {v2 : Int32} {v3 : Int32} {v4 : Int32} {r : (Int32 × TW)}   : ∀ (v5 : Int64) (v7 : Int32) (v8 : Int32) (T : TW), fX5_bestPair_l109 v1 v2 v3 v4 v5 v7 v8 T = some r → ∀ (H : Heap) (locs : List Loc) (ls : Array Slot), RepT G o (T) H → va_S (tFr o) s.heap H locs → lv_has ls 12 [(0, .ref o), (1, .int v1), (2, .int v2), (3, .int v3), (4, .int v4), (5, .long v5), (7, .int v7), (8, .int v8)] → W p l e (gRm 10 225) s m args below meth c H locs 0 0 (twZ below args s G o (some (.int r.1)) r.2) (F0 m 109 ls []) := by
  intro v5 v7 v8 T h
  refine wh_walk (body := (fun q => fX5_bestPair_b109 v1 v2 v3 v4 q.1 q.2.1 q.2.2.1 q.2.2.2)) (P := (fun q : (Int64 × Int32 × Int32 × TW) => ∀ (H : Heap) (locs : List Loc) (ls : Array Slot), RepT G o (q.2.2.2) H → va_S (tFr o) s.heap H locs → lv_has ls 12 [(0, .ref o), (1, .int v1), (2, .int v2), (3, .int v3), (4, .int v4), (5, .long (q.1)), (7, .int (q.2.1)), (8, .int (q.2.2.1))] → W p l e (gRm 10 225) s m args below meth c H locs 0 0 (twZ below args s G o (some (.int r.1)) r.2) (F0 m 109 ls []))) (r := r) ?_ (v5, v7, v8, T) h
  intro q y hy hL hr H locs ls hR hS hl
  exact bX5_bestPair_109 (r := r) B hy (fun a0 a1 a2 a3 e => hL (a0, a1, a2, a3) e) (fun q e => hr q e) hR hS hl
noncomputable def fX5_bestPair_b51 (v1 : Int32) (v2 : Int32) (v3 : Int32) (s1 : Int32) (T : TW) : Option ((Int32 × TW)) :=
  b2_ (fX5_isThrown s1 2 T) fun x3 T2 =>
  if x3 = 0 then (
    b2_ (fX5_arc v1 3 T2) fun x7 T6 =>
    (nzI v3).bind fun _ =>
    b2_ (fX5_arc v2 3 T6) fun x11 T10 =>
    (nzI v3).bind fun _ =>
    if ((x7 / v3) + 1) * ((x11 / v3) + 1) ≤ 400 then (
      b2_ (fX5_arc v1 4 T10) fun x16 T15 =>
      fX5_bestPair_l109 v1 v2 v3 x16 (-1) 0 0 T15
    ) else (
      some ((-3), T10)
    )
  ) else (
    some (0, T2)
  )
theorem bX5_bestPair_51 {p : Program} {l : Launch} {e : Env} {s : State} {m : MethodId} {args : Array Value} {below : List Frame} {meth : Method} {c : Code} {H : Heap} {locs : List Loc} {ls : Array Slot} {G : gE} {o : Nat} (B : gB G RX5 cX5_bestPair 12 (some .int) p s m args meth c) {v1 : Int32} {v2 : Int32} {v3 : Int32} {s1 : Int32} {T : TW} {r : (Int32 × TW)} (h : fX5_bestPair_b51 v1 v2 v3 s1 T = some r)   (hR : RepT G o T H) (hS : va_S (tFr o) s.heap H locs) (hl : lv_has ls 12 [(0, .ref o), (1, .int v1), (2, .int v2), (3, .int v3)]) : W p l e (gRm 10 225) s m args below meth c H locs 0 0 (twZ below args s G o (some (.int r.1)) r.2) (F0 m 51 ls [.int s1, .ref o]) := by
  have B0 := B
  obtain ⟨hx, hb, hml, hown, hts, hr, hlk, hK⟩ := B0
  unfold fX5_bestPair_b51 at h
  refine lv_iconst (v := 2) hx hb dX5_bestPair_51 (by decide) ?_
  replace h := b2_o h
  obtain ⟨x3, T2, e1, h⟩ := h
  refine tw_callV 2 (As := [.int s1, .int 2]) (rest := []) (v := (some (.int x3))) (T' := T2) (st1 := [.int x3]) hx hb hml hown hts hK hR (fun _ h9 => h9) (tw_A2 hR) hS (mX5_isThrown e1) (lw_V q2633 q2635 qs68 q137 q2636) (by decide +kernel) (Nat.le_of_ble_eq_true rfl) (Nat.le_of_ble_eq_true rfl) (Nat.zero_le _) (Nat.zero_le _) rfl hl.1 (Nat.le_of_ble_eq_true rfl) dX5_bestPair_52 rfl rfl (fun H locs hR hS => ?_)
  refine lv_if_eq (tgt := 60) hx hb dX5_bestPair_55 (by decide) (fun c4 => ?_) (fun c4 => ?_)
  · replace h := it_o c4 h
    refine lv_aload_n hx hb dX5_bestPair_60 rfl (lv_at hl 0 rfl) ?_
    refine lv_iload_n hx hb dX5_bestPair_61 rfl (lv_at hl 1 rfl) ?_
    refine lv_iconst (v := 3) hx hb dX5_bestPair_62 (by decide) ?_
    replace h := b2_o h
    obtain ⟨x7, T6, e5, h⟩ := h
    refine tw_callV 2 (As := [.int v1, .int 3]) (rest := []) (v := (some (.int x7))) (T' := T6) (st1 := [.int x7]) hx hb hml hown hts hK hR (fun _ h9 => h9) (tw_A2 hR) hS (mX5_arc e5) (lw_V q2637 q2639 qs69 q137 q2640) (by decide +kernel) (Nat.le_of_ble_eq_true rfl) (Nat.le_of_ble_eq_true rfl) (Nat.zero_le _) (Nat.zero_le _) rfl hl.1 (Nat.le_of_ble_eq_true rfl) dX5_bestPair_63 rfl rfl (fun H locs hR hS => ?_)
    refine lv_iload_n hx hb dX5_bestPair_66 rfl (lv_at hl 3 rfl) ?_
    replace h := bo_o h
    obtain ⟨_, e8, h⟩ := h
    refine lv_idiv hx hb dX5_bestPair_67 (nzI_o e8) ?_
    refine lv_iconst (v := 1) hx hb dX5_bestPair_68 (by decide) ?_
    refine lv_iadd hx hb dX5_bestPair_69 ?_
    refine lv_aload_n hx hb dX5_bestPair_70 rfl (lv_at hl 0 rfl) ?_
    refine lv_iload_n hx hb dX5_bestPair_71 rfl (lv_at hl 2 rfl) ?_
    refine lv_iconst (v := 3) hx hb dX5_bestPair_72 (by decide) ?_
    replace h := b2_o h
    obtain ⟨x11, T10, e9, h⟩ := h
    refine tw_callV 2 (As := [.int v2, .int 3]) (rest := [.int ((x7 / v3) + 1)]) (v := (some (.int x11))) (T' := T10) (st1 := [.int x11, .int ((x7 / v3) + 1)]) hx hb hml hown hts hK hR (fun _ h9 => h9) (tw_A2 hR) hS (mX5_arc e9) (lw_V q2637 q2639 qs69 q137 q2640) (by decide +kernel) (Nat.le_of_ble_eq_true rfl) (Nat.le_of_ble_eq_true rfl) (Nat.zero_le _) (Nat.zero_le _) rfl hl.1 (Nat.le_of_ble_eq_true rfl) dX5_bestPair_73 rfl rfl (fun H locs hR hS => ?_)
    refine lv_iload_n hx hb dX5_bestPair_76 rfl (lv_at hl 3 rfl) ?_
    replace h := bo_o h
    obtain ⟨_, e12, h⟩ := h
    refine lv_idiv hx hb dX5_bestPair_77 (nzI_o e12) ?_
    refine lv_iconst (v := 1) hx hb dX5_bestPair_78 (by decide) ?_
    refine lv_iadd hx hb dX5_bestPair_79 ?_
    refine lv_imul hx hb dX5_bestPair_80 ?_
    refine lv_sipush (v := 400) hx hb dX5_bestPair_81 (by decide) ?_
    refine lv_icmp_le (tgt := 90) hx hb dX5_bestPair_84 (by decide) (fun c13 => ?_) (fun c13 => ?_)
    · replace h := it_o c13 h
      refine lv_aload_n hx hb dX5_bestPair_90 rfl (lv_at hl 0 rfl) ?_
      refine lv_iload_n hx hb dX5_bestPair_91 rfl (lv_at hl 1 rfl) ?_
      refine lv_iconst (v := 4) hx hb dX5_bestPair_92 (by decide) ?_
      replace h := b2_o h
      obtain ⟨x16, T15, e14, h⟩ := h
      refine tw_callV 2 (As := [.int v1, .int 4]) (rest := []) (v := (some (.int x16))) (T' := T15) (st1 := [.int x16]) hx hb hml hown hts hK hR (fun _ h9 => h9) (tw_A2 hR) hS (mX5_arc e14) (lw_V q2637 q2639 qs69 q137 q2640) (by decide +kernel) (Nat.le_of_ble_eq_true rfl) (Nat.le_of_ble_eq_true rfl) (Nat.zero_le _) (Nat.zero_le _) rfl hl.1 (Nat.le_of_ble_eq_true rfl) dX5_bestPair_93 rfl rfl (fun H locs hR hS => ?_)
      refine lv_istore (lv' := [(4, .int x16), (0, .ref o), (1, .int v1), (2, .int v2), (3, .int v3)]) hx hb dX5_bestPair_96 hl (by decide) rfl (fun ls hl => ?_)
      refine lv_ldc2 (v := (-1)) hx hb hown (hts _ q2888) dX5_bestPair_98 ?_
      refine lv_lstore (lv' := [(5, .long (-1)), (4, .int x16), (0, .ref o), (1, .int v1), (2, .int v2), (3, .int v3)]) hx hb dX5_bestPair_101 hl (by decide) rfl (fun ls hl => ?_)
      refine lv_iconst (v := 0) hx hb dX5_bestPair_103 (by decide) ?_
      refine lv_istore (lv' := [(7, .int 0), (5, .long (-1)), (4, .int x16), (0, .ref o), (1, .int v1), (2, .int v2), (3, .int v3)]) hx hb dX5_bestPair_104 hl (by decide) rfl (fun ls hl => ?_)
      refine lv_iconst (v := 0) hx hb dX5_bestPair_106 (by decide) ?_
      refine lv_istore (lv' := [(8, .int 0), (7, .int 0), (5, .long (-1)), (4, .int x16), (0, .ref o), (1, .int v1), (2, .int v2), (3, .int v3)]) hx hb dX5_bestPair_107 hl (by decide) rfl (fun ls hl => ?_)
      exact lX5_bestPair_109 B _ _ _ _ h H locs ls hR hS (lv_sub hl [4, 5, 6, 7, 3, 2, 1, 0] rfl)
    · replace h := if_o c13 h
      refine lv_bipush (v := (-3)) hx hb dX5_bestPair_87 (by decide) ?_
      have eR := Option.some.inj h
      subst eR
      exact W.iret (v := (-3)) hx hb hr (fun t ht _ => tw_fin hR hS ht) hS.2.2 dX5_bestPair_89
  · replace h := if_o c4 h
    refine lv_iconst (v := 0) hx hb dX5_bestPair_58 (by decide) ?_
    have eR := Option.some.inj h
    subst eR
    exact W.iret (v := 0) hx hb hr (fun t ht _ => tw_fin hR hS ht) hS.2.2 dX5_bestPair_59
noncomputable def fX5_bestPair_b50 (v1 : Int32) (v2 : Int32) (v3 : Int32) (T : TW) : Option ((Int32 × TW)) :=
  fX5_bestPair_b51 v1 v2 v3 0 T
theorem bX5_bestPair_50 {p : Program} {l : Launch} {e : Env} {s : State} {m : MethodId} {args : Array Value} {below : List Frame} {meth : Method} {c : Code} {H : Heap} {locs : List Loc} {ls : Array Slot} {G : gE} {o : Nat} (B : gB G RX5 cX5_bestPair 12 (some .int) p s m args meth c) {v1 : Int32} {v2 : Int32} {v3 : Int32} {T : TW} {r : (Int32 × TW)} (h : fX5_bestPair_b50 v1 v2 v3 T = some r)   (hR : RepT G o T H) (hS : va_S (tFr o) s.heap H locs) (hl : lv_has ls 12 [(0, .ref o), (1, .int v1), (2, .int v2), (3, .int v3)]) : W p l e (gRm 10 225) s m args below meth c H locs 0 0 (twZ below args s G o (some (.int r.1)) r.2) (F0 m 50 ls [.ref o]) := by
  have B0 := B
  obtain ⟨hx, hb, hml, hown, hts, hr, hlk, hK⟩ := B0
  unfold fX5_bestPair_b50 at h
  refine lv_iconst (v := 0) hx hb dX5_bestPair_50 (by decide) ?_
  exact bX5_bestPair_51 B h  hR hS (lv_sub hl [0, 1, 2, 3] rfl)
noncomputable def fX5_bestPair_b22 (v1 : Int32) (v2 : Int32) (v3 : Int32) (s1 : Int32) (T : TW) : Option ((Int32 × TW)) :=
  b2_ (fX5_isThrown s1 1 T) fun x3 T2 =>
  if x3 = 0 then (
    if v1 = v2 then (
      fX5_bestPair_b50 v1 v2 v3 T2
    ) else (
      b2_ (fX5_in v3 1 9999 T2) fun x8 T7 =>
      if x8 = 0 then (
        fX5_bestPair_b50 v1 v2 v3 T7
      ) else (
        fX5_bestPair_b51 v1 v2 v3 1 T7
      )
    )
  ) else (
    some (0, T2)
  )
theorem bX5_bestPair_22 {p : Program} {l : Launch} {e : Env} {s : State} {m : MethodId} {args : Array Value} {below : List Frame} {meth : Method} {c : Code} {H : Heap} {locs : List Loc} {ls : Array Slot} {G : gE} {o : Nat} (B : gB G RX5 cX5_bestPair 12 (some .int) p s m args meth c) {v1 : Int32} {v2 : Int32} {v3 : Int32} {s1 : Int32} {T : TW} {r : (Int32 × TW)} (h : fX5_bestPair_b22 v1 v2 v3 s1 T = some r)   (hR : RepT G o T H) (hS : va_S (tFr o) s.heap H locs) (hl : lv_has ls 12 [(0, .ref o), (1, .int v1), (2, .int v2), (3, .int v3)]) : W p l e (gRm 10 225) s m args below meth c H locs 0 0 (twZ below args s G o (some (.int r.1)) r.2) (F0 m 22 ls [.int s1, .ref o]) := by
  have B0 := B
  obtain ⟨hx, hb, hml, hown, hts, hr, hlk, hK⟩ := B0
  unfold fX5_bestPair_b22 at h
  refine lv_iconst (v := 1) hx hb dX5_bestPair_22 (by decide) ?_
  replace h := b2_o h
  obtain ⟨x3, T2, e1, h⟩ := h
  refine tw_callV 2 (As := [.int s1, .int 1]) (rest := []) (v := (some (.int x3))) (T' := T2) (st1 := [.int x3]) hx hb hml hown hts hK hR (fun _ h9 => h9) (tw_A2 hR) hS (mX5_isThrown e1) (lw_V q2633 q2635 qs68 q137 q2636) (by decide +kernel) (Nat.le_of_ble_eq_true rfl) (Nat.le_of_ble_eq_true rfl) (Nat.zero_le _) (Nat.zero_le _) rfl hl.1 (Nat.le_of_ble_eq_true rfl) dX5_bestPair_23 rfl rfl (fun H locs hR hS => ?_)
  refine lv_if_ne (tgt := 58) hx hb dX5_bestPair_26 (by decide) (fun c4 => ?_) (fun c4 => ?_)
  · replace h := if_o c4 h
    refine lv_iconst (v := 0) hx hb dX5_bestPair_58 (by decide) ?_
    have eR := Option.some.inj h
    subst eR
    exact W.iret (v := 0) hx hb hr (fun t ht _ => tw_fin hR hS ht) hS.2.2 dX5_bestPair_59
  · replace h := it_o c4 h
    refine lv_aload_n hx hb dX5_bestPair_29 rfl (lv_at hl 0 rfl) ?_
    refine lv_iload_n hx hb dX5_bestPair_30 rfl (lv_at hl 1 rfl) ?_
    refine lv_iload_n hx hb dX5_bestPair_31 rfl (lv_at hl 2 rfl) ?_
    refine lv_icmp_eq (tgt := 50) hx hb dX5_bestPair_32 (by decide) (fun c5 => ?_) (fun c5 => ?_)
    · replace h := it_o c5 h
      exact bX5_bestPair_50 B h  hR hS (lv_sub hl [0, 1, 2, 3] rfl)
    · replace h := if_o c5 h
      refine lv_iload_n hx hb dX5_bestPair_35 rfl (lv_at hl 3 rfl) ?_
      refine lv_iconst (v := 1) hx hb dX5_bestPair_36 (by decide) ?_
      refine lv_sipush (v := 9999) hx hb dX5_bestPair_37 (by decide) ?_
      replace h := b2_o h
      obtain ⟨x8, T7, e6, h⟩ := h
      refine tw_callS 3 (As := [.int v3, .int 1, .int 9999]) (rest := [.ref o]) (v := (some (.int x8))) (T' := T7) (st1 := [.int x8, .ref o]) hx hb hml hown hts hK hR (fun _ h9 => h9) (tw_A2 hR) hS (mX5_in e6) (lw_S q2562 q2563 q137 q2564) (by decide +kernel) (Nat.le_of_ble_eq_true rfl) (Nat.le_of_ble_eq_true rfl) (Nat.zero_le _) (Nat.zero_le _) rfl hl.1 (Nat.le_of_ble_eq_true rfl) dX5_bestPair_40 rfl rfl (fun H locs hR hS => ?_)
      refine lv_if_eq (tgt := 50) hx hb dX5_bestPair_43 (by decide) (fun c9 => ?_) (fun c9 => ?_)
      · replace h := it_o c9 h
        exact bX5_bestPair_50 B h  hR hS (lv_sub hl [0, 1, 2, 3] rfl)
      · replace h := if_o c9 h
        refine lv_iconst (v := 1) hx hb dX5_bestPair_46 (by decide) ?_
        refine lv_goto (tgt := 51) hx hb dX5_bestPair_47 (by decide) ?_
        exact bX5_bestPair_51 B h  hR hS (lv_sub hl [0, 1, 2, 3] rfl)
noncomputable def fX5_bestPair_b21 (v1 : Int32) (v2 : Int32) (v3 : Int32) (T : TW) : Option ((Int32 × TW)) :=
  fX5_bestPair_b22 v1 v2 v3 0 T
theorem bX5_bestPair_21 {p : Program} {l : Launch} {e : Env} {s : State} {m : MethodId} {args : Array Value} {below : List Frame} {meth : Method} {c : Code} {H : Heap} {locs : List Loc} {ls : Array Slot} {G : gE} {o : Nat} (B : gB G RX5 cX5_bestPair 12 (some .int) p s m args meth c) {v1 : Int32} {v2 : Int32} {v3 : Int32} {T : TW} {r : (Int32 × TW)} (h : fX5_bestPair_b21 v1 v2 v3 T = some r)   (hR : RepT G o T H) (hS : va_S (tFr o) s.heap H locs) (hl : lv_has ls 12 [(0, .ref o), (1, .int v1), (2, .int v2), (3, .int v3)]) : W p l e (gRm 10 225) s m args below meth c H locs 0 0 (twZ below args s G o (some (.int r.1)) r.2) (F0 m 21 ls [.ref o]) := by
  have B0 := B
  obtain ⟨hx, hb, hml, hown, hts, hr, hlk, hK⟩ := B0
  unfold fX5_bestPair_b21 at h
  refine lv_iconst (v := 0) hx hb dX5_bestPair_21 (by decide) ?_
  exact bX5_bestPair_22 B h  hR hS (lv_sub hl [0, 1, 2, 3] rfl)
noncomputable def fX5_bestPair (v1 : Int32) (v2 : Int32) (v3 : Int32) (T : TW) : Option ((Int32 × TW)) :=
  b2_ (fX5_isArc v1 T) fun x3 T2 =>
  if x3 = 0 then (
    fX5_bestPair_b21 v1 v2 v3 T2
  ) else (
    b2_ (fX5_isArc v2 T2) fun x7 T6 =>
    if x7 = 0 then (
      fX5_bestPair_b21 v1 v2 v3 T6
    ) else (
      fX5_bestPair_b22 v1 v2 v3 1 T6
    )
  )
theorem bX5_bestPair_0 {p : Program} {l : Launch} {e : Env} {s : State} {m : MethodId} {args : Array Value} {below : List Frame} {meth : Method} {c : Code} {H : Heap} {locs : List Loc} {ls : Array Slot} {G : gE} {o : Nat} (B : gB G RX5 cX5_bestPair 12 (some .int) p s m args meth c) {v1 : Int32} {v2 : Int32} {v3 : Int32} {T : TW} {r : (Int32 × TW)} (h : fX5_bestPair v1 v2 v3 T = some r)   (hR : RepT G o T H) (hS : va_S (tFr o) s.heap H locs) (hl : lv_has ls 12 [(0, .ref o), (1, .int v1), (2, .int v2), (3, .int v3)]) : W p l e (gRm 10 225) s m args below meth c H locs 0 0 (twZ below args s G o (some (.int r.1)) r.2) (F0 m 0 ls []) := by
  have B0 := B
  obtain ⟨hx, hb, hml, hown, hts, hr, hlk, hK⟩ := B0
  unfold fX5_bestPair at h
  refine lv_aload_n hx hb dX5_bestPair_0 rfl (lv_at hl 0 rfl) ?_
  refine lv_aload_n hx hb dX5_bestPair_1 rfl (lv_at hl 0 rfl) ?_
  refine lv_iload_n hx hb dX5_bestPair_2 rfl (lv_at hl 1 rfl) ?_
  replace h := b2_o h
  obtain ⟨x3, T2, e1, h⟩ := h
  refine tw_callV 1 (As := [.int v1]) (rest := [.ref o]) (v := (some (.int x3))) (T' := T2) (st1 := [.int x3, .ref o]) hx hb hml hown hts hK hR (fun _ h9 => h9) (tw_A2 hR) hS (mX5_isArc e1) (lw_V q2645 q2647 qs70 q137 q2648) (by decide +kernel) (Nat.le_of_ble_eq_true rfl) (Nat.le_of_ble_eq_true rfl) (Nat.zero_le _) (Nat.zero_le _) rfl hl.1 (Nat.le_of_ble_eq_true rfl) dX5_bestPair_3 rfl rfl (fun H locs hR hS => ?_)
  refine lv_if_eq (tgt := 21) hx hb dX5_bestPair_6 (by decide) (fun c4 => ?_) (fun c4 => ?_)
  · replace h := it_o c4 h
    exact bX5_bestPair_21 B h  hR hS (lv_sub hl [0, 1, 2, 3] rfl)
  · replace h := if_o c4 h
    refine lv_aload_n hx hb dX5_bestPair_9 rfl (lv_at hl 0 rfl) ?_
    refine lv_iload_n hx hb dX5_bestPair_10 rfl (lv_at hl 2 rfl) ?_
    replace h := b2_o h
    obtain ⟨x7, T6, e5, h⟩ := h
    refine tw_callV 1 (As := [.int v2]) (rest := [.ref o]) (v := (some (.int x7))) (T' := T6) (st1 := [.int x7, .ref o]) hx hb hml hown hts hK hR (fun _ h9 => h9) (tw_A2 hR) hS (mX5_isArc e5) (lw_V q2645 q2647 qs70 q137 q2648) (by decide +kernel) (Nat.le_of_ble_eq_true rfl) (Nat.le_of_ble_eq_true rfl) (Nat.zero_le _) (Nat.zero_le _) rfl hl.1 (Nat.le_of_ble_eq_true rfl) dX5_bestPair_11 rfl rfl (fun H locs hR hS => ?_)
    refine lv_if_eq (tgt := 21) hx hb dX5_bestPair_14 (by decide) (fun c8 => ?_) (fun c8 => ?_)
    · replace h := it_o c8 h
      exact bX5_bestPair_21 B h  hR hS (lv_sub hl [0, 1, 2, 3] rfl)
    · replace h := if_o c8 h
      refine lv_iconst (v := 1) hx hb dX5_bestPair_17 (by decide) ?_
      refine lv_goto (tgt := 22) hx hb dX5_bestPair_18 (by decide) ?_
      exact bX5_bestPair_22 B h  hR hS (lv_sub hl [0, 1, 2, 3] rfl)
theorem mX5_bestPair {l : Launch} {G : gE} {o : Nat} {v1 : Int32} {v2 : Int32} {v3 : Int32} {T : TW} {r : (Int32 × TW)}  (h : fX5_bestPair v1 v2 v3 T = some r) : twM l G o yX5_bestPair cX5_bestPair 12 (some .int) 10 225 [.ref o, .int v1, .int v2, .int v3] T (some (.int r.1)) r.2 :=
  tw_of (by decide +kernel) (Nat.le_of_ble_eq_true rfl) (fun p e s m args below meth c ls B hR hl => bX5_bestPair_0 B h hR va_S.rf hl)
noncomputable def fX5_laysSteps_b50  (T : TW) : Option ((Int32 × TW)) :=
  some (tI T 28, T)
theorem bX5_laysSteps_50 {p : Program} {l : Launch} {e : Env} {s : State} {m : MethodId} {args : Array Value} {below : List Frame} {meth : Method} {c : Code} {H : Heap} {locs : List Loc} {ls : Array Slot} {G : gE} {o : Nat} (B : gB G RX5 cX5_laysSteps 4 (some .int) p s m args meth c)  {T : TW} {r : (Int32 × TW)} (h : fX5_laysSteps_b50 T = some r)   (hR : RepT G o T H) (hS : va_S (tFr o) s.heap H locs) (hl : lv_has ls 4 [(0, .ref o)]) : W p l e (gRm 10 233) s m args below meth c H locs 0 0 (twZ below args s G o (some (.int r.1)) r.2) (F0 m 50 ls []) := by
  have B0 := B
  obtain ⟨hx, hb, hml, hown, hts, hr, hlk, hK⟩ := B0
  unfold fX5_laysSteps_b50 at h
  refine lv_aload_n hx hb dX5_laysSteps_50 rfl (lv_at hl 0 rfl) ?_
  refine tw_get (k := 28) (v := .int (tI T 28)) hx hb hts hown hK hR (by decide) q2461 rfl (fun _ h9 => h9) dX5_laysSteps_51 ?_
  have eR := Option.some.inj h
  subst eR
  exact W.iret (v := tI T 28) hx hb hr (fun t ht _ => tw_fin hR hS ht) hS.2.2 dX5_laysSteps_54
noncomputable def fX5_laysSteps_b44 (v1 : Int32) (v2 : Int32) (T : TW) : Option (Sum (Int32 × TW) ((Int32 × TW))) :=
  some (.inl (v2 + 1, T))
theorem bX5_laysSteps_44 {p : Program} {l : Launch} {e : Env} {s : State} {m : MethodId} {args : Array Value} {below : List Frame} {meth : Method} {c : Code} {H : Heap} {locs : List Loc} {ls : Array Slot} {G : gE} {o : Nat} (B : gB G RX5 cX5_laysSteps 4 (some .int) p s m args meth c) {v1 : Int32} {v2 : Int32} {T : TW} {x : Sum (Int32 × TW) ((Int32 × TW))} {r : (Int32 × TW)} (h : fX5_laysSteps_b44 v1 v2 T = some x)  (k7 : ∀ (v2' : Int32) (T' : TW), x = (.inl (v2', T')) → ∀ (H : Heap) (locs : List Loc) (ls : Array Slot), RepT G o (T') H → va_S (tFr o) s.heap H locs → lv_has ls 4 [(0, .ref o), (1, .int v1), (2, .int v2')] → W p l e (gRm 10 233) s m args below meth c H locs 0 0 (twZ below args s G o (some (.int r.1)) r.2) (F0 m 7 ls [])) (kR : ∀ q, x = (.inr q) → q = r) (hR : RepT G o T H) (hS : va_S (tFr o) s.heap H locs) (hl : lv_has ls 4 [(0, .ref o), (1, .int v1), (2, .int v2)]) : W p l e (gRm 10 233) s m args below meth c H locs 0 0 (twZ below args s G o (some (.int r.1)) r.2) (F0 m 44 ls []) := by
  have B0 := B
  obtain ⟨hx, hb, hml, hown, hts, hr, hlk, hK⟩ := B0
  unfold fX5_laysSteps_b44 at h
  refine lv_iinc (v := v2 + 1) (lv' := [(2, .int (v2 + 1)), (0, .ref o), (1, .int v1)]) hx hb dX5_laysSteps_44 hl (k := 2) rfl rfl (by decide) rfl (fun ls hl => ?_)
  refine lv_goto (tgt := 7) hx hb dX5_laysSteps_47 (by decide) ?_
  exact k7 _ _ (Option.some.inj h).symm H locs ls hR hS (lv_sub hl [1, 2, 0] rfl)
noncomputable def fX5_laysSteps_b7 (v1 : Int32) (v2 : Int32) (T : TW) : Option (Sum (Int32 × TW) ((Int32 × TW))) :=
  (rd_ (tA T 1) 172 2).bind fun x1 =>
  if x1 ≤ v2 then (
    (fX5_laysSteps_b50 T).map (fun y => (.inr y))
  ) else (
    b2_ (fX5_keeps0 v2 v1 T) fun x6 T5 =>
    if x6 = (-1) then (
      fX5_laysSteps_b44 v1 v2 T5
    ) else (
      b2_ (fX5_arc v1 3 T5) fun x10 T9 =>
      if x10 ≤ x6 then (
        fX5_laysSteps_b44 v1 v2 T9
      ) else (
        (fX5_addsTurn x6 T9).bind fun T13 =>
        fX5_laysSteps_b44 v1 v2 T13
      )
    )
  )
theorem bX5_laysSteps_7 {p : Program} {l : Launch} {e : Env} {s : State} {m : MethodId} {args : Array Value} {below : List Frame} {meth : Method} {c : Code} {H : Heap} {locs : List Loc} {ls : Array Slot} {G : gE} {o : Nat} (B : gB G RX5 cX5_laysSteps 4 (some .int) p s m args meth c) {v1 : Int32} {v2 : Int32} {T : TW} {x : Sum (Int32 × TW) ((Int32 × TW))} {r : (Int32 × TW)} (h : fX5_laysSteps_b7 v1 v2 T = some x)  (k7 : ∀ (v2' : Int32) (T' : TW), x = (.inl (v2', T')) → ∀ (H : Heap) (locs : List Loc) (ls : Array Slot), RepT G o (T') H → va_S (tFr o) s.heap H locs → lv_has ls 4 [(0, .ref o), (1, .int v1), (2, .int v2')] → W p l e (gRm 10 233) s m args below meth c H locs 0 0 (twZ below args s G o (some (.int r.1)) r.2) (F0 m 7 ls [])) (kR : ∀ q, x = (.inr q) → q = r) (hR : RepT G o T H) (hS : va_S (tFr o) s.heap H locs) (hl : lv_has ls 4 [(0, .ref o), (1, .int v1), (2, .int v2)]) : W p l e (gRm 10 233) s m args below meth c H locs 0 0 (twZ below args s G o (some (.int r.1)) r.2) (F0 m 7 ls []) := by
  have B0 := B
  obtain ⟨hx, hb, hml, hown, hts, hr, hlk, hK⟩ := B0
  unfold fX5_laysSteps_b7 at h
  refine lv_iload_n hx hb dX5_laysSteps_7 rfl (lv_at hl 2 rfl) ?_
  refine lv_aload_n hx hb dX5_laysSteps_8 rfl (lv_at hl 0 rfl) ?_
  refine tw_get (k := 0) (v := .ref (o + 1)) hx hb hts hown hK hR (by decide) q2433 rfl (fun _ h9 => h9) dX5_laysSteps_9 ?_
  refine lv_iconst (v := 2) hx hb dX5_laysSteps_12 (by decide) ?_
  replace h := bo_o h
  obtain ⟨x1, e2, h⟩ := h
  refine tw_iald (q := 1) hx hb hK hR rfl e2 dX5_laysSteps_13 ?_
  refine lv_icmp_ge (tgt := 50) hx hb dX5_laysSteps_14 (by decide) (fun c3 => ?_) (fun c3 => ?_)
  · replace h := it_o c3 h
    obtain ⟨y, h, ey⟩ := mp_o h
    have ey := kR _ ey.symm
    subst ey
    exact bX5_laysSteps_50 B h  hR hS (lv_sub hl [0] rfl)
  · replace h := if_o c3 h
    refine lv_aload_n hx hb dX5_laysSteps_17 rfl (lv_at hl 0 rfl) ?_
    refine lv_iload_n hx hb dX5_laysSteps_18 rfl (lv_at hl 2 rfl) ?_
    refine lv_iload_n hx hb dX5_laysSteps_19 rfl (lv_at hl 1 rfl) ?_
    replace h := b2_o h
    obtain ⟨x6, T5, e4, h⟩ := h
    refine tw_callV 2 (As := [.int v2, .int v1]) (rest := []) (v := (some (.int x6))) (T' := T5) (st1 := [.int x6]) hx hb hml hown hts hK hR (fun _ h9 => h9) (tw_A2 hR) hS (mX5_keeps0 e4) (lw_V q2905 q2907 qs99 q137 q2908) (by decide +kernel) (Nat.le_of_ble_eq_true rfl) (Nat.le_of_ble_eq_true rfl) (Nat.zero_le _) (Nat.zero_le _) rfl hl.1 (Nat.le_of_ble_eq_true rfl) dX5_laysSteps_20 rfl rfl (fun H locs hR hS => ?_)
    refine lv_istore_n (lv' := [(3, .int x6), (0, .ref o), (1, .int v1), (2, .int v2)]) hx hb dX5_laysSteps_23 rfl hl (by decide) rfl (fun ls hl => ?_)
    refine lv_iload_n hx hb dX5_laysSteps_24 rfl (lv_at hl 0 rfl) ?_
    refine lv_iconst (v := (-1)) hx hb dX5_laysSteps_25 (by decide) ?_
    refine lv_icmp_eq (tgt := 44) hx hb dX5_laysSteps_26 (by decide) (fun c7 => ?_) (fun c7 => ?_)
    · replace h := it_o c7 h
      exact bX5_laysSteps_44 B h k7 kR hR hS (lv_sub hl [1, 2, 3] rfl)
    · replace h := if_o c7 h
      refine lv_iload_n hx hb dX5_laysSteps_29 rfl (lv_at hl 0 rfl) ?_
      refine lv_aload_n hx hb dX5_laysSteps_30 rfl (lv_at hl 1 rfl) ?_
      refine lv_iload_n hx hb dX5_laysSteps_31 rfl (lv_at hl 2 rfl) ?_
      refine lv_iconst (v := 3) hx hb dX5_laysSteps_32 (by decide) ?_
      replace h := b2_o h
      obtain ⟨x10, T9, e8, h⟩ := h
      refine tw_callV 2 (As := [.int v1, .int 3]) (rest := [.int x6]) (v := (some (.int x10))) (T' := T9) (st1 := [.int x10, .int x6]) hx hb hml hown hts hK hR (fun _ h9 => h9) (tw_A2 hR) hS (mX5_arc e8) (lw_V q2637 q2639 qs69 q137 q2640) (by decide +kernel) (Nat.le_of_ble_eq_true rfl) (Nat.le_of_ble_eq_true rfl) (Nat.zero_le _) (Nat.zero_le _) rfl hl.1 (Nat.le_of_ble_eq_true rfl) dX5_laysSteps_33 rfl rfl (fun H locs hR hS => ?_)
      refine lv_icmp_ge (tgt := 44) hx hb dX5_laysSteps_36 (by decide) (fun c11 => ?_) (fun c11 => ?_)
      · replace h := it_o c11 h
        exact bX5_laysSteps_44 B h k7 kR hR hS (lv_sub hl [1, 2, 3] rfl)
      · replace h := if_o c11 h
        refine lv_aload_n hx hb dX5_laysSteps_39 rfl (lv_at hl 1 rfl) ?_
        refine lv_iload_n hx hb dX5_laysSteps_40 rfl (lv_at hl 0 rfl) ?_
        replace h := bo_o h
        obtain ⟨T13, e12, h⟩ := h
        refine tw_callV 1 (As := [.int x6]) (rest := []) (v := none) (T' := T13) (st1 := []) hx hb hml hown hts hK hR (fun _ h9 => h9) (tw_A2 hR) hS (mX5_addsTurn e12) (lw_V q2929 q2931 qs103 q137 q2932) (by decide +kernel) (Nat.le_of_ble_eq_true rfl) (Nat.le_of_ble_eq_true rfl) (Nat.zero_le _) (Nat.zero_le _) rfl hl.1 (Nat.le_of_ble_eq_true rfl) dX5_laysSteps_41 rfl rfl (fun H locs hR hS => ?_)
        exact bX5_laysSteps_44 B h k7 kR hR hS (lv_sub hl [1, 2, 3] rfl)
noncomputable def fX5_laysSteps_l7 (v1 : Int32) (v2 : Int32) (T : TW) : Option ((Int32 × TW)) := whileO (fun q => fX5_laysSteps_b7 v1 q.1 q.2) (v2, T)
theorem lX5_laysSteps_7 {p : Program} {l : Launch} {e : Env} {s : State} {m : MethodId} {args : Array Value} {below : List Frame} {meth : Method} {c : Code} {G : gE} {o : Nat} (B : gB G RX5 cX5_laysSteps 4 (some .int) p s m args meth c) {v1 : Int32} {r : (Int32 × TW)}   : ∀ (v2 : Int32) (T : TW), fX5_laysSteps_l7 v1 v2 T = some r → ∀ (H : Heap) (locs : List Loc) (ls : Array Slot), RepT G o (T) H → va_S (tFr o) s.heap H locs → lv_has ls 4 [(0, .ref o), (1, .int v1), (2, .int v2)] → W p l e (gRm 10 233) s m args below meth c H locs 0 0 (twZ below args s G o (some (.int r.1)) r.2) (F0 m 7 ls []) := by
  intro v2 T h
  refine wh_walk (body := (fun q => fX5_laysSteps_b7 v1 q.1 q.2)) (P := (fun q : (Int32 × TW) => ∀ (H : Heap) (locs : List Loc) (ls : Array Slot), RepT G o (q.2) H → va_S (tFr o) s.heap H locs → lv_has ls 4 [(0, .ref o), (1, .int v1), (2, .int (q.1))] → W p l e (gRm 10 233) s m args below meth c H locs 0 0 (twZ below args s G o (some (.int r.1)) r.2) (F0 m 7 ls []))) (r := r) ?_ (v2, T) h
  intro q y hy hL hr H locs ls hR hS hl
  exact bX5_laysSteps_7 (r := r) B hy (fun a0 a1 e => hL (a0, a1) e) (fun q e => hr q e) hR hS hl
noncomputable def fX5_laysSteps (v1 : Int32) (T : TW) : Option ((Int32 × TW)) :=
  nm_ (tsI T 28 0) fun T1 =>
  fX5_laysSteps_l7 v1 0 T1
theorem bX5_laysSteps_0 {p : Program} {l : Launch} {e : Env} {s : State} {m : MethodId} {args : Array Value} {below : List Frame} {meth : Method} {c : Code} {H : Heap} {locs : List Loc} {ls : Array Slot} {G : gE} {o : Nat} (B : gB G RX5 cX5_laysSteps 4 (some .int) p s m args meth c) {v1 : Int32} {T : TW} {r : (Int32 × TW)} (h : fX5_laysSteps v1 T = some r)   (hR : RepT G o T H) (hS : va_S (tFr o) s.heap H locs) (hl : lv_has ls 4 [(0, .ref o), (1, .int v1)]) : W p l e (gRm 10 233) s m args below meth c H locs 0 0 (twZ below args s G o (some (.int r.1)) r.2) (F0 m 0 ls []) := by
  have B0 := B
  obtain ⟨hx, hb, hml, hown, hts, hr, hlk, hK⟩ := B0
  unfold fX5_laysSteps at h
  refine lv_aload_n hx hb dX5_laysSteps_0 rfl (lv_at hl 0 rfl) ?_
  refine lv_iconst (v := 0) hx hb dX5_laysSteps_1 (by decide) ?_
  replace h := nm_o h
  obtain ⟨T1, e2, h⟩ := h
  refine tw_putI (k := 28) (x := 0) (ty := .int) (T' := T1) hx hb hts hown hK hR (fun _ h9 => h9) hS (by decide) rfl e2 q2461 (fun _ h9 => h9) rfl (by decide +kernel) rfl rfl dX5_laysSteps_2 (fun H locs hR hS => ?_)
  refine lv_iconst (v := 0) hx hb dX5_laysSteps_5 (by decide) ?_
  refine lv_istore_n (lv' := [(2, .int 0), (0, .ref o), (1, .int v1)]) hx hb dX5_laysSteps_6 rfl hl (by decide) rfl (fun ls hl => ?_)
  exact lX5_laysSteps_7 B _ _ h H locs ls hR hS (lv_sub hl [1, 2, 0] rfl)
theorem mX5_laysSteps {l : Launch} {G : gE} {o : Nat} {v1 : Int32} {T : TW} {r : (Int32 × TW)}  (h : fX5_laysSteps v1 T = some r) : twM l G o yX5_laysSteps cX5_laysSteps 4 (some .int) 10 233 [.ref o, .int v1] T (some (.int r.1)) r.2 :=
  tw_of (by decide +kernel) (Nat.le_of_ble_eq_true rfl) (fun p e s m args below meth c ls B hR hl => bX5_laysSteps_0 B h hR va_S.rf hl)
noncomputable def fX5_stepCount (v1 : Int32) (T : TW) : Option ((Int32 × TW)) :=
  b2_ (fX5_isArc v1 T) fun x3 T2 =>
  b2_ (fX5_isThrown x3 1 T2) fun x6 T5 =>
  if x6 = 0 then (
    b2_ (fX5_laysSteps v1 T5) fun x10 T9 =>
    some (x10, T9)
  ) else (
    some (0, T5)
  )
theorem bX5_stepCount_0 {p : Program} {l : Launch} {e : Env} {s : State} {m : MethodId} {args : Array Value} {below : List Frame} {meth : Method} {c : Code} {H : Heap} {locs : List Loc} {ls : Array Slot} {G : gE} {o : Nat} (B : gB G RX5 cX5_stepCount 2 (some .int) p s m args meth c) {v1 : Int32} {T : TW} {r : (Int32 × TW)} (h : fX5_stepCount v1 T = some r)   (hR : RepT G o T H) (hS : va_S (tFr o) s.heap H locs) (hl : lv_has ls 2 [(0, .ref o), (1, .int v1)]) : W p l e (gRm 11 256) s m args below meth c H locs 0 0 (twZ below args s G o (some (.int r.1)) r.2) (F0 m 0 ls []) := by
  have B0 := B
  obtain ⟨hx, hb, hml, hown, hts, hr, hlk, hK⟩ := B0
  unfold fX5_stepCount at h
  refine lv_aload_n hx hb dX5_stepCount_0 rfl (lv_at hl 0 rfl) ?_
  refine lv_aload_n hx hb dX5_stepCount_1 rfl (lv_at hl 0 rfl) ?_
  refine lv_iload_n hx hb dX5_stepCount_2 rfl (lv_at hl 1 rfl) ?_
  replace h := b2_o h
  obtain ⟨x3, T2, e1, h⟩ := h
  refine tw_callV 1 (As := [.int v1]) (rest := [.ref o]) (v := (some (.int x3))) (T' := T2) (st1 := [.int x3, .ref o]) hx hb hml hown hts hK hR (fun _ h9 => h9) (tw_A2 hR) hS (mX5_isArc e1) (lw_V q2645 q2647 qs70 q137 q2648) (by decide +kernel) (Nat.le_of_ble_eq_true rfl) (Nat.le_of_ble_eq_true rfl) (Nat.zero_le _) (Nat.zero_le _) rfl hl.1 (Nat.le_of_ble_eq_true rfl) dX5_stepCount_3 rfl rfl (fun H locs hR hS => ?_)
  refine lv_iconst (v := 1) hx hb dX5_stepCount_6 (by decide) ?_
  replace h := b2_o h
  obtain ⟨x6, T5, e4, h⟩ := h
  refine tw_callV 2 (As := [.int x3, .int 1]) (rest := []) (v := (some (.int x6))) (T' := T5) (st1 := [.int x6]) hx hb hml hown hts hK hR (fun _ h9 => h9) (tw_A2 hR) hS (mX5_isThrown e4) (lw_V q2633 q2635 qs68 q137 q2636) (by decide +kernel) (Nat.le_of_ble_eq_true rfl) (Nat.le_of_ble_eq_true rfl) (Nat.zero_le _) (Nat.zero_le _) rfl hl.1 (Nat.le_of_ble_eq_true rfl) dX5_stepCount_7 rfl rfl (fun H locs hR hS => ?_)
  refine lv_if_eq (tgt := 17) hx hb dX5_stepCount_10 (by decide) (fun c7 => ?_) (fun c7 => ?_)
  · replace h := it_o c7 h
    refine lv_aload_n hx hb dX5_stepCount_17 rfl (lv_at hl 0 rfl) ?_
    refine lv_iload_n hx hb dX5_stepCount_18 rfl (lv_at hl 1 rfl) ?_
    replace h := b2_o h
    obtain ⟨x10, T9, e8, h⟩ := h
    refine tw_callV 1 (As := [.int v1]) (rest := []) (v := (some (.int x10))) (T' := T9) (st1 := [.int x10]) hx hb hml hown hts hK hR (fun _ h9 => h9) (tw_A2 hR) hS (mX5_laysSteps e8) (lw_V q2960 q2962 qs105 q137 q2963) (by decide +kernel) (Nat.le_of_ble_eq_true rfl) (Nat.le_of_ble_eq_true rfl) (Nat.zero_le _) (Nat.zero_le _) rfl hl.1 (Nat.le_of_ble_eq_true rfl) dX5_stepCount_19 rfl rfl (fun H locs hR hS => ?_)
    have eR := Option.some.inj h
    subst eR
    exact W.iret (v := x10) hx hb hr (fun t ht _ => tw_fin hR hS ht) hS.2.2 dX5_stepCount_22
  · replace h := if_o c7 h
    refine lv_iconst (v := 0) hx hb dX5_stepCount_13 (by decide) ?_
    refine lv_goto (tgt := 22) hx hb dX5_stepCount_14 (by decide) ?_
    have eR := Option.some.inj h
    subst eR
    exact W.iret (v := 0) hx hb hr (fun t ht _ => tw_fin hR hS ht) hS.2.2 dX5_stepCount_22
theorem mX5_stepCount {l : Launch} {G : gE} {o : Nat} {v1 : Int32} {T : TW} {r : (Int32 × TW)}  (h : fX5_stepCount v1 T = some r) : twM l G o yX5_stepCount cX5_stepCount 2 (some .int) 11 256 [.ref o, .int v1] T (some (.int r.1)) r.2 :=
  tw_of (by decide +kernel) (Nat.le_of_ble_eq_true rfl) (fun p e s m args below meth c ls B hR hl => bX5_stepCount_0 B h hR va_S.rf hl)
noncomputable def fX5_step (v1 : Int32) (v2 : Int32) (T : TW) : Option ((Int32 × TW)) :=
  b2_ (fX5_isArc v1 T) fun x3 T2 =>
  b2_ (fX5_isThrown x3 1 T2) fun x6 T5 =>
  if x6 = 0 then (
    b2_ (fX5_laysSteps v1 T5) fun x10 T9 =>
    b2_ (fX5_in v2 0 (x10 - 1) T9) fun x13 T12 =>
    if x13 = 0 then (
      some ((-1), T12)
    ) else (
      (rd_ (tA T12 14) 14 v2).bind fun x15 =>
      some (x15, T12)
    )
  ) else (
    some (0, T5)
  )
theorem bX5_step_0 {p : Program} {l : Launch} {e : Env} {s : State} {m : MethodId} {args : Array Value} {below : List Frame} {meth : Method} {c : Code} {H : Heap} {locs : List Loc} {ls : Array Slot} {G : gE} {o : Nat} (B : gB G RX5 cX5_step 3 (some .int) p s m args meth c) {v1 : Int32} {v2 : Int32} {T : TW} {r : (Int32 × TW)} (h : fX5_step v1 v2 T = some r)   (hR : RepT G o T H) (hS : va_S (tFr o) s.heap H locs) (hl : lv_has ls 3 [(0, .ref o), (1, .int v1), (2, .int v2)]) : W p l e (gRm 11 256) s m args below meth c H locs 0 0 (twZ below args s G o (some (.int r.1)) r.2) (F0 m 0 ls []) := by
  have B0 := B
  obtain ⟨hx, hb, hml, hown, hts, hr, hlk, hK⟩ := B0
  unfold fX5_step at h
  refine lv_aload_n hx hb dX5_step_0 rfl (lv_at hl 0 rfl) ?_
  refine lv_aload_n hx hb dX5_step_1 rfl (lv_at hl 0 rfl) ?_
  refine lv_iload_n hx hb dX5_step_2 rfl (lv_at hl 1 rfl) ?_
  replace h := b2_o h
  obtain ⟨x3, T2, e1, h⟩ := h
  refine tw_callV 1 (As := [.int v1]) (rest := [.ref o]) (v := (some (.int x3))) (T' := T2) (st1 := [.int x3, .ref o]) hx hb hml hown hts hK hR (fun _ h9 => h9) (tw_A2 hR) hS (mX5_isArc e1) (lw_V q2645 q2647 qs70 q137 q2648) (by decide +kernel) (Nat.le_of_ble_eq_true rfl) (Nat.le_of_ble_eq_true rfl) (Nat.zero_le _) (Nat.zero_le _) rfl hl.1 (Nat.le_of_ble_eq_true rfl) dX5_step_3 rfl rfl (fun H locs hR hS => ?_)
  refine lv_iconst (v := 1) hx hb dX5_step_6 (by decide) ?_
  replace h := b2_o h
  obtain ⟨x6, T5, e4, h⟩ := h
  refine tw_callV 2 (As := [.int x3, .int 1]) (rest := []) (v := (some (.int x6))) (T' := T5) (st1 := [.int x6]) hx hb hml hown hts hK hR (fun _ h9 => h9) (tw_A2 hR) hS (mX5_isThrown e4) (lw_V q2633 q2635 qs68 q137 q2636) (by decide +kernel) (Nat.le_of_ble_eq_true rfl) (Nat.le_of_ble_eq_true rfl) (Nat.zero_le _) (Nat.zero_le _) rfl hl.1 (Nat.le_of_ble_eq_true rfl) dX5_step_7 rfl rfl (fun H locs hR hS => ?_)
  refine lv_if_eq (tgt := 15) hx hb dX5_step_10 (by decide) (fun c7 => ?_) (fun c7 => ?_)
  · replace h := it_o c7 h
    refine lv_iload_n hx hb dX5_step_15 rfl (lv_at hl 2 rfl) ?_
    refine lv_iconst (v := 0) hx hb dX5_step_16 (by decide) ?_
    refine lv_aload_n hx hb dX5_step_17 rfl (lv_at hl 0 rfl) ?_
    refine lv_iload_n hx hb dX5_step_18 rfl (lv_at hl 1 rfl) ?_
    replace h := b2_o h
    obtain ⟨x10, T9, e8, h⟩ := h
    refine tw_callV 1 (As := [.int v1]) (rest := [.int 0, .int v2]) (v := (some (.int x10))) (T' := T9) (st1 := [.int x10, .int 0, .int v2]) hx hb hml hown hts hK hR (fun _ h9 => h9) (tw_A2 hR) hS (mX5_laysSteps e8) (lw_V q2960 q2962 qs105 q137 q2963) (by decide +kernel) (Nat.le_of_ble_eq_true rfl) (Nat.le_of_ble_eq_true rfl) (Nat.zero_le _) (Nat.zero_le _) rfl hl.1 (Nat.le_of_ble_eq_true rfl) dX5_step_19 rfl rfl (fun H locs hR hS => ?_)
    refine lv_iconst (v := 1) hx hb dX5_step_22 (by decide) ?_
    refine lv_isub hx hb dX5_step_23 ?_
    replace h := b2_o h
    obtain ⟨x13, T12, e11, h⟩ := h
    refine tw_callS 3 (As := [.int v2, .int 0, .int (x10 - 1)]) (rest := []) (v := (some (.int x13))) (T' := T12) (st1 := [.int x13]) hx hb hml hown hts hK hR (fun _ h9 => h9) (tw_A2 hR) hS (mX5_in e11) (lw_S q2562 q2563 q137 q2564) (by decide +kernel) (Nat.le_of_ble_eq_true rfl) (Nat.le_of_ble_eq_true rfl) (Nat.zero_le _) (Nat.zero_le _) rfl hl.1 (Nat.le_of_ble_eq_true rfl) dX5_step_24 rfl rfl (fun H locs hR hS => ?_)
    refine lv_if_eq (tgt := 39) hx hb dX5_step_27 (by decide) (fun c14 => ?_) (fun c14 => ?_)
    · replace h := it_o c14 h
      refine lv_iconst (v := (-1)) hx hb dX5_step_39 (by decide) ?_
      have eR := Option.some.inj h
      subst eR
      exact W.iret (v := (-1)) hx hb hr (fun t ht _ => tw_fin hR hS ht) hS.2.2 dX5_step_40
    · replace h := if_o c14 h
      refine lv_aload_n hx hb dX5_step_30 rfl (lv_at hl 0 rfl) ?_
      refine tw_get (k := 27) (v := .ref (o + 14)) hx hb hts hown hK hR (by decide) q2460 rfl (fun _ h9 => h9) dX5_step_31 ?_
      refine lv_iload_n hx hb dX5_step_34 rfl (lv_at hl 2 rfl) ?_
      replace h := bo_o h
      obtain ⟨x15, e16, h⟩ := h
      refine tw_iald (q := 14) hx hb hK hR rfl e16 dX5_step_35 ?_
      refine lv_goto (tgt := 40) hx hb dX5_step_36 (by decide) ?_
      have eR := Option.some.inj h
      subst eR
      exact W.iret (v := x15) hx hb hr (fun t ht _ => tw_fin hR hS ht) hS.2.2 dX5_step_40
  · replace h := if_o c7 h
    refine lv_iconst (v := 0) hx hb dX5_step_13 (by decide) ?_
    have eR := Option.some.inj h
    subst eR
    exact W.iret (v := 0) hx hb hr (fun t ht _ => tw_fin hR hS ht) hS.2.2 dX5_step_14
theorem mX5_step {l : Launch} {G : gE} {o : Nat} {v1 : Int32} {v2 : Int32} {T : TW} {r : (Int32 × TW)}  (h : fX5_step v1 v2 T = some r) : twM l G o yX5_step cX5_step 3 (some .int) 11 256 [.ref o, .int v1, .int v2] T (some (.int r.1)) r.2 :=
  tw_of (by decide +kernel) (Nat.le_of_ble_eq_true rfl) (fun p e s m args below meth c ls B hR hl => bX5_step_0 B h hR va_S.rf hl)
noncomputable def fX5_detour_b50 (v3 : Int32) (T : TW) : Option ((Int32 × TW)) :=
  if v3 = (-1) then (
    some ((-1), T)
  ) else (
    some (0, T)
  )
theorem bX5_detour_50 {p : Program} {l : Launch} {e : Env} {s : State} {m : MethodId} {args : Array Value} {below : List Frame} {meth : Method} {c : Code} {H : Heap} {locs : List Loc} {ls : Array Slot} {G : gE} {o : Nat} (B : gB G RX5 cX5_detour 5 (some .int) p s m args meth c) {v3 : Int32} {T : TW} {r : (Int32 × TW)} (h : fX5_detour_b50 v3 T = some r)   (hR : RepT G o T H) (hS : va_S (tFr o) s.heap H locs) (hl : lv_has ls 5 [(3, .int v3)]) : W p l e (gRm 8 177) s m args below meth c H locs 0 0 (twZ below args s G o (some (.int r.1)) r.2) (F0 m 50 ls []) := by
  have B0 := B
  obtain ⟨hx, hb, hml, hown, hts, hr, hlk, hK⟩ := B0
  unfold fX5_detour_b50 at h
  refine lv_iload_n hx hb dX5_detour_50 rfl (lv_at hl 0 rfl) ?_
  refine lv_iconst (v := (-1)) hx hb dX5_detour_51 (by decide) ?_
  refine lv_icmp_ne (tgt := 59) hx hb dX5_detour_52 (by decide) (fun c1 => ?_) (fun c1 => ?_)
  · replace h := if_o c1 h
    refine lv_iconst (v := 0) hx hb dX5_detour_59 (by decide) ?_
    have eR := Option.some.inj h
    subst eR
    exact W.iret (v := 0) hx hb hr (fun t ht _ => tw_fin hR hS ht) hS.2.2 dX5_detour_60
  · replace h := it_o c1 h
    refine lv_iconst (v := (-1)) hx hb dX5_detour_55 (by decide) ?_
    refine lv_goto (tgt := 60) hx hb dX5_detour_56 (by decide) ?_
    have eR := Option.some.inj h
    subst eR
    exact W.iret (v := (-1)) hx hb hr (fun t ht _ => tw_fin hR hS ht) hS.2.2 dX5_detour_60
noncomputable def fX5_detour_b22 (v1 : Int32) (v2 : Int32) (s1 : Int32) (T : TW) : Option ((Int32 × TW)) :=
  b2_ (fX5_isThrown s1 1 T) fun x3 T2 =>
  if x3 = 0 then (
    b2_ (fX5_felts v1 T2) fun x7 T6 =>
    if x7 = (-1) then (
      fX5_detour_b50 x7 T6
    ) else (
      b2_ (fX5_isOnPath v2 T6) fun x11 T10 =>
      if x11 = 0 then (
        fX5_detour_b50 x7 T10
      ) else (
        nm_ (tsI T10 18 v2) fun T13 =>
        b2_ (fX5_felts v1 T13) fun x17 T16 =>
        nm_ (tsI T16 18 (-1)) fun T18 =>
        if x17 = (-1) then (
          some ((-1), T18)
        ) else (
          some (x17 - x7, T18)
        )
      )
    )
  ) else (
    some (0, T2)
  )
theorem bX5_detour_22 {p : Program} {l : Launch} {e : Env} {s : State} {m : MethodId} {args : Array Value} {below : List Frame} {meth : Method} {c : Code} {H : Heap} {locs : List Loc} {ls : Array Slot} {G : gE} {o : Nat} (B : gB G RX5 cX5_detour 5 (some .int) p s m args meth c) {v1 : Int32} {v2 : Int32} {s1 : Int32} {T : TW} {r : (Int32 × TW)} (h : fX5_detour_b22 v1 v2 s1 T = some r)   (hR : RepT G o T H) (hS : va_S (tFr o) s.heap H locs) (hl : lv_has ls 5 [(0, .ref o), (1, .int v1), (2, .int v2)]) : W p l e (gRm 8 177) s m args below meth c H locs 0 0 (twZ below args s G o (some (.int r.1)) r.2) (F0 m 22 ls [.int s1, .ref o]) := by
  have B0 := B
  obtain ⟨hx, hb, hml, hown, hts, hr, hlk, hK⟩ := B0
  unfold fX5_detour_b22 at h
  refine lv_iconst (v := 1) hx hb dX5_detour_22 (by decide) ?_
  replace h := b2_o h
  obtain ⟨x3, T2, e1, h⟩ := h
  refine tw_callV 2 (As := [.int s1, .int 1]) (rest := []) (v := (some (.int x3))) (T' := T2) (st1 := [.int x3]) hx hb hml hown hts hK hR (fun _ h9 => h9) (tw_A2 hR) hS (mX5_isThrown e1) (lw_V q2633 q2635 qs68 q137 q2636) (by decide +kernel) (Nat.le_of_ble_eq_true rfl) (Nat.le_of_ble_eq_true rfl) (Nat.zero_le _) (Nat.zero_le _) rfl hl.1 (Nat.le_of_ble_eq_true rfl) dX5_detour_23 rfl rfl (fun H locs hR hS => ?_)
  refine lv_if_eq (tgt := 31) hx hb dX5_detour_26 (by decide) (fun c4 => ?_) (fun c4 => ?_)
  · replace h := it_o c4 h
    refine lv_aload_n hx hb dX5_detour_31 rfl (lv_at hl 0 rfl) ?_
    refine lv_iload_n hx hb dX5_detour_32 rfl (lv_at hl 1 rfl) ?_
    replace h := b2_o h
    obtain ⟨x7, T6, e5, h⟩ := h
    refine tw_callV 1 (As := [.int v1]) (rest := []) (v := (some (.int x7))) (T' := T6) (st1 := [.int x7]) hx hb hml hown hts hK hR (fun _ h9 => h9) (tw_A2 hR) hS (mX5_felts e5) (lw_V q2781 q2783 qs84 q137 q2784) (by decide +kernel) (Nat.le_of_ble_eq_true rfl) (Nat.le_of_ble_eq_true rfl) (Nat.zero_le _) (Nat.zero_le _) rfl hl.1 (Nat.le_of_ble_eq_true rfl) dX5_detour_33 rfl rfl (fun H locs hR hS => ?_)
    refine lv_istore_n (lv' := [(3, .int x7), (0, .ref o), (1, .int v1), (2, .int v2)]) hx hb dX5_detour_36 rfl hl (by decide) rfl (fun ls hl => ?_)
    refine lv_iload_n hx hb dX5_detour_37 rfl (lv_at hl 0 rfl) ?_
    refine lv_iconst (v := (-1)) hx hb dX5_detour_38 (by decide) ?_
    refine lv_icmp_eq (tgt := 50) hx hb dX5_detour_39 (by decide) (fun c8 => ?_) (fun c8 => ?_)
    · replace h := it_o c8 h
      exact bX5_detour_50 B h  hR hS (lv_sub hl [0] rfl)
    · replace h := if_o c8 h
      refine lv_aload_n hx hb dX5_detour_42 rfl (lv_at hl 1 rfl) ?_
      refine lv_iload_n hx hb dX5_detour_43 rfl (lv_at hl 3 rfl) ?_
      replace h := b2_o h
      obtain ⟨x11, T10, e9, h⟩ := h
      refine tw_callV 1 (As := [.int v2]) (rest := []) (v := (some (.int x11))) (T' := T10) (st1 := [.int x11]) hx hb hml hown hts hK hR (fun _ h9 => h9) (tw_A2 hR) hS (mX5_isOnPath e9) (lw_V q2797 q2799 qs87 q137 q2800) (by decide +kernel) (Nat.le_of_ble_eq_true rfl) (Nat.le_of_ble_eq_true rfl) (Nat.zero_le _) (Nat.zero_le _) rfl hl.1 (Nat.le_of_ble_eq_true rfl) dX5_detour_44 rfl rfl (fun H locs hR hS => ?_)
      refine lv_if_ne (tgt := 61) hx hb dX5_detour_47 (by decide) (fun c12 => ?_) (fun c12 => ?_)
      · replace h := if_o c12 h
        refine lv_aload_n hx hb dX5_detour_61 rfl (lv_at hl 1 rfl) ?_
        refine lv_iload_n hx hb dX5_detour_62 rfl (lv_at hl 3 rfl) ?_
        replace h := nm_o h
        obtain ⟨T13, e14, h⟩ := h
        refine tw_putI (k := 18) (x := v2) (ty := .int) (T' := T13) hx hb hts hown hK hR (fun _ h9 => h9) hS (by decide) rfl e14 q2451 (fun _ h9 => h9) rfl (by decide +kernel) rfl rfl dX5_detour_63 (fun H locs hR hS => ?_)
        refine lv_aload_n hx hb dX5_detour_66 rfl (lv_at hl 1 rfl) ?_
        refine lv_iload_n hx hb dX5_detour_67 rfl (lv_at hl 2 rfl) ?_
        replace h := b2_o h
        obtain ⟨x17, T16, e15, h⟩ := h
        refine tw_callV 1 (As := [.int v1]) (rest := []) (v := (some (.int x17))) (T' := T16) (st1 := [.int x17]) hx hb hml hown hts hK hR (fun _ h9 => h9) (tw_A2 hR) hS (mX5_felts e15) (lw_V q2781 q2783 qs84 q137 q2784) (by decide +kernel) (Nat.le_of_ble_eq_true rfl) (Nat.le_of_ble_eq_true rfl) (Nat.zero_le _) (Nat.zero_le _) rfl hl.1 (Nat.le_of_ble_eq_true rfl) dX5_detour_68 rfl rfl (fun H locs hR hS => ?_)
        refine lv_istore (lv' := [(4, .int x17), (3, .int x7), (0, .ref o), (1, .int v1), (2, .int v2)]) hx hb dX5_detour_71 hl (by decide) rfl (fun ls hl => ?_)
        refine lv_aload_n hx hb dX5_detour_73 rfl (lv_at hl 2 rfl) ?_
        refine lv_iconst (v := (-1)) hx hb dX5_detour_74 (by decide) ?_
        replace h := nm_o h
        obtain ⟨T18, e19, h⟩ := h
        refine tw_putI (k := 18) (x := (-1)) (ty := .int) (T' := T18) hx hb hts hown hK hR (fun _ h9 => h9) hS (by decide) rfl e19 q2451 (fun _ h9 => h9) rfl (by decide +kernel) rfl rfl dX5_detour_75 (fun H locs hR hS => ?_)
        refine lv_iload hx hb dX5_detour_78 (lv_at hl 0 rfl) ?_
        refine lv_iconst (v := (-1)) hx hb dX5_detour_80 (by decide) ?_
        refine lv_icmp_ne (tgt := 88) hx hb dX5_detour_81 (by decide) (fun c20 => ?_) (fun c20 => ?_)
        · replace h := if_o c20 h
          refine lv_iload hx hb dX5_detour_88 (lv_at hl 0 rfl) ?_
          refine lv_iload_n hx hb dX5_detour_90 rfl (lv_at hl 1 rfl) ?_
          refine lv_isub hx hb dX5_detour_91 ?_
          have eR := Option.some.inj h
          subst eR
          exact W.iret (v := x17 - x7) hx hb hr (fun t ht _ => tw_fin hR hS ht) hS.2.2 dX5_detour_92
        · replace h := it_o c20 h
          refine lv_iconst (v := (-1)) hx hb dX5_detour_84 (by decide) ?_
          refine lv_goto (tgt := 92) hx hb dX5_detour_85 (by decide) ?_
          have eR := Option.some.inj h
          subst eR
          exact W.iret (v := (-1)) hx hb hr (fun t ht _ => tw_fin hR hS ht) hS.2.2 dX5_detour_92
      · replace h := it_o c12 h
        exact bX5_detour_50 B h  hR hS (lv_sub hl [0] rfl)
  · replace h := if_o c4 h
    refine lv_iconst (v := 0) hx hb dX5_detour_29 (by decide) ?_
    have eR := Option.some.inj h
    subst eR
    exact W.iret (v := 0) hx hb hr (fun t ht _ => tw_fin hR hS ht) hS.2.2 dX5_detour_30
noncomputable def fX5_detour_b21 (v1 : Int32) (v2 : Int32) (T : TW) : Option ((Int32 × TW)) :=
  fX5_detour_b22 v1 v2 0 T
theorem bX5_detour_21 {p : Program} {l : Launch} {e : Env} {s : State} {m : MethodId} {args : Array Value} {below : List Frame} {meth : Method} {c : Code} {H : Heap} {locs : List Loc} {ls : Array Slot} {G : gE} {o : Nat} (B : gB G RX5 cX5_detour 5 (some .int) p s m args meth c) {v1 : Int32} {v2 : Int32} {T : TW} {r : (Int32 × TW)} (h : fX5_detour_b21 v1 v2 T = some r)   (hR : RepT G o T H) (hS : va_S (tFr o) s.heap H locs) (hl : lv_has ls 5 [(0, .ref o), (1, .int v1), (2, .int v2)]) : W p l e (gRm 8 177) s m args below meth c H locs 0 0 (twZ below args s G o (some (.int r.1)) r.2) (F0 m 21 ls [.ref o]) := by
  have B0 := B
  obtain ⟨hx, hb, hml, hown, hts, hr, hlk, hK⟩ := B0
  unfold fX5_detour_b21 at h
  refine lv_iconst (v := 0) hx hb dX5_detour_21 (by decide) ?_
  exact bX5_detour_22 B h  hR hS (lv_sub hl [0, 1, 2] rfl)
noncomputable def fX5_detour (v1 : Int32) (v2 : Int32) (T : TW) : Option ((Int32 × TW)) :=
  b2_ (fX5_isTrip v1 T) fun x3 T2 =>
  if x3 = 0 then (
    fX5_detour_b21 v1 v2 T2
  ) else (
    b2_ (fX5_isArc v2 T2) fun x7 T6 =>
    if x7 = 0 then (
      fX5_detour_b21 v1 v2 T6
    ) else (
      fX5_detour_b22 v1 v2 1 T6
    )
  )
theorem bX5_detour_0 {p : Program} {l : Launch} {e : Env} {s : State} {m : MethodId} {args : Array Value} {below : List Frame} {meth : Method} {c : Code} {H : Heap} {locs : List Loc} {ls : Array Slot} {G : gE} {o : Nat} (B : gB G RX5 cX5_detour 5 (some .int) p s m args meth c) {v1 : Int32} {v2 : Int32} {T : TW} {r : (Int32 × TW)} (h : fX5_detour v1 v2 T = some r)   (hR : RepT G o T H) (hS : va_S (tFr o) s.heap H locs) (hl : lv_has ls 5 [(0, .ref o), (1, .int v1), (2, .int v2)]) : W p l e (gRm 8 177) s m args below meth c H locs 0 0 (twZ below args s G o (some (.int r.1)) r.2) (F0 m 0 ls []) := by
  have B0 := B
  obtain ⟨hx, hb, hml, hown, hts, hr, hlk, hK⟩ := B0
  unfold fX5_detour at h
  refine lv_aload_n hx hb dX5_detour_0 rfl (lv_at hl 0 rfl) ?_
  refine lv_aload_n hx hb dX5_detour_1 rfl (lv_at hl 0 rfl) ?_
  refine lv_iload_n hx hb dX5_detour_2 rfl (lv_at hl 1 rfl) ?_
  replace h := b2_o h
  obtain ⟨x3, T2, e1, h⟩ := h
  refine tw_callV 1 (As := [.int v1]) (rest := [.ref o]) (v := (some (.int x3))) (T' := T2) (st1 := [.int x3, .ref o]) hx hb hml hown hts hK hR (fun _ h9 => h9) (tw_A2 hR) hS (mX5_isTrip e1) (lw_V q2653 q2655 qs71 q137 q2656) (by decide +kernel) (Nat.le_of_ble_eq_true rfl) (Nat.le_of_ble_eq_true rfl) (Nat.zero_le _) (Nat.zero_le _) rfl hl.1 (Nat.le_of_ble_eq_true rfl) dX5_detour_3 rfl rfl (fun H locs hR hS => ?_)
  refine lv_if_eq (tgt := 21) hx hb dX5_detour_6 (by decide) (fun c4 => ?_) (fun c4 => ?_)
  · replace h := it_o c4 h
    exact bX5_detour_21 B h  hR hS (lv_sub hl [0, 1, 2] rfl)
  · replace h := if_o c4 h
    refine lv_aload_n hx hb dX5_detour_9 rfl (lv_at hl 0 rfl) ?_
    refine lv_iload_n hx hb dX5_detour_10 rfl (lv_at hl 2 rfl) ?_
    replace h := b2_o h
    obtain ⟨x7, T6, e5, h⟩ := h
    refine tw_callV 1 (As := [.int v2]) (rest := [.ref o]) (v := (some (.int x7))) (T' := T6) (st1 := [.int x7, .ref o]) hx hb hml hown hts hK hR (fun _ h9 => h9) (tw_A2 hR) hS (mX5_isArc e5) (lw_V q2645 q2647 qs70 q137 q2648) (by decide +kernel) (Nat.le_of_ble_eq_true rfl) (Nat.le_of_ble_eq_true rfl) (Nat.zero_le _) (Nat.zero_le _) rfl hl.1 (Nat.le_of_ble_eq_true rfl) dX5_detour_11 rfl rfl (fun H locs hR hS => ?_)
    refine lv_if_eq (tgt := 21) hx hb dX5_detour_14 (by decide) (fun c8 => ?_) (fun c8 => ?_)
    · replace h := it_o c8 h
      exact bX5_detour_21 B h  hR hS (lv_sub hl [0, 1, 2] rfl)
    · replace h := if_o c8 h
      refine lv_iconst (v := 1) hx hb dX5_detour_17 (by decide) ?_
      refine lv_goto (tgt := 22) hx hb dX5_detour_18 (by decide) ?_
      exact bX5_detour_22 B h  hR hS (lv_sub hl [0, 1, 2] rfl)
theorem mX5_detour {l : Launch} {G : gE} {o : Nat} {v1 : Int32} {v2 : Int32} {T : TW} {r : (Int32 × TW)}  (h : fX5_detour v1 v2 T = some r) : twM l G o yX5_detour cX5_detour 5 (some .int) 8 177 [.ref o, .int v1, .int v2] T (some (.int r.1)) r.2 :=
  tw_of (by decide +kernel) (Nat.le_of_ble_eq_true rfl) (fun p e s m args below meth c ls B hR hl => bX5_detour_0 B h hR va_S.rf hl)
noncomputable def fX5_captives_b62 (v1 : Int32) (v3 : Int32) (s0 : Int32) (s1 : Int32) (T : TW) : Option (Sum (Int32 × Int32 × TW) ((Int32 × TW))) :=
  nm_ (s0 ||| s1) fun x1 =>
  nm_ (tsI T 18 (-1)) fun T3 =>
  some (.inl (x1, v3 + 1, T3))
theorem bX5_captives_62 {p : Program} {l : Launch} {e : Env} {s : State} {m : MethodId} {args : Array Value} {below : List Frame} {meth : Method} {c : Code} {H : Heap} {locs : List Loc} {ls : Array Slot} {G : gE} {o : Nat} (B : gB G RX5 cX5_captives 5 (some .int) p s m args meth c) {v1 : Int32} {v3 : Int32} {s0 : Int32} {s1 : Int32} {T : TW} {x : Sum (Int32 × Int32 × TW) ((Int32 × TW))} {r : (Int32 × TW)} (h : fX5_captives_b62 v1 v3 s0 s1 T = some x)  (k19 : ∀ (v2' : Int32) (v3' : Int32) (T' : TW), x = (.inl (v2', v3', T')) → ∀ (H : Heap) (locs : List Loc) (ls : Array Slot), RepT G o (T') H → va_S (tFr o) s.heap H locs → lv_has ls 5 [(0, .ref o), (1, .int v1), (2, .int v2'), (3, .int v3')] → W p l e (gRm 7 156) s m args below meth c H locs 0 0 (twZ below args s G o (some (.int r.1)) r.2) (F0 m 19 ls [])) (kR : ∀ q, x = (.inr q) → q = r) (hR : RepT G o T H) (hS : va_S (tFr o) s.heap H locs) (hl : lv_has ls 5 [(0, .ref o), (1, .int v1), (3, .int v3)]) : W p l e (gRm 7 156) s m args below meth c H locs 0 0 (twZ below args s G o (some (.int r.1)) r.2) (F0 m 62 ls [.int s1, .int s0]) := by
  have B0 := B
  obtain ⟨hx, hb, hml, hown, hts, hr, hlk, hK⟩ := B0
  unfold fX5_captives_b62 at h
  refine lv_ior hx hb dX5_captives_62 ?_
  replace h := nm_o h
  obtain ⟨x1, e2, h⟩ := h
  refine lv_istore_n (lv' := [(2, .int x1), (0, .ref o), (1, .int v1), (3, .int v3)]) hx hb dX5_captives_63 rfl hl (by decide) (by subst e2; rfl) (fun ls hl => ?_)
  refine lv_aload_n hx hb dX5_captives_64 rfl (lv_at hl 1 rfl) ?_
  refine lv_iconst (v := (-1)) hx hb dX5_captives_65 (by decide) ?_
  replace h := nm_o h
  obtain ⟨T3, e4, h⟩ := h
  refine tw_putI (k := 18) (x := (-1)) (ty := .int) (T' := T3) hx hb hts hown hK hR (fun _ h9 => h9) hS (by decide) rfl e4 q2451 (fun _ h9 => h9) rfl (by decide +kernel) rfl rfl dX5_captives_66 (fun H locs hR hS => ?_)
  refine lv_iinc (v := v3 + 1) (lv' := [(3, .int (v3 + 1)), (2, .int x1), (0, .ref o), (1, .int v1)]) hx hb dX5_captives_69 hl (k := 3) rfl rfl (by decide) rfl (fun ls hl => ?_)
  refine lv_goto (tgt := 19) hx hb dX5_captives_72 (by decide) ?_
  exact k19 _ _ _ (Option.some.inj h).symm H locs ls hR hS (lv_sub hl [2, 3, 1, 0] rfl)
noncomputable def fX5_captives_b61 (v1 : Int32) (v3 : Int32) (s0 : Int32) (T : TW) : Option (Sum (Int32 × Int32 × TW) ((Int32 × TW))) :=
  fX5_captives_b62 v1 v3 s0 0 T
theorem bX5_captives_61 {p : Program} {l : Launch} {e : Env} {s : State} {m : MethodId} {args : Array Value} {below : List Frame} {meth : Method} {c : Code} {H : Heap} {locs : List Loc} {ls : Array Slot} {G : gE} {o : Nat} (B : gB G RX5 cX5_captives 5 (some .int) p s m args meth c) {v1 : Int32} {v3 : Int32} {s0 : Int32} {T : TW} {x : Sum (Int32 × Int32 × TW) ((Int32 × TW))} {r : (Int32 × TW)} (h : fX5_captives_b61 v1 v3 s0 T = some x)  (k19 : ∀ (v2' : Int32) (v3' : Int32) (T' : TW), x = (.inl (v2', v3', T')) → ∀ (H : Heap) (locs : List Loc) (ls : Array Slot), RepT G o (T') H → va_S (tFr o) s.heap H locs → lv_has ls 5 [(0, .ref o), (1, .int v1), (2, .int v2'), (3, .int v3')] → W p l e (gRm 7 156) s m args below meth c H locs 0 0 (twZ below args s G o (some (.int r.1)) r.2) (F0 m 19 ls [])) (kR : ∀ q, x = (.inr q) → q = r) (hR : RepT G o T H) (hS : va_S (tFr o) s.heap H locs) (hl : lv_has ls 5 [(0, .ref o), (1, .int v1), (3, .int v3)]) : W p l e (gRm 7 156) s m args below meth c H locs 0 0 (twZ below args s G o (some (.int r.1)) r.2) (F0 m 61 ls [.int s0]) := by
  have B0 := B
  obtain ⟨hx, hb, hml, hown, hts, hr, hlk, hK⟩ := B0
  unfold fX5_captives_b61 at h
  refine lv_iconst (v := 0) hx hb dX5_captives_61 (by decide) ?_
  exact bX5_captives_62 B h k19 kR hR hS (lv_sub hl [0, 1, 2] rfl)
noncomputable def fX5_captives_b19 (v1 : Int32) (v2 : Int32) (v3 : Int32) (T : TW) : Option (Sum (Int32 × Int32 × TW) ((Int32 × TW))) :=
  (rd_ (tA T 1) 172 2).bind fun x1 =>
  if x1 ≤ v3 then (
    some (.inr (v2, T))
  ) else (
    b2_ (fX5_laysPath v3 T) fun x6 T5 =>
    nm_ (tsI T5 18 v1) fun T7 =>
    if x6 = 0 then (
      fX5_captives_b61 v1 v3 v2 T7
    ) else (
      b2_ (fX5_laysPath v3 T7) fun x12 T11 =>
      if x12 = 0 then (
        fX5_captives_b62 v1 v3 v2 ((1 : Int32) <<< (v3 &&& 31)) T11
      ) else (
        fX5_captives_b61 v1 v3 v2 T11
      )
    )
  )
theorem bX5_captives_19 {p : Program} {l : Launch} {e : Env} {s : State} {m : MethodId} {args : Array Value} {below : List Frame} {meth : Method} {c : Code} {H : Heap} {locs : List Loc} {ls : Array Slot} {G : gE} {o : Nat} (B : gB G RX5 cX5_captives 5 (some .int) p s m args meth c) {v1 : Int32} {v2 : Int32} {v3 : Int32} {T : TW} {x : Sum (Int32 × Int32 × TW) ((Int32 × TW))} {r : (Int32 × TW)} (h : fX5_captives_b19 v1 v2 v3 T = some x)  (k19 : ∀ (v2' : Int32) (v3' : Int32) (T' : TW), x = (.inl (v2', v3', T')) → ∀ (H : Heap) (locs : List Loc) (ls : Array Slot), RepT G o (T') H → va_S (tFr o) s.heap H locs → lv_has ls 5 [(0, .ref o), (1, .int v1), (2, .int v2'), (3, .int v3')] → W p l e (gRm 7 156) s m args below meth c H locs 0 0 (twZ below args s G o (some (.int r.1)) r.2) (F0 m 19 ls [])) (kR : ∀ q, x = (.inr q) → q = r) (hR : RepT G o T H) (hS : va_S (tFr o) s.heap H locs) (hl : lv_has ls 5 [(0, .ref o), (1, .int v1), (2, .int v2), (3, .int v3)]) : W p l e (gRm 7 156) s m args below meth c H locs 0 0 (twZ below args s G o (some (.int r.1)) r.2) (F0 m 19 ls []) := by
  have B0 := B
  obtain ⟨hx, hb, hml, hown, hts, hr, hlk, hK⟩ := B0
  unfold fX5_captives_b19 at h
  refine lv_iload_n hx hb dX5_captives_19 rfl (lv_at hl 3 rfl) ?_
  refine lv_aload_n hx hb dX5_captives_20 rfl (lv_at hl 0 rfl) ?_
  refine tw_get (k := 0) (v := .ref (o + 1)) hx hb hts hown hK hR (by decide) q2433 rfl (fun _ h9 => h9) dX5_captives_21 ?_
  refine lv_iconst (v := 2) hx hb dX5_captives_24 (by decide) ?_
  replace h := bo_o h
  obtain ⟨x1, e2, h⟩ := h
  refine tw_iald (q := 1) hx hb hK hR rfl e2 dX5_captives_25 ?_
  refine lv_icmp_ge (tgt := 75) hx hb dX5_captives_26 (by decide) (fun c3 => ?_) (fun c3 => ?_)
  · replace h := it_o c3 h
    refine lv_iload_n hx hb dX5_captives_75 rfl (lv_at hl 2 rfl) ?_
    have eR := kR _ (Option.some.inj h).symm
    subst eR
    exact W.iret (v := v2) hx hb hr (fun t ht _ => tw_fin hR hS ht) hS.2.2 dX5_captives_76
  · replace h := if_o c3 h
    refine lv_aload_n hx hb dX5_captives_29 rfl (lv_at hl 0 rfl) ?_
    refine lv_iload_n hx hb dX5_captives_30 rfl (lv_at hl 3 rfl) ?_
    replace h := b2_o h
    obtain ⟨x6, T5, e4, h⟩ := h
    refine tw_callV 1 (As := [.int v3]) (rest := []) (v := (some (.int x6))) (T' := T5) (st1 := [.int x6]) hx hb hml hown hts hK hR (fun _ h9 => h9) (tw_A2 hR) hS (mX5_laysPath e4) (lw_V q2722 q2724 qs76 q137 q2725) (by decide +kernel) (Nat.le_of_ble_eq_true rfl) (Nat.le_of_ble_eq_true rfl) (Nat.zero_le _) (Nat.zero_le _) rfl hl.1 (Nat.le_of_ble_eq_true rfl) dX5_captives_31 rfl rfl (fun H locs hR hS => ?_)
    refine lv_istore (lv' := [(4, .int x6), (0, .ref o), (1, .int v1), (2, .int v2), (3, .int v3)]) hx hb dX5_captives_34 hl (by decide) rfl (fun ls hl => ?_)
    refine lv_aload_n hx hb dX5_captives_36 rfl (lv_at hl 1 rfl) ?_
    refine lv_iload_n hx hb dX5_captives_37 rfl (lv_at hl 2 rfl) ?_
    replace h := nm_o h
    obtain ⟨T7, e8, h⟩ := h
    refine tw_putI (k := 18) (x := v1) (ty := .int) (T' := T7) hx hb hts hown hK hR (fun _ h9 => h9) hS (by decide) rfl e8 q2451 (fun _ h9 => h9) rfl (by decide +kernel) rfl rfl dX5_captives_38 (fun H locs hR hS => ?_)
    refine lv_iload_n hx hb dX5_captives_41 rfl (lv_at hl 3 rfl) ?_
    refine lv_iload hx hb dX5_captives_42 (lv_at hl 0 rfl) ?_
    refine lv_if_eq (tgt := 61) hx hb dX5_captives_44 (by decide) (fun c9 => ?_) (fun c9 => ?_)
    · replace h := it_o c9 h
      exact bX5_captives_61 B h k19 kR hR hS (lv_sub hl [1, 2, 4] rfl)
    · replace h := if_o c9 h
      refine lv_aload_n hx hb dX5_captives_47 rfl (lv_at hl 1 rfl) ?_
      refine lv_iload_n hx hb dX5_captives_48 rfl (lv_at hl 4 rfl) ?_
      replace h := b2_o h
      obtain ⟨x12, T11, e10, h⟩ := h
      refine tw_callV 1 (As := [.int v3]) (rest := [.int v2]) (v := (some (.int x12))) (T' := T11) (st1 := [.int x12, .int v2]) hx hb hml hown hts hK hR (fun _ h9 => h9) (tw_A2 hR) hS (mX5_laysPath e10) (lw_V q2722 q2724 qs76 q137 q2725) (by decide +kernel) (Nat.le_of_ble_eq_true rfl) (Nat.le_of_ble_eq_true rfl) (Nat.zero_le _) (Nat.zero_le _) rfl hl.1 (Nat.le_of_ble_eq_true rfl) dX5_captives_49 rfl rfl (fun H locs hR hS => ?_)
      refine lv_if_ne (tgt := 61) hx hb dX5_captives_52 (by decide) (fun c13 => ?_) (fun c13 => ?_)
      · replace h := if_o c13 h
        exact bX5_captives_61 B h k19 kR hR hS (lv_sub hl [1, 2, 4] rfl)
      · replace h := it_o c13 h
        refine lv_iconst (v := 1) hx hb dX5_captives_55 (by decide) ?_
        refine lv_iload_n hx hb dX5_captives_56 rfl (lv_at hl 4 rfl) ?_
        refine lv_ishl hx hb dX5_captives_57 ?_
        refine lv_goto (tgt := 62) hx hb dX5_captives_58 (by decide) ?_
        exact bX5_captives_62 B h k19 kR hR hS (lv_sub hl [1, 2, 4] rfl)
noncomputable def fX5_captives_l19 (v1 : Int32) (v2 : Int32) (v3 : Int32) (T : TW) : Option ((Int32 × TW)) := whileO (fun q => fX5_captives_b19 v1 q.1 q.2.1 q.2.2) (v2, v3, T)
theorem lX5_captives_19 {p : Program} {l : Launch} {e : Env} {s : State} {m : MethodId} {args : Array Value} {below : List Frame} {meth : Method} {c : Code} {G : gE} {o : Nat} (B : gB G RX5 cX5_captives 5 (some .int) p s m args meth c) {v1 : Int32} {r : (Int32 × TW)}   : ∀ (v2 : Int32) (v3 : Int32) (T : TW), fX5_captives_l19 v1 v2 v3 T = some r → ∀ (H : Heap) (locs : List Loc) (ls : Array Slot), RepT G o (T) H → va_S (tFr o) s.heap H locs → lv_has ls 5 [(0, .ref o), (1, .int v1), (2, .int v2), (3, .int v3)] → W p l e (gRm 7 156) s m args below meth c H locs 0 0 (twZ below args s G o (some (.int r.1)) r.2) (F0 m 19 ls []) := by
  intro v2 v3 T h
  refine wh_walk (body := (fun q => fX5_captives_b19 v1 q.1 q.2.1 q.2.2)) (P := (fun q : (Int32 × Int32 × TW) => ∀ (H : Heap) (locs : List Loc) (ls : Array Slot), RepT G o (q.2.2) H → va_S (tFr o) s.heap H locs → lv_has ls 5 [(0, .ref o), (1, .int v1), (2, .int (q.1)), (3, .int (q.2.1))] → W p l e (gRm 7 156) s m args below meth c H locs 0 0 (twZ below args s G o (some (.int r.1)) r.2) (F0 m 19 ls []))) (r := r) ?_ (v2, v3, T) h
  intro q y hy hL hr H locs ls hR hS hl
  exact bX5_captives_19 (r := r) B hy (fun a0 a1 a2 e => hL (a0, a1, a2) e) (fun q e => hr q e) hR hS hl
noncomputable def fX5_captives (v1 : Int32) (T : TW) : Option ((Int32 × TW)) :=
  b2_ (fX5_isArc v1 T) fun x3 T2 =>
  b2_ (fX5_isThrown x3 1 T2) fun x6 T5 =>
  if x6 = 0 then (
    fX5_captives_l19 v1 0 0 T5
  ) else (
    some (0, T5)
  )
theorem bX5_captives_0 {p : Program} {l : Launch} {e : Env} {s : State} {m : MethodId} {args : Array Value} {below : List Frame} {meth : Method} {c : Code} {H : Heap} {locs : List Loc} {ls : Array Slot} {G : gE} {o : Nat} (B : gB G RX5 cX5_captives 5 (some .int) p s m args meth c) {v1 : Int32} {T : TW} {r : (Int32 × TW)} (h : fX5_captives v1 T = some r)   (hR : RepT G o T H) (hS : va_S (tFr o) s.heap H locs) (hl : lv_has ls 5 [(0, .ref o), (1, .int v1)]) : W p l e (gRm 7 156) s m args below meth c H locs 0 0 (twZ below args s G o (some (.int r.1)) r.2) (F0 m 0 ls []) := by
  have B0 := B
  obtain ⟨hx, hb, hml, hown, hts, hr, hlk, hK⟩ := B0
  unfold fX5_captives at h
  refine lv_aload_n hx hb dX5_captives_0 rfl (lv_at hl 0 rfl) ?_
  refine lv_aload_n hx hb dX5_captives_1 rfl (lv_at hl 0 rfl) ?_
  refine lv_iload_n hx hb dX5_captives_2 rfl (lv_at hl 1 rfl) ?_
  replace h := b2_o h
  obtain ⟨x3, T2, e1, h⟩ := h
  refine tw_callV 1 (As := [.int v1]) (rest := [.ref o]) (v := (some (.int x3))) (T' := T2) (st1 := [.int x3, .ref o]) hx hb hml hown hts hK hR (fun _ h9 => h9) (tw_A2 hR) hS (mX5_isArc e1) (lw_V q2645 q2647 qs70 q137 q2648) (by decide +kernel) (Nat.le_of_ble_eq_true rfl) (Nat.le_of_ble_eq_true rfl) (Nat.zero_le _) (Nat.zero_le _) rfl hl.1 (Nat.le_of_ble_eq_true rfl) dX5_captives_3 rfl rfl (fun H locs hR hS => ?_)
  refine lv_iconst (v := 1) hx hb dX5_captives_6 (by decide) ?_
  replace h := b2_o h
  obtain ⟨x6, T5, e4, h⟩ := h
  refine tw_callV 2 (As := [.int x3, .int 1]) (rest := []) (v := (some (.int x6))) (T' := T5) (st1 := [.int x6]) hx hb hml hown hts hK hR (fun _ h9 => h9) (tw_A2 hR) hS (mX5_isThrown e4) (lw_V q2633 q2635 qs68 q137 q2636) (by decide +kernel) (Nat.le_of_ble_eq_true rfl) (Nat.le_of_ble_eq_true rfl) (Nat.zero_le _) (Nat.zero_le _) rfl hl.1 (Nat.le_of_ble_eq_true rfl) dX5_captives_7 rfl rfl (fun H locs hR hS => ?_)
  refine lv_if_eq (tgt := 15) hx hb dX5_captives_10 (by decide) (fun c7 => ?_) (fun c7 => ?_)
  · replace h := it_o c7 h
    refine lv_iconst (v := 0) hx hb dX5_captives_15 (by decide) ?_
    refine lv_istore_n (lv' := [(2, .int 0), (0, .ref o), (1, .int v1)]) hx hb dX5_captives_16 rfl hl (by decide) rfl (fun ls hl => ?_)
    refine lv_iconst (v := 0) hx hb dX5_captives_17 (by decide) ?_
    refine lv_istore_n (lv' := [(3, .int 0), (2, .int 0), (0, .ref o), (1, .int v1)]) hx hb dX5_captives_18 rfl hl (by decide) rfl (fun ls hl => ?_)
    exact lX5_captives_19 B _ _ _ h H locs ls hR hS (lv_sub hl [2, 3, 1, 0] rfl)
  · replace h := if_o c7 h
    refine lv_iconst (v := 0) hx hb dX5_captives_13 (by decide) ?_
    have eR := Option.some.inj h
    subst eR
    exact W.iret (v := 0) hx hb hr (fun t ht _ => tw_fin hR hS ht) hS.2.2 dX5_captives_14
theorem mX5_captives {l : Launch} {G : gE} {o : Nat} {v1 : Int32} {T : TW} {r : (Int32 × TW)}  (h : fX5_captives v1 T = some r) : twM l G o yX5_captives cX5_captives 5 (some .int) 7 156 [.ref o, .int v1] T (some (.int r.1)) r.2 :=
  tw_of (by decide +kernel) (Nat.le_of_ble_eq_true rfl) (fun p e s m args below meth c ls B hR hl => bX5_captives_0 B h hR va_S.rf hl)
noncomputable def fX5_worth (v1 : Int32) (T : TW) : Option ((Int64 × TW)) :=
  b2_ (fX5_isArc v1 T) fun x3 T2 =>
  b2_ (fX5_isThrown x3 1 T2) fun x6 T5 =>
  if x6 = 0 then (
    b2_ (fX5_all T5) fun x10 T9 =>
    nm_ (tsI T9 18 v1) fun T11 =>
    b2_ (fX5_all T11) fun x15 T14 =>
    nm_ (tsI T14 18 (-1)) fun T16 =>
    some (x10 - x15, T16)
  ) else (
    some (0, T5)
  )
theorem bX5_worth_0 {p : Program} {l : Launch} {e : Env} {s : State} {m : MethodId} {args : Array Value} {below : List Frame} {meth : Method} {c : Code} {H : Heap} {locs : List Loc} {ls : Array Slot} {G : gE} {o : Nat} (B : gB G RX5 cX5_worth 6 (some .long) p s m args meth c) {v1 : Int32} {T : TW} {r : (Int64 × TW)} (h : fX5_worth v1 T = some r)   (hR : RepT G o T H) (hS : va_S (tFr o) s.heap H locs) (hl : lv_has ls 6 [(0, .ref o), (1, .int v1)]) : W p l e (gRm 9 200) s m args below meth c H locs 0 0 (twZ below args s G o (some (.long r.1)) r.2) (F0 m 0 ls []) := by
  have B0 := B
  obtain ⟨hx, hb, hml, hown, hts, hr, hlk, hK⟩ := B0
  unfold fX5_worth at h
  refine lv_aload_n hx hb dX5_worth_0 rfl (lv_at hl 0 rfl) ?_
  refine lv_aload_n hx hb dX5_worth_1 rfl (lv_at hl 0 rfl) ?_
  refine lv_iload_n hx hb dX5_worth_2 rfl (lv_at hl 1 rfl) ?_
  replace h := b2_o h
  obtain ⟨x3, T2, e1, h⟩ := h
  refine tw_callV 1 (As := [.int v1]) (rest := [.ref o]) (v := (some (.int x3))) (T' := T2) (st1 := [.int x3, .ref o]) hx hb hml hown hts hK hR (fun _ h9 => h9) (tw_A2 hR) hS (mX5_isArc e1) (lw_V q2645 q2647 qs70 q137 q2648) (by decide +kernel) (Nat.le_of_ble_eq_true rfl) (Nat.le_of_ble_eq_true rfl) (Nat.zero_le _) (Nat.zero_le _) rfl hl.1 (Nat.le_of_ble_eq_true rfl) dX5_worth_3 rfl rfl (fun H locs hR hS => ?_)
  refine lv_iconst (v := 1) hx hb dX5_worth_6 (by decide) ?_
  replace h := b2_o h
  obtain ⟨x6, T5, e4, h⟩ := h
  refine tw_callV 2 (As := [.int x3, .int 1]) (rest := []) (v := (some (.int x6))) (T' := T5) (st1 := [.int x6]) hx hb hml hown hts hK hR (fun _ h9 => h9) (tw_A2 hR) hS (mX5_isThrown e4) (lw_V q2633 q2635 qs68 q137 q2636) (by decide +kernel) (Nat.le_of_ble_eq_true rfl) (Nat.le_of_ble_eq_true rfl) (Nat.zero_le _) (Nat.zero_le _) rfl hl.1 (Nat.le_of_ble_eq_true rfl) dX5_worth_7 rfl rfl (fun H locs hR hS => ?_)
  refine lv_if_eq (tgt := 15) hx hb dX5_worth_10 (by decide) (fun c7 => ?_) (fun c7 => ?_)
  · replace h := it_o c7 h
    refine lv_aload_n hx hb dX5_worth_15 rfl (lv_at hl 0 rfl) ?_
    replace h := b2_o h
    obtain ⟨x10, T9, e8, h⟩ := h
    refine tw_callV 0 (As := []) (rest := []) (v := (some (.long x10))) (T' := T9) (st1 := [.long x10]) hx hb hml hown hts hK hR (fun _ h9 => h9) (tw_A2 hR) hS (mX5_all e8) (lw_V q2856 q2858 qs94 q137 q2859) (by decide +kernel) (Nat.le_of_ble_eq_true rfl) (Nat.le_of_ble_eq_true rfl) (Nat.zero_le _) (Nat.zero_le _) rfl hl.1 (Nat.le_of_ble_eq_true rfl) dX5_worth_16 rfl rfl (fun H locs hR hS => ?_)
    refine lv_lstore_n (lv' := [(2, .long x10), (0, .ref o), (1, .int v1)]) hx hb dX5_worth_19 rfl hl (by decide) rfl (fun ls hl => ?_)
    refine lv_aload_n hx hb dX5_worth_20 rfl (lv_at hl 1 rfl) ?_
    refine lv_iload_n hx hb dX5_worth_21 rfl (lv_at hl 2 rfl) ?_
    replace h := nm_o h
    obtain ⟨T11, e12, h⟩ := h
    refine tw_putI (k := 18) (x := v1) (ty := .int) (T' := T11) hx hb hts hown hK hR (fun _ h9 => h9) hS (by decide) rfl e12 q2451 (fun _ h9 => h9) rfl (by decide +kernel) rfl rfl dX5_worth_22 (fun H locs hR hS => ?_)
    refine lv_aload_n hx hb dX5_worth_25 rfl (lv_at hl 1 rfl) ?_
    replace h := b2_o h
    obtain ⟨x15, T14, e13, h⟩ := h
    refine tw_callV 0 (As := []) (rest := []) (v := (some (.long x15))) (T' := T14) (st1 := [.long x15]) hx hb hml hown hts hK hR (fun _ h9 => h9) (tw_A2 hR) hS (mX5_all e13) (lw_V q2856 q2858 qs94 q137 q2859) (by decide +kernel) (Nat.le_of_ble_eq_true rfl) (Nat.le_of_ble_eq_true rfl) (Nat.zero_le _) (Nat.zero_le _) rfl hl.1 (Nat.le_of_ble_eq_true rfl) dX5_worth_26 rfl rfl (fun H locs hR hS => ?_)
    refine lv_lstore (lv' := [(4, .long x15), (2, .long x10), (0, .ref o), (1, .int v1)]) hx hb dX5_worth_29 hl (by decide) rfl (fun ls hl => ?_)
    refine lv_aload_n hx hb dX5_worth_31 rfl (lv_at hl 2 rfl) ?_
    refine lv_iconst (v := (-1)) hx hb dX5_worth_32 (by decide) ?_
    replace h := nm_o h
    obtain ⟨T16, e17, h⟩ := h
    refine tw_putI (k := 18) (x := (-1)) (ty := .int) (T' := T16) hx hb hts hown hK hR (fun _ h9 => h9) hS (by decide) rfl e17 q2451 (fun _ h9 => h9) rfl (by decide +kernel) rfl rfl dX5_worth_33 (fun H locs hR hS => ?_)
    refine lv_lload_n hx hb dX5_worth_36 rfl (lv_at hl 1 rfl) ?_
    refine lv_lload hx hb dX5_worth_37 (lv_at hl 0 rfl) ?_
    refine lv_lsub hx hb dX5_worth_39 ?_
    have eR := Option.some.inj h
    subst eR
    exact W.lret (v := x10 - x15) hx hb hr (fun t ht _ => tw_fin hR hS ht) hS.2.2 dX5_worth_40
  · replace h := if_o c7 h
    refine lv_lconst (v := 0) hx hb dX5_worth_13 (by decide) ?_
    have eR := Option.some.inj h
    subst eR
    exact W.lret (v := 0) hx hb hr (fun t ht _ => tw_fin hR hS ht) hS.2.2 dX5_worth_14
theorem mX5_worth {l : Launch} {G : gE} {o : Nat} {v1 : Int32} {T : TW} {r : (Int64 × TW)}  (h : fX5_worth v1 T = some r) : twM l G o yX5_worth cX5_worth 6 (some .long) 9 200 [.ref o, .int v1] T (some (.long r.1)) r.2 :=
  tw_of (by decide +kernel) (Nat.le_of_ble_eq_true rfl) (fun p e s m args below meth c ls B hR hl => bX5_worth_0 B h hR va_S.rf hl)
noncomputable def fX5_reachable_b106 (v2 : Int32) (s0 : Int32) (T : TW) : Option (Sum (Int32 × Int32 × TW) ((Int32 × TW))) :=
  some (.inl (v2, s0, T))
theorem bX5_reachable_106 {p : Program} {l : Launch} {e : Env} {s : State} {m : MethodId} {args : Array Value} {below : List Frame} {meth : Method} {c : Code} {H : Heap} {locs : List Loc} {ls : Array Slot} {G : gE} {o : Nat} (B : gB G RX5 cX5_reachable 6 (some .int) p s m args meth c) {v2 : Int32} {s0 : Int32} {T : TW} {x : Sum (Int32 × Int32 × TW) ((Int32 × TW))} {r : (Int32 × TW)} (h : fX5_reachable_b106 v2 s0 T = some x)  (k29 : ∀ (v2' : Int32) (v3' : Int32) (T' : TW), x = (.inl (v2', v3', T')) → ∀ (H : Heap) (locs : List Loc) (ls : Array Slot), RepT G o (T') H → va_S (tFr o) s.heap H locs → lv_has ls 6 [(0, .ref o), (2, .int v2'), (3, .int v3')] → W p l e (gRm 3 65) s m args below meth c H locs 0 0 (twZ below args s G o (some (.int r.1)) r.2) (F0 m 29 ls [])) (kR : ∀ q, x = (.inr q) → q = r) (hR : RepT G o T H) (hS : va_S (tFr o) s.heap H locs) (hl : lv_has ls 6 [(0, .ref o), (2, .int v2)]) : W p l e (gRm 3 65) s m args below meth c H locs 0 0 (twZ below args s G o (some (.int r.1)) r.2) (F0 m 106 ls [.int s0]) := by
  have B0 := B
  obtain ⟨hx, hb, hml, hown, hts, hr, hlk, hK⟩ := B0
  unfold fX5_reachable_b106 at h
  refine lv_istore_n (lv' := [(3, .int s0), (0, .ref o), (2, .int v2)]) hx hb dX5_reachable_106 rfl hl (by decide) rfl (fun ls hl => ?_)
  refine lv_goto (tgt := 29) hx hb dX5_reachable_107 (by decide) ?_
  exact k29 _ _ _ (Option.some.inj h).symm H locs ls hR hS (lv_sub hl [1, 2, 0] rfl)
noncomputable def fX5_reachable_b95 (v2 : Int32) (v4 : Int32) (T : TW) : Option (Sum (Int32 × Int32 × TW) ((Int32 × TW))) :=
  if v2 = v4 then (
    fX5_reachable_b106 v2 0 T
  ) else (
    fX5_reachable_b106 v2 1 T
  )
theorem bX5_reachable_95 {p : Program} {l : Launch} {e : Env} {s : State} {m : MethodId} {args : Array Value} {below : List Frame} {meth : Method} {c : Code} {H : Heap} {locs : List Loc} {ls : Array Slot} {G : gE} {o : Nat} (B : gB G RX5 cX5_reachable 6 (some .int) p s m args meth c) {v2 : Int32} {v4 : Int32} {T : TW} {x : Sum (Int32 × Int32 × TW) ((Int32 × TW))} {r : (Int32 × TW)} (h : fX5_reachable_b95 v2 v4 T = some x)  (k29 : ∀ (v2' : Int32) (v3' : Int32) (T' : TW), x = (.inl (v2', v3', T')) → ∀ (H : Heap) (locs : List Loc) (ls : Array Slot), RepT G o (T') H → va_S (tFr o) s.heap H locs → lv_has ls 6 [(0, .ref o), (2, .int v2'), (3, .int v3')] → W p l e (gRm 3 65) s m args below meth c H locs 0 0 (twZ below args s G o (some (.int r.1)) r.2) (F0 m 29 ls [])) (kR : ∀ q, x = (.inr q) → q = r) (hR : RepT G o T H) (hS : va_S (tFr o) s.heap H locs) (hl : lv_has ls 6 [(0, .ref o), (2, .int v2), (4, .int v4)]) : W p l e (gRm 3 65) s m args below meth c H locs 0 0 (twZ below args s G o (some (.int r.1)) r.2) (F0 m 95 ls []) := by
  have B0 := B
  obtain ⟨hx, hb, hml, hown, hts, hr, hlk, hK⟩ := B0
  unfold fX5_reachable_b95 at h
  refine lv_iload_n hx hb dX5_reachable_95 rfl (lv_at hl 1 rfl) ?_
  refine lv_iload hx hb dX5_reachable_96 (lv_at hl 2 rfl) ?_
  refine lv_icmp_eq (tgt := 105) hx hb dX5_reachable_98 (by decide) (fun c1 => ?_) (fun c1 => ?_)
  · replace h := it_o c1 h
    refine lv_iconst (v := 0) hx hb dX5_reachable_105 (by decide) ?_
    exact bX5_reachable_106 B h k29 kR hR hS (lv_sub hl [0, 1] rfl)
  · replace h := if_o c1 h
    refine lv_iconst (v := 1) hx hb dX5_reachable_101 (by decide) ?_
    refine lv_goto (tgt := 106) hx hb dX5_reachable_102 (by decide) ?_
    exact bX5_reachable_106 B h k29 kR hR hS (lv_sub hl [0, 1] rfl)
noncomputable def fX5_reachable_b87 (v4 : Int32) (v5 : Int32) (s0 : Int32) (s1 : Int32) (T : TW) : Option (Sum (Int32 × Int32 × TW) (Sum (Int32 × Int32 × TW) ((Int32 × TW)))) :=
  nm_ (s0 ||| s1) fun x1 =>
  some (.inl (x1, v5 + 1, T))
theorem bX5_reachable_87 {p : Program} {l : Launch} {e : Env} {s : State} {m : MethodId} {args : Array Value} {below : List Frame} {meth : Method} {c : Code} {H : Heap} {locs : List Loc} {ls : Array Slot} {G : gE} {o : Nat} (B : gB G RX5 cX5_reachable 6 (some .int) p s m args meth c) {v4 : Int32} {v5 : Int32} {s0 : Int32} {s1 : Int32} {T : TW} {x : Sum (Int32 × Int32 × TW) (Sum (Int32 × Int32 × TW) ((Int32 × TW)))} {r : (Int32 × TW)} (h : fX5_reachable_b87 v4 v5 s0 s1 T = some x)  (k39 : ∀ (v2' : Int32) (v5' : Int32) (T' : TW), x = (.inl (v2', v5', T')) → ∀ (H : Heap) (locs : List Loc) (ls : Array Slot), RepT G o (T') H → va_S (tFr o) s.heap H locs → lv_has ls 6 [(0, .ref o), (2, .int v2'), (4, .int v4), (5, .int v5')] → W p l e (gRm 3 65) s m args below meth c H locs 0 0 (twZ below args s G o (some (.int r.1)) r.2) (F0 m 39 ls [])) (k29 : ∀ (v2' : Int32) (v3' : Int32) (T' : TW), x = (.inr (.inl (v2', v3', T'))) → ∀ (H : Heap) (locs : List Loc) (ls : Array Slot), RepT G o (T') H → va_S (tFr o) s.heap H locs → lv_has ls 6 [(0, .ref o), (2, .int v2'), (3, .int v3')] → W p l e (gRm 3 65) s m args below meth c H locs 0 0 (twZ below args s G o (some (.int r.1)) r.2) (F0 m 29 ls [])) (kR : ∀ q, x = (.inr (.inr q)) → q = r) (hR : RepT G o T H) (hS : va_S (tFr o) s.heap H locs) (hl : lv_has ls 6 [(0, .ref o), (4, .int v4), (5, .int v5)]) : W p l e (gRm 3 65) s m args below meth c H locs 0 0 (twZ below args s G o (some (.int r.1)) r.2) (F0 m 87 ls [.int s1, .int s0]) := by
  have B0 := B
  obtain ⟨hx, hb, hml, hown, hts, hr, hlk, hK⟩ := B0
  unfold fX5_reachable_b87 at h
  refine lv_ior hx hb dX5_reachable_87 ?_
  replace h := nm_o h
  obtain ⟨x1, e2, h⟩ := h
  refine lv_istore_n (lv' := [(2, .int x1), (0, .ref o), (4, .int v4), (5, .int v5)]) hx hb dX5_reachable_88 rfl hl (by decide) (by subst e2; rfl) (fun ls hl => ?_)
  refine lv_iinc (v := v5 + 1) (lv' := [(5, .int (v5 + 1)), (2, .int x1), (0, .ref o), (4, .int v4)]) hx hb dX5_reachable_89 hl (k := 3) rfl rfl (by decide) rfl (fun ls hl => ?_)
  refine lv_goto (tgt := 39) hx hb dX5_reachable_92 (by decide) ?_
  exact k39 _ _ _ (Option.some.inj h).symm H locs ls hR hS (lv_sub hl [2, 1, 3, 0] rfl)
noncomputable def fX5_reachable_b86 (v4 : Int32) (v5 : Int32) (s0 : Int32) (T : TW) : Option (Sum (Int32 × Int32 × TW) (Sum (Int32 × Int32 × TW) ((Int32 × TW)))) :=
  fX5_reachable_b87 v4 v5 s0 0 T
theorem bX5_reachable_86 {p : Program} {l : Launch} {e : Env} {s : State} {m : MethodId} {args : Array Value} {below : List Frame} {meth : Method} {c : Code} {H : Heap} {locs : List Loc} {ls : Array Slot} {G : gE} {o : Nat} (B : gB G RX5 cX5_reachable 6 (some .int) p s m args meth c) {v4 : Int32} {v5 : Int32} {s0 : Int32} {T : TW} {x : Sum (Int32 × Int32 × TW) (Sum (Int32 × Int32 × TW) ((Int32 × TW)))} {r : (Int32 × TW)} (h : fX5_reachable_b86 v4 v5 s0 T = some x)  (k39 : ∀ (v2' : Int32) (v5' : Int32) (T' : TW), x = (.inl (v2', v5', T')) → ∀ (H : Heap) (locs : List Loc) (ls : Array Slot), RepT G o (T') H → va_S (tFr o) s.heap H locs → lv_has ls 6 [(0, .ref o), (2, .int v2'), (4, .int v4), (5, .int v5')] → W p l e (gRm 3 65) s m args below meth c H locs 0 0 (twZ below args s G o (some (.int r.1)) r.2) (F0 m 39 ls [])) (k29 : ∀ (v2' : Int32) (v3' : Int32) (T' : TW), x = (.inr (.inl (v2', v3', T'))) → ∀ (H : Heap) (locs : List Loc) (ls : Array Slot), RepT G o (T') H → va_S (tFr o) s.heap H locs → lv_has ls 6 [(0, .ref o), (2, .int v2'), (3, .int v3')] → W p l e (gRm 3 65) s m args below meth c H locs 0 0 (twZ below args s G o (some (.int r.1)) r.2) (F0 m 29 ls [])) (kR : ∀ q, x = (.inr (.inr q)) → q = r) (hR : RepT G o T H) (hS : va_S (tFr o) s.heap H locs) (hl : lv_has ls 6 [(0, .ref o), (4, .int v4), (5, .int v5)]) : W p l e (gRm 3 65) s m args below meth c H locs 0 0 (twZ below args s G o (some (.int r.1)) r.2) (F0 m 86 ls [.int s0]) := by
  have B0 := B
  obtain ⟨hx, hb, hml, hown, hts, hr, hlk, hK⟩ := B0
  unfold fX5_reachable_b86 at h
  refine lv_iconst (v := 0) hx hb dX5_reachable_86 (by decide) ?_
  exact bX5_reachable_87 B h k39 k29 kR hR hS (lv_sub hl [0, 1, 2] rfl)
noncomputable def fX5_reachable_b39 (v2 : Int32) (v4 : Int32) (v5 : Int32) (T : TW) : Option (Sum (Int32 × Int32 × TW) (Sum (Int32 × Int32 × TW) ((Int32 × TW)))) :=
  (rd_ (tA T 1) 172 1).bind fun x1 =>
  if x1 ≤ v5 then (
    (fX5_reachable_b95 v2 v4 T).map (fun y => (.inr y))
  ) else (
    b2_ (fX5_isOpen v5 T) fun x6 T5 =>
    if x6 = 0 then (
      fX5_reachable_b86 v4 v5 v2 T5
    ) else (
      b2_ (fX5_arc v5 0 T5) fun x10 T9 =>
      b2_ (fX5_has v2 x10 T9) fun x13 T12 =>
      if x13 = 0 then (
        fX5_reachable_b86 v4 v5 v2 T12
      ) else (
        b2_ (fX5_arc v5 1 T12) fun x17 T16 =>
        fX5_reachable_b87 v4 v5 v2 ((1 : Int32) <<< (x17 &&& 31)) T16
      )
    )
  )
theorem bX5_reachable_39 {p : Program} {l : Launch} {e : Env} {s : State} {m : MethodId} {args : Array Value} {below : List Frame} {meth : Method} {c : Code} {H : Heap} {locs : List Loc} {ls : Array Slot} {G : gE} {o : Nat} (B : gB G RX5 cX5_reachable 6 (some .int) p s m args meth c) {v2 : Int32} {v4 : Int32} {v5 : Int32} {T : TW} {x : Sum (Int32 × Int32 × TW) (Sum (Int32 × Int32 × TW) ((Int32 × TW)))} {r : (Int32 × TW)} (h : fX5_reachable_b39 v2 v4 v5 T = some x)  (k39 : ∀ (v2' : Int32) (v5' : Int32) (T' : TW), x = (.inl (v2', v5', T')) → ∀ (H : Heap) (locs : List Loc) (ls : Array Slot), RepT G o (T') H → va_S (tFr o) s.heap H locs → lv_has ls 6 [(0, .ref o), (2, .int v2'), (4, .int v4), (5, .int v5')] → W p l e (gRm 3 65) s m args below meth c H locs 0 0 (twZ below args s G o (some (.int r.1)) r.2) (F0 m 39 ls [])) (k29 : ∀ (v2' : Int32) (v3' : Int32) (T' : TW), x = (.inr (.inl (v2', v3', T'))) → ∀ (H : Heap) (locs : List Loc) (ls : Array Slot), RepT G o (T') H → va_S (tFr o) s.heap H locs → lv_has ls 6 [(0, .ref o), (2, .int v2'), (3, .int v3')] → W p l e (gRm 3 65) s m args below meth c H locs 0 0 (twZ below args s G o (some (.int r.1)) r.2) (F0 m 29 ls [])) (kR : ∀ q, x = (.inr (.inr q)) → q = r) (hR : RepT G o T H) (hS : va_S (tFr o) s.heap H locs) (hl : lv_has ls 6 [(0, .ref o), (2, .int v2), (4, .int v4), (5, .int v5)]) : W p l e (gRm 3 65) s m args below meth c H locs 0 0 (twZ below args s G o (some (.int r.1)) r.2) (F0 m 39 ls []) := by
  have B0 := B
  obtain ⟨hx, hb, hml, hown, hts, hr, hlk, hK⟩ := B0
  unfold fX5_reachable_b39 at h
  refine lv_iload hx hb dX5_reachable_39 (lv_at hl 3 rfl) ?_
  refine lv_aload_n hx hb dX5_reachable_41 rfl (lv_at hl 0 rfl) ?_
  refine tw_get (k := 0) (v := .ref (o + 1)) hx hb hts hown hK hR (by decide) q2433 rfl (fun _ h9 => h9) dX5_reachable_42 ?_
  refine lv_iconst (v := 1) hx hb dX5_reachable_45 (by decide) ?_
  replace h := bo_o h
  obtain ⟨x1, e2, h⟩ := h
  refine tw_iald (q := 1) hx hb hK hR rfl e2 dX5_reachable_46 ?_
  refine lv_icmp_ge (tgt := 95) hx hb dX5_reachable_47 (by decide) (fun c3 => ?_) (fun c3 => ?_)
  · replace h := it_o c3 h
    obtain ⟨y, h, ey⟩ := mp_o h
    exact bX5_reachable_95 B h (fun _ _ _ e => k29 _ _ _ (by rw [← ey, e])) (fun q e => kR q (by rw [← ey, e])) hR hS (lv_sub hl [0, 1, 2] rfl)
  · replace h := if_o c3 h
    refine lv_iload_n hx hb dX5_reachable_50 rfl (lv_at hl 1 rfl) ?_
    refine lv_aload_n hx hb dX5_reachable_51 rfl (lv_at hl 0 rfl) ?_
    refine lv_iload hx hb dX5_reachable_52 (lv_at hl 3 rfl) ?_
    replace h := b2_o h
    obtain ⟨x6, T5, e4, h⟩ := h
    refine tw_callV 1 (As := [.int v5]) (rest := [.int v2]) (v := (some (.int x6))) (T' := T5) (st1 := [.int x6, .int v2]) hx hb hml hown hts hK hR (fun _ h9 => h9) (tw_A2 hR) hS (mX5_isOpen e4) (lw_V q2735 q2737 qs79 q137 q2738) (by decide +kernel) (Nat.le_of_ble_eq_true rfl) (Nat.le_of_ble_eq_true rfl) (Nat.zero_le _) (Nat.zero_le _) rfl hl.1 (Nat.le_of_ble_eq_true rfl) dX5_reachable_54 rfl rfl (fun H locs hR hS => ?_)
    refine lv_if_eq (tgt := 86) hx hb dX5_reachable_57 (by decide) (fun c7 => ?_) (fun c7 => ?_)
    · replace h := it_o c7 h
      exact bX5_reachable_86 B h k39 k29 kR hR hS (lv_sub hl [0, 2, 3] rfl)
    · replace h := if_o c7 h
      refine lv_iload_n hx hb dX5_reachable_60 rfl (lv_at hl 1 rfl) ?_
      refine lv_aload_n hx hb dX5_reachable_61 rfl (lv_at hl 0 rfl) ?_
      refine lv_iload hx hb dX5_reachable_62 (lv_at hl 3 rfl) ?_
      refine lv_iconst (v := 0) hx hb dX5_reachable_64 (by decide) ?_
      replace h := b2_o h
      obtain ⟨x10, T9, e8, h⟩ := h
      refine tw_callV 2 (As := [.int v5, .int 0]) (rest := [.int v2, .int v2]) (v := (some (.int x10))) (T' := T9) (st1 := [.int x10, .int v2, .int v2]) hx hb hml hown hts hK hR (fun _ h9 => h9) (tw_A2 hR) hS (mX5_arc e8) (lw_V q2637 q2639 qs69 q137 q2640) (by decide +kernel) (Nat.le_of_ble_eq_true rfl) (Nat.le_of_ble_eq_true rfl) (Nat.zero_le _) (Nat.zero_le _) rfl hl.1 (Nat.le_of_ble_eq_true rfl) dX5_reachable_65 rfl rfl (fun H locs hR hS => ?_)
      replace h := b2_o h
      obtain ⟨x13, T12, e11, h⟩ := h
      refine tw_callS 2 (As := [.int v2, .int x10]) (rest := [.int v2]) (v := (some (.int x13))) (T' := T12) (st1 := [.int x13, .int v2]) hx hb hml hown hts hK hR (fun _ h9 => h9) (tw_A2 hR) hS (mX5_has e11) (lw_S q2739 q2740 q137 q2741) (by decide +kernel) (Nat.le_of_ble_eq_true rfl) (Nat.le_of_ble_eq_true rfl) (Nat.zero_le _) (Nat.zero_le _) rfl hl.1 (Nat.le_of_ble_eq_true rfl) dX5_reachable_68 rfl rfl (fun H locs hR hS => ?_)
      refine lv_if_eq (tgt := 86) hx hb dX5_reachable_71 (by decide) (fun c14 => ?_) (fun c14 => ?_)
      · replace h := it_o c14 h
        exact bX5_reachable_86 B h k39 k29 kR hR hS (lv_sub hl [0, 2, 3] rfl)
      · replace h := if_o c14 h
        refine lv_iconst (v := 1) hx hb dX5_reachable_74 (by decide) ?_
        refine lv_aload_n hx hb dX5_reachable_75 rfl (lv_at hl 0 rfl) ?_
        refine lv_iload hx hb dX5_reachable_76 (lv_at hl 3 rfl) ?_
        refine lv_iconst (v := 1) hx hb dX5_reachable_78 (by decide) ?_
        replace h := b2_o h
        obtain ⟨x17, T16, e15, h⟩ := h
        refine tw_callV 2 (As := [.int v5, .int 1]) (rest := [.int 1, .int v2]) (v := (some (.int x17))) (T' := T16) (st1 := [.int x17, .int 1, .int v2]) hx hb hml hown hts hK hR (fun _ h9 => h9) (tw_A2 hR) hS (mX5_arc e15) (lw_V q2637 q2639 qs69 q137 q2640) (by decide +kernel) (Nat.le_of_ble_eq_true rfl) (Nat.le_of_ble_eq_true rfl) (Nat.zero_le _) (Nat.zero_le _) rfl hl.1 (Nat.le_of_ble_eq_true rfl) dX5_reachable_79 rfl rfl (fun H locs hR hS => ?_)
        refine lv_ishl hx hb dX5_reachable_82 ?_
        refine lv_goto (tgt := 87) hx hb dX5_reachable_83 (by decide) ?_
        exact bX5_reachable_87 B h k39 k29 kR hR hS (lv_sub hl [0, 2, 3] rfl)
noncomputable def fX5_reachable_l39 (v2 : Int32) (v4 : Int32) (v5 : Int32) (T : TW) : Option (Sum (Int32 × Int32 × TW) ((Int32 × TW))) := whileO (fun q => fX5_reachable_b39 q.1 v4 q.2.1 q.2.2) (v2, v5, T)
theorem lX5_reachable_39 {p : Program} {l : Launch} {e : Env} {s : State} {m : MethodId} {args : Array Value} {below : List Frame} {meth : Method} {c : Code} {G : gE} {o : Nat} (B : gB G RX5 cX5_reachable 6 (some .int) p s m args meth c) {v4 : Int32} {x : Sum (Int32 × Int32 × TW) ((Int32 × TW))} {r : (Int32 × TW)}  (k29 : ∀ (v2' : Int32) (v3' : Int32) (T' : TW), x = (.inl (v2', v3', T')) → ∀ (H : Heap) (locs : List Loc) (ls : Array Slot), RepT G o (T') H → va_S (tFr o) s.heap H locs → lv_has ls 6 [(0, .ref o), (2, .int v2'), (3, .int v3')] → W p l e (gRm 3 65) s m args below meth c H locs 0 0 (twZ below args s G o (some (.int r.1)) r.2) (F0 m 29 ls [])) (kR : ∀ q, x = (.inr q) → q = r) : ∀ (v2 : Int32) (v5 : Int32) (T : TW), fX5_reachable_l39 v2 v4 v5 T = some x → ∀ (H : Heap) (locs : List Loc) (ls : Array Slot), RepT G o (T) H → va_S (tFr o) s.heap H locs → lv_has ls 6 [(0, .ref o), (2, .int v2), (4, .int v4), (5, .int v5)] → W p l e (gRm 3 65) s m args below meth c H locs 0 0 (twZ below args s G o (some (.int r.1)) r.2) (F0 m 39 ls []) := by
  intro v2 v5 T h
  refine wh_walk (body := (fun q => fX5_reachable_b39 q.1 v4 q.2.1 q.2.2)) (P := (fun q : (Int32 × Int32 × TW) => ∀ (H : Heap) (locs : List Loc) (ls : Array Slot), RepT G o (q.2.2) H → va_S (tFr o) s.heap H locs → lv_has ls 6 [(0, .ref o), (2, .int (q.1)), (4, .int v4), (5, .int (q.2.1))] → W p l e (gRm 3 65) s m args below meth c H locs 0 0 (twZ below args s G o (some (.int r.1)) r.2) (F0 m 39 ls []))) (r := x) ?_ (v2, v5, T) h
  intro q y hy hL hr H locs ls hR hS hl
  exact bX5_reachable_39 (r := r) B hy (fun a0 a1 a2 e => hL (a0, a1, a2) e) (fun a0 a1 a2 e H locs ls hR hS hl => k29 _ _ _ ((hr _ e).symm) H locs ls hR hS hl) (fun q e => kR q ((hr _ e).symm)) hR hS hl
noncomputable def fX5_reachable_b29 (v2 : Int32) (v3 : Int32) (T : TW) : Option (Sum (Int32 × Int32 × TW) ((Int32 × TW))) :=
  if v3 = 0 then (
    some (.inr (v2, T))
  ) else (
    fX5_reachable_l39 v2 v2 0 T
  )
theorem bX5_reachable_29 {p : Program} {l : Launch} {e : Env} {s : State} {m : MethodId} {args : Array Value} {below : List Frame} {meth : Method} {c : Code} {H : Heap} {locs : List Loc} {ls : Array Slot} {G : gE} {o : Nat} (B : gB G RX5 cX5_reachable 6 (some .int) p s m args meth c) {v2 : Int32} {v3 : Int32} {T : TW} {x : Sum (Int32 × Int32 × TW) ((Int32 × TW))} {r : (Int32 × TW)} (h : fX5_reachable_b29 v2 v3 T = some x)  (k29 : ∀ (v2' : Int32) (v3' : Int32) (T' : TW), x = (.inl (v2', v3', T')) → ∀ (H : Heap) (locs : List Loc) (ls : Array Slot), RepT G o (T') H → va_S (tFr o) s.heap H locs → lv_has ls 6 [(0, .ref o), (2, .int v2'), (3, .int v3')] → W p l e (gRm 3 65) s m args below meth c H locs 0 0 (twZ below args s G o (some (.int r.1)) r.2) (F0 m 29 ls [])) (kR : ∀ q, x = (.inr q) → q = r) (hR : RepT G o T H) (hS : va_S (tFr o) s.heap H locs) (hl : lv_has ls 6 [(0, .ref o), (2, .int v2), (3, .int v3)]) : W p l e (gRm 3 65) s m args below meth c H locs 0 0 (twZ below args s G o (some (.int r.1)) r.2) (F0 m 29 ls []) := by
  have B0 := B
  obtain ⟨hx, hb, hml, hown, hts, hr, hlk, hK⟩ := B0
  unfold fX5_reachable_b29 at h
  refine lv_iload_n hx hb dX5_reachable_29 rfl (lv_at hl 2 rfl) ?_
  refine lv_if_eq (tgt := 110) hx hb dX5_reachable_30 (by decide) (fun c1 => ?_) (fun c1 => ?_)
  · replace h := it_o c1 h
    refine lv_iload_n hx hb dX5_reachable_110 rfl (lv_at hl 1 rfl) ?_
    have eR := kR _ (Option.some.inj h).symm
    subst eR
    exact W.iret (v := v2) hx hb hr (fun t ht _ => tw_fin hR hS ht) hS.2.2 dX5_reachable_111
  · replace h := if_o c1 h
    refine lv_iload_n hx hb dX5_reachable_33 rfl (lv_at hl 1 rfl) ?_
    refine lv_istore (lv' := [(4, .int v2), (0, .ref o), (2, .int v2), (3, .int v3)]) hx hb dX5_reachable_34 hl (by decide) rfl (fun ls hl => ?_)
    refine lv_iconst (v := 0) hx hb dX5_reachable_36 (by decide) ?_
    refine lv_istore (lv' := [(5, .int 0), (4, .int v2), (0, .ref o), (2, .int v2), (3, .int v3)]) hx hb dX5_reachable_37 hl (by decide) rfl (fun ls hl => ?_)
    exact lX5_reachable_39 (x := x) (r := r) B k29 kR _ _ _ h H locs ls hR hS (lv_sub hl [2, 3, 1, 0] rfl)
noncomputable def fX5_reachable_l29 (v2 : Int32) (v3 : Int32) (T : TW) : Option ((Int32 × TW)) := whileO (fun q => fX5_reachable_b29 q.1 q.2.1 q.2.2) (v2, v3, T)
theorem lX5_reachable_29 {p : Program} {l : Launch} {e : Env} {s : State} {m : MethodId} {args : Array Value} {below : List Frame} {meth : Method} {c : Code} {G : gE} {o : Nat} (B : gB G RX5 cX5_reachable 6 (some .int) p s m args meth c)  {r : (Int32 × TW)}   : ∀ (v2 : Int32) (v3 : Int32) (T : TW), fX5_reachable_l29 v2 v3 T = some r → ∀ (H : Heap) (locs : List Loc) (ls : Array Slot), RepT G o (T) H → va_S (tFr o) s.heap H locs → lv_has ls 6 [(0, .ref o), (2, .int v2), (3, .int v3)] → W p l e (gRm 3 65) s m args below meth c H locs 0 0 (twZ below args s G o (some (.int r.1)) r.2) (F0 m 29 ls []) := by
  intro v2 v3 T h
  refine wh_walk (body := (fun q => fX5_reachable_b29 q.1 q.2.1 q.2.2)) (P := (fun q : (Int32 × Int32 × TW) => ∀ (H : Heap) (locs : List Loc) (ls : Array Slot), RepT G o (q.2.2) H → va_S (tFr o) s.heap H locs → lv_has ls 6 [(0, .ref o), (2, .int (q.1)), (3, .int (q.2.1))] → W p l e (gRm 3 65) s m args below meth c H locs 0 0 (twZ below args s G o (some (.int r.1)) r.2) (F0 m 29 ls []))) (r := r) ?_ (v2, v3, T) h
  intro q y hy hL hr H locs ls hR hS hl
  exact bX5_reachable_29 (r := r) B hy (fun a0 a1 a2 e => hL (a0, a1, a2) e) (fun q e => hr q e) hR hS hl
noncomputable def fX5_reachable (v1 : Int32) (T : TW) : Option ((Int32 × TW)) :=
  (rd_ (tA T 1) 172 0).bind fun x1 =>
  b2_ (fX5_in v1 0 (x1 - 1) T) fun x5 T4 =>
  b2_ (fX5_isThrown x5 1 T4) fun x8 T7 =>
  if x8 = 0 then (
    nm_ ((1 : Int32) <<< (v1 &&& 31)) fun x10 =>
    fX5_reachable_l29 x10 1 T7
  ) else (
    some (0, T7)
  )
theorem bX5_reachable_0 {p : Program} {l : Launch} {e : Env} {s : State} {m : MethodId} {args : Array Value} {below : List Frame} {meth : Method} {c : Code} {H : Heap} {locs : List Loc} {ls : Array Slot} {G : gE} {o : Nat} (B : gB G RX5 cX5_reachable 6 (some .int) p s m args meth c) {v1 : Int32} {T : TW} {r : (Int32 × TW)} (h : fX5_reachable v1 T = some r)   (hR : RepT G o T H) (hS : va_S (tFr o) s.heap H locs) (hl : lv_has ls 6 [(0, .ref o), (1, .int v1)]) : W p l e (gRm 3 65) s m args below meth c H locs 0 0 (twZ below args s G o (some (.int r.1)) r.2) (F0 m 0 ls []) := by
  have B0 := B
  obtain ⟨hx, hb, hml, hown, hts, hr, hlk, hK⟩ := B0
  unfold fX5_reachable at h
  refine lv_aload_n hx hb dX5_reachable_0 rfl (lv_at hl 0 rfl) ?_
  refine lv_iload_n hx hb dX5_reachable_1 rfl (lv_at hl 1 rfl) ?_
  refine lv_iconst (v := 0) hx hb dX5_reachable_2 (by decide) ?_
  refine lv_aload_n hx hb dX5_reachable_3 rfl (lv_at hl 0 rfl) ?_
  refine tw_get (k := 0) (v := .ref (o + 1)) hx hb hts hown hK hR (by decide) q2433 rfl (fun _ h9 => h9) dX5_reachable_4 ?_
  refine lv_iconst (v := 0) hx hb dX5_reachable_7 (by decide) ?_
  replace h := bo_o h
  obtain ⟨x1, e2, h⟩ := h
  refine tw_iald (q := 1) hx hb hK hR rfl e2 dX5_reachable_8 ?_
  refine lv_iconst (v := 1) hx hb dX5_reachable_9 (by decide) ?_
  refine lv_isub hx hb dX5_reachable_10 ?_
  replace h := b2_o h
  obtain ⟨x5, T4, e3, h⟩ := h
  refine tw_callS 3 (As := [.int v1, .int 0, .int (x1 - 1)]) (rest := [.ref o]) (v := (some (.int x5))) (T' := T4) (st1 := [.int x5, .ref o]) hx hb hml hown hts hK hR (fun _ h9 => h9) (tw_A2 hR) hS (mX5_in e3) (lw_S q2562 q2563 q137 q2564) (by decide +kernel) (Nat.le_of_ble_eq_true rfl) (Nat.le_of_ble_eq_true rfl) (Nat.zero_le _) (Nat.zero_le _) rfl hl.1 (Nat.le_of_ble_eq_true rfl) dX5_reachable_11 rfl rfl (fun H locs hR hS => ?_)
  refine lv_iconst (v := 1) hx hb dX5_reachable_14 (by decide) ?_
  replace h := b2_o h
  obtain ⟨x8, T7, e6, h⟩ := h
  refine tw_callV 2 (As := [.int x5, .int 1]) (rest := []) (v := (some (.int x8))) (T' := T7) (st1 := [.int x8]) hx hb hml hown hts hK hR (fun _ h9 => h9) (tw_A2 hR) hS (mX5_isThrown e6) (lw_V q2633 q2635 qs68 q137 q2636) (by decide +kernel) (Nat.le_of_ble_eq_true rfl) (Nat.le_of_ble_eq_true rfl) (Nat.zero_le _) (Nat.zero_le _) rfl hl.1 (Nat.le_of_ble_eq_true rfl) dX5_reachable_15 rfl rfl (fun H locs hR hS => ?_)
  refine lv_if_eq (tgt := 23) hx hb dX5_reachable_18 (by decide) (fun c9 => ?_) (fun c9 => ?_)
  · replace h := it_o c9 h
    refine lv_iconst (v := 1) hx hb dX5_reachable_23 (by decide) ?_
    refine lv_iload_n hx hb dX5_reachable_24 rfl (lv_at hl 1 rfl) ?_
    refine lv_ishl hx hb dX5_reachable_25 ?_
    replace h := nm_o h
    obtain ⟨x10, e11, h⟩ := h
    refine lv_istore_n (lv' := [(2, .int x10), (0, .ref o), (1, .int v1)]) hx hb dX5_reachable_26 rfl hl (by decide) (by subst e11; rfl) (fun ls hl => ?_)
    refine lv_iconst (v := 1) hx hb dX5_reachable_27 (by decide) ?_
    refine lv_istore_n (lv' := [(3, .int 1), (2, .int x10), (0, .ref o), (1, .int v1)]) hx hb dX5_reachable_28 rfl hl (by decide) rfl (fun ls hl => ?_)
    exact lX5_reachable_29 B _ _ _ h H locs ls hR hS (lv_sub hl [2, 1, 0] rfl)
  · replace h := if_o c9 h
    refine lv_iconst (v := 0) hx hb dX5_reachable_21 (by decide) ?_
    have eR := Option.some.inj h
    subst eR
    exact W.iret (v := 0) hx hb hr (fun t ht _ => tw_fin hR hS ht) hS.2.2 dX5_reachable_22
theorem mX5_reachable {l : Launch} {G : gE} {o : Nat} {v1 : Int32} {T : TW} {r : (Int32 × TW)}  (h : fX5_reachable v1 T = some r) : twM l G o yX5_reachable cX5_reachable 6 (some .int) 3 65 [.ref o, .int v1] T (some (.int r.1)) r.2 :=
  tw_of (by decide +kernel) (Nat.le_of_ble_eq_true rfl) (fun p e s m args below meth c ls B hR hl => bX5_reachable_0 B h hR va_S.rf hl)
noncomputable def fX5_feltInBuffer_b92 (v1 : Int32) (v2 : Int32) (v3 : Int32) (T : TW) : Option ((Int32 × TW)) :=
  b2_ (fX5_trip v1 1 T) fun x3 T2 =>
  if v2 = x3 then (
    some (v3, T2)
  ) else (
    some ((-1), T2)
  )
theorem bX5_feltInBuffer_92 {p : Program} {l : Launch} {e : Env} {s : State} {m : MethodId} {args : Array Value} {below : List Frame} {meth : Method} {c : Code} {H : Heap} {locs : List Loc} {ls : Array Slot} {G : gE} {o : Nat} (B : gB G RX5 cX5_feltInBuffer 6 (some .int) p s m args meth c) {v1 : Int32} {v2 : Int32} {v3 : Int32} {T : TW} {r : (Int32 × TW)} (h : fX5_feltInBuffer_b92 v1 v2 v3 T = some r)   (hR : RepT G o T H) (hS : va_S (tFr o) s.heap H locs) (hl : lv_has ls 6 [(0, .ref o), (1, .int v1), (2, .int v2), (3, .int v3)]) : W p l e (gRm 3 65) s m args below meth c H locs 0 0 (twZ below args s G o (some (.int r.1)) r.2) (F0 m 92 ls []) := by
  have B0 := B
  obtain ⟨hx, hb, hml, hown, hts, hr, hlk, hK⟩ := B0
  unfold fX5_feltInBuffer_b92 at h
  refine lv_iload_n hx hb dX5_feltInBuffer_92 rfl (lv_at hl 2 rfl) ?_
  refine lv_aload_n hx hb dX5_feltInBuffer_93 rfl (lv_at hl 0 rfl) ?_
  refine lv_iload_n hx hb dX5_feltInBuffer_94 rfl (lv_at hl 1 rfl) ?_
  refine lv_iconst (v := 1) hx hb dX5_feltInBuffer_95 (by decide) ?_
  replace h := b2_o h
  obtain ⟨x3, T2, e1, h⟩ := h
  refine tw_callV 2 (As := [.int v1, .int 1]) (rest := [.int v2]) (v := (some (.int x3))) (T' := T2) (st1 := [.int x3, .int v2]) hx hb hml hown hts hK hR (fun _ h9 => h9) (tw_A2 hR) hS (mX5_trip e1) (lw_V q2657 q2659 qs72 q137 q2660) (by decide +kernel) (Nat.le_of_ble_eq_true rfl) (Nat.le_of_ble_eq_true rfl) (Nat.zero_le _) (Nat.zero_le _) rfl hl.1 (Nat.le_of_ble_eq_true rfl) dX5_feltInBuffer_96 rfl rfl (fun H locs hR hS => ?_)
  refine lv_icmp_ne (tgt := 106) hx hb dX5_feltInBuffer_99 (by decide) (fun c4 => ?_) (fun c4 => ?_)
  · replace h := if_o c4 h
    refine lv_iconst (v := (-1)) hx hb dX5_feltInBuffer_106 (by decide) ?_
    have eR := Option.some.inj h
    subst eR
    exact W.iret (v := (-1)) hx hb hr (fun t ht _ => tw_fin hR hS ht) hS.2.2 dX5_feltInBuffer_107
  · replace h := it_o c4 h
    refine lv_iload_n hx hb dX5_feltInBuffer_102 rfl (lv_at hl 3 rfl) ?_
    refine lv_goto (tgt := 107) hx hb dX5_feltInBuffer_103 (by decide) ?_
    have eR := Option.some.inj h
    subst eR
    exact W.iret (v := v3) hx hb hr (fun t ht _ => tw_fin hR hS ht) hS.2.2 dX5_feltInBuffer_107
noncomputable def fX5_feltInBuffer_b12 (v1 : Int32) (v2 : Int32) (v3 : Int32) (v4 : Int32) (T : TW) : Option (Sum (Int32 × Int32 × Int32 × TW) ((Int32 × TW))) :=
  if tI T 8 ≤ v4 then (
    (fX5_feltInBuffer_b92 v1 v2 v3 T).map (fun y => (.inr y))
  ) else (
    (rd_ (tA T 6) 600 v4).bind fun x2 =>
    nm_ ((x2 &&& 255) - 97) fun x4 =>
    b2_ (fX5_isArc x4 T) fun x8 T7 =>
    if x8 = 0 then (
      some (.inr ((-1), T7))
    ) else (
      b2_ (fX5_isOpen x4 T7) fun x12 T11 =>
      if x12 = 0 then (
        some (.inr ((-1), T11))
      ) else (
        b2_ (fX5_arc x4 0 T11) fun x16 T15 =>
        if x16 = v2 then (
          b2_ (fX5_feltOn v1 x4 T15) fun x20 T19 =>
          nm_ (v3 + x20) fun x21 =>
          b2_ (fX5_arc x4 1 T19) fun x25 T24 =>
          some (.inl (x25, x21, v4 + 1, T24))
        ) else (
          some (.inr ((-1), T15))
        )
      )
    )
  )
theorem bX5_feltInBuffer_12 {p : Program} {l : Launch} {e : Env} {s : State} {m : MethodId} {args : Array Value} {below : List Frame} {meth : Method} {c : Code} {H : Heap} {locs : List Loc} {ls : Array Slot} {G : gE} {o : Nat} (B : gB G RX5 cX5_feltInBuffer 6 (some .int) p s m args meth c) {v1 : Int32} {v2 : Int32} {v3 : Int32} {v4 : Int32} {T : TW} {x : Sum (Int32 × Int32 × Int32 × TW) ((Int32 × TW))} {r : (Int32 × TW)} (h : fX5_feltInBuffer_b12 v1 v2 v3 v4 T = some x)  (k12 : ∀ (v2' : Int32) (v3' : Int32) (v4' : Int32) (T' : TW), x = (.inl (v2', v3', v4', T')) → ∀ (H : Heap) (locs : List Loc) (ls : Array Slot), RepT G o (T') H → va_S (tFr o) s.heap H locs → lv_has ls 6 [(0, .ref o), (1, .int v1), (2, .int v2'), (3, .int v3'), (4, .int v4')] → W p l e (gRm 3 65) s m args below meth c H locs 0 0 (twZ below args s G o (some (.int r.1)) r.2) (F0 m 12 ls [])) (kR : ∀ q, x = (.inr q) → q = r) (hR : RepT G o T H) (hS : va_S (tFr o) s.heap H locs) (hl : lv_has ls 6 [(0, .ref o), (1, .int v1), (2, .int v2), (3, .int v3), (4, .int v4)]) : W p l e (gRm 3 65) s m args below meth c H locs 0 0 (twZ below args s G o (some (.int r.1)) r.2) (F0 m 12 ls []) := by
  have B0 := B
  obtain ⟨hx, hb, hml, hown, hts, hr, hlk, hK⟩ := B0
  unfold fX5_feltInBuffer_b12 at h
  refine lv_iload hx hb dX5_feltInBuffer_12 (lv_at hl 4 rfl) ?_
  refine lv_aload_n hx hb dX5_feltInBuffer_14 rfl (lv_at hl 0 rfl) ?_
  refine tw_get (k := 8) (v := .int (tI T 8)) hx hb hts hown hK hR (by decide) q2441 rfl (fun _ h9 => h9) dX5_feltInBuffer_15 ?_
  refine lv_icmp_ge (tgt := 92) hx hb dX5_feltInBuffer_18 (by decide) (fun c1 => ?_) (fun c1 => ?_)
  · replace h := it_o c1 h
    obtain ⟨y, h, ey⟩ := mp_o h
    have ey := kR _ ey.symm
    subst ey
    exact bX5_feltInBuffer_92 B h  hR hS (lv_sub hl [0, 1, 2, 3] rfl)
  · replace h := if_o c1 h
    refine lv_aload_n hx hb dX5_feltInBuffer_21 rfl (lv_at hl 0 rfl) ?_
    refine tw_get (k := 7) (v := .ref (o + 6)) hx hb hts hown hK hR (by decide) q2440 rfl (fun _ h9 => h9) dX5_feltInBuffer_22 ?_
    refine lv_iload hx hb dX5_feltInBuffer_25 (lv_at hl 4 rfl) ?_
    replace h := bo_o h
    obtain ⟨x2, e3, h⟩ := h
    refine tw_bald (q := 6) hx hb hK hR rfl e3 dX5_feltInBuffer_27 ?_
    refine lv_sipush (v := 255) hx hb dX5_feltInBuffer_28 (by decide) ?_
    refine lv_iand hx hb dX5_feltInBuffer_31 ?_
    refine lv_bipush (v := 97) hx hb dX5_feltInBuffer_32 (by decide) ?_
    refine lv_isub hx hb dX5_feltInBuffer_34 ?_
    replace h := nm_o h
    obtain ⟨x4, e5, h⟩ := h
    refine lv_istore (lv' := [(5, .int x4), (0, .ref o), (1, .int v1), (2, .int v2), (3, .int v3), (4, .int v4)]) hx hb dX5_feltInBuffer_35 hl (by decide) (by subst e5; rfl) (fun ls hl => ?_)
    refine lv_aload_n hx hb dX5_feltInBuffer_37 rfl (lv_at hl 1 rfl) ?_
    refine lv_iload hx hb dX5_feltInBuffer_38 (lv_at hl 0 rfl) ?_
    replace h := b2_o h
    obtain ⟨x8, T7, e6, h⟩ := h
    refine tw_callV 1 (As := [.int x4]) (rest := []) (v := (some (.int x8))) (T' := T7) (st1 := [.int x8]) hx hb hml hown hts hK hR (fun _ h9 => h9) (tw_A2 hR) hS (mX5_isArc e6) (lw_V q2645 q2647 qs70 q137 q2648) (by decide +kernel) (Nat.le_of_ble_eq_true rfl) (Nat.le_of_ble_eq_true rfl) (Nat.zero_le _) (Nat.zero_le _) rfl hl.1 (Nat.le_of_ble_eq_true rfl) dX5_feltInBuffer_40 rfl rfl (fun H locs hR hS => ?_)
    refine lv_if_eq (tgt := 66) hx hb dX5_feltInBuffer_43 (by decide) (fun c9 => ?_) (fun c9 => ?_)
    · replace h := it_o c9 h
      refine lv_iconst (v := (-1)) hx hb dX5_feltInBuffer_66 (by decide) ?_
      have eR := kR _ (Option.some.inj h).symm
      subst eR
      exact W.iret (v := (-1)) hx hb hr (fun t ht _ => tw_fin hR hS ht) hS.2.2 dX5_feltInBuffer_67
    · replace h := if_o c9 h
      refine lv_aload_n hx hb dX5_feltInBuffer_46 rfl (lv_at hl 1 rfl) ?_
      refine lv_iload hx hb dX5_feltInBuffer_47 (lv_at hl 0 rfl) ?_
      replace h := b2_o h
      obtain ⟨x12, T11, e10, h⟩ := h
      refine tw_callV 1 (As := [.int x4]) (rest := []) (v := (some (.int x12))) (T' := T11) (st1 := [.int x12]) hx hb hml hown hts hK hR (fun _ h9 => h9) (tw_A2 hR) hS (mX5_isOpen e10) (lw_V q2735 q2737 qs79 q137 q2738) (by decide +kernel) (Nat.le_of_ble_eq_true rfl) (Nat.le_of_ble_eq_true rfl) (Nat.zero_le _) (Nat.zero_le _) rfl hl.1 (Nat.le_of_ble_eq_true rfl) dX5_feltInBuffer_49 rfl rfl (fun H locs hR hS => ?_)
      refine lv_if_eq (tgt := 66) hx hb dX5_feltInBuffer_52 (by decide) (fun c13 => ?_) (fun c13 => ?_)
      · replace h := it_o c13 h
        refine lv_iconst (v := (-1)) hx hb dX5_feltInBuffer_66 (by decide) ?_
        have eR := kR _ (Option.some.inj h).symm
        subst eR
        exact W.iret (v := (-1)) hx hb hr (fun t ht _ => tw_fin hR hS ht) hS.2.2 dX5_feltInBuffer_67
      · replace h := if_o c13 h
        refine lv_aload_n hx hb dX5_feltInBuffer_55 rfl (lv_at hl 1 rfl) ?_
        refine lv_iload hx hb dX5_feltInBuffer_56 (lv_at hl 0 rfl) ?_
        refine lv_iconst (v := 0) hx hb dX5_feltInBuffer_58 (by decide) ?_
        replace h := b2_o h
        obtain ⟨x16, T15, e14, h⟩ := h
        refine tw_callV 2 (As := [.int x4, .int 0]) (rest := []) (v := (some (.int x16))) (T' := T15) (st1 := [.int x16]) hx hb hml hown hts hK hR (fun _ h9 => h9) (tw_A2 hR) hS (mX5_arc e14) (lw_V q2637 q2639 qs69 q137 q2640) (by decide +kernel) (Nat.le_of_ble_eq_true rfl) (Nat.le_of_ble_eq_true rfl) (Nat.zero_le _) (Nat.zero_le _) rfl hl.1 (Nat.le_of_ble_eq_true rfl) dX5_feltInBuffer_59 rfl rfl (fun H locs hR hS => ?_)
        refine lv_iload_n hx hb dX5_feltInBuffer_62 rfl (lv_at hl 3 rfl) ?_
        refine lv_icmp_eq (tgt := 68) hx hb dX5_feltInBuffer_63 (by decide) (fun c17 => ?_) (fun c17 => ?_)
        · replace h := it_o c17 h
          refine lv_iload_n hx hb dX5_feltInBuffer_68 rfl (lv_at hl 4 rfl) ?_
          refine lv_aload_n hx hb dX5_feltInBuffer_69 rfl (lv_at hl 1 rfl) ?_
          refine lv_iload_n hx hb dX5_feltInBuffer_70 rfl (lv_at hl 2 rfl) ?_
          refine lv_iload hx hb dX5_feltInBuffer_71 (lv_at hl 0 rfl) ?_
          replace h := b2_o h
          obtain ⟨x20, T19, e18, h⟩ := h
          refine tw_callV 2 (As := [.int v1, .int x4]) (rest := [.int v3]) (v := (some (.int x20))) (T' := T19) (st1 := [.int x20, .int v3]) hx hb hml hown hts hK hR (fun _ h9 => h9) (tw_A2 hR) hS (mX5_feltOn e18) (lw_V q2747 q2749 qs81 q137 q2750) (by decide +kernel) (Nat.le_of_ble_eq_true rfl) (Nat.le_of_ble_eq_true rfl) (Nat.zero_le _) (Nat.zero_le _) rfl hl.1 (Nat.le_of_ble_eq_true rfl) dX5_feltInBuffer_73 rfl rfl (fun H locs hR hS => ?_)
          refine lv_iadd hx hb dX5_feltInBuffer_76 ?_
          replace h := nm_o h
          obtain ⟨x21, e22, h⟩ := h
          refine lv_istore_n (lv' := [(3, .int x21), (5, .int x4), (0, .ref o), (1, .int v1), (2, .int v2), (4, .int v4)]) hx hb dX5_feltInBuffer_77 rfl hl (by decide) (by subst e22; rfl) (fun ls hl => ?_)
          refine lv_aload_n hx hb dX5_feltInBuffer_78 rfl (lv_at hl 2 rfl) ?_
          refine lv_iload hx hb dX5_feltInBuffer_79 (lv_at hl 1 rfl) ?_
          refine lv_iconst (v := 1) hx hb dX5_feltInBuffer_81 (by decide) ?_
          replace h := b2_o h
          obtain ⟨x25, T24, e23, h⟩ := h
          refine tw_callV 2 (As := [.int x4, .int 1]) (rest := []) (v := (some (.int x25))) (T' := T24) (st1 := [.int x25]) hx hb hml hown hts hK hR (fun _ h9 => h9) (tw_A2 hR) hS (mX5_arc e23) (lw_V q2637 q2639 qs69 q137 q2640) (by decide +kernel) (Nat.le_of_ble_eq_true rfl) (Nat.le_of_ble_eq_true rfl) (Nat.zero_le _) (Nat.zero_le _) rfl hl.1 (Nat.le_of_ble_eq_true rfl) dX5_feltInBuffer_82 rfl rfl (fun H locs hR hS => ?_)
          refine lv_istore_n (lv' := [(2, .int x25), (3, .int x21), (5, .int x4), (0, .ref o), (1, .int v1), (4, .int v4)]) hx hb dX5_feltInBuffer_85 rfl hl (by decide) rfl (fun ls hl => ?_)
          refine lv_iinc (v := v4 + 1) (lv' := [(4, .int (v4 + 1)), (2, .int x25), (3, .int x21), (5, .int x4), (0, .ref o), (1, .int v1)]) hx hb dX5_feltInBuffer_86 hl (k := 5) rfl rfl (by decide) rfl (fun ls hl => ?_)
          refine lv_goto (tgt := 12) hx hb dX5_feltInBuffer_89 (by decide) ?_
          exact k12 _ _ _ _ (Option.some.inj h).symm H locs ls hR hS (lv_sub hl [4, 5, 1, 2, 0] rfl)
        · replace h := if_o c17 h
          refine lv_iconst (v := (-1)) hx hb dX5_feltInBuffer_66 (by decide) ?_
          have eR := kR _ (Option.some.inj h).symm
          subst eR
          exact W.iret (v := (-1)) hx hb hr (fun t ht _ => tw_fin hR hS ht) hS.2.2 dX5_feltInBuffer_67
noncomputable def fX5_feltInBuffer_l12 (v1 : Int32) (v2 : Int32) (v3 : Int32) (v4 : Int32) (T : TW) : Option ((Int32 × TW)) := whileO (fun q => fX5_feltInBuffer_b12 v1 q.1 q.2.1 q.2.2.1 q.2.2.2) (v2, v3, v4, T)
theorem lX5_feltInBuffer_12 {p : Program} {l : Launch} {e : Env} {s : State} {m : MethodId} {args : Array Value} {below : List Frame} {meth : Method} {c : Code} {G : gE} {o : Nat} (B : gB G RX5 cX5_feltInBuffer 6 (some .int) p s m args meth c) {v1 : Int32} {r : (Int32 × TW)}   : ∀ (v2 : Int32) (v3 : Int32) (v4 : Int32) (T : TW), fX5_feltInBuffer_l12 v1 v2 v3 v4 T = some r → ∀ (H : Heap) (locs : List Loc) (ls : Array Slot), RepT G o (T) H → va_S (tFr o) s.heap H locs → lv_has ls 6 [(0, .ref o), (1, .int v1), (2, .int v2), (3, .int v3), (4, .int v4)] → W p l e (gRm 3 65) s m args below meth c H locs 0 0 (twZ below args s G o (some (.int r.1)) r.2) (F0 m 12 ls []) := by
  intro v2 v3 v4 T h
  refine wh_walk (body := (fun q => fX5_feltInBuffer_b12 v1 q.1 q.2.1 q.2.2.1 q.2.2.2)) (P := (fun q : (Int32 × Int32 × Int32 × TW) => ∀ (H : Heap) (locs : List Loc) (ls : Array Slot), RepT G o (q.2.2.2) H → va_S (tFr o) s.heap H locs → lv_has ls 6 [(0, .ref o), (1, .int v1), (2, .int (q.1)), (3, .int (q.2.1)), (4, .int (q.2.2.1))] → W p l e (gRm 3 65) s m args below meth c H locs 0 0 (twZ below args s G o (some (.int r.1)) r.2) (F0 m 12 ls []))) (r := r) ?_ (v2, v3, v4, T) h
  intro q y hy hL hr H locs ls hR hS hl
  exact bX5_feltInBuffer_12 (r := r) B hy (fun a0 a1 a2 a3 e => hL (a0, a1, a2, a3) e) (fun q e => hr q e) hR hS hl
noncomputable def fX5_feltInBuffer (v1 : Int32) (T : TW) : Option ((Int32 × TW)) :=
  b2_ (fX5_trip v1 0 T) fun x3 T2 =>
  fX5_feltInBuffer_l12 v1 x3 0 0 T2
theorem bX5_feltInBuffer_0 {p : Program} {l : Launch} {e : Env} {s : State} {m : MethodId} {args : Array Value} {below : List Frame} {meth : Method} {c : Code} {H : Heap} {locs : List Loc} {ls : Array Slot} {G : gE} {o : Nat} (B : gB G RX5 cX5_feltInBuffer 6 (some .int) p s m args meth c) {v1 : Int32} {T : TW} {r : (Int32 × TW)} (h : fX5_feltInBuffer v1 T = some r)   (hR : RepT G o T H) (hS : va_S (tFr o) s.heap H locs) (hl : lv_has ls 6 [(0, .ref o), (1, .int v1)]) : W p l e (gRm 3 65) s m args below meth c H locs 0 0 (twZ below args s G o (some (.int r.1)) r.2) (F0 m 0 ls []) := by
  have B0 := B
  obtain ⟨hx, hb, hml, hown, hts, hr, hlk, hK⟩ := B0
  unfold fX5_feltInBuffer at h
  refine lv_aload_n hx hb dX5_feltInBuffer_0 rfl (lv_at hl 0 rfl) ?_
  refine lv_iload_n hx hb dX5_feltInBuffer_1 rfl (lv_at hl 1 rfl) ?_
  refine lv_iconst (v := 0) hx hb dX5_feltInBuffer_2 (by decide) ?_
  replace h := b2_o h
  obtain ⟨x3, T2, e1, h⟩ := h
  refine tw_callV 2 (As := [.int v1, .int 0]) (rest := []) (v := (some (.int x3))) (T' := T2) (st1 := [.int x3]) hx hb hml hown hts hK hR (fun _ h9 => h9) (tw_A2 hR) hS (mX5_trip e1) (lw_V q2657 q2659 qs72 q137 q2660) (by decide +kernel) (Nat.le_of_ble_eq_true rfl) (Nat.le_of_ble_eq_true rfl) (Nat.zero_le _) (Nat.zero_le _) rfl hl.1 (Nat.le_of_ble_eq_true rfl) dX5_feltInBuffer_3 rfl rfl (fun H locs hR hS => ?_)
  refine lv_istore_n (lv' := [(2, .int x3), (0, .ref o), (1, .int v1)]) hx hb dX5_feltInBuffer_6 rfl hl (by decide) rfl (fun ls hl => ?_)
  refine lv_iconst (v := 0) hx hb dX5_feltInBuffer_7 (by decide) ?_
  refine lv_istore_n (lv' := [(3, .int 0), (2, .int x3), (0, .ref o), (1, .int v1)]) hx hb dX5_feltInBuffer_8 rfl hl (by decide) rfl (fun ls hl => ?_)
  refine lv_iconst (v := 0) hx hb dX5_feltInBuffer_9 (by decide) ?_
  refine lv_istore (lv' := [(4, .int 0), (3, .int 0), (2, .int x3), (0, .ref o), (1, .int v1)]) hx hb dX5_feltInBuffer_10 hl (by decide) rfl (fun ls hl => ?_)
  exact lX5_feltInBuffer_12 B _ _ _ _ h H locs ls hR hS (lv_sub hl [3, 4, 2, 1, 0] rfl)
theorem mX5_feltInBuffer {l : Launch} {G : gE} {o : Nat} {v1 : Int32} {T : TW} {r : (Int32 × TW)}  (h : fX5_feltInBuffer v1 T = some r) : twM l G o yX5_feltInBuffer cX5_feltInBuffer 6 (some .int) 3 65 [.ref o, .int v1] T (some (.int r.1)) r.2 :=
  tw_of (by decide +kernel) (Nat.le_of_ble_eq_true rfl) (fun p e s m args below meth c ls B hR hl => bX5_feltInBuffer_0 B h hR va_S.rf hl)
noncomputable def fX5_judge (v1 : Int32) (T : TW) : Option ((Int32 × TW)) :=
  b2_ (fX5_isTrip v1 T) fun x3 T2 =>
  b2_ (fX5_isThrown x3 1 T2) fun x6 T5 =>
  if x6 = 0 then (
    b2_ (fX5_feltInBuffer v1 T5) fun x10 T9 =>
    nm_ (tsI T9 8 0) fun T11 =>
    if x10 = (-1) then (
      some ((-4), T11)
    ) else (
      b2_ (fX5_felts v1 T11) fun x16 T15 =>
      some (x10 - x16, T15)
    )
  ) else (
    some (0, T5)
  )
theorem bX5_judge_0 {p : Program} {l : Launch} {e : Env} {s : State} {m : MethodId} {args : Array Value} {below : List Frame} {meth : Method} {c : Code} {H : Heap} {locs : List Loc} {ls : Array Slot} {G : gE} {o : Nat} (B : gB G RX5 cX5_judge 3 (some .int) p s m args meth c) {v1 : Int32} {T : TW} {r : (Int32 × TW)} (h : fX5_judge v1 T = some r)   (hR : RepT G o T H) (hS : va_S (tFr o) s.heap H locs) (hl : lv_has ls 3 [(0, .ref o), (1, .int v1)]) : W p l e (gRm 8 177) s m args below meth c H locs 0 0 (twZ below args s G o (some (.int r.1)) r.2) (F0 m 0 ls []) := by
  have B0 := B
  obtain ⟨hx, hb, hml, hown, hts, hr, hlk, hK⟩ := B0
  unfold fX5_judge at h
  refine lv_aload_n hx hb dX5_judge_0 rfl (lv_at hl 0 rfl) ?_
  refine lv_aload_n hx hb dX5_judge_1 rfl (lv_at hl 0 rfl) ?_
  refine lv_iload_n hx hb dX5_judge_2 rfl (lv_at hl 1 rfl) ?_
  replace h := b2_o h
  obtain ⟨x3, T2, e1, h⟩ := h
  refine tw_callV 1 (As := [.int v1]) (rest := [.ref o]) (v := (some (.int x3))) (T' := T2) (st1 := [.int x3, .ref o]) hx hb hml hown hts hK hR (fun _ h9 => h9) (tw_A2 hR) hS (mX5_isTrip e1) (lw_V q2653 q2655 qs71 q137 q2656) (by decide +kernel) (Nat.le_of_ble_eq_true rfl) (Nat.le_of_ble_eq_true rfl) (Nat.zero_le _) (Nat.zero_le _) rfl hl.1 (Nat.le_of_ble_eq_true rfl) dX5_judge_3 rfl rfl (fun H locs hR hS => ?_)
  refine lv_iconst (v := 1) hx hb dX5_judge_6 (by decide) ?_
  replace h := b2_o h
  obtain ⟨x6, T5, e4, h⟩ := h
  refine tw_callV 2 (As := [.int x3, .int 1]) (rest := []) (v := (some (.int x6))) (T' := T5) (st1 := [.int x6]) hx hb hml hown hts hK hR (fun _ h9 => h9) (tw_A2 hR) hS (mX5_isThrown e4) (lw_V q2633 q2635 qs68 q137 q2636) (by decide +kernel) (Nat.le_of_ble_eq_true rfl) (Nat.le_of_ble_eq_true rfl) (Nat.zero_le _) (Nat.zero_le _) rfl hl.1 (Nat.le_of_ble_eq_true rfl) dX5_judge_7 rfl rfl (fun H locs hR hS => ?_)
  refine lv_if_eq (tgt := 15) hx hb dX5_judge_10 (by decide) (fun c7 => ?_) (fun c7 => ?_)
  · replace h := it_o c7 h
    refine lv_aload_n hx hb dX5_judge_15 rfl (lv_at hl 0 rfl) ?_
    refine lv_iload_n hx hb dX5_judge_16 rfl (lv_at hl 1 rfl) ?_
    replace h := b2_o h
    obtain ⟨x10, T9, e8, h⟩ := h
    refine tw_callV 1 (As := [.int v1]) (rest := []) (v := (some (.int x10))) (T' := T9) (st1 := [.int x10]) hx hb hml hown hts hK hR (fun _ h9 => h9) (tw_A2 hR) hS (mX5_feltInBuffer e8) (lw_V q2988 q2990 qs106 q137 q2991) (by decide +kernel) (Nat.le_of_ble_eq_true rfl) (Nat.le_of_ble_eq_true rfl) (Nat.zero_le _) (Nat.zero_le _) rfl hl.1 (Nat.le_of_ble_eq_true rfl) dX5_judge_17 rfl rfl (fun H locs hR hS => ?_)
    refine lv_istore_n (lv' := [(2, .int x10), (0, .ref o), (1, .int v1)]) hx hb dX5_judge_20 rfl hl (by decide) rfl (fun ls hl => ?_)
    refine lv_aload_n hx hb dX5_judge_21 rfl (lv_at hl 1 rfl) ?_
    refine lv_iconst (v := 0) hx hb dX5_judge_22 (by decide) ?_
    replace h := nm_o h
    obtain ⟨T11, e12, h⟩ := h
    refine tw_putI (k := 8) (x := 0) (ty := .int) (T' := T11) hx hb hts hown hK hR (fun _ h9 => h9) hS (by decide) rfl e12 q2441 (fun _ h9 => h9) rfl (by decide +kernel) rfl rfl dX5_judge_23 (fun H locs hR hS => ?_)
    refine lv_iload_n hx hb dX5_judge_26 rfl (lv_at hl 0 rfl) ?_
    refine lv_iconst (v := (-1)) hx hb dX5_judge_27 (by decide) ?_
    refine lv_icmp_ne (tgt := 36) hx hb dX5_judge_28 (by decide) (fun c13 => ?_) (fun c13 => ?_)
    · replace h := if_o c13 h
      refine lv_iload_n hx hb dX5_judge_36 rfl (lv_at hl 0 rfl) ?_
      refine lv_aload_n hx hb dX5_judge_37 rfl (lv_at hl 1 rfl) ?_
      refine lv_iload_n hx hb dX5_judge_38 rfl (lv_at hl 2 rfl) ?_
      replace h := b2_o h
      obtain ⟨x16, T15, e14, h⟩ := h
      refine tw_callV 1 (As := [.int v1]) (rest := [.int x10]) (v := (some (.int x16))) (T' := T15) (st1 := [.int x16, .int x10]) hx hb hml hown hts hK hR (fun _ h9 => h9) (tw_A2 hR) hS (mX5_felts e14) (lw_V q2781 q2783 qs84 q137 q2784) (by decide +kernel) (Nat.le_of_ble_eq_true rfl) (Nat.le_of_ble_eq_true rfl) (Nat.zero_le _) (Nat.zero_le _) rfl hl.1 (Nat.le_of_ble_eq_true rfl) dX5_judge_39 rfl rfl (fun H locs hR hS => ?_)
      refine lv_isub hx hb dX5_judge_42 ?_
      have eR := Option.some.inj h
      subst eR
      exact W.iret (v := x10 - x16) hx hb hr (fun t ht _ => tw_fin hR hS ht) hS.2.2 dX5_judge_43
    · replace h := it_o c13 h
      refine lv_bipush (v := (-4)) hx hb dX5_judge_31 (by decide) ?_
      refine lv_goto (tgt := 43) hx hb dX5_judge_33 (by decide) ?_
      have eR := Option.some.inj h
      subst eR
      exact W.iret (v := (-4)) hx hb hr (fun t ht _ => tw_fin hR hS ht) hS.2.2 dX5_judge_43
  · replace h := if_o c7 h
    refine lv_iconst (v := 0) hx hb dX5_judge_13 (by decide) ?_
    have eR := Option.some.inj h
    subst eR
    exact W.iret (v := 0) hx hb hr (fun t ht _ => tw_fin hR hS ht) hS.2.2 dX5_judge_14
theorem mX5_judge {l : Launch} {G : gE} {o : Nat} {v1 : Int32} {T : TW} {r : (Int32 × TW)}  (h : fX5_judge v1 T = some r) : twM l G o yX5_judge cX5_judge 3 (some .int) 8 177 [.ref o, .int v1] T (some (.int r.1)) r.2 :=
  tw_of (by decide +kernel) (Nat.le_of_ble_eq_true rfl) (fun p e s m args below meth c ls B hR hl => bX5_judge_0 B h hR va_S.rf hl)
noncomputable def fX5_feltAside_b67 (v1 : Int32) (v2 : Int32) (v3 : Int32) (v4 : Int32) (T : TW) : Option ((Int32 × TW)) :=
  (rd_ (tA T 15) 10 v2).bind fun x1 =>
  nm_ (tsI T 18 x1) fun T3 =>
  (fX5_laysLeast v1 T3).bind fun T6 =>
  nm_ (tsI T6 18 (-1)) fun T7 =>
  nm_ (tsI T7 17 0) fun T9 =>
  (rd_ (tA T9 9) 10 v4).bind fun x11 =>
  if x11 = (-1) then (
    some (2147483647, T9)
  ) else (
    (rd_ (tA T9 9) 10 v4).bind fun x14 =>
    some (v3 + x14, T9)
  )
theorem bX5_feltAside_67 {p : Program} {l : Launch} {e : Env} {s : State} {m : MethodId} {args : Array Value} {below : List Frame} {meth : Method} {c : Code} {H : Heap} {locs : List Loc} {ls : Array Slot} {G : gE} {o : Nat} (B : gB G RX5 cX5_feltAside 6 (some .int) p s m args meth c) {v1 : Int32} {v2 : Int32} {v3 : Int32} {v4 : Int32} {T : TW} {r : (Int32 × TW)} (h : fX5_feltAside_b67 v1 v2 v3 v4 T = some r)   (hR : RepT G o T H) (hS : va_S (tFr o) s.heap H locs) (hl : lv_has ls 6 [(0, .ref o), (1, .int v1), (2, .int v2), (3, .int v3), (4, .int v4)]) : W p l e (gRm 6 134) s m args below meth c H locs 0 0 (twZ below args s G o (some (.int r.1)) r.2) (F0 m 67 ls []) := by
  have B0 := B
  obtain ⟨hx, hb, hml, hown, hts, hr, hlk, hK⟩ := B0
  unfold fX5_feltAside_b67 at h
  refine lv_aload_n hx hb dX5_feltAside_67 rfl (lv_at hl 0 rfl) ?_
  refine lv_aload_n hx hb dX5_feltAside_68 rfl (lv_at hl 0 rfl) ?_
  refine tw_get (k := 30) (v := .ref (o + 15)) hx hb hts hown hK hR (by decide) q2463 rfl (fun _ h9 => h9) dX5_feltAside_69 ?_
  refine lv_iload_n hx hb dX5_feltAside_72 rfl (lv_at hl 2 rfl) ?_
  replace h := bo_o h
  obtain ⟨x1, e2, h⟩ := h
  refine tw_iald (q := 15) hx hb hK hR rfl e2 dX5_feltAside_73 ?_
  replace h := nm_o h
  obtain ⟨T3, e4, h⟩ := h
  refine tw_putI (k := 18) (x := x1) (ty := .int) (T' := T3) hx hb hts hown hK hR (fun _ h9 => h9) hS (by decide) rfl e4 q2451 (fun _ h9 => h9) rfl (by decide +kernel) rfl rfl dX5_feltAside_74 (fun H locs hR hS => ?_)
  refine lv_aload_n hx hb dX5_feltAside_77 rfl (lv_at hl 0 rfl) ?_
  refine lv_iload_n hx hb dX5_feltAside_78 rfl (lv_at hl 1 rfl) ?_
  replace h := bo_o h
  obtain ⟨T6, e5, h⟩ := h
  refine tw_callV 1 (As := [.int v1]) (rest := []) (v := none) (T' := T6) (st1 := []) hx hb hml hown hts hK hR (fun _ h9 => h9) (tw_A2 hR) hS (mX5_laysLeast e5) (lw_V q2833 q2835 qs91 q137 q2836) (by decide +kernel) (Nat.le_of_ble_eq_true rfl) (Nat.le_of_ble_eq_true rfl) (Nat.zero_le _) (Nat.zero_le _) rfl hl.1 (Nat.le_of_ble_eq_true rfl) dX5_feltAside_79 rfl rfl (fun H locs hR hS => ?_)
  refine lv_aload_n hx hb dX5_feltAside_82 rfl (lv_at hl 0 rfl) ?_
  refine lv_iconst (v := (-1)) hx hb dX5_feltAside_83 (by decide) ?_
  replace h := nm_o h
  obtain ⟨T7, e8, h⟩ := h
  refine tw_putI (k := 18) (x := (-1)) (ty := .int) (T' := T7) hx hb hts hown hK hR (fun _ h9 => h9) hS (by decide) rfl e8 q2451 (fun _ h9 => h9) rfl (by decide +kernel) rfl rfl dX5_feltAside_84 (fun H locs hR hS => ?_)
  refine lv_aload_n hx hb dX5_feltAside_87 rfl (lv_at hl 0 rfl) ?_
  refine lv_iconst (v := 0) hx hb dX5_feltAside_88 (by decide) ?_
  replace h := nm_o h
  obtain ⟨T9, e10, h⟩ := h
  refine tw_putI (k := 17) (x := 0) (ty := .int) (T' := T9) hx hb hts hown hK hR (fun _ h9 => h9) hS (by decide) rfl e10 q2450 (fun _ h9 => h9) rfl (by decide +kernel) rfl rfl dX5_feltAside_89 (fun H locs hR hS => ?_)
  refine lv_aload_n hx hb dX5_feltAside_92 rfl (lv_at hl 0 rfl) ?_
  refine tw_get (k := 22) (v := .ref (o + 9)) hx hb hts hown hK hR (by decide) q2455 rfl (fun _ h9 => h9) dX5_feltAside_93 ?_
  refine lv_iload hx hb dX5_feltAside_96 (lv_at hl 4 rfl) ?_
  replace h := bo_o h
  obtain ⟨x11, e12, h⟩ := h
  refine tw_iald (q := 9) hx hb hK hR rfl e12 dX5_feltAside_98 ?_
  refine lv_iconst (v := (-1)) hx hb dX5_feltAside_99 (by decide) ?_
  refine lv_icmp_ne (tgt := 109) hx hb dX5_feltAside_100 (by decide) (fun c13 => ?_) (fun c13 => ?_)
  · replace h := if_o c13 h
    refine lv_iload_n hx hb dX5_feltAside_109 rfl (lv_at hl 3 rfl) ?_
    refine lv_aload_n hx hb dX5_feltAside_110 rfl (lv_at hl 0 rfl) ?_
    refine tw_get (k := 22) (v := .ref (o + 9)) hx hb hts hown hK hR (by decide) q2455 rfl (fun _ h9 => h9) dX5_feltAside_111 ?_
    refine lv_iload hx hb dX5_feltAside_114 (lv_at hl 4 rfl) ?_
    replace h := bo_o h
    obtain ⟨x14, e15, h⟩ := h
    refine tw_iald (q := 9) hx hb hK hR rfl e15 dX5_feltAside_116 ?_
    refine lv_iadd hx hb dX5_feltAside_117 ?_
    have eR := Option.some.inj h
    subst eR
    exact W.iret (v := v3 + x14) hx hb hr (fun t ht _ => tw_fin hR hS ht) hS.2.2 dX5_feltAside_118
  · replace h := it_o c13 h
    refine lv_ldcw (v := 2147483647) hx hb hown (hts _ q2843) dX5_feltAside_103 ?_
    refine lv_goto (tgt := 118) hx hb dX5_feltAside_106 (by decide) ?_
    have eR := Option.some.inj h
    subst eR
    exact W.iret (v := 2147483647) hx hb hr (fun t ht _ => tw_fin hR hS ht) hS.2.2 dX5_feltAside_118
noncomputable def fX5_feltAside_b13 (v1 : Int32) (v2 : Int32) (v3 : Int32) (v4 : Int32) (v5 : Int32) (T : TW) : Option (Sum (Int32 × Int32 × Int32 × TW) ((Int32 × TW))) :=
  if v2 ≤ v5 then (
    (fX5_feltAside_b67 v1 v2 v3 v4 T).map (fun y => (.inr y))
  ) else (
    (rd_ (tA T 15) 10 v5).bind fun x2 =>
    b2_ (fX5_feltOn v1 x2 T) fun x6 T5 =>
    nm_ (v3 + x6) fun x7 =>
    nm_ (tsI T5 17 ((tI T5 17) ||| ((1 : Int32) <<< (v4 &&& 31)))) fun T9 =>
    (rd_ (tA T9 15) 10 v5).bind fun x11 =>
    b2_ (fX5_arc x11 1 T9) fun x15 T14 =>
    some (.inl (x7, x15, v5 + 1, T14))
  )
theorem bX5_feltAside_13 {p : Program} {l : Launch} {e : Env} {s : State} {m : MethodId} {args : Array Value} {below : List Frame} {meth : Method} {c : Code} {H : Heap} {locs : List Loc} {ls : Array Slot} {G : gE} {o : Nat} (B : gB G RX5 cX5_feltAside 6 (some .int) p s m args meth c) {v1 : Int32} {v2 : Int32} {v3 : Int32} {v4 : Int32} {v5 : Int32} {T : TW} {x : Sum (Int32 × Int32 × Int32 × TW) ((Int32 × TW))} {r : (Int32 × TW)} (h : fX5_feltAside_b13 v1 v2 v3 v4 v5 T = some x)  (k13 : ∀ (v3' : Int32) (v4' : Int32) (v5' : Int32) (T' : TW), x = (.inl (v3', v4', v5', T')) → ∀ (H : Heap) (locs : List Loc) (ls : Array Slot), RepT G o (T') H → va_S (tFr o) s.heap H locs → lv_has ls 6 [(0, .ref o), (1, .int v1), (2, .int v2), (3, .int v3'), (4, .int v4'), (5, .int v5')] → W p l e (gRm 6 134) s m args below meth c H locs 0 0 (twZ below args s G o (some (.int r.1)) r.2) (F0 m 13 ls [])) (kR : ∀ q, x = (.inr q) → q = r) (hR : RepT G o T H) (hS : va_S (tFr o) s.heap H locs) (hl : lv_has ls 6 [(0, .ref o), (1, .int v1), (2, .int v2), (3, .int v3), (4, .int v4), (5, .int v5)]) : W p l e (gRm 6 134) s m args below meth c H locs 0 0 (twZ below args s G o (some (.int r.1)) r.2) (F0 m 13 ls []) := by
  have B0 := B
  obtain ⟨hx, hb, hml, hown, hts, hr, hlk, hK⟩ := B0
  unfold fX5_feltAside_b13 at h
  refine lv_iload hx hb dX5_feltAside_13 (lv_at hl 5 rfl) ?_
  refine lv_iload_n hx hb dX5_feltAside_15 rfl (lv_at hl 2 rfl) ?_
  refine lv_icmp_ge (tgt := 67) hx hb dX5_feltAside_16 (by decide) (fun c1 => ?_) (fun c1 => ?_)
  · replace h := it_o c1 h
    obtain ⟨y, h, ey⟩ := mp_o h
    have ey := kR _ ey.symm
    subst ey
    exact bX5_feltAside_67 B h  hR hS (lv_sub hl [0, 1, 2, 3, 4] rfl)
  · replace h := if_o c1 h
    refine lv_iload_n hx hb dX5_feltAside_19 rfl (lv_at hl 3 rfl) ?_
    refine lv_aload_n hx hb dX5_feltAside_20 rfl (lv_at hl 0 rfl) ?_
    refine lv_iload_n hx hb dX5_feltAside_21 rfl (lv_at hl 1 rfl) ?_
    refine lv_aload_n hx hb dX5_feltAside_22 rfl (lv_at hl 0 rfl) ?_
    refine tw_get (k := 30) (v := .ref (o + 15)) hx hb hts hown hK hR (by decide) q2463 rfl (fun _ h9 => h9) dX5_feltAside_23 ?_
    refine lv_iload hx hb dX5_feltAside_26 (lv_at hl 5 rfl) ?_
    replace h := bo_o h
    obtain ⟨x2, e3, h⟩ := h
    refine tw_iald (q := 15) hx hb hK hR rfl e3 dX5_feltAside_28 ?_
    replace h := b2_o h
    obtain ⟨x6, T5, e4, h⟩ := h
    refine tw_callV 2 (As := [.int v1, .int x2]) (rest := [.int v3]) (v := (some (.int x6))) (T' := T5) (st1 := [.int x6, .int v3]) hx hb hml hown hts hK hR (fun _ h9 => h9) (tw_A2 hR) hS (mX5_feltOn e4) (lw_V q2747 q2749 qs81 q137 q2750) (by decide +kernel) (Nat.le_of_ble_eq_true rfl) (Nat.le_of_ble_eq_true rfl) (Nat.zero_le _) (Nat.zero_le _) rfl hl.1 (Nat.le_of_ble_eq_true rfl) dX5_feltAside_29 rfl rfl (fun H locs hR hS => ?_)
    refine lv_iadd hx hb dX5_feltAside_32 ?_
    replace h := nm_o h
    obtain ⟨x7, e8, h⟩ := h
    refine lv_istore_n (lv' := [(3, .int x7), (0, .ref o), (1, .int v1), (2, .int v2), (4, .int v4), (5, .int v5)]) hx hb dX5_feltAside_33 rfl hl (by decide) (by subst e8; rfl) (fun ls hl => ?_)
    refine lv_aload_n hx hb dX5_feltAside_34 rfl (lv_at hl 1 rfl) ?_
    refine lv_dup hx hb dX5_feltAside_35 rfl ?_
    refine tw_get (k := 17) (v := .int (tI T5 17)) hx hb hts hown hK hR (by decide) q2450 rfl (fun _ h9 => h9) dX5_feltAside_36 ?_
    refine lv_iconst (v := 1) hx hb dX5_feltAside_39 (by decide) ?_
    refine lv_iload hx hb dX5_feltAside_40 (lv_at hl 4 rfl) ?_
    refine lv_ishl hx hb dX5_feltAside_42 ?_
    refine lv_ior hx hb dX5_feltAside_43 ?_
    replace h := nm_o h
    obtain ⟨T9, e10, h⟩ := h
    refine tw_putI (k := 17) (x := (tI T5 17) ||| ((1 : Int32) <<< (v4 &&& 31))) (ty := .int) (T' := T9) hx hb hts hown hK hR (fun _ h9 => h9) hS (by decide) rfl e10 q2450 (fun _ h9 => h9) rfl (by decide +kernel) rfl rfl dX5_feltAside_44 (fun H locs hR hS => ?_)
    refine lv_aload_n hx hb dX5_feltAside_47 rfl (lv_at hl 1 rfl) ?_
    refine lv_aload_n hx hb dX5_feltAside_48 rfl (lv_at hl 1 rfl) ?_
    refine tw_get (k := 30) (v := .ref (o + 15)) hx hb hts hown hK hR (by decide) q2463 rfl (fun _ h9 => h9) dX5_feltAside_49 ?_
    refine lv_iload hx hb dX5_feltAside_52 (lv_at hl 5 rfl) ?_
    replace h := bo_o h
    obtain ⟨x11, e12, h⟩ := h
    refine tw_iald (q := 15) hx hb hK hR rfl e12 dX5_feltAside_54 ?_
    refine lv_iconst (v := 1) hx hb dX5_feltAside_55 (by decide) ?_
    replace h := b2_o h
    obtain ⟨x15, T14, e13, h⟩ := h
    refine tw_callV 2 (As := [.int x11, .int 1]) (rest := []) (v := (some (.int x15))) (T' := T14) (st1 := [.int x15]) hx hb hml hown hts hK hR (fun _ h9 => h9) (tw_A2 hR) hS (mX5_arc e13) (lw_V q2637 q2639 qs69 q137 q2640) (by decide +kernel) (Nat.le_of_ble_eq_true rfl) (Nat.le_of_ble_eq_true rfl) (Nat.zero_le _) (Nat.zero_le _) rfl hl.1 (Nat.le_of_ble_eq_true rfl) dX5_feltAside_56 rfl rfl (fun H locs hR hS => ?_)
    refine lv_istore (lv' := [(4, .int x15), (3, .int x7), (0, .ref o), (1, .int v1), (2, .int v2), (5, .int v5)]) hx hb dX5_feltAside_59 hl (by decide) rfl (fun ls hl => ?_)
    refine lv_iinc (v := v5 + 1) (lv' := [(5, .int (v5 + 1)), (4, .int x15), (3, .int x7), (0, .ref o), (1, .int v1), (2, .int v2)]) hx hb dX5_feltAside_61 hl (k := 5) rfl rfl (by decide) rfl (fun ls hl => ?_)
    refine lv_goto (tgt := 13) hx hb dX5_feltAside_64 (by decide) ?_
    exact k13 _ _ _ _ (Option.some.inj h).symm H locs ls hR hS (lv_sub hl [3, 4, 5, 2, 1, 0] rfl)
noncomputable def fX5_feltAside_l13 (v1 : Int32) (v2 : Int32) (v3 : Int32) (v4 : Int32) (v5 : Int32) (T : TW) : Option ((Int32 × TW)) := whileO (fun q => fX5_feltAside_b13 v1 v2 q.1 q.2.1 q.2.2.1 q.2.2.2) (v3, v4, v5, T)
theorem lX5_feltAside_13 {p : Program} {l : Launch} {e : Env} {s : State} {m : MethodId} {args : Array Value} {below : List Frame} {meth : Method} {c : Code} {G : gE} {o : Nat} (B : gB G RX5 cX5_feltAside 6 (some .int) p s m args meth c) {v1 : Int32} {v2 : Int32} {r : (Int32 × TW)}   : ∀ (v3 : Int32) (v4 : Int32) (v5 : Int32) (T : TW), fX5_feltAside_l13 v1 v2 v3 v4 v5 T = some r → ∀ (H : Heap) (locs : List Loc) (ls : Array Slot), RepT G o (T) H → va_S (tFr o) s.heap H locs → lv_has ls 6 [(0, .ref o), (1, .int v1), (2, .int v2), (3, .int v3), (4, .int v4), (5, .int v5)] → W p l e (gRm 6 134) s m args below meth c H locs 0 0 (twZ below args s G o (some (.int r.1)) r.2) (F0 m 13 ls []) := by
  intro v3 v4 v5 T h
  refine wh_walk (body := (fun q => fX5_feltAside_b13 v1 v2 q.1 q.2.1 q.2.2.1 q.2.2.2)) (P := (fun q : (Int32 × Int32 × Int32 × TW) => ∀ (H : Heap) (locs : List Loc) (ls : Array Slot), RepT G o (q.2.2.2) H → va_S (tFr o) s.heap H locs → lv_has ls 6 [(0, .ref o), (1, .int v1), (2, .int v2), (3, .int (q.1)), (4, .int (q.2.1)), (5, .int (q.2.2.1))] → W p l e (gRm 6 134) s m args below meth c H locs 0 0 (twZ below args s G o (some (.int r.1)) r.2) (F0 m 13 ls []))) (r := r) ?_ (v3, v4, v5, T) h
  intro q y hy hL hr H locs ls hR hS hl
  exact bX5_feltAside_13 (r := r) B hy (fun a0 a1 a2 a3 e => hL (a0, a1, a2, a3) e) (fun q e => hr q e) hR hS hl
noncomputable def fX5_feltAside (v1 : Int32) (v2 : Int32) (T : TW) : Option ((Int32 × TW)) :=
  b2_ (fX5_trip v1 0 T) fun x3 T2 =>
  fX5_feltAside_l13 v1 v2 0 x3 0 T2
theorem bX5_feltAside_0 {p : Program} {l : Launch} {e : Env} {s : State} {m : MethodId} {args : Array Value} {below : List Frame} {meth : Method} {c : Code} {H : Heap} {locs : List Loc} {ls : Array Slot} {G : gE} {o : Nat} (B : gB G RX5 cX5_feltAside 6 (some .int) p s m args meth c) {v1 : Int32} {v2 : Int32} {T : TW} {r : (Int32 × TW)} (h : fX5_feltAside v1 v2 T = some r)   (hR : RepT G o T H) (hS : va_S (tFr o) s.heap H locs) (hl : lv_has ls 6 [(0, .ref o), (1, .int v1), (2, .int v2)]) : W p l e (gRm 6 134) s m args below meth c H locs 0 0 (twZ below args s G o (some (.int r.1)) r.2) (F0 m 0 ls []) := by
  have B0 := B
  obtain ⟨hx, hb, hml, hown, hts, hr, hlk, hK⟩ := B0
  unfold fX5_feltAside at h
  refine lv_iconst (v := 0) hx hb dX5_feltAside_0 (by decide) ?_
  refine lv_istore_n (lv' := [(3, .int 0), (0, .ref o), (1, .int v1), (2, .int v2)]) hx hb dX5_feltAside_1 rfl hl (by decide) rfl (fun ls hl => ?_)
  refine lv_aload_n hx hb dX5_feltAside_2 rfl (lv_at hl 1 rfl) ?_
  refine lv_iload_n hx hb dX5_feltAside_3 rfl (lv_at hl 2 rfl) ?_
  refine lv_iconst (v := 0) hx hb dX5_feltAside_4 (by decide) ?_
  replace h := b2_o h
  obtain ⟨x3, T2, e1, h⟩ := h
  refine tw_callV 2 (As := [.int v1, .int 0]) (rest := []) (v := (some (.int x3))) (T' := T2) (st1 := [.int x3]) hx hb hml hown hts hK hR (fun _ h9 => h9) (tw_A2 hR) hS (mX5_trip e1) (lw_V q2657 q2659 qs72 q137 q2660) (by decide +kernel) (Nat.le_of_ble_eq_true rfl) (Nat.le_of_ble_eq_true rfl) (Nat.zero_le _) (Nat.zero_le _) rfl hl.1 (Nat.le_of_ble_eq_true rfl) dX5_feltAside_5 rfl rfl (fun H locs hR hS => ?_)
  refine lv_istore (lv' := [(4, .int x3), (3, .int 0), (0, .ref o), (1, .int v1), (2, .int v2)]) hx hb dX5_feltAside_8 hl (by decide) rfl (fun ls hl => ?_)
  refine lv_iconst (v := 0) hx hb dX5_feltAside_10 (by decide) ?_
  refine lv_istore (lv' := [(5, .int 0), (4, .int x3), (3, .int 0), (0, .ref o), (1, .int v1), (2, .int v2)]) hx hb dX5_feltAside_11 hl (by decide) rfl (fun ls hl => ?_)
  exact lX5_feltAside_13 B _ _ _ _ h H locs ls hR hS (lv_sub hl [3, 4, 5, 2, 1, 0] rfl)
theorem mX5_feltAside {l : Launch} {G : gE} {o : Nat} {v1 : Int32} {v2 : Int32} {T : TW} {r : (Int32 × TW)}  (h : fX5_feltAside v1 v2 T = some r) : twM l G o yX5_feltAside cX5_feltAside 6 (some .int) 6 134 [.ref o, .int v1, .int v2] T (some (.int r.1)) r.2 :=
  tw_of (by decide +kernel) (Nat.le_of_ble_eq_true rfl) (fun p e s m args below meth c ls B hR hl => bX5_feltAside_0 B h hR va_S.rf hl)
noncomputable def fX5_margin_b21  (T : TW) : Option ((Int32 × TW)) :=
  if tI T 6 ≤ 0 then (
    some ((-1), T)
  ) else (
    some (0, T)
  )
theorem bX5_margin_21 {p : Program} {l : Launch} {e : Env} {s : State} {m : MethodId} {args : Array Value} {below : List Frame} {meth : Method} {c : Code} {H : Heap} {locs : List Loc} {ls : Array Slot} {G : gE} {o : Nat} (B : gB G RX5 cX5_margin 6 (some .int) p s m args meth c)  {T : TW} {r : (Int32 × TW)} (h : fX5_margin_b21 T = some r)   (hR : RepT G o T H) (hS : va_S (tFr o) s.heap H locs) (hl : lv_has ls 6 [(0, .ref o)]) : W p l e (gRm 7 159) s m args below meth c H locs 0 0 (twZ below args s G o (some (.int r.1)) r.2) (F0 m 21 ls []) := by
  have B0 := B
  obtain ⟨hx, hb, hml, hown, hts, hr, hlk, hK⟩ := B0
  unfold fX5_margin_b21 at h
  refine lv_aload_n hx hb dX5_margin_21 rfl (lv_at hl 0 rfl) ?_
  refine tw_get (k := 6) (v := .int (tI T 6)) hx hb hts hown hK hR (by decide) q2439 rfl (fun _ h9 => h9) dX5_margin_22 ?_
  refine lv_if_le (tgt := 32) hx hb dX5_margin_25 (by decide) (fun c1 => ?_) (fun c1 => ?_)
  · replace h := it_o c1 h
    refine lv_iconst (v := (-1)) hx hb dX5_margin_32 (by decide) ?_
    have eR := Option.some.inj h
    subst eR
    exact W.iret (v := (-1)) hx hb hr (fun t ht _ => tw_fin hR hS ht) hS.2.2 dX5_margin_33
  · replace h := if_o c1 h
    refine lv_iconst (v := 0) hx hb dX5_margin_28 (by decide) ?_
    refine lv_goto (tgt := 33) hx hb dX5_margin_29 (by decide) ?_
    have eR := Option.some.inj h
    subst eR
    exact W.iret (v := 0) hx hb hr (fun t ht _ => tw_fin hR hS ht) hS.2.2 dX5_margin_33
noncomputable def fX5_margin_b108 (v2 : Int32) (v4 : Int32) (T : TW) : Option ((Int32 × TW)) :=
  if v4 = 2147483647 then (
    some ((-1), T)
  ) else (
    some (v4 - v2, T)
  )
theorem bX5_margin_108 {p : Program} {l : Launch} {e : Env} {s : State} {m : MethodId} {args : Array Value} {below : List Frame} {meth : Method} {c : Code} {H : Heap} {locs : List Loc} {ls : Array Slot} {G : gE} {o : Nat} (B : gB G RX5 cX5_margin 6 (some .int) p s m args meth c) {v2 : Int32} {v4 : Int32} {T : TW} {r : (Int32 × TW)} (h : fX5_margin_b108 v2 v4 T = some r)   (hR : RepT G o T H) (hS : va_S (tFr o) s.heap H locs) (hl : lv_has ls 6 [(2, .int v2), (4, .int v4)]) : W p l e (gRm 7 159) s m args below meth c H locs 0 0 (twZ below args s G o (some (.int r.1)) r.2) (F0 m 108 ls []) := by
  have B0 := B
  obtain ⟨hx, hb, hml, hown, hts, hr, hlk, hK⟩ := B0
  unfold fX5_margin_b108 at h
  refine lv_iload hx hb dX5_margin_108 (lv_at hl 1 rfl) ?_
  refine lv_ldcw (v := 2147483647) hx hb hown (hts _ q2843) dX5_margin_110 ?_
  refine lv_icmp_ne (tgt := 120) hx hb dX5_margin_113 (by decide) (fun c1 => ?_) (fun c1 => ?_)
  · replace h := if_o c1 h
    refine lv_iload hx hb dX5_margin_120 (lv_at hl 1 rfl) ?_
    refine lv_iload_n hx hb dX5_margin_122 rfl (lv_at hl 0 rfl) ?_
    refine lv_isub hx hb dX5_margin_123 ?_
    have eR := Option.some.inj h
    subst eR
    exact W.iret (v := v4 - v2) hx hb hr (fun t ht _ => tw_fin hR hS ht) hS.2.2 dX5_margin_124
  · replace h := it_o c1 h
    refine lv_iconst (v := (-1)) hx hb dX5_margin_116 (by decide) ?_
    refine lv_goto (tgt := 124) hx hb dX5_margin_117 (by decide) ?_
    have eR := Option.some.inj h
    subst eR
    exact W.iret (v := (-1)) hx hb hr (fun t ht _ => tw_fin hR hS ht) hS.2.2 dX5_margin_124
noncomputable def fX5_margin_b82 (v1 : Int32) (v2 : Int32) (v3 : Int32) (v4 : Int32) (v5 : Int32) (T : TW) : Option (Sum (Int32 × Int32 × TW) ((Int32 × TW))) :=
  if v3 ≤ v5 then (
    (fX5_margin_b108 v2 v4 T).map (fun y => (.inr y))
  ) else (
    b2_ (fX5_feltAside v1 v5 T) fun x4 T3 =>
    nm_ (mnI v4 x4) fun x5 =>
    some (.inl (x5, v5 + 1, T3))
  )
theorem bX5_margin_82 {p : Program} {l : Launch} {e : Env} {s : State} {m : MethodId} {args : Array Value} {below : List Frame} {meth : Method} {c : Code} {H : Heap} {locs : List Loc} {ls : Array Slot} {G : gE} {o : Nat} (B : gB G RX5 cX5_margin 6 (some .int) p s m args meth c) {v1 : Int32} {v2 : Int32} {v3 : Int32} {v4 : Int32} {v5 : Int32} {T : TW} {x : Sum (Int32 × Int32 × TW) ((Int32 × TW))} {r : (Int32 × TW)} (h : fX5_margin_b82 v1 v2 v3 v4 v5 T = some x)  (k82 : ∀ (v4' : Int32) (v5' : Int32) (T' : TW), x = (.inl (v4', v5', T')) → ∀ (H : Heap) (locs : List Loc) (ls : Array Slot), RepT G o (T') H → va_S (tFr o) s.heap H locs → lv_has ls 6 [(0, .ref o), (1, .int v1), (2, .int v2), (3, .int v3), (4, .int v4'), (5, .int v5')] → W p l e (gRm 7 159) s m args below meth c H locs 0 0 (twZ below args s G o (some (.int r.1)) r.2) (F0 m 82 ls [])) (kR : ∀ q, x = (.inr q) → q = r) (hR : RepT G o T H) (hS : va_S (tFr o) s.heap H locs) (hl : lv_has ls 6 [(0, .ref o), (1, .int v1), (2, .int v2), (3, .int v3), (4, .int v4), (5, .int v5)]) : W p l e (gRm 7 159) s m args below meth c H locs 0 0 (twZ below args s G o (some (.int r.1)) r.2) (F0 m 82 ls []) := by
  have B0 := B
  obtain ⟨hx, hb, hml, hown, hts, hr, hlk, hK⟩ := B0
  unfold fX5_margin_b82 at h
  refine lv_iload hx hb dX5_margin_82 (lv_at hl 5 rfl) ?_
  refine lv_iload_n hx hb dX5_margin_84 rfl (lv_at hl 3 rfl) ?_
  refine lv_icmp_ge (tgt := 108) hx hb dX5_margin_85 (by decide) (fun c1 => ?_) (fun c1 => ?_)
  · replace h := it_o c1 h
    obtain ⟨y, h, ey⟩ := mp_o h
    have ey := kR _ ey.symm
    subst ey
    exact bX5_margin_108 B h  hR hS (lv_sub hl [2, 4] rfl)
  · replace h := if_o c1 h
    refine lv_iload hx hb dX5_margin_88 (lv_at hl 4 rfl) ?_
    refine lv_aload_n hx hb dX5_margin_90 rfl (lv_at hl 0 rfl) ?_
    refine lv_iload_n hx hb dX5_margin_91 rfl (lv_at hl 1 rfl) ?_
    refine lv_iload hx hb dX5_margin_92 (lv_at hl 5 rfl) ?_
    replace h := b2_o h
    obtain ⟨x4, T3, e2, h⟩ := h
    refine tw_callV 2 (As := [.int v1, .int v5]) (rest := [.int v4]) (v := (some (.int x4))) (T' := T3) (st1 := [.int x4, .int v4]) hx hb hml hown hts hK hR (fun _ h9 => h9) (tw_A2 hR) hS (mX5_feltAside e2) (lw_V q2996 q2998 qs107 q137 q2999) (by decide +kernel) (Nat.le_of_ble_eq_true rfl) (Nat.le_of_ble_eq_true rfl) (Nat.zero_le _) (Nat.zero_le _) rfl hl.1 (Nat.le_of_ble_eq_true rfl) dX5_margin_94 rfl rfl (fun H locs hR hS => ?_)
    replace h := nm_o h
    obtain ⟨x5, e6, h⟩ := h
    refine va_mmin hx hb (hml.trans hl.1.symm) hown (hts _ q2591) (hts _ q313) (hts _ q127) (hts _ q314) (Nat.le_of_ble_eq_true rfl) (Nat.le_of_ble_eq_true rfl) (Nat.zero_le _) (Nat.zero_le _) dX5_margin_97 ?_
    refine W.eq (g2 := F0 m 100 ls [.int x5]) (by rw [e6]; rfl) ?_
    refine lv_istore (lv' := [(4, .int x5), (0, .ref o), (1, .int v1), (2, .int v2), (3, .int v3), (5, .int v5)]) hx hb dX5_margin_100 hl (by decide) rfl (fun ls hl => ?_)
    refine lv_iinc (v := v5 + 1) (lv' := [(5, .int (v5 + 1)), (4, .int x5), (0, .ref o), (1, .int v1), (2, .int v2), (3, .int v3)]) hx hb dX5_margin_102 hl (k := 5) rfl rfl (by decide) rfl (fun ls hl => ?_)
    refine lv_goto (tgt := 82) hx hb dX5_margin_105 (by decide) ?_
    exact k82 _ _ _ (Option.some.inj h).symm H locs ls hR hS (lv_sub hl [2, 3, 4, 5, 1, 0] rfl)
noncomputable def fX5_margin_l82 (v1 : Int32) (v2 : Int32) (v3 : Int32) (v4 : Int32) (v5 : Int32) (T : TW) : Option ((Int32 × TW)) := whileO (fun q => fX5_margin_b82 v1 v2 v3 q.1 q.2.1 q.2.2) (v4, v5, T)
theorem lX5_margin_82 {p : Program} {l : Launch} {e : Env} {s : State} {m : MethodId} {args : Array Value} {below : List Frame} {meth : Method} {c : Code} {G : gE} {o : Nat} (B : gB G RX5 cX5_margin 6 (some .int) p s m args meth c) {v1 : Int32} {v2 : Int32} {v3 : Int32} {r : (Int32 × TW)}   : ∀ (v4 : Int32) (v5 : Int32) (T : TW), fX5_margin_l82 v1 v2 v3 v4 v5 T = some r → ∀ (H : Heap) (locs : List Loc) (ls : Array Slot), RepT G o (T) H → va_S (tFr o) s.heap H locs → lv_has ls 6 [(0, .ref o), (1, .int v1), (2, .int v2), (3, .int v3), (4, .int v4), (5, .int v5)] → W p l e (gRm 7 159) s m args below meth c H locs 0 0 (twZ below args s G o (some (.int r.1)) r.2) (F0 m 82 ls []) := by
  intro v4 v5 T h
  refine wh_walk (body := (fun q => fX5_margin_b82 v1 v2 v3 q.1 q.2.1 q.2.2)) (P := (fun q : (Int32 × Int32 × TW) => ∀ (H : Heap) (locs : List Loc) (ls : Array Slot), RepT G o (q.2.2) H → va_S (tFr o) s.heap H locs → lv_has ls 6 [(0, .ref o), (1, .int v1), (2, .int v2), (3, .int v3), (4, .int (q.1)), (5, .int (q.2.1))] → W p l e (gRm 7 159) s m args below meth c H locs 0 0 (twZ below args s G o (some (.int r.1)) r.2) (F0 m 82 ls []))) (r := r) ?_ (v4, v5, T) h
  intro q y hy hL hr H locs ls hR hS hl
  exact bX5_margin_82 (r := r) B hy (fun a0 a1 a2 e => hL (a0, a1, a2) e) (fun q e => hr q e) hR hS hl
noncomputable def fX5_margin_b74 (v1 : Int32) (v2 : Int32) (v3 : Int32) (T : TW) : Option ((Int32 × TW)) :=
  fX5_margin_l82 v1 v2 v3 2147483647 0 T
theorem bX5_margin_74 {p : Program} {l : Launch} {e : Env} {s : State} {m : MethodId} {args : Array Value} {below : List Frame} {meth : Method} {c : Code} {H : Heap} {locs : List Loc} {ls : Array Slot} {G : gE} {o : Nat} (B : gB G RX5 cX5_margin 6 (some .int) p s m args meth c) {v1 : Int32} {v2 : Int32} {v3 : Int32} {T : TW} {r : (Int32 × TW)} (h : fX5_margin_b74 v1 v2 v3 T = some r)   (hR : RepT G o T H) (hS : va_S (tFr o) s.heap H locs) (hl : lv_has ls 6 [(0, .ref o), (1, .int v1), (2, .int v2), (3, .int v3)]) : W p l e (gRm 7 159) s m args below meth c H locs 0 0 (twZ below args s G o (some (.int r.1)) r.2) (F0 m 74 ls []) := by
  have B0 := B
  obtain ⟨hx, hb, hml, hown, hts, hr, hlk, hK⟩ := B0
  unfold fX5_margin_b74 at h
  refine lv_ldcw (v := 2147483647) hx hb hown (hts _ q2843) dX5_margin_74 ?_
  refine lv_istore (lv' := [(4, .int 2147483647), (0, .ref o), (1, .int v1), (2, .int v2), (3, .int v3)]) hx hb dX5_margin_77 hl (by decide) rfl (fun ls hl => ?_)
  refine lv_iconst (v := 0) hx hb dX5_margin_79 (by decide) ?_
  refine lv_istore (lv' := [(5, .int 0), (4, .int 2147483647), (0, .ref o), (1, .int v1), (2, .int v2), (3, .int v3)]) hx hb dX5_margin_80 hl (by decide) rfl (fun ls hl => ?_)
  exact lX5_margin_82 B _ _ _ h H locs ls hR hS (lv_sub hl [2, 3, 4, 5, 1, 0] rfl)
noncomputable def fX5_margin_b48 (v1 : Int32) (v2 : Int32) (v3 : Int32) (v4 : Int32) (T : TW) : Option (Sum (Int32 × TW) ((Int32 × TW))) :=
  if v3 ≤ v4 then (
    (fX5_margin_b74 v1 v2 v3 T).map (fun y => (.inr y))
  ) else (
    (rd_ (tA T 8) 10 v4).bind fun x2 =>
    (wrA T 15 10 v4 x2).bind fun T4 =>
    some (.inl (v4 + 1, T4))
  )
theorem bX5_margin_48 {p : Program} {l : Launch} {e : Env} {s : State} {m : MethodId} {args : Array Value} {below : List Frame} {meth : Method} {c : Code} {H : Heap} {locs : List Loc} {ls : Array Slot} {G : gE} {o : Nat} (B : gB G RX5 cX5_margin 6 (some .int) p s m args meth c) {v1 : Int32} {v2 : Int32} {v3 : Int32} {v4 : Int32} {T : TW} {x : Sum (Int32 × TW) ((Int32 × TW))} {r : (Int32 × TW)} (h : fX5_margin_b48 v1 v2 v3 v4 T = some x)  (k48 : ∀ (v4' : Int32) (T' : TW), x = (.inl (v4', T')) → ∀ (H : Heap) (locs : List Loc) (ls : Array Slot), RepT G o (T') H → va_S (tFr o) s.heap H locs → lv_has ls 6 [(0, .ref o), (1, .int v1), (2, .int v2), (3, .int v3), (4, .int v4')] → W p l e (gRm 7 159) s m args below meth c H locs 0 0 (twZ below args s G o (some (.int r.1)) r.2) (F0 m 48 ls [])) (kR : ∀ q, x = (.inr q) → q = r) (hR : RepT G o T H) (hS : va_S (tFr o) s.heap H locs) (hl : lv_has ls 6 [(0, .ref o), (1, .int v1), (2, .int v2), (3, .int v3), (4, .int v4)]) : W p l e (gRm 7 159) s m args below meth c H locs 0 0 (twZ below args s G o (some (.int r.1)) r.2) (F0 m 48 ls []) := by
  have B0 := B
  obtain ⟨hx, hb, hml, hown, hts, hr, hlk, hK⟩ := B0
  unfold fX5_margin_b48 at h
  refine lv_iload hx hb dX5_margin_48 (lv_at hl 4 rfl) ?_
  refine lv_iload_n hx hb dX5_margin_50 rfl (lv_at hl 3 rfl) ?_
  refine lv_icmp_ge (tgt := 74) hx hb dX5_margin_51 (by decide) (fun c1 => ?_) (fun c1 => ?_)
  · replace h := it_o c1 h
    obtain ⟨y, h, ey⟩ := mp_o h
    have ey := kR _ ey.symm
    subst ey
    exact bX5_margin_74 B h  hR hS (lv_sub hl [0, 1, 2, 3] rfl)
  · replace h := if_o c1 h
    refine lv_aload_n hx hb dX5_margin_54 rfl (lv_at hl 0 rfl) ?_
    refine tw_get (k := 30) (v := .ref (o + 15)) hx hb hts hown hK hR (by decide) q2463 rfl (fun _ h9 => h9) dX5_margin_55 ?_
    refine lv_iload hx hb dX5_margin_58 (lv_at hl 4 rfl) ?_
    refine lv_aload_n hx hb dX5_margin_60 rfl (lv_at hl 0 rfl) ?_
    refine tw_get (k := 20) (v := .ref (o + 8)) hx hb hts hown hK hR (by decide) q2453 rfl (fun _ h9 => h9) dX5_margin_61 ?_
    refine lv_iload hx hb dX5_margin_64 (lv_at hl 4 rfl) ?_
    replace h := bo_o h
    obtain ⟨x2, e3, h⟩ := h
    refine tw_iald (q := 8) hx hb hK hR rfl e3 dX5_margin_66 ?_
    replace h := bo_o h
    obtain ⟨T4, e5, h⟩ := h
    refine tw_iast (q := 15) hx hb hK hR (fun _ h9 => h9) hS rfl (fun _ => rfl) e5 dX5_margin_67 (fun H locs hR hS => ?_)
    refine lv_iinc (v := v4 + 1) (lv' := [(4, .int (v4 + 1)), (0, .ref o), (1, .int v1), (2, .int v2), (3, .int v3)]) hx hb dX5_margin_68 hl (k := 4) rfl rfl (by decide) rfl (fun ls hl => ?_)
    refine lv_goto (tgt := 48) hx hb dX5_margin_71 (by decide) ?_
    exact k48 _ _ (Option.some.inj h).symm H locs ls hR hS (lv_sub hl [1, 2, 3, 4, 0] rfl)
noncomputable def fX5_margin_l48 (v1 : Int32) (v2 : Int32) (v3 : Int32) (v4 : Int32) (T : TW) : Option ((Int32 × TW)) := whileO (fun q => fX5_margin_b48 v1 v2 v3 q.1 q.2) (v4, T)
theorem lX5_margin_48 {p : Program} {l : Launch} {e : Env} {s : State} {m : MethodId} {args : Array Value} {below : List Frame} {meth : Method} {c : Code} {G : gE} {o : Nat} (B : gB G RX5 cX5_margin 6 (some .int) p s m args meth c) {v1 : Int32} {v2 : Int32} {v3 : Int32} {r : (Int32 × TW)}   : ∀ (v4 : Int32) (T : TW), fX5_margin_l48 v1 v2 v3 v4 T = some r → ∀ (H : Heap) (locs : List Loc) (ls : Array Slot), RepT G o (T) H → va_S (tFr o) s.heap H locs → lv_has ls 6 [(0, .ref o), (1, .int v1), (2, .int v2), (3, .int v3), (4, .int v4)] → W p l e (gRm 7 159) s m args below meth c H locs 0 0 (twZ below args s G o (some (.int r.1)) r.2) (F0 m 48 ls []) := by
  intro v4 T h
  refine wh_walk (body := (fun q => fX5_margin_b48 v1 v2 v3 q.1 q.2)) (P := (fun q : (Int32 × TW) => ∀ (H : Heap) (locs : List Loc) (ls : Array Slot), RepT G o (q.2) H → va_S (tFr o) s.heap H locs → lv_has ls 6 [(0, .ref o), (1, .int v1), (2, .int v2), (3, .int v3), (4, .int (q.1))] → W p l e (gRm 7 159) s m args below meth c H locs 0 0 (twZ below args s G o (some (.int r.1)) r.2) (F0 m 48 ls []))) (r := r) ?_ (v4, T) h
  intro q y hy hL hr H locs ls hR hS hl
  exact bX5_margin_48 (r := r) B hy (fun a0 a1 e => hL (a0, a1) e) (fun q e => hr q e) hR hS hl
noncomputable def fX5_margin (v1 : Int32) (T : TW) : Option ((Int32 × TW)) :=
  b2_ (fX5_isTrip v1 T) fun x3 T2 =>
  b2_ (fX5_isThrown x3 1 T2) fun x6 T5 =>
  if x6 = 0 then (
    b2_ (fX5_laysPath v1 T5) fun x10 T9 =>
    if x10 = 0 then (
      fX5_margin_b21 T9
    ) else (
      b2_ (fX5_feltNow v1 T9) fun x14 T13 =>
      nm_ (tI T13 21) fun x15 =>
      fX5_margin_l48 v1 x14 x15 0 T13
    )
  ) else (
    fX5_margin_b21 T5
  )
theorem bX5_margin_0 {p : Program} {l : Launch} {e : Env} {s : State} {m : MethodId} {args : Array Value} {below : List Frame} {meth : Method} {c : Code} {H : Heap} {locs : List Loc} {ls : Array Slot} {G : gE} {o : Nat} (B : gB G RX5 cX5_margin 6 (some .int) p s m args meth c) {v1 : Int32} {T : TW} {r : (Int32 × TW)} (h : fX5_margin v1 T = some r)   (hR : RepT G o T H) (hS : va_S (tFr o) s.heap H locs) (hl : lv_has ls 6 [(0, .ref o), (1, .int v1)]) : W p l e (gRm 7 159) s m args below meth c H locs 0 0 (twZ below args s G o (some (.int r.1)) r.2) (F0 m 0 ls []) := by
  have B0 := B
  obtain ⟨hx, hb, hml, hown, hts, hr, hlk, hK⟩ := B0
  unfold fX5_margin at h
  refine lv_aload_n hx hb dX5_margin_0 rfl (lv_at hl 0 rfl) ?_
  refine lv_aload_n hx hb dX5_margin_1 rfl (lv_at hl 0 rfl) ?_
  refine lv_iload_n hx hb dX5_margin_2 rfl (lv_at hl 1 rfl) ?_
  replace h := b2_o h
  obtain ⟨x3, T2, e1, h⟩ := h
  refine tw_callV 1 (As := [.int v1]) (rest := [.ref o]) (v := (some (.int x3))) (T' := T2) (st1 := [.int x3, .ref o]) hx hb hml hown hts hK hR (fun _ h9 => h9) (tw_A2 hR) hS (mX5_isTrip e1) (lw_V q2653 q2655 qs71 q137 q2656) (by decide +kernel) (Nat.le_of_ble_eq_true rfl) (Nat.le_of_ble_eq_true rfl) (Nat.zero_le _) (Nat.zero_le _) rfl hl.1 (Nat.le_of_ble_eq_true rfl) dX5_margin_3 rfl rfl (fun H locs hR hS => ?_)
  refine lv_iconst (v := 1) hx hb dX5_margin_6 (by decide) ?_
  replace h := b2_o h
  obtain ⟨x6, T5, e4, h⟩ := h
  refine tw_callV 2 (As := [.int x3, .int 1]) (rest := []) (v := (some (.int x6))) (T' := T5) (st1 := [.int x6]) hx hb hml hown hts hK hR (fun _ h9 => h9) (tw_A2 hR) hS (mX5_isThrown e4) (lw_V q2633 q2635 qs68 q137 q2636) (by decide +kernel) (Nat.le_of_ble_eq_true rfl) (Nat.le_of_ble_eq_true rfl) (Nat.zero_le _) (Nat.zero_le _) rfl hl.1 (Nat.le_of_ble_eq_true rfl) dX5_margin_7 rfl rfl (fun H locs hR hS => ?_)
  refine lv_if_ne (tgt := 21) hx hb dX5_margin_10 (by decide) (fun c7 => ?_) (fun c7 => ?_)
  · replace h := if_o c7 h
    exact bX5_margin_21 B h  hR hS (lv_sub hl [0] rfl)
  · replace h := it_o c7 h
    refine lv_aload_n hx hb dX5_margin_13 rfl (lv_at hl 0 rfl) ?_
    refine lv_iload_n hx hb dX5_margin_14 rfl (lv_at hl 1 rfl) ?_
    replace h := b2_o h
    obtain ⟨x10, T9, e8, h⟩ := h
    refine tw_callV 1 (As := [.int v1]) (rest := []) (v := (some (.int x10))) (T' := T9) (st1 := [.int x10]) hx hb hml hown hts hK hR (fun _ h9 => h9) (tw_A2 hR) hS (mX5_laysPath e8) (lw_V q2722 q2724 qs76 q137 q2725) (by decide +kernel) (Nat.le_of_ble_eq_true rfl) (Nat.le_of_ble_eq_true rfl) (Nat.zero_le _) (Nat.zero_le _) rfl hl.1 (Nat.le_of_ble_eq_true rfl) dX5_margin_15 rfl rfl (fun H locs hR hS => ?_)
    refine lv_if_ne (tgt := 34) hx hb dX5_margin_18 (by decide) (fun c11 => ?_) (fun c11 => ?_)
    · replace h := if_o c11 h
      refine lv_aload_n hx hb dX5_margin_34 rfl (lv_at hl 0 rfl) ?_
      refine lv_iload_n hx hb dX5_margin_35 rfl (lv_at hl 1 rfl) ?_
      replace h := b2_o h
      obtain ⟨x14, T13, e12, h⟩ := h
      refine tw_callV 1 (As := [.int v1]) (rest := []) (v := (some (.int x14))) (T' := T13) (st1 := [.int x14]) hx hb hml hown hts hK hR (fun _ h9 => h9) (tw_A2 hR) hS (mX5_feltNow e12) (lw_V q2785 q2787 qs85 q137 q2788) (by decide +kernel) (Nat.le_of_ble_eq_true rfl) (Nat.le_of_ble_eq_true rfl) (Nat.zero_le _) (Nat.zero_le _) rfl hl.1 (Nat.le_of_ble_eq_true rfl) dX5_margin_36 rfl rfl (fun H locs hR hS => ?_)
      refine lv_istore_n (lv' := [(2, .int x14), (0, .ref o), (1, .int v1)]) hx hb dX5_margin_39 rfl hl (by decide) rfl (fun ls hl => ?_)
      refine lv_aload_n hx hb dX5_margin_40 rfl (lv_at hl 1 rfl) ?_
      refine tw_get (k := 21) (v := .int (tI T13 21)) hx hb hts hown hK hR (by decide) q2454 rfl (fun _ h9 => h9) dX5_margin_41 ?_
      replace h := nm_o h
      obtain ⟨x15, e16, h⟩ := h
      refine lv_istore_n (lv' := [(3, .int x15), (2, .int x14), (0, .ref o), (1, .int v1)]) hx hb dX5_margin_44 rfl hl (by decide) (by subst e16; rfl) (fun ls hl => ?_)
      refine lv_iconst (v := 0) hx hb dX5_margin_45 (by decide) ?_
      refine lv_istore (lv' := [(4, .int 0), (3, .int x15), (2, .int x14), (0, .ref o), (1, .int v1)]) hx hb dX5_margin_46 hl (by decide) rfl (fun ls hl => ?_)
      exact lX5_margin_48 B _ _ h H locs ls hR hS (lv_sub hl [3, 4, 2, 1, 0] rfl)
    · replace h := it_o c11 h
      exact bX5_margin_21 B h  hR hS (lv_sub hl [0] rfl)
theorem mX5_margin {l : Launch} {G : gE} {o : Nat} {v1 : Int32} {T : TW} {r : (Int32 × TW)}  (h : fX5_margin v1 T = some r) : twM l G o yX5_margin cX5_margin 6 (some .int) 7 159 [.ref o, .int v1] T (some (.int r.1)) r.2 :=
  tw_of (by decide +kernel) (Nat.le_of_ble_eq_true rfl) (fun p e s m args below meth c ls B hR hl => bX5_margin_0 B h hR va_S.rf hl)
noncomputable def fX5_puts (v1 : Int32) (T : TW) : Option (TW) :=
  (wrA T 16 256 (tI T 32) (vp_nar .byte (v1.toInt8.toInt32))).bind fun T1 =>
  nm_ (tsI T1 32 ((tI T1 32) + 1)) fun T3 =>
  some T3
theorem bX5_puts_0 {p : Program} {l : Launch} {e : Env} {s : State} {m : MethodId} {args : Array Value} {below : List Frame} {meth : Method} {c : Code} {H : Heap} {locs : List Loc} {ls : Array Slot} {G : gE} {o : Nat} (B : gB G RX5 cX5_puts 2 none p s m args meth c) {v1 : Int32} {T : TW} {r : TW} (h : fX5_puts v1 T = some r)   (hR : RepT G o T H) (hS : va_S (tFr o) s.heap H locs) (hl : lv_has ls 2 [(0, .ref o), (1, .int v1)]) : W p l e (gRm 0 0) s m args below meth c H locs 0 0 (twZ below args s G o none r) (F0 m 0 ls []) := by
  have B0 := B
  obtain ⟨hx, hb, hml, hown, hts, hr, hlk, hK⟩ := B0
  unfold fX5_puts at h
  refine lv_aload_n hx hb dX5_puts_0 rfl (lv_at hl 0 rfl) ?_
  refine tw_get (k := 31) (v := .ref (o + 16)) hx hb hts hown hK hR (by decide) q2464 rfl (fun _ h9 => h9) dX5_puts_1 ?_
  refine lv_aload_n hx hb dX5_puts_4 rfl (lv_at hl 0 rfl) ?_
  refine tw_get (k := 32) (v := .int (tI T 32)) hx hb hts hown hK hR (by decide) q2465 rfl (fun _ h9 => h9) dX5_puts_5 ?_
  refine lv_iload_n hx hb dX5_puts_8 rfl (lv_at hl 1 rfl) ?_
  refine lv_i2b hx hb dX5_puts_9 rfl ?_
  replace h := bo_o h
  obtain ⟨T1, e2, h⟩ := h
  refine tw_bast (q := 16) hx hb hK hR (fun _ h9 => h9) hS rfl (fun _ => rfl) e2 dX5_puts_10 (fun H locs hR hS => ?_)
  refine lv_aload_n hx hb dX5_puts_11 rfl (lv_at hl 0 rfl) ?_
  refine lv_dup hx hb dX5_puts_12 rfl ?_
  refine tw_get (k := 32) (v := .int (tI T1 32)) hx hb hts hown hK hR (by decide) q2465 rfl (fun _ h9 => h9) dX5_puts_13 ?_
  refine lv_iconst (v := 1) hx hb dX5_puts_16 (by decide) ?_
  refine lv_iadd hx hb dX5_puts_17 ?_
  replace h := nm_o h
  obtain ⟨T3, e4, h⟩ := h
  refine tw_putI (k := 32) (x := (tI T1 32) + 1) (ty := .int) (T' := T3) hx hb hts hown hK hR (fun _ h9 => h9) hS (by decide) rfl e4 q2465 (fun _ h9 => h9) rfl (by decide +kernel) rfl rfl dX5_puts_18 (fun H locs hR hS => ?_)
  have eR := Option.some.inj h
  subst eR
  exact W.vret hx hb hr (fun t ht _ => tw_fin hR hS ht) hS.2.2 dX5_puts_21
theorem mX5_puts {l : Launch} {G : gE} {o : Nat} {v1 : Int32} {T : TW} {r : TW}  (h : fX5_puts v1 T = some r) : twM l G o yX5_puts cX5_puts 2 none 0 0 [.ref o, .int v1] T none r :=
  tw_of (by decide +kernel) (Nat.le_of_ble_eq_true rfl) (fun p e s m args below meth c ls B hR hl => bX5_puts_0 B h hR va_S.rf hl)
noncomputable def fX5_putsWord_b2 (v1 : Nat) (v2 : Int32) (T : TW) : Option (Sum (Int32 × TW) (TW)) :=
  nm_ (sLen v1) fun x1 =>
  if x1 ≤ v2 then (
    some (.inr T)
  ) else (
    (sChr v1 v2).bind fun x4 =>
    (fX5_puts x4 T).bind fun T7 =>
    some (.inl (v2 + 1, T7))
  )
theorem bX5_putsWord_2 {p : Program} {l : Launch} {e : Env} {s : State} {m : MethodId} {args : Array Value} {below : List Frame} {meth : Method} {c : Code} {H : Heap} {locs : List Loc} {ls : Array Slot} {G : gE} {o : Nat} (B : gB G RX5 cX5_putsWord 3 none p s m args meth c) {v1 : Nat} {v2 : Int32} {T : TW} {x : Sum (Int32 × TW) (TW)} {r : TW} (h : fX5_putsWord_b2 v1 v2 T = some x) (hp_v1 : v1 < 5) (k2 : ∀ (v2' : Int32) (T' : TW), x = (.inl (v2', T')) → ∀ (H : Heap) (locs : List Loc) (ls : Array Slot), RepT G o (T') H → va_S (tFr o) s.heap H locs → lv_has ls 3 [(0, .ref o), (1, .ref (gK G v1)), (2, .int v2')] → W p l e (gRm 7 327) s m args below meth c H locs 0 0 (twZ below args s G o none r) (F0 m 2 ls [])) (kR : ∀ q, x = (.inr q) → q = r) (hR : RepT G o T H) (hS : va_S (tFr o) s.heap H locs) (hl : lv_has ls 3 [(0, .ref o), (1, .ref (gK G v1)), (2, .int v2)]) : W p l e (gRm 7 327) s m args below meth c H locs 0 0 (twZ below args s G o none r) (F0 m 2 ls []) := by
  have B0 := B
  obtain ⟨hx, hb, hml, hown, hts, hr, hlk, hK⟩ := B0
  unfold fX5_putsWord_b2 at h
  refine lv_iload_n hx hb dX5_putsWord_2 rfl (lv_at hl 2 rfl) ?_
  refine lv_aload_n hx hb dX5_putsWord_3 rfl (lv_at hl 1 rfl) ?_
  replace h := nm_o h
  obtain ⟨x1, e2, h⟩ := h
  refine tw_slen q2570 (rest := [.int v2]) hx hb hml hown hts hK hR (fun _ h9 => h9) (tw_A2 hR) hS (k := v1) (by first | decide | assumption) e2 (Nat.le_of_ble_eq_true rfl) (Nat.le_of_ble_eq_true rfl) (Nat.zero_le _) (Nat.zero_le _) hl.1 (Nat.le_of_ble_eq_true rfl) dX5_putsWord_4 (fun H locs hR hS => ?_)
  refine lv_icmp_ge (tgt := 25) hx hb dX5_putsWord_7 (by decide) (fun c3 => ?_) (fun c3 => ?_)
  · replace h := it_o c3 h
    have eR := kR _ (Option.some.inj h).symm
    subst eR
    exact W.vret hx hb hr (fun t ht _ => tw_fin hR hS ht) hS.2.2 dX5_putsWord_25
  · replace h := if_o c3 h
    refine lv_aload_n hx hb dX5_putsWord_10 rfl (lv_at hl 0 rfl) ?_
    refine lv_aload_n hx hb dX5_putsWord_11 rfl (lv_at hl 1 rfl) ?_
    refine lv_iload_n hx hb dX5_putsWord_12 rfl (lv_at hl 2 rfl) ?_
    replace h := bo_o h
    obtain ⟨x4, e5, h⟩ := h
    refine tw_schr q2571 (rest := [.ref o]) hx hb hml hown hts hK hR (fun _ h9 => h9) (tw_A2 hR) hS (k := v1) (by first | decide | assumption) e5 (Nat.le_of_ble_eq_true rfl) (Nat.le_of_ble_eq_true rfl) (Nat.zero_le _) (Nat.zero_le _) hl.1 (Nat.le_of_ble_eq_true rfl) dX5_putsWord_13 (fun H locs hR hS => ?_)
    replace h := bo_o h
    obtain ⟨T7, e6, h⟩ := h
    refine tw_callV 1 (As := [.int x4]) (rest := []) (v := none) (T' := T7) (st1 := []) hx hb hml hown hts hK hR (fun _ h9 => h9) (tw_A2 hR) hS (mX5_puts e6) (lw_V q3009 q3011 qs109 q137 q3012) (by decide +kernel) (Nat.le_of_ble_eq_true rfl) (Nat.le_of_ble_eq_true rfl) (Nat.zero_le _) (Nat.zero_le _) rfl hl.1 (Nat.le_of_ble_eq_true rfl) dX5_putsWord_16 rfl rfl (fun H locs hR hS => ?_)
    refine lv_iinc (v := v2 + 1) (lv' := [(2, .int (v2 + 1)), (0, .ref o), (1, .ref (gK G v1))]) hx hb dX5_putsWord_19 hl (k := 2) rfl rfl (by decide) rfl (fun ls hl => ?_)
    refine lv_goto (tgt := 2) hx hb dX5_putsWord_22 (by decide) ?_
    exact k2 _ _ (Option.some.inj h).symm H locs ls hR hS (lv_sub hl [1, 2, 0] rfl)
noncomputable def fX5_putsWord_l2 (v1 : Nat) (v2 : Int32) (T : TW) : Option (TW) := whileO (fun q => fX5_putsWord_b2 v1 q.1 q.2) (v2, T)
theorem lX5_putsWord_2 {p : Program} {l : Launch} {e : Env} {s : State} {m : MethodId} {args : Array Value} {below : List Frame} {meth : Method} {c : Code} {G : gE} {o : Nat} (B : gB G RX5 cX5_putsWord 3 none p s m args meth c) {v1 : Nat} {r : TW} (hp_v1 : v1 < 5)  : ∀ (v2 : Int32) (T : TW), fX5_putsWord_l2 v1 v2 T = some r → ∀ (H : Heap) (locs : List Loc) (ls : Array Slot), RepT G o (T) H → va_S (tFr o) s.heap H locs → lv_has ls 3 [(0, .ref o), (1, .ref (gK G v1)), (2, .int v2)] → W p l e (gRm 7 327) s m args below meth c H locs 0 0 (twZ below args s G o none r) (F0 m 2 ls []) := by
  intro v2 T h
  refine wh_walk (body := (fun q => fX5_putsWord_b2 v1 q.1 q.2)) (P := (fun q : (Int32 × TW) => ∀ (H : Heap) (locs : List Loc) (ls : Array Slot), RepT G o (q.2) H → va_S (tFr o) s.heap H locs → lv_has ls 3 [(0, .ref o), (1, .ref (gK G v1)), (2, .int (q.1))] → W p l e (gRm 7 327) s m args below meth c H locs 0 0 (twZ below args s G o none r) (F0 m 2 ls []))) (r := r) ?_ (v2, T) h
  intro q y hy hL hr H locs ls hR hS hl
  exact bX5_putsWord_2 (r := r) B hy hp_v1 (fun a0 a1 e => hL (a0, a1) e) (fun q e => hr q e) hR hS hl
noncomputable def fX5_putsWord (v1 : Nat) (T : TW) : Option (TW) :=
  fX5_putsWord_l2 v1 0 T
theorem bX5_putsWord_0 {p : Program} {l : Launch} {e : Env} {s : State} {m : MethodId} {args : Array Value} {below : List Frame} {meth : Method} {c : Code} {H : Heap} {locs : List Loc} {ls : Array Slot} {G : gE} {o : Nat} (B : gB G RX5 cX5_putsWord 3 none p s m args meth c) {v1 : Nat} {T : TW} {r : TW} (h : fX5_putsWord v1 T = some r) (hp_v1 : v1 < 5)  (hR : RepT G o T H) (hS : va_S (tFr o) s.heap H locs) (hl : lv_has ls 3 [(0, .ref o), (1, .ref (gK G v1))]) : W p l e (gRm 7 327) s m args below meth c H locs 0 0 (twZ below args s G o none r) (F0 m 0 ls []) := by
  have B0 := B
  obtain ⟨hx, hb, hml, hown, hts, hr, hlk, hK⟩ := B0
  unfold fX5_putsWord at h
  refine lv_iconst (v := 0) hx hb dX5_putsWord_0 (by decide) ?_
  refine lv_istore_n (lv' := [(2, .int 0), (0, .ref o), (1, .ref (gK G v1))]) hx hb dX5_putsWord_1 rfl hl (by decide) rfl (fun ls hl => ?_)
  exact lX5_putsWord_2 B hp_v1 _ _ h H locs ls hR hS (lv_sub hl [1, 2, 0] rfl)
theorem mX5_putsWord {l : Launch} {G : gE} {o : Nat} {v1 : Nat} {T : TW} {r : TW} (hp_v1 : v1 < 5) (h : fX5_putsWord v1 T = some r) : twM l G o yX5_putsWord cX5_putsWord 3 none 7 327 [.ref o, .ref (gK G v1)] T none r :=
  tw_of (by decide +kernel) (Nat.le_of_ble_eq_true rfl) (fun p e s m args below meth c ls B hR hl => bX5_putsWord_0 B h hp_v1 hR va_S.rf hl)
noncomputable def fX5_putsNumber_b18 (v1 : Int32) (v2 : Int32) (T : TW) : Option (Sum (Int32 × TW) (TW)) :=
  if v2 ≤ 0 then (
    some (.inr T)
  ) else (
    (nzI v2).bind fun _ =>
    (fX5_puts (48 + ((v1 / v2) - (v1 / v2) / 10 * 10)) T).bind fun T4 =>
    nm_ (v2 / 10) fun x5 =>
    some (.inl (x5, T4))
  )
theorem bX5_putsNumber_18 {p : Program} {l : Launch} {e : Env} {s : State} {m : MethodId} {args : Array Value} {below : List Frame} {meth : Method} {c : Code} {H : Heap} {locs : List Loc} {ls : Array Slot} {G : gE} {o : Nat} (B : gB G RX5 cX5_putsNumber 3 none p s m args meth c) {v1 : Int32} {v2 : Int32} {T : TW} {x : Sum (Int32 × TW) (TW)} {r : TW} (h : fX5_putsNumber_b18 v1 v2 T = some x)  (k18 : ∀ (v2' : Int32) (T' : TW), x = (.inl (v2', T')) → ∀ (H : Heap) (locs : List Loc) (ls : Array Slot), RepT G o (T') H → va_S (tFr o) s.heap H locs → lv_has ls 3 [(0, .ref o), (1, .int v1), (2, .int v2')] → W p l e (gRm 1 21) s m args below meth c H locs 0 0 (twZ below args s G o none r) (F0 m 18 ls [])) (kR : ∀ q, x = (.inr q) → q = r) (hR : RepT G o T H) (hS : va_S (tFr o) s.heap H locs) (hl : lv_has ls 3 [(0, .ref o), (1, .int v1), (2, .int v2)]) : W p l e (gRm 1 21) s m args below meth c H locs 0 0 (twZ below args s G o none r) (F0 m 18 ls []) := by
  have B0 := B
  obtain ⟨hx, hb, hml, hown, hts, hr, hlk, hK⟩ := B0
  unfold fX5_putsNumber_b18 at h
  refine lv_iload_n hx hb dX5_putsNumber_18 rfl (lv_at hl 2 rfl) ?_
  refine lv_if_le (tgt := 43) hx hb dX5_putsNumber_19 (by decide) (fun c1 => ?_) (fun c1 => ?_)
  · replace h := it_o c1 h
    have eR := kR _ (Option.some.inj h).symm
    subst eR
    exact W.vret hx hb hr (fun t ht _ => tw_fin hR hS ht) hS.2.2 dX5_putsNumber_43
  · replace h := if_o c1 h
    refine lv_aload_n hx hb dX5_putsNumber_22 rfl (lv_at hl 0 rfl) ?_
    refine lv_bipush (v := 48) hx hb dX5_putsNumber_23 (by decide) ?_
    refine lv_iload_n hx hb dX5_putsNumber_25 rfl (lv_at hl 1 rfl) ?_
    refine lv_iload_n hx hb dX5_putsNumber_26 rfl (lv_at hl 2 rfl) ?_
    replace h := bo_o h
    obtain ⟨_, e2, h⟩ := h
    refine lv_idiv hx hb dX5_putsNumber_27 (nzI_o e2) ?_
    refine lv_bipush (v := 10) hx hb dX5_putsNumber_28 (by decide) ?_
    refine lv_irem hx hb dX5_putsNumber_30 (by decide) ?_
    refine lv_iadd hx hb dX5_putsNumber_31 ?_
    replace h := bo_o h
    obtain ⟨T4, e3, h⟩ := h
    refine tw_callV 1 (As := [.int (48 + ((v1 / v2) - (v1 / v2) / 10 * 10))]) (rest := []) (v := none) (T' := T4) (st1 := []) hx hb hml hown hts hK hR (fun _ h9 => h9) (tw_A2 hR) hS (mX5_puts e3) (lw_V q3009 q3011 qs109 q137 q3012) (by decide +kernel) (Nat.le_of_ble_eq_true rfl) (Nat.le_of_ble_eq_true rfl) (Nat.zero_le _) (Nat.zero_le _) rfl hl.1 (Nat.le_of_ble_eq_true rfl) dX5_putsNumber_32 rfl rfl (fun H locs hR hS => ?_)
    refine lv_iload_n hx hb dX5_putsNumber_35 rfl (lv_at hl 2 rfl) ?_
    refine lv_bipush (v := 10) hx hb dX5_putsNumber_36 (by decide) ?_
    refine lv_idiv hx hb dX5_putsNumber_38 (by decide) ?_
    replace h := nm_o h
    obtain ⟨x5, e6, h⟩ := h
    refine lv_istore_n (lv' := [(2, .int x5), (0, .ref o), (1, .int v1)]) hx hb dX5_putsNumber_39 rfl hl (by decide) (by subst e6; rfl) (fun ls hl => ?_)
    refine lv_goto (tgt := 18) hx hb dX5_putsNumber_40 (by decide) ?_
    exact k18 _ _ (Option.some.inj h).symm H locs ls hR hS (lv_sub hl [1, 2, 0] rfl)
noncomputable def fX5_putsNumber_l18 (v1 : Int32) (v2 : Int32) (T : TW) : Option (TW) := whileO (fun q => fX5_putsNumber_b18 v1 q.1 q.2) (v2, T)
theorem lX5_putsNumber_18 {p : Program} {l : Launch} {e : Env} {s : State} {m : MethodId} {args : Array Value} {below : List Frame} {meth : Method} {c : Code} {G : gE} {o : Nat} (B : gB G RX5 cX5_putsNumber 3 none p s m args meth c) {v1 : Int32} {r : TW}   : ∀ (v2 : Int32) (T : TW), fX5_putsNumber_l18 v1 v2 T = some r → ∀ (H : Heap) (locs : List Loc) (ls : Array Slot), RepT G o (T) H → va_S (tFr o) s.heap H locs → lv_has ls 3 [(0, .ref o), (1, .int v1), (2, .int v2)] → W p l e (gRm 1 21) s m args below meth c H locs 0 0 (twZ below args s G o none r) (F0 m 18 ls []) := by
  intro v2 T h
  refine wh_walk (body := (fun q => fX5_putsNumber_b18 v1 q.1 q.2)) (P := (fun q : (Int32 × TW) => ∀ (H : Heap) (locs : List Loc) (ls : Array Slot), RepT G o (q.2) H → va_S (tFr o) s.heap H locs → lv_has ls 3 [(0, .ref o), (1, .int v1), (2, .int (q.1))] → W p l e (gRm 1 21) s m args below meth c H locs 0 0 (twZ below args s G o none r) (F0 m 18 ls []))) (r := r) ?_ (v2, T) h
  intro q y hy hL hr H locs ls hR hS hl
  exact bX5_putsNumber_18 (r := r) B hy (fun a0 a1 e => hL (a0, a1) e) (fun q e => hr q e) hR hS hl
noncomputable def fX5_putsNumber_b2 (v1 : Int32) (v2 : Int32) (T : TW) : Option (Sum (Int32 × TW) (TW)) :=
  (nzI v2).bind fun _ =>
  if v1 / v2 < 10 then (
    (fX5_putsNumber_l18 v1 v2 T).map (fun y => (.inr y))
  ) else (
    nm_ (v2 * 10) fun x3 =>
    some (.inl (x3, T))
  )
theorem bX5_putsNumber_2 {p : Program} {l : Launch} {e : Env} {s : State} {m : MethodId} {args : Array Value} {below : List Frame} {meth : Method} {c : Code} {H : Heap} {locs : List Loc} {ls : Array Slot} {G : gE} {o : Nat} (B : gB G RX5 cX5_putsNumber 3 none p s m args meth c) {v1 : Int32} {v2 : Int32} {T : TW} {x : Sum (Int32 × TW) (TW)} {r : TW} (h : fX5_putsNumber_b2 v1 v2 T = some x)  (k2 : ∀ (v2' : Int32) (T' : TW), x = (.inl (v2', T')) → ∀ (H : Heap) (locs : List Loc) (ls : Array Slot), RepT G o (T') H → va_S (tFr o) s.heap H locs → lv_has ls 3 [(0, .ref o), (1, .int v1), (2, .int v2')] → W p l e (gRm 1 21) s m args below meth c H locs 0 0 (twZ below args s G o none r) (F0 m 2 ls [])) (kR : ∀ q, x = (.inr q) → q = r) (hR : RepT G o T H) (hS : va_S (tFr o) s.heap H locs) (hl : lv_has ls 3 [(0, .ref o), (1, .int v1), (2, .int v2)]) : W p l e (gRm 1 21) s m args below meth c H locs 0 0 (twZ below args s G o none r) (F0 m 2 ls []) := by
  have B0 := B
  obtain ⟨hx, hb, hml, hown, hts, hr, hlk, hK⟩ := B0
  unfold fX5_putsNumber_b2 at h
  refine lv_iload_n hx hb dX5_putsNumber_2 rfl (lv_at hl 1 rfl) ?_
  refine lv_iload_n hx hb dX5_putsNumber_3 rfl (lv_at hl 2 rfl) ?_
  replace h := bo_o h
  obtain ⟨_, e1, h⟩ := h
  refine lv_idiv hx hb dX5_putsNumber_4 (nzI_o e1) ?_
  refine lv_bipush (v := 10) hx hb dX5_putsNumber_5 (by decide) ?_
  refine lv_icmp_lt (tgt := 18) hx hb dX5_putsNumber_7 (by decide) (fun c2 => ?_) (fun c2 => ?_)
  · replace h := it_o c2 h
    obtain ⟨y, h, ey⟩ := mp_o h
    have ey := kR _ ey.symm
    subst ey
    exact lX5_putsNumber_18 B _ _ h H locs ls hR hS (lv_sub hl [0, 1, 2] rfl)
  · replace h := if_o c2 h
    refine lv_iload_n hx hb dX5_putsNumber_10 rfl (lv_at hl 2 rfl) ?_
    refine lv_bipush (v := 10) hx hb dX5_putsNumber_11 (by decide) ?_
    refine lv_imul hx hb dX5_putsNumber_13 ?_
    replace h := nm_o h
    obtain ⟨x3, e4, h⟩ := h
    refine lv_istore_n (lv' := [(2, .int x3), (0, .ref o), (1, .int v1)]) hx hb dX5_putsNumber_14 rfl hl (by decide) (by subst e4; rfl) (fun ls hl => ?_)
    refine lv_goto (tgt := 2) hx hb dX5_putsNumber_15 (by decide) ?_
    exact k2 _ _ (Option.some.inj h).symm H locs ls hR hS (lv_sub hl [1, 2, 0] rfl)
noncomputable def fX5_putsNumber_l2 (v1 : Int32) (v2 : Int32) (T : TW) : Option (TW) := whileO (fun q => fX5_putsNumber_b2 v1 q.1 q.2) (v2, T)
theorem lX5_putsNumber_2 {p : Program} {l : Launch} {e : Env} {s : State} {m : MethodId} {args : Array Value} {below : List Frame} {meth : Method} {c : Code} {G : gE} {o : Nat} (B : gB G RX5 cX5_putsNumber 3 none p s m args meth c) {v1 : Int32} {r : TW}   : ∀ (v2 : Int32) (T : TW), fX5_putsNumber_l2 v1 v2 T = some r → ∀ (H : Heap) (locs : List Loc) (ls : Array Slot), RepT G o (T) H → va_S (tFr o) s.heap H locs → lv_has ls 3 [(0, .ref o), (1, .int v1), (2, .int v2)] → W p l e (gRm 1 21) s m args below meth c H locs 0 0 (twZ below args s G o none r) (F0 m 2 ls []) := by
  intro v2 T h
  refine wh_walk (body := (fun q => fX5_putsNumber_b2 v1 q.1 q.2)) (P := (fun q : (Int32 × TW) => ∀ (H : Heap) (locs : List Loc) (ls : Array Slot), RepT G o (q.2) H → va_S (tFr o) s.heap H locs → lv_has ls 3 [(0, .ref o), (1, .int v1), (2, .int (q.1))] → W p l e (gRm 1 21) s m args below meth c H locs 0 0 (twZ below args s G o none r) (F0 m 2 ls []))) (r := r) ?_ (v2, T) h
  intro q y hy hL hr H locs ls hR hS hl
  exact bX5_putsNumber_2 (r := r) B hy (fun a0 a1 e => hL (a0, a1) e) (fun q e => hr q e) hR hS hl
noncomputable def fX5_putsNumber (v1 : Int32) (T : TW) : Option (TW) :=
  fX5_putsNumber_l2 v1 1 T
theorem bX5_putsNumber_0 {p : Program} {l : Launch} {e : Env} {s : State} {m : MethodId} {args : Array Value} {below : List Frame} {meth : Method} {c : Code} {H : Heap} {locs : List Loc} {ls : Array Slot} {G : gE} {o : Nat} (B : gB G RX5 cX5_putsNumber 3 none p s m args meth c) {v1 : Int32} {T : TW} {r : TW} (h : fX5_putsNumber v1 T = some r)   (hR : RepT G o T H) (hS : va_S (tFr o) s.heap H locs) (hl : lv_has ls 3 [(0, .ref o), (1, .int v1)]) : W p l e (gRm 1 21) s m args below meth c H locs 0 0 (twZ below args s G o none r) (F0 m 0 ls []) := by
  have B0 := B
  obtain ⟨hx, hb, hml, hown, hts, hr, hlk, hK⟩ := B0
  unfold fX5_putsNumber at h
  refine lv_iconst (v := 1) hx hb dX5_putsNumber_0 (by decide) ?_
  refine lv_istore_n (lv' := [(2, .int 1), (0, .ref o), (1, .int v1)]) hx hb dX5_putsNumber_1 rfl hl (by decide) rfl (fun ls hl => ?_)
  exact lX5_putsNumber_2 B _ _ h H locs ls hR hS (lv_sub hl [1, 2, 0] rfl)
theorem mX5_putsNumber {l : Launch} {G : gE} {o : Nat} {v1 : Int32} {T : TW} {r : TW}  (h : fX5_putsNumber v1 T = some r) : twM l G o yX5_putsNumber cX5_putsNumber 3 none 1 21 [.ref o, .int v1] T none r :=
  tw_of (by decide +kernel) (Nat.le_of_ble_eq_true rfl) (fun p e s m args below meth c ls B hR hl => bX5_putsNumber_0 B h hR va_S.rf hl)
noncomputable def fX5_writePath_b122  (T : TW) : Option ((Int32 × TW)) :=
  some (tI T 32, T)
theorem bX5_writePath_122 {p : Program} {l : Launch} {e : Env} {s : State} {m : MethodId} {args : Array Value} {below : List Frame} {meth : Method} {c : Code} {H : Heap} {locs : List Loc} {ls : Array Slot} {G : gE} {o : Nat} (B : gB G RX5 cX5_writePath 3 (some .int) p s m args meth c)  {T : TW} {r : (Int32 × TW)} (h : fX5_writePath_b122 T = some r)   (hR : RepT G o T H) (hS : va_S (tFr o) s.heap H locs) (hl : lv_has ls 3 [(0, .ref o)]) : W p l e (gRm 8 349) s m args below meth c H locs 0 0 (twZ below args s G o (some (.int r.1)) r.2) (F0 m 122 ls []) := by
  have B0 := B
  obtain ⟨hx, hb, hml, hown, hts, hr, hlk, hK⟩ := B0
  unfold fX5_writePath_b122 at h
  refine lv_aload_n hx hb dX5_writePath_122 rfl (lv_at hl 0 rfl) ?_
  refine tw_get (k := 32) (v := .int (tI T 32)) hx hb hts hown hK hR (by decide) q2465 rfl (fun _ h9 => h9) dX5_writePath_123 ?_
  have eR := Option.some.inj h
  subst eR
  exact W.iret (v := tI T 32) hx hb hr (fun t ht _ => tw_fin hR hS ht) hS.2.2 dX5_writePath_126
noncomputable def fX5_writePath_b95 (v2 : Int32) (T : TW) : Option (Sum (Int32 × TW) ((Int32 × TW))) :=
  (fX5_puts 62 T).bind fun T2 =>
  (rd_ (tA T2 8) 10 v2).bind fun x3 =>
  b2_ (fX5_arc x3 1 T2) fun x7 T6 =>
  (fX5_putsNumber x7 T6).bind fun T9 =>
  some (.inl (v2 + 1, T9))
theorem bX5_writePath_95 {p : Program} {l : Launch} {e : Env} {s : State} {m : MethodId} {args : Array Value} {below : List Frame} {meth : Method} {c : Code} {H : Heap} {locs : List Loc} {ls : Array Slot} {G : gE} {o : Nat} (B : gB G RX5 cX5_writePath 3 (some .int) p s m args meth c) {v2 : Int32} {T : TW} {x : Sum (Int32 × TW) ((Int32 × TW))} {r : (Int32 × TW)} (h : fX5_writePath_b95 v2 T = some x)  (k52 : ∀ (v2' : Int32) (T' : TW), x = (.inl (v2', T')) → ∀ (H : Heap) (locs : List Loc) (ls : Array Slot), RepT G o (T') H → va_S (tFr o) s.heap H locs → lv_has ls 3 [(0, .ref o), (2, .int v2')] → W p l e (gRm 8 349) s m args below meth c H locs 0 0 (twZ below args s G o (some (.int r.1)) r.2) (F0 m 52 ls [])) (kR : ∀ q, x = (.inr q) → q = r) (hR : RepT G o T H) (hS : va_S (tFr o) s.heap H locs) (hl : lv_has ls 3 [(0, .ref o), (2, .int v2)]) : W p l e (gRm 8 349) s m args below meth c H locs 0 0 (twZ below args s G o (some (.int r.1)) r.2) (F0 m 95 ls []) := by
  have B0 := B
  obtain ⟨hx, hb, hml, hown, hts, hr, hlk, hK⟩ := B0
  unfold fX5_writePath_b95 at h
  refine lv_aload_n hx hb dX5_writePath_95 rfl (lv_at hl 0 rfl) ?_
  refine lv_bipush (v := 62) hx hb dX5_writePath_96 (by decide) ?_
  replace h := bo_o h
  obtain ⟨T2, e1, h⟩ := h
  refine tw_callV 1 (As := [.int 62]) (rest := []) (v := none) (T' := T2) (st1 := []) hx hb hml hown hts hK hR (fun _ h9 => h9) (tw_A2 hR) hS (mX5_puts e1) (lw_V q3009 q3011 qs109 q137 q3012) (by decide +kernel) (Nat.le_of_ble_eq_true rfl) (Nat.le_of_ble_eq_true rfl) (Nat.zero_le _) (Nat.zero_le _) rfl hl.1 (Nat.le_of_ble_eq_true rfl) dX5_writePath_98 rfl rfl (fun H locs hR hS => ?_)
  refine lv_aload_n hx hb dX5_writePath_101 rfl (lv_at hl 0 rfl) ?_
  refine lv_aload_n hx hb dX5_writePath_102 rfl (lv_at hl 0 rfl) ?_
  refine lv_aload_n hx hb dX5_writePath_103 rfl (lv_at hl 0 rfl) ?_
  refine tw_get (k := 20) (v := .ref (o + 8)) hx hb hts hown hK hR (by decide) q2453 rfl (fun _ h9 => h9) dX5_writePath_104 ?_
  refine lv_iload_n hx hb dX5_writePath_107 rfl (lv_at hl 1 rfl) ?_
  replace h := bo_o h
  obtain ⟨x3, e4, h⟩ := h
  refine tw_iald (q := 8) hx hb hK hR rfl e4 dX5_writePath_108 ?_
  refine lv_iconst (v := 1) hx hb dX5_writePath_109 (by decide) ?_
  replace h := b2_o h
  obtain ⟨x7, T6, e5, h⟩ := h
  refine tw_callV 2 (As := [.int x3, .int 1]) (rest := [.ref o]) (v := (some (.int x7))) (T' := T6) (st1 := [.int x7, .ref o]) hx hb hml hown hts hK hR (fun _ h9 => h9) (tw_A2 hR) hS (mX5_arc e5) (lw_V q2637 q2639 qs69 q137 q2640) (by decide +kernel) (Nat.le_of_ble_eq_true rfl) (Nat.le_of_ble_eq_true rfl) (Nat.zero_le _) (Nat.zero_le _) rfl hl.1 (Nat.le_of_ble_eq_true rfl) dX5_writePath_110 rfl rfl (fun H locs hR hS => ?_)
  replace h := bo_o h
  obtain ⟨T9, e8, h⟩ := h
  refine tw_callV 1 (As := [.int x7]) (rest := []) (v := none) (T' := T9) (st1 := []) hx hb hml hown hts hK hR (fun _ h9 => h9) (tw_A2 hR) hS (mX5_putsNumber e8) (lw_V q3013 q3015 qs110 q137 q3016) (by decide +kernel) (Nat.le_of_ble_eq_true rfl) (Nat.le_of_ble_eq_true rfl) (Nat.zero_le _) (Nat.zero_le _) rfl hl.1 (Nat.le_of_ble_eq_true rfl) dX5_writePath_113 rfl rfl (fun H locs hR hS => ?_)
  refine lv_iinc (v := v2 + 1) (lv' := [(2, .int (v2 + 1)), (0, .ref o)]) hx hb dX5_writePath_116 hl (k := 1) rfl rfl (by decide) rfl (fun ls hl => ?_)
  refine lv_goto (tgt := 52) hx hb dX5_writePath_119 (by decide) ?_
  exact k52 _ _ (Option.some.inj h).symm H locs ls hR hS (lv_sub hl [1, 0] rfl)
noncomputable def fX5_writePath_b52 (v2 : Int32) (T : TW) : Option (Sum (Int32 × TW) ((Int32 × TW))) :=
  if tI T 21 ≤ v2 then (
    (fX5_writePath_b122 T).map (fun y => (.inr y))
  ) else (
    (rd_ (tA T 8) 10 v2).bind fun x2 =>
    b2_ (fX5_arc x2 4 T) fun x6 T5 =>
    if x6 ≤ 0 then (
      fX5_writePath_b95 v2 T5
    ) else (
      (fX5_puts 61 T5).bind fun T9 =>
      (rd_ (tA T9 8) 10 v2).bind fun x10 =>
      b2_ (fX5_arc x10 4 T9) fun x14 T13 =>
      (fX5_putsNumber x14 T13).bind fun T16 =>
      fX5_writePath_b95 v2 T16
    )
  )
theorem bX5_writePath_52 {p : Program} {l : Launch} {e : Env} {s : State} {m : MethodId} {args : Array Value} {below : List Frame} {meth : Method} {c : Code} {H : Heap} {locs : List Loc} {ls : Array Slot} {G : gE} {o : Nat} (B : gB G RX5 cX5_writePath 3 (some .int) p s m args meth c) {v2 : Int32} {T : TW} {x : Sum (Int32 × TW) ((Int32 × TW))} {r : (Int32 × TW)} (h : fX5_writePath_b52 v2 T = some x)  (k52 : ∀ (v2' : Int32) (T' : TW), x = (.inl (v2', T')) → ∀ (H : Heap) (locs : List Loc) (ls : Array Slot), RepT G o (T') H → va_S (tFr o) s.heap H locs → lv_has ls 3 [(0, .ref o), (2, .int v2')] → W p l e (gRm 8 349) s m args below meth c H locs 0 0 (twZ below args s G o (some (.int r.1)) r.2) (F0 m 52 ls [])) (kR : ∀ q, x = (.inr q) → q = r) (hR : RepT G o T H) (hS : va_S (tFr o) s.heap H locs) (hl : lv_has ls 3 [(0, .ref o), (2, .int v2)]) : W p l e (gRm 8 349) s m args below meth c H locs 0 0 (twZ below args s G o (some (.int r.1)) r.2) (F0 m 52 ls []) := by
  have B0 := B
  obtain ⟨hx, hb, hml, hown, hts, hr, hlk, hK⟩ := B0
  unfold fX5_writePath_b52 at h
  refine lv_iload_n hx hb dX5_writePath_52 rfl (lv_at hl 1 rfl) ?_
  refine lv_aload_n hx hb dX5_writePath_53 rfl (lv_at hl 0 rfl) ?_
  refine tw_get (k := 21) (v := .int (tI T 21)) hx hb hts hown hK hR (by decide) q2454 rfl (fun _ h9 => h9) dX5_writePath_54 ?_
  refine lv_icmp_ge (tgt := 122) hx hb dX5_writePath_57 (by decide) (fun c1 => ?_) (fun c1 => ?_)
  · replace h := it_o c1 h
    obtain ⟨y, h, ey⟩ := mp_o h
    have ey := kR _ ey.symm
    subst ey
    exact bX5_writePath_122 B h  hR hS (lv_sub hl [0] rfl)
  · replace h := if_o c1 h
    refine lv_aload_n hx hb dX5_writePath_60 rfl (lv_at hl 0 rfl) ?_
    refine lv_aload_n hx hb dX5_writePath_61 rfl (lv_at hl 0 rfl) ?_
    refine tw_get (k := 20) (v := .ref (o + 8)) hx hb hts hown hK hR (by decide) q2453 rfl (fun _ h9 => h9) dX5_writePath_62 ?_
    refine lv_iload_n hx hb dX5_writePath_65 rfl (lv_at hl 1 rfl) ?_
    replace h := bo_o h
    obtain ⟨x2, e3, h⟩ := h
    refine tw_iald (q := 8) hx hb hK hR rfl e3 dX5_writePath_66 ?_
    refine lv_iconst (v := 4) hx hb dX5_writePath_67 (by decide) ?_
    replace h := b2_o h
    obtain ⟨x6, T5, e4, h⟩ := h
    refine tw_callV 2 (As := [.int x2, .int 4]) (rest := []) (v := (some (.int x6))) (T' := T5) (st1 := [.int x6]) hx hb hml hown hts hK hR (fun _ h9 => h9) (tw_A2 hR) hS (mX5_arc e4) (lw_V q2637 q2639 qs69 q137 q2640) (by decide +kernel) (Nat.le_of_ble_eq_true rfl) (Nat.le_of_ble_eq_true rfl) (Nat.zero_le _) (Nat.zero_le _) rfl hl.1 (Nat.le_of_ble_eq_true rfl) dX5_writePath_68 rfl rfl (fun H locs hR hS => ?_)
    refine lv_if_le (tgt := 95) hx hb dX5_writePath_71 (by decide) (fun c7 => ?_) (fun c7 => ?_)
    · replace h := it_o c7 h
      exact bX5_writePath_95 B h k52 kR hR hS (lv_sub hl [0, 1] rfl)
    · replace h := if_o c7 h
      refine lv_aload_n hx hb dX5_writePath_74 rfl (lv_at hl 0 rfl) ?_
      refine lv_bipush (v := 61) hx hb dX5_writePath_75 (by decide) ?_
      replace h := bo_o h
      obtain ⟨T9, e8, h⟩ := h
      refine tw_callV 1 (As := [.int 61]) (rest := []) (v := none) (T' := T9) (st1 := []) hx hb hml hown hts hK hR (fun _ h9 => h9) (tw_A2 hR) hS (mX5_puts e8) (lw_V q3009 q3011 qs109 q137 q3012) (by decide +kernel) (Nat.le_of_ble_eq_true rfl) (Nat.le_of_ble_eq_true rfl) (Nat.zero_le _) (Nat.zero_le _) rfl hl.1 (Nat.le_of_ble_eq_true rfl) dX5_writePath_77 rfl rfl (fun H locs hR hS => ?_)
      refine lv_aload_n hx hb dX5_writePath_80 rfl (lv_at hl 0 rfl) ?_
      refine lv_aload_n hx hb dX5_writePath_81 rfl (lv_at hl 0 rfl) ?_
      refine lv_aload_n hx hb dX5_writePath_82 rfl (lv_at hl 0 rfl) ?_
      refine tw_get (k := 20) (v := .ref (o + 8)) hx hb hts hown hK hR (by decide) q2453 rfl (fun _ h9 => h9) dX5_writePath_83 ?_
      refine lv_iload_n hx hb dX5_writePath_86 rfl (lv_at hl 1 rfl) ?_
      replace h := bo_o h
      obtain ⟨x10, e11, h⟩ := h
      refine tw_iald (q := 8) hx hb hK hR rfl e11 dX5_writePath_87 ?_
      refine lv_iconst (v := 4) hx hb dX5_writePath_88 (by decide) ?_
      replace h := b2_o h
      obtain ⟨x14, T13, e12, h⟩ := h
      refine tw_callV 2 (As := [.int x10, .int 4]) (rest := [.ref o]) (v := (some (.int x14))) (T' := T13) (st1 := [.int x14, .ref o]) hx hb hml hown hts hK hR (fun _ h9 => h9) (tw_A2 hR) hS (mX5_arc e12) (lw_V q2637 q2639 qs69 q137 q2640) (by decide +kernel) (Nat.le_of_ble_eq_true rfl) (Nat.le_of_ble_eq_true rfl) (Nat.zero_le _) (Nat.zero_le _) rfl hl.1 (Nat.le_of_ble_eq_true rfl) dX5_writePath_89 rfl rfl (fun H locs hR hS => ?_)
      replace h := bo_o h
      obtain ⟨T16, e15, h⟩ := h
      refine tw_callV 1 (As := [.int x14]) (rest := []) (v := none) (T' := T16) (st1 := []) hx hb hml hown hts hK hR (fun _ h9 => h9) (tw_A2 hR) hS (mX5_putsNumber e15) (lw_V q3013 q3015 qs110 q137 q3016) (by decide +kernel) (Nat.le_of_ble_eq_true rfl) (Nat.le_of_ble_eq_true rfl) (Nat.zero_le _) (Nat.zero_le _) rfl hl.1 (Nat.le_of_ble_eq_true rfl) dX5_writePath_92 rfl rfl (fun H locs hR hS => ?_)
      exact bX5_writePath_95 B h k52 kR hR hS (lv_sub hl [0, 1] rfl)
noncomputable def fX5_writePath_l52 (v2 : Int32) (T : TW) : Option ((Int32 × TW)) := whileO (fun q => fX5_writePath_b52 q.1 q.2) (v2, T)
theorem lX5_writePath_52 {p : Program} {l : Launch} {e : Env} {s : State} {m : MethodId} {args : Array Value} {below : List Frame} {meth : Method} {c : Code} {G : gE} {o : Nat} (B : gB G RX5 cX5_writePath 3 (some .int) p s m args meth c)  {r : (Int32 × TW)}   : ∀ (v2 : Int32) (T : TW), fX5_writePath_l52 v2 T = some r → ∀ (H : Heap) (locs : List Loc) (ls : Array Slot), RepT G o (T) H → va_S (tFr o) s.heap H locs → lv_has ls 3 [(0, .ref o), (2, .int v2)] → W p l e (gRm 8 349) s m args below meth c H locs 0 0 (twZ below args s G o (some (.int r.1)) r.2) (F0 m 52 ls []) := by
  intro v2 T h
  refine wh_walk (body := (fun q => fX5_writePath_b52 q.1 q.2)) (P := (fun q : (Int32 × TW) => ∀ (H : Heap) (locs : List Loc) (ls : Array Slot), RepT G o (q.2) H → va_S (tFr o) s.heap H locs → lv_has ls 3 [(0, .ref o), (2, .int (q.1))] → W p l e (gRm 8 349) s m args below meth c H locs 0 0 (twZ below args s G o (some (.int r.1)) r.2) (F0 m 52 ls []))) (r := r) ?_ (v2, T) h
  intro q y hy hL hr H locs ls hR hS hl
  exact bX5_writePath_52 (r := r) B hy (fun a0 a1 e => hL (a0, a1) e) (fun q e => hr q e) hR hS hl
noncomputable def fX5_writePath (v1 : Int32) (T : TW) : Option ((Int32 × TW)) :=
  b2_ (fX5_isTrip v1 T) fun x3 T2 =>
  b2_ (fX5_isThrown x3 1 T2) fun x6 T5 =>
  if x6 = 0 then (
    nm_ (tsI T5 32 0) fun T8 =>
    b2_ (fX5_laysPath v1 T8) fun x12 T11 =>
    if x12 = 0 then (
      (fX5_putsWord 4 T11).bind fun T15 =>
      some (tI T15 32, T15)
    ) else (
      b2_ (fX5_trip v1 0 T11) fun x18 T17 =>
      (fX5_putsNumber x18 T17).bind fun T20 =>
      fX5_writePath_l52 0 T20
    )
  ) else (
    some (0, T5)
  )
theorem bX5_writePath_0 {p : Program} {l : Launch} {e : Env} {s : State} {m : MethodId} {args : Array Value} {below : List Frame} {meth : Method} {c : Code} {H : Heap} {locs : List Loc} {ls : Array Slot} {G : gE} {o : Nat} (B : gB G RX5 cX5_writePath 3 (some .int) p s m args meth c) {v1 : Int32} {T : TW} {r : (Int32 × TW)} (h : fX5_writePath v1 T = some r)   (hR : RepT G o T H) (hS : va_S (tFr o) s.heap H locs) (hl : lv_has ls 3 [(0, .ref o), (1, .int v1)]) : W p l e (gRm 8 349) s m args below meth c H locs 0 0 (twZ below args s G o (some (.int r.1)) r.2) (F0 m 0 ls []) := by
  have B0 := B
  obtain ⟨hx, hb, hml, hown, hts, hr, hlk, hK⟩ := B0
  unfold fX5_writePath at h
  refine lv_aload_n hx hb dX5_writePath_0 rfl (lv_at hl 0 rfl) ?_
  refine lv_aload_n hx hb dX5_writePath_1 rfl (lv_at hl 0 rfl) ?_
  refine lv_iload_n hx hb dX5_writePath_2 rfl (lv_at hl 1 rfl) ?_
  replace h := b2_o h
  obtain ⟨x3, T2, e1, h⟩ := h
  refine tw_callV 1 (As := [.int v1]) (rest := [.ref o]) (v := (some (.int x3))) (T' := T2) (st1 := [.int x3, .ref o]) hx hb hml hown hts hK hR (fun _ h9 => h9) (tw_A2 hR) hS (mX5_isTrip e1) (lw_V q2653 q2655 qs71 q137 q2656) (by decide +kernel) (Nat.le_of_ble_eq_true rfl) (Nat.le_of_ble_eq_true rfl) (Nat.zero_le _) (Nat.zero_le _) rfl hl.1 (Nat.le_of_ble_eq_true rfl) dX5_writePath_3 rfl rfl (fun H locs hR hS => ?_)
  refine lv_iconst (v := 1) hx hb dX5_writePath_6 (by decide) ?_
  replace h := b2_o h
  obtain ⟨x6, T5, e4, h⟩ := h
  refine tw_callV 2 (As := [.int x3, .int 1]) (rest := []) (v := (some (.int x6))) (T' := T5) (st1 := [.int x6]) hx hb hml hown hts hK hR (fun _ h9 => h9) (tw_A2 hR) hS (mX5_isThrown e4) (lw_V q2633 q2635 qs68 q137 q2636) (by decide +kernel) (Nat.le_of_ble_eq_true rfl) (Nat.le_of_ble_eq_true rfl) (Nat.zero_le _) (Nat.zero_le _) rfl hl.1 (Nat.le_of_ble_eq_true rfl) dX5_writePath_7 rfl rfl (fun H locs hR hS => ?_)
  refine lv_if_eq (tgt := 15) hx hb dX5_writePath_10 (by decide) (fun c7 => ?_) (fun c7 => ?_)
  · replace h := it_o c7 h
    refine lv_aload_n hx hb dX5_writePath_15 rfl (lv_at hl 0 rfl) ?_
    refine lv_iconst (v := 0) hx hb dX5_writePath_16 (by decide) ?_
    replace h := nm_o h
    obtain ⟨T8, e9, h⟩ := h
    refine tw_putI (k := 32) (x := 0) (ty := .int) (T' := T8) hx hb hts hown hK hR (fun _ h9 => h9) hS (by decide) rfl e9 q2465 (fun _ h9 => h9) rfl (by decide +kernel) rfl rfl dX5_writePath_17 (fun H locs hR hS => ?_)
    refine lv_aload_n hx hb dX5_writePath_20 rfl (lv_at hl 0 rfl) ?_
    refine lv_iload_n hx hb dX5_writePath_21 rfl (lv_at hl 1 rfl) ?_
    replace h := b2_o h
    obtain ⟨x12, T11, e10, h⟩ := h
    refine tw_callV 1 (As := [.int v1]) (rest := []) (v := (some (.int x12))) (T' := T11) (st1 := [.int x12]) hx hb hml hown hts hK hR (fun _ h9 => h9) (tw_A2 hR) hS (mX5_laysPath e10) (lw_V q2722 q2724 qs76 q137 q2725) (by decide +kernel) (Nat.le_of_ble_eq_true rfl) (Nat.le_of_ble_eq_true rfl) (Nat.zero_le _) (Nat.zero_le _) rfl hl.1 (Nat.le_of_ble_eq_true rfl) dX5_writePath_22 rfl rfl (fun H locs hR hS => ?_)
    refine lv_if_ne (tgt := 40) hx hb dX5_writePath_25 (by decide) (fun c13 => ?_) (fun c13 => ?_)
    · replace h := if_o c13 h
      refine lv_aload_n hx hb dX5_writePath_40 rfl (lv_at hl 0 rfl) ?_
      refine lv_aload_n hx hb dX5_writePath_41 rfl (lv_at hl 0 rfl) ?_
      refine lv_iload_n hx hb dX5_writePath_42 rfl (lv_at hl 1 rfl) ?_
      refine lv_iconst (v := 0) hx hb dX5_writePath_43 (by decide) ?_
      replace h := b2_o h
      obtain ⟨x18, T17, e16, h⟩ := h
      refine tw_callV 2 (As := [.int v1, .int 0]) (rest := [.ref o]) (v := (some (.int x18))) (T' := T17) (st1 := [.int x18, .ref o]) hx hb hml hown hts hK hR (fun _ h9 => h9) (tw_A2 hR) hS (mX5_trip e16) (lw_V q2657 q2659 qs72 q137 q2660) (by decide +kernel) (Nat.le_of_ble_eq_true rfl) (Nat.le_of_ble_eq_true rfl) (Nat.zero_le _) (Nat.zero_le _) rfl hl.1 (Nat.le_of_ble_eq_true rfl) dX5_writePath_44 rfl rfl (fun H locs hR hS => ?_)
      replace h := bo_o h
      obtain ⟨T20, e19, h⟩ := h
      refine tw_callV 1 (As := [.int x18]) (rest := []) (v := none) (T' := T20) (st1 := []) hx hb hml hown hts hK hR (fun _ h9 => h9) (tw_A2 hR) hS (mX5_putsNumber e19) (lw_V q3013 q3015 qs110 q137 q3016) (by decide +kernel) (Nat.le_of_ble_eq_true rfl) (Nat.le_of_ble_eq_true rfl) (Nat.zero_le _) (Nat.zero_le _) rfl hl.1 (Nat.le_of_ble_eq_true rfl) dX5_writePath_47 rfl rfl (fun H locs hR hS => ?_)
      refine lv_iconst (v := 0) hx hb dX5_writePath_50 (by decide) ?_
      refine lv_istore_n (lv' := [(2, .int 0), (0, .ref o), (1, .int v1)]) hx hb dX5_writePath_51 rfl hl (by decide) rfl (fun ls hl => ?_)
      exact lX5_writePath_52 B _ _ h H locs ls hR hS (lv_sub hl [1, 0] rfl)
    · replace h := it_o c13 h
      refine lv_aload_n hx hb dX5_writePath_28 rfl (lv_at hl 0 rfl) ?_
      refine gl_ldcSW hx hb hown (hK.2.2.1 _ (List.mem_of_getElem? (i := 9) rfl)) dX5_writePath_29 ?_
      replace h := bo_o h
      obtain ⟨T15, e14, h⟩ := h
      refine tw_callV 1 (As := [.ref (gK G 4)]) (rest := []) (v := none) (T' := T15) (st1 := []) hx hb hml hown hts hK hR (fun _ h9 => h9) (tw_A2 hR) hS (mX5_putsWord (v1 := 4) (by decide) e14) (lw_V q3005 q3007 qs108 q137 q3008) (by decide +kernel) (Nat.le_of_ble_eq_true rfl) (Nat.le_of_ble_eq_true rfl) (Nat.zero_le _) (Nat.zero_le _) rfl hl.1 (Nat.le_of_ble_eq_true rfl) dX5_writePath_32 rfl rfl (fun H locs hR hS => ?_)
      refine lv_aload_n hx hb dX5_writePath_35 rfl (lv_at hl 0 rfl) ?_
      refine tw_get (k := 32) (v := .int (tI T15 32)) hx hb hts hown hK hR (by decide) q2465 rfl (fun _ h9 => h9) dX5_writePath_36 ?_
      have eR := Option.some.inj h
      subst eR
      exact W.iret (v := tI T15 32) hx hb hr (fun t ht _ => tw_fin hR hS ht) hS.2.2 dX5_writePath_39
  · replace h := if_o c7 h
    refine lv_iconst (v := 0) hx hb dX5_writePath_13 (by decide) ?_
    have eR := Option.some.inj h
    subst eR
    exact W.iret (v := 0) hx hb hr (fun t ht _ => tw_fin hR hS ht) hS.2.2 dX5_writePath_14
theorem mX5_writePath {l : Launch} {G : gE} {o : Nat} {v1 : Int32} {T : TW} {r : (Int32 × TW)}  (h : fX5_writePath v1 T = some r) : twM l G o yX5_writePath cX5_writePath 3 (some .int) 8 349 [.ref o, .int v1] T (some (.int r.1)) r.2 :=
  tw_of (by decide +kernel) (Nat.le_of_ble_eq_true rfl) (fun p e s m args below meth c ls B hR hl => bX5_writePath_0 B h hR va_S.rf hl)
noncomputable def fX5_writeTolls_b71  (T : TW) : Option ((Int32 × TW)) :=
  some (tI T 32, T)
theorem bX5_writeTolls_71 {p : Program} {l : Launch} {e : Env} {s : State} {m : MethodId} {args : Array Value} {below : List Frame} {meth : Method} {c : Code} {H : Heap} {locs : List Loc} {ls : Array Slot} {G : gE} {o : Nat} (B : gB G RX5 cX5_writeTolls 2 (some .int) p s m args meth c)  {T : TW} {r : (Int32 × TW)} (h : fX5_writeTolls_b71 T = some r)   (hR : RepT G o T H) (hS : va_S (tFr o) s.heap H locs) (hl : lv_has ls 2 [(0, .ref o)]) : W p l e (gRm 2 43) s m args below meth c H locs 0 0 (twZ below args s G o (some (.int r.1)) r.2) (F0 m 71 ls []) := by
  have B0 := B
  obtain ⟨hx, hb, hml, hown, hts, hr, hlk, hK⟩ := B0
  unfold fX5_writeTolls_b71 at h
  refine lv_aload_n hx hb dX5_writeTolls_71 rfl (lv_at hl 0 rfl) ?_
  refine tw_get (k := 32) (v := .int (tI T 32)) hx hb hts hown hK hR (by decide) q2465 rfl (fun _ h9 => h9) dX5_writeTolls_72 ?_
  have eR := Option.some.inj h
  subst eR
  exact W.iret (v := tI T 32) hx hb hr (fun t ht _ => tw_fin hR hS ht) hS.2.2 dX5_writeTolls_75
noncomputable def fX5_writeTolls_b65 (v1 : Int32) (T : TW) : Option (Sum (Int32 × TW) ((Int32 × TW))) :=
  some (.inl (v1 + 1, T))
theorem bX5_writeTolls_65 {p : Program} {l : Launch} {e : Env} {s : State} {m : MethodId} {args : Array Value} {below : List Frame} {meth : Method} {c : Code} {H : Heap} {locs : List Loc} {ls : Array Slot} {G : gE} {o : Nat} (B : gB G RX5 cX5_writeTolls 2 (some .int) p s m args meth c) {v1 : Int32} {T : TW} {x : Sum (Int32 × TW) ((Int32 × TW))} {r : (Int32 × TW)} (h : fX5_writeTolls_b65 v1 T = some x)  (k12 : ∀ (v1' : Int32) (T' : TW), x = (.inl (v1', T')) → ∀ (H : Heap) (locs : List Loc) (ls : Array Slot), RepT G o (T') H → va_S (tFr o) s.heap H locs → lv_has ls 2 [(0, .ref o), (1, .int v1')] → W p l e (gRm 2 43) s m args below meth c H locs 0 0 (twZ below args s G o (some (.int r.1)) r.2) (F0 m 12 ls [])) (kR : ∀ q, x = (.inr q) → q = r) (hR : RepT G o T H) (hS : va_S (tFr o) s.heap H locs) (hl : lv_has ls 2 [(0, .ref o), (1, .int v1)]) : W p l e (gRm 2 43) s m args below meth c H locs 0 0 (twZ below args s G o (some (.int r.1)) r.2) (F0 m 65 ls []) := by
  have B0 := B
  obtain ⟨hx, hb, hml, hown, hts, hr, hlk, hK⟩ := B0
  unfold fX5_writeTolls_b65 at h
  refine lv_iinc (v := v1 + 1) (lv' := [(1, .int (v1 + 1)), (0, .ref o)]) hx hb dX5_writeTolls_65 hl (k := 1) rfl rfl (by decide) rfl (fun ls hl => ?_)
  refine lv_goto (tgt := 12) hx hb dX5_writeTolls_68 (by decide) ?_
  exact k12 _ _ (Option.some.inj h).symm H locs ls hR hS (lv_sub hl [1, 0] rfl)
noncomputable def fX5_writeTolls_b44 (v1 : Int32) (T : TW) : Option (Sum (Int32 × TW) ((Int32 × TW))) :=
  (fX5_putsNumber v1 T).bind fun T2 =>
  (fX5_puts 58 T2).bind fun T4 =>
  b2_ (fX5_arc v1 4 T4) fun x7 T6 =>
  (fX5_putsNumber x7 T6).bind fun T9 =>
  fX5_writeTolls_b65 v1 T9
theorem bX5_writeTolls_44 {p : Program} {l : Launch} {e : Env} {s : State} {m : MethodId} {args : Array Value} {below : List Frame} {meth : Method} {c : Code} {H : Heap} {locs : List Loc} {ls : Array Slot} {G : gE} {o : Nat} (B : gB G RX5 cX5_writeTolls 2 (some .int) p s m args meth c) {v1 : Int32} {T : TW} {x : Sum (Int32 × TW) ((Int32 × TW))} {r : (Int32 × TW)} (h : fX5_writeTolls_b44 v1 T = some x)  (k12 : ∀ (v1' : Int32) (T' : TW), x = (.inl (v1', T')) → ∀ (H : Heap) (locs : List Loc) (ls : Array Slot), RepT G o (T') H → va_S (tFr o) s.heap H locs → lv_has ls 2 [(0, .ref o), (1, .int v1')] → W p l e (gRm 2 43) s m args below meth c H locs 0 0 (twZ below args s G o (some (.int r.1)) r.2) (F0 m 12 ls [])) (kR : ∀ q, x = (.inr q) → q = r) (hR : RepT G o T H) (hS : va_S (tFr o) s.heap H locs) (hl : lv_has ls 2 [(0, .ref o), (1, .int v1)]) : W p l e (gRm 2 43) s m args below meth c H locs 0 0 (twZ below args s G o (some (.int r.1)) r.2) (F0 m 44 ls []) := by
  have B0 := B
  obtain ⟨hx, hb, hml, hown, hts, hr, hlk, hK⟩ := B0
  unfold fX5_writeTolls_b44 at h
  refine lv_aload_n hx hb dX5_writeTolls_44 rfl (lv_at hl 0 rfl) ?_
  refine lv_iload_n hx hb dX5_writeTolls_45 rfl (lv_at hl 1 rfl) ?_
  replace h := bo_o h
  obtain ⟨T2, e1, h⟩ := h
  refine tw_callV 1 (As := [.int v1]) (rest := []) (v := none) (T' := T2) (st1 := []) hx hb hml hown hts hK hR (fun _ h9 => h9) (tw_A2 hR) hS (mX5_putsNumber e1) (lw_V q3013 q3015 qs110 q137 q3016) (by decide +kernel) (Nat.le_of_ble_eq_true rfl) (Nat.le_of_ble_eq_true rfl) (Nat.zero_le _) (Nat.zero_le _) rfl hl.1 (Nat.le_of_ble_eq_true rfl) dX5_writeTolls_46 rfl rfl (fun H locs hR hS => ?_)
  refine lv_aload_n hx hb dX5_writeTolls_49 rfl (lv_at hl 0 rfl) ?_
  refine lv_bipush (v := 58) hx hb dX5_writeTolls_50 (by decide) ?_
  replace h := bo_o h
  obtain ⟨T4, e3, h⟩ := h
  refine tw_callV 1 (As := [.int 58]) (rest := []) (v := none) (T' := T4) (st1 := []) hx hb hml hown hts hK hR (fun _ h9 => h9) (tw_A2 hR) hS (mX5_puts e3) (lw_V q3009 q3011 qs109 q137 q3012) (by decide +kernel) (Nat.le_of_ble_eq_true rfl) (Nat.le_of_ble_eq_true rfl) (Nat.zero_le _) (Nat.zero_le _) rfl hl.1 (Nat.le_of_ble_eq_true rfl) dX5_writeTolls_52 rfl rfl (fun H locs hR hS => ?_)
  refine lv_aload_n hx hb dX5_writeTolls_55 rfl (lv_at hl 0 rfl) ?_
  refine lv_aload_n hx hb dX5_writeTolls_56 rfl (lv_at hl 0 rfl) ?_
  refine lv_iload_n hx hb dX5_writeTolls_57 rfl (lv_at hl 1 rfl) ?_
  refine lv_iconst (v := 4) hx hb dX5_writeTolls_58 (by decide) ?_
  replace h := b2_o h
  obtain ⟨x7, T6, e5, h⟩ := h
  refine tw_callV 2 (As := [.int v1, .int 4]) (rest := [.ref o]) (v := (some (.int x7))) (T' := T6) (st1 := [.int x7, .ref o]) hx hb hml hown hts hK hR (fun _ h9 => h9) (tw_A2 hR) hS (mX5_arc e5) (lw_V q2637 q2639 qs69 q137 q2640) (by decide +kernel) (Nat.le_of_ble_eq_true rfl) (Nat.le_of_ble_eq_true rfl) (Nat.zero_le _) (Nat.zero_le _) rfl hl.1 (Nat.le_of_ble_eq_true rfl) dX5_writeTolls_59 rfl rfl (fun H locs hR hS => ?_)
  replace h := bo_o h
  obtain ⟨T9, e8, h⟩ := h
  refine tw_callV 1 (As := [.int x7]) (rest := []) (v := none) (T' := T9) (st1 := []) hx hb hml hown hts hK hR (fun _ h9 => h9) (tw_A2 hR) hS (mX5_putsNumber e8) (lw_V q3013 q3015 qs110 q137 q3016) (by decide +kernel) (Nat.le_of_ble_eq_true rfl) (Nat.le_of_ble_eq_true rfl) (Nat.zero_le _) (Nat.zero_le _) rfl hl.1 (Nat.le_of_ble_eq_true rfl) dX5_writeTolls_62 rfl rfl (fun H locs hR hS => ?_)
  exact bX5_writeTolls_65 B h k12 kR hR hS (lv_sub hl [0, 1] rfl)
noncomputable def fX5_writeTolls_b12 (v1 : Int32) (T : TW) : Option (Sum (Int32 × TW) ((Int32 × TW))) :=
  (rd_ (tA T 1) 172 1).bind fun x1 =>
  if x1 ≤ v1 then (
    (fX5_writeTolls_b71 T).map (fun y => (.inr y))
  ) else (
    b2_ (fX5_arc v1 4 T) fun x6 T5 =>
    if x6 ≤ 0 then (
      fX5_writeTolls_b65 v1 T5
    ) else (
      if tI T5 32 ≤ 0 then (
        fX5_writeTolls_b44 v1 T5
      ) else (
        (fX5_puts 59 T5).bind fun T10 =>
        fX5_writeTolls_b44 v1 T10
      )
    )
  )
theorem bX5_writeTolls_12 {p : Program} {l : Launch} {e : Env} {s : State} {m : MethodId} {args : Array Value} {below : List Frame} {meth : Method} {c : Code} {H : Heap} {locs : List Loc} {ls : Array Slot} {G : gE} {o : Nat} (B : gB G RX5 cX5_writeTolls 2 (some .int) p s m args meth c) {v1 : Int32} {T : TW} {x : Sum (Int32 × TW) ((Int32 × TW))} {r : (Int32 × TW)} (h : fX5_writeTolls_b12 v1 T = some x)  (k12 : ∀ (v1' : Int32) (T' : TW), x = (.inl (v1', T')) → ∀ (H : Heap) (locs : List Loc) (ls : Array Slot), RepT G o (T') H → va_S (tFr o) s.heap H locs → lv_has ls 2 [(0, .ref o), (1, .int v1')] → W p l e (gRm 2 43) s m args below meth c H locs 0 0 (twZ below args s G o (some (.int r.1)) r.2) (F0 m 12 ls [])) (kR : ∀ q, x = (.inr q) → q = r) (hR : RepT G o T H) (hS : va_S (tFr o) s.heap H locs) (hl : lv_has ls 2 [(0, .ref o), (1, .int v1)]) : W p l e (gRm 2 43) s m args below meth c H locs 0 0 (twZ below args s G o (some (.int r.1)) r.2) (F0 m 12 ls []) := by
  have B0 := B
  obtain ⟨hx, hb, hml, hown, hts, hr, hlk, hK⟩ := B0
  unfold fX5_writeTolls_b12 at h
  refine lv_iload_n hx hb dX5_writeTolls_12 rfl (lv_at hl 1 rfl) ?_
  refine lv_aload_n hx hb dX5_writeTolls_13 rfl (lv_at hl 0 rfl) ?_
  refine tw_get (k := 0) (v := .ref (o + 1)) hx hb hts hown hK hR (by decide) q2433 rfl (fun _ h9 => h9) dX5_writeTolls_14 ?_
  refine lv_iconst (v := 1) hx hb dX5_writeTolls_17 (by decide) ?_
  replace h := bo_o h
  obtain ⟨x1, e2, h⟩ := h
  refine tw_iald (q := 1) hx hb hK hR rfl e2 dX5_writeTolls_18 ?_
  refine lv_icmp_ge (tgt := 71) hx hb dX5_writeTolls_19 (by decide) (fun c3 => ?_) (fun c3 => ?_)
  · replace h := it_o c3 h
    obtain ⟨y, h, ey⟩ := mp_o h
    have ey := kR _ ey.symm
    subst ey
    exact bX5_writeTolls_71 B h  hR hS (lv_sub hl [0] rfl)
  · replace h := if_o c3 h
    refine lv_aload_n hx hb dX5_writeTolls_22 rfl (lv_at hl 0 rfl) ?_
    refine lv_iload_n hx hb dX5_writeTolls_23 rfl (lv_at hl 1 rfl) ?_
    refine lv_iconst (v := 4) hx hb dX5_writeTolls_24 (by decide) ?_
    replace h := b2_o h
    obtain ⟨x6, T5, e4, h⟩ := h
    refine tw_callV 2 (As := [.int v1, .int 4]) (rest := []) (v := (some (.int x6))) (T' := T5) (st1 := [.int x6]) hx hb hml hown hts hK hR (fun _ h9 => h9) (tw_A2 hR) hS (mX5_arc e4) (lw_V q2637 q2639 qs69 q137 q2640) (by decide +kernel) (Nat.le_of_ble_eq_true rfl) (Nat.le_of_ble_eq_true rfl) (Nat.zero_le _) (Nat.zero_le _) rfl hl.1 (Nat.le_of_ble_eq_true rfl) dX5_writeTolls_25 rfl rfl (fun H locs hR hS => ?_)
    refine lv_if_le (tgt := 65) hx hb dX5_writeTolls_28 (by decide) (fun c7 => ?_) (fun c7 => ?_)
    · replace h := it_o c7 h
      exact bX5_writeTolls_65 B h k12 kR hR hS (lv_sub hl [0, 1] rfl)
    · replace h := if_o c7 h
      refine lv_aload_n hx hb dX5_writeTolls_31 rfl (lv_at hl 0 rfl) ?_
      refine tw_get (k := 32) (v := .int (tI T5 32)) hx hb hts hown hK hR (by decide) q2465 rfl (fun _ h9 => h9) dX5_writeTolls_32 ?_
      refine lv_if_le (tgt := 44) hx hb dX5_writeTolls_35 (by decide) (fun c8 => ?_) (fun c8 => ?_)
      · replace h := it_o c8 h
        exact bX5_writeTolls_44 B h k12 kR hR hS (lv_sub hl [0, 1] rfl)
      · replace h := if_o c8 h
        refine lv_aload_n hx hb dX5_writeTolls_38 rfl (lv_at hl 0 rfl) ?_
        refine lv_bipush (v := 59) hx hb dX5_writeTolls_39 (by decide) ?_
        replace h := bo_o h
        obtain ⟨T10, e9, h⟩ := h
        refine tw_callV 1 (As := [.int 59]) (rest := []) (v := none) (T' := T10) (st1 := []) hx hb hml hown hts hK hR (fun _ h9 => h9) (tw_A2 hR) hS (mX5_puts e9) (lw_V q3009 q3011 qs109 q137 q3012) (by decide +kernel) (Nat.le_of_ble_eq_true rfl) (Nat.le_of_ble_eq_true rfl) (Nat.zero_le _) (Nat.zero_le _) rfl hl.1 (Nat.le_of_ble_eq_true rfl) dX5_writeTolls_41 rfl rfl (fun H locs hR hS => ?_)
        exact bX5_writeTolls_44 B h k12 kR hR hS (lv_sub hl [0, 1] rfl)
noncomputable def fX5_writeTolls_l12 (v1 : Int32) (T : TW) : Option ((Int32 × TW)) := whileO (fun q => fX5_writeTolls_b12 q.1 q.2) (v1, T)
theorem lX5_writeTolls_12 {p : Program} {l : Launch} {e : Env} {s : State} {m : MethodId} {args : Array Value} {below : List Frame} {meth : Method} {c : Code} {G : gE} {o : Nat} (B : gB G RX5 cX5_writeTolls 2 (some .int) p s m args meth c)  {r : (Int32 × TW)}   : ∀ (v1 : Int32) (T : TW), fX5_writeTolls_l12 v1 T = some r → ∀ (H : Heap) (locs : List Loc) (ls : Array Slot), RepT G o (T) H → va_S (tFr o) s.heap H locs → lv_has ls 2 [(0, .ref o), (1, .int v1)] → W p l e (gRm 2 43) s m args below meth c H locs 0 0 (twZ below args s G o (some (.int r.1)) r.2) (F0 m 12 ls []) := by
  intro v1 T h
  refine wh_walk (body := (fun q => fX5_writeTolls_b12 q.1 q.2)) (P := (fun q : (Int32 × TW) => ∀ (H : Heap) (locs : List Loc) (ls : Array Slot), RepT G o (q.2) H → va_S (tFr o) s.heap H locs → lv_has ls 2 [(0, .ref o), (1, .int (q.1))] → W p l e (gRm 2 43) s m args below meth c H locs 0 0 (twZ below args s G o (some (.int r.1)) r.2) (F0 m 12 ls []))) (r := r) ?_ (v1, T) h
  intro q y hy hL hr H locs ls hR hS hl
  exact bX5_writeTolls_12 (r := r) B hy (fun a0 a1 e => hL (a0, a1) e) (fun q e => hr q e) hR hS hl
noncomputable def fX5_writeTolls  (T : TW) : Option ((Int32 × TW)) :=
  nm_ (tsI T 6 0) fun T1 =>
  nm_ (tsI T1 32 0) fun T3 =>
  fX5_writeTolls_l12 0 T3
theorem bX5_writeTolls_0 {p : Program} {l : Launch} {e : Env} {s : State} {m : MethodId} {args : Array Value} {below : List Frame} {meth : Method} {c : Code} {H : Heap} {locs : List Loc} {ls : Array Slot} {G : gE} {o : Nat} (B : gB G RX5 cX5_writeTolls 2 (some .int) p s m args meth c)  {T : TW} {r : (Int32 × TW)} (h : fX5_writeTolls T = some r)   (hR : RepT G o T H) (hS : va_S (tFr o) s.heap H locs) (hl : lv_has ls 2 [(0, .ref o)]) : W p l e (gRm 2 43) s m args below meth c H locs 0 0 (twZ below args s G o (some (.int r.1)) r.2) (F0 m 0 ls []) := by
  have B0 := B
  obtain ⟨hx, hb, hml, hown, hts, hr, hlk, hK⟩ := B0
  unfold fX5_writeTolls at h
  refine lv_aload_n hx hb dX5_writeTolls_0 rfl (lv_at hl 0 rfl) ?_
  refine lv_iconst (v := 0) hx hb dX5_writeTolls_1 (by decide) ?_
  replace h := nm_o h
  obtain ⟨T1, e2, h⟩ := h
  refine tw_putI (k := 6) (x := 0) (ty := .int) (T' := T1) hx hb hts hown hK hR (fun _ h9 => h9) hS (by decide) rfl e2 q2439 (fun _ h9 => h9) rfl (by decide +kernel) rfl rfl dX5_writeTolls_2 (fun H locs hR hS => ?_)
  refine lv_aload_n hx hb dX5_writeTolls_5 rfl (lv_at hl 0 rfl) ?_
  refine lv_iconst (v := 0) hx hb dX5_writeTolls_6 (by decide) ?_
  replace h := nm_o h
  obtain ⟨T3, e4, h⟩ := h
  refine tw_putI (k := 32) (x := 0) (ty := .int) (T' := T3) hx hb hts hown hK hR (fun _ h9 => h9) hS (by decide) rfl e4 q2465 (fun _ h9 => h9) rfl (by decide +kernel) rfl rfl dX5_writeTolls_7 (fun H locs hR hS => ?_)
  refine lv_iconst (v := 0) hx hb dX5_writeTolls_10 (by decide) ?_
  refine lv_istore_n (lv' := [(1, .int 0), (0, .ref o)]) hx hb dX5_writeTolls_11 rfl hl (by decide) rfl (fun ls hl => ?_)
  exact lX5_writeTolls_12 B _ _ h H locs ls hR hS (lv_sub hl [1, 0] rfl)
theorem mX5_writeTolls {l : Launch} {G : gE} {o : Nat}  {T : TW} {r : (Int32 × TW)}  (h : fX5_writeTolls T = some r) : twM l G o yX5_writeTolls cX5_writeTolls 2 (some .int) 2 43 [.ref o] T (some (.int r.1)) r.2 :=
  tw_of (by decide +kernel) (Nat.le_of_ble_eq_true rfl) (fun p e s m args below meth c ls B hR hl => bX5_writeTolls_0 B h hR va_S.rf hl)
noncomputable def fX5_outputByte (v1 : Int32) (T : TW) : Option ((Int32 × TW)) :=
  nm_ (tsI T 6 0) fun T1 =>
  b2_ (fX5_in v1 0 ((tI T1 32) - 1) T1) fun x5 T4 =>
  if x5 = 0 then (
    some ((-1), T4)
  ) else (
    (rd_ (tA T4 16) 256 v1).bind fun x7 =>
    some (x7, T4)
  )
theorem bX5_outputByte_0 {p : Program} {l : Launch} {e : Env} {s : State} {m : MethodId} {args : Array Value} {below : List Frame} {meth : Method} {c : Code} {H : Heap} {locs : List Loc} {ls : Array Slot} {G : gE} {o : Nat} (B : gB G RX5 cX5_outputByte 2 (some .int) p s m args meth c) {v1 : Int32} {T : TW} {r : (Int32 × TW)} (h : fX5_outputByte v1 T = some r)   (hR : RepT G o T H) (hS : va_S (tFr o) s.heap H locs) (hl : lv_has ls 2 [(0, .ref o), (1, .int v1)]) : W p l e (gRm 1 22) s m args below meth c H locs 0 0 (twZ below args s G o (some (.int r.1)) r.2) (F0 m 0 ls []) := by
  have B0 := B
  obtain ⟨hx, hb, hml, hown, hts, hr, hlk, hK⟩ := B0
  unfold fX5_outputByte at h
  refine lv_aload_n hx hb dX5_outputByte_0 rfl (lv_at hl 0 rfl) ?_
  refine lv_iconst (v := 0) hx hb dX5_outputByte_1 (by decide) ?_
  replace h := nm_o h
  obtain ⟨T1, e2, h⟩ := h
  refine tw_putI (k := 6) (x := 0) (ty := .int) (T' := T1) hx hb hts hown hK hR (fun _ h9 => h9) hS (by decide) rfl e2 q2439 (fun _ h9 => h9) rfl (by decide +kernel) rfl rfl dX5_outputByte_2 (fun H locs hR hS => ?_)
  refine lv_iload_n hx hb dX5_outputByte_5 rfl (lv_at hl 1 rfl) ?_
  refine lv_iconst (v := 0) hx hb dX5_outputByte_6 (by decide) ?_
  refine lv_aload_n hx hb dX5_outputByte_7 rfl (lv_at hl 0 rfl) ?_
  refine tw_get (k := 32) (v := .int (tI T1 32)) hx hb hts hown hK hR (by decide) q2465 rfl (fun _ h9 => h9) dX5_outputByte_8 ?_
  refine lv_iconst (v := 1) hx hb dX5_outputByte_11 (by decide) ?_
  refine lv_isub hx hb dX5_outputByte_12 ?_
  replace h := b2_o h
  obtain ⟨x5, T4, e3, h⟩ := h
  refine tw_callS 3 (As := [.int v1, .int 0, .int ((tI T1 32) - 1)]) (rest := []) (v := (some (.int x5))) (T' := T4) (st1 := [.int x5]) hx hb hml hown hts hK hR (fun _ h9 => h9) (tw_A2 hR) hS (mX5_in e3) (lw_S q2562 q2563 q137 q2564) (by decide +kernel) (Nat.le_of_ble_eq_true rfl) (Nat.le_of_ble_eq_true rfl) (Nat.zero_le _) (Nat.zero_le _) rfl hl.1 (Nat.le_of_ble_eq_true rfl) dX5_outputByte_13 rfl rfl (fun H locs hR hS => ?_)
  refine lv_if_eq (tgt := 28) hx hb dX5_outputByte_16 (by decide) (fun c6 => ?_) (fun c6 => ?_)
  · replace h := it_o c6 h
    refine lv_iconst (v := (-1)) hx hb dX5_outputByte_28 (by decide) ?_
    have eR := Option.some.inj h
    subst eR
    exact W.iret (v := (-1)) hx hb hr (fun t ht _ => tw_fin hR hS ht) hS.2.2 dX5_outputByte_29
  · replace h := if_o c6 h
    refine lv_aload_n hx hb dX5_outputByte_19 rfl (lv_at hl 0 rfl) ?_
    refine tw_get (k := 31) (v := .ref (o + 16)) hx hb hts hown hK hR (by decide) q2464 rfl (fun _ h9 => h9) dX5_outputByte_20 ?_
    refine lv_iload_n hx hb dX5_outputByte_23 rfl (lv_at hl 1 rfl) ?_
    replace h := bo_o h
    obtain ⟨x7, e8, h⟩ := h
    refine tw_bald (q := 16) hx hb hK hR rfl e8 dX5_outputByte_24 ?_
    refine lv_goto (tgt := 29) hx hb dX5_outputByte_25 (by decide) ?_
    have eR := Option.some.inj h
    subst eR
    exact W.iret (v := x7) hx hb hr (fun t ht _ => tw_fin hR hS ht) hS.2.2 dX5_outputByte_29
theorem mX5_outputByte {l : Launch} {G : gE} {o : Nat} {v1 : Int32} {T : TW} {r : (Int32 × TW)}  (h : fX5_outputByte v1 T = some r) : twM l G o yX5_outputByte cX5_outputByte 2 (some .int) 1 22 [.ref o, .int v1] T (some (.int r.1)) r.2 :=
  tw_of (by decide +kernel) (Nat.le_of_ble_eq_true rfl) (fun p e s m args below meth c ls B hR hl => bX5_outputByte_0 B h hR va_S.rf hl)
noncomputable def fX5_saveSnapshot (v1 : Int32) (T : TW) : Option ((Int32 × TW)) :=
  b2_ (fX5_in v1 0 1 T) fun x3 T2 =>
  b2_ (fX5_isThrown x3 1 T2) fun x6 T5 =>
  if x6 = 0 then (
    (fX5_copies 1 0 3 v1 T5).bind fun T9 =>
    (wrA T9 5 2 v1 (vp_nar .boolean 1)).bind fun T10 =>
    (rd_ (tA T10 1) 172 1).bind fun x12 =>
    some (x12, T10)
  ) else (
    some (0, T5)
  )
theorem bX5_saveSnapshot_0 {p : Program} {l : Launch} {e : Env} {s : State} {m : MethodId} {args : Array Value} {below : List Frame} {meth : Method} {c : Code} {H : Heap} {locs : List Loc} {ls : Array Slot} {G : gE} {o : Nat} (B : gB G RX5 cX5_saveSnapshot 2 (some .int) p s m args meth c) {v1 : Int32} {T : TW} {r : (Int32 × TW)} (h : fX5_saveSnapshot v1 T = some r)   (hR : RepT G o T H) (hS : va_S (tFr o) s.heap H locs) (hl : lv_has ls 2 [(0, .ref o), (1, .int v1)]) : W p l e (gRm 1 24) s m args below meth c H locs 0 0 (twZ below args s G o (some (.int r.1)) r.2) (F0 m 0 ls []) := by
  have B0 := B
  obtain ⟨hx, hb, hml, hown, hts, hr, hlk, hK⟩ := B0
  unfold fX5_saveSnapshot at h
  refine lv_aload_n hx hb dX5_saveSnapshot_0 rfl (lv_at hl 0 rfl) ?_
  refine lv_iload_n hx hb dX5_saveSnapshot_1 rfl (lv_at hl 1 rfl) ?_
  refine lv_iconst (v := 0) hx hb dX5_saveSnapshot_2 (by decide) ?_
  refine lv_iconst (v := 1) hx hb dX5_saveSnapshot_3 (by decide) ?_
  replace h := b2_o h
  obtain ⟨x3, T2, e1, h⟩ := h
  refine tw_callS 3 (As := [.int v1, .int 0, .int 1]) (rest := [.ref o]) (v := (some (.int x3))) (T' := T2) (st1 := [.int x3, .ref o]) hx hb hml hown hts hK hR (fun _ h9 => h9) (tw_A2 hR) hS (mX5_in e1) (lw_S q2562 q2563 q137 q2564) (by decide +kernel) (Nat.le_of_ble_eq_true rfl) (Nat.le_of_ble_eq_true rfl) (Nat.zero_le _) (Nat.zero_le _) rfl hl.1 (Nat.le_of_ble_eq_true rfl) dX5_saveSnapshot_4 rfl rfl (fun H locs hR hS => ?_)
  refine lv_iconst (v := 1) hx hb dX5_saveSnapshot_7 (by decide) ?_
  replace h := b2_o h
  obtain ⟨x6, T5, e4, h⟩ := h
  refine tw_callV 2 (As := [.int x3, .int 1]) (rest := []) (v := (some (.int x6))) (T' := T5) (st1 := [.int x6]) hx hb hml hown hts hK hR (fun _ h9 => h9) (tw_A2 hR) hS (mX5_isThrown e4) (lw_V q2633 q2635 qs68 q137 q2636) (by decide +kernel) (Nat.le_of_ble_eq_true rfl) (Nat.le_of_ble_eq_true rfl) (Nat.zero_le _) (Nat.zero_le _) rfl hl.1 (Nat.le_of_ble_eq_true rfl) dX5_saveSnapshot_8 rfl rfl (fun H locs hR hS => ?_)
  refine lv_if_eq (tgt := 16) hx hb dX5_saveSnapshot_11 (by decide) (fun c7 => ?_) (fun c7 => ?_)
  · replace h := it_o c7 h
    refine lv_aload_n hx hb dX5_saveSnapshot_16 rfl (lv_at hl 0 rfl) ?_
    refine tw_get (k := 0) (v := .ref (o + 1)) hx hb hts hown hK hR (by decide) q2433 rfl (fun _ h9 => h9) dX5_saveSnapshot_17 ?_
    refine lv_iconst (v := 0) hx hb dX5_saveSnapshot_20 (by decide) ?_
    refine lv_aload_n hx hb dX5_saveSnapshot_21 rfl (lv_at hl 0 rfl) ?_
    refine tw_get (k := 2) (v := .ref (o + 3)) hx hb hts hown hK hR (by decide) q2435 rfl (fun _ h9 => h9) dX5_saveSnapshot_22 ?_
    refine lv_iload_n hx hb dX5_saveSnapshot_25 rfl (lv_at hl 1 rfl) ?_
    replace h := bo_o h
    obtain ⟨T9, e8, h⟩ := h
    refine tw_callS 4 (As := [.ref (o + 1), .int 0, .ref (o + 3), .int v1]) (rest := []) (v := none) (T' := T9) (st1 := []) hx hb hml hown hts hK hR (fun _ h9 => h9) (tw_A2 hR) hS (mX5_copies (v0 := 1) (v2 := 3) (by decide) (by decide) e8) (lw_S q2618 q2619 q137 q2620) (by decide +kernel) (Nat.le_of_ble_eq_true rfl) (Nat.le_of_ble_eq_true rfl) (Nat.zero_le _) (Nat.zero_le _) rfl hl.1 (Nat.le_of_ble_eq_true rfl) dX5_saveSnapshot_26 rfl rfl (fun H locs hR hS => ?_)
    refine lv_aload_n hx hb dX5_saveSnapshot_29 rfl (lv_at hl 0 rfl) ?_
    refine tw_get (k := 4) (v := .ref (o + 5)) hx hb hts hown hK hR (by decide) q2437 rfl (fun _ h9 => h9) dX5_saveSnapshot_30 ?_
    refine lv_iload_n hx hb dX5_saveSnapshot_33 rfl (lv_at hl 1 rfl) ?_
    refine lv_iconst (v := 1) hx hb dX5_saveSnapshot_34 (by decide) ?_
    replace h := bo_o h
    obtain ⟨T10, e11, h⟩ := h
    refine tw_zast (q := 5) hx hb hK hR (fun _ h9 => h9) hS rfl (fun _ => rfl) e11 dX5_saveSnapshot_35 (fun H locs hR hS => ?_)
    refine lv_aload_n hx hb dX5_saveSnapshot_36 rfl (lv_at hl 0 rfl) ?_
    refine tw_get (k := 0) (v := .ref (o + 1)) hx hb hts hown hK hR (by decide) q2433 rfl (fun _ h9 => h9) dX5_saveSnapshot_37 ?_
    refine lv_iconst (v := 1) hx hb dX5_saveSnapshot_40 (by decide) ?_
    replace h := bo_o h
    obtain ⟨x12, e13, h⟩ := h
    refine tw_iald (q := 1) hx hb hK hR rfl e13 dX5_saveSnapshot_41 ?_
    have eR := Option.some.inj h
    subst eR
    exact W.iret (v := x12) hx hb hr (fun t ht _ => tw_fin hR hS ht) hS.2.2 dX5_saveSnapshot_42
  · replace h := if_o c7 h
    refine lv_iconst (v := 0) hx hb dX5_saveSnapshot_14 (by decide) ?_
    have eR := Option.some.inj h
    subst eR
    exact W.iret (v := 0) hx hb hr (fun t ht _ => tw_fin hR hS ht) hS.2.2 dX5_saveSnapshot_15
theorem mX5_saveSnapshot {l : Launch} {G : gE} {o : Nat} {v1 : Int32} {T : TW} {r : (Int32 × TW)}  (h : fX5_saveSnapshot v1 T = some r) : twM l G o yX5_saveSnapshot cX5_saveSnapshot 2 (some .int) 1 24 [.ref o, .int v1] T (some (.int r.1)) r.2 :=
  tw_of (by decide +kernel) (Nat.le_of_ble_eq_true rfl) (fun p e s m args below meth c ls B hR hl => bX5_saveSnapshot_0 B h hR va_S.rf hl)
