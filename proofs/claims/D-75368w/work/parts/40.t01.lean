set_option maxRecDepth 100000
noncomputable def fX5_begins_b19 (v0 : Nat) (T : TW) : Option (TW) :=
  (wrA T v0 (tLen v0) 3 1).bind fun T1 =>
  some T1
theorem bX5_begins_19 {p : Program} {l : Launch} {e : Env} {s : State} {m : MethodId} {args : Array Value} {below : List Frame} {meth : Method} {c : Code} {H : Heap} {locs : List Loc} {ls : Array Slot} {G : gE} {o : Nat} (B : gB G RX5 cX5_begins 2 none p s m args meth c) {v0 : Nat} {T : TW} {r : TW} (h : fX5_begins_b19 v0 T = some r) (hp_v0 : 1 ≤ v0 ∧ v0 ≤ 4)  (hR : RepT G o T H) (hS : va_S (tFr o) s.heap H locs) (hl : lv_has ls 2 [(0, .ref (o + v0))]) : W p l e (gRm 0 0) s m args below meth c H locs 0 0 (twZ below args s G o none r) (F0 m 19 ls []) := by
  have B0 := B
  obtain ⟨hx, hb, hml, hown, hts, hr, hlk, hK⟩ := B0
  unfold fX5_begins_b19 at h
  refine lv_aload_n hx hb dX5_begins_19 rfl (lv_at hl 0 rfl) ?_
  refine lv_iconst (v := 3) hx hb dX5_begins_20 (by decide) ?_
  refine lv_iconst (v := 1) hx hb dX5_begins_21 (by decide) ?_
  replace h := bo_o h
  obtain ⟨T1, e2, h⟩ := h
  refine tw_iast (q := v0) hx hb hK hR (fun _ h9 => h9) hS (tw_q4 hp_v0) (fun g => tw_s4 hp_v0 g) e2 dX5_begins_22 (fun H locs hR hS => ?_)
  have eR := Option.some.inj h
  subst eR
  exact W.vret hx hb hr (fun t ht _ => tw_fin hR hS ht) hS.2.2 dX5_begins_23
noncomputable def fX5_begins_b2 (v0 : Nat) (v1 : Int32) (T : TW) : Option (Sum (Int32 × TW) (TW)) :=
  if 172 ≤ v1 then (
    (fX5_begins_b19 v0 T).map (fun y => (.inr y))
  ) else (
    (wrA T v0 (tLen v0) v1 0).bind fun T2 =>
    some (.inl (v1 + 1, T2))
  )
theorem bX5_begins_2 {p : Program} {l : Launch} {e : Env} {s : State} {m : MethodId} {args : Array Value} {below : List Frame} {meth : Method} {c : Code} {H : Heap} {locs : List Loc} {ls : Array Slot} {G : gE} {o : Nat} (B : gB G RX5 cX5_begins 2 none p s m args meth c) {v0 : Nat} {v1 : Int32} {T : TW} {x : Sum (Int32 × TW) (TW)} {r : TW} (h : fX5_begins_b2 v0 v1 T = some x) (hp_v0 : 1 ≤ v0 ∧ v0 ≤ 4) (k2 : ∀ (v1' : Int32) (T' : TW), x = (.inl (v1', T')) → ∀ (H : Heap) (locs : List Loc) (ls : Array Slot), RepT G o (T') H → va_S (tFr o) s.heap H locs → lv_has ls 2 [(0, .ref (o + v0)), (1, .int v1')] → W p l e (gRm 0 0) s m args below meth c H locs 0 0 (twZ below args s G o none r) (F0 m 2 ls [])) (kR : ∀ q, x = (.inr q) → q = r) (hR : RepT G o T H) (hS : va_S (tFr o) s.heap H locs) (hl : lv_has ls 2 [(0, .ref (o + v0)), (1, .int v1)]) : W p l e (gRm 0 0) s m args below meth c H locs 0 0 (twZ below args s G o none r) (F0 m 2 ls []) := by
  have B0 := B
  obtain ⟨hx, hb, hml, hown, hts, hr, hlk, hK⟩ := B0
  unfold fX5_begins_b2 at h
  refine lv_iload_n hx hb dX5_begins_2 rfl (lv_at hl 1 rfl) ?_
  refine lv_sipush (v := 172) hx hb dX5_begins_3 (by decide) ?_
  refine lv_icmp_ge (tgt := 19) hx hb dX5_begins_6 (by decide) (fun c1 => ?_) (fun c1 => ?_)
  · replace h := it_o c1 h
    obtain ⟨y, h, ey⟩ := mp_o h
    have ey := kR _ ey.symm
    subst ey
    exact bX5_begins_19 B h hp_v0  hR hS (lv_sub hl [0] rfl)
  · replace h := if_o c1 h
    refine lv_aload_n hx hb dX5_begins_9 rfl (lv_at hl 0 rfl) ?_
    refine lv_iload_n hx hb dX5_begins_10 rfl (lv_at hl 1 rfl) ?_
    refine lv_iconst (v := 0) hx hb dX5_begins_11 (by decide) ?_
    replace h := bo_o h
    obtain ⟨T2, e3, h⟩ := h
    refine tw_iast (q := v0) hx hb hK hR (fun _ h9 => h9) hS (tw_q4 hp_v0) (fun g => tw_s4 hp_v0 g) e3 dX5_begins_12 (fun H locs hR hS => ?_)
    refine lv_iinc (v := v1 + 1) (lv' := [(1, .int (v1 + 1)), (0, .ref (o + v0))]) hx hb dX5_begins_13 hl (k := 1) rfl rfl (by decide) rfl (fun ls hl => ?_)
    refine lv_goto (tgt := 2) hx hb dX5_begins_16 (by decide) ?_
    exact k2 _ _ (Option.some.inj h).symm H locs ls hR hS (lv_sub hl [1, 0] rfl)
noncomputable def fX5_begins_l2 (v0 : Nat) (v1 : Int32) (T : TW) : Option (TW) := whileO (fun q => fX5_begins_b2 v0 q.1 q.2) (v1, T)
theorem lX5_begins_2 {p : Program} {l : Launch} {e : Env} {s : State} {m : MethodId} {args : Array Value} {below : List Frame} {meth : Method} {c : Code} {G : gE} {o : Nat} (B : gB G RX5 cX5_begins 2 none p s m args meth c) {v0 : Nat} {r : TW} (hp_v0 : 1 ≤ v0 ∧ v0 ≤ 4)  : ∀ (v1 : Int32) (T : TW), fX5_begins_l2 v0 v1 T = some r → ∀ (H : Heap) (locs : List Loc) (ls : Array Slot), RepT G o (T) H → va_S (tFr o) s.heap H locs → lv_has ls 2 [(0, .ref (o + v0)), (1, .int v1)] → W p l e (gRm 0 0) s m args below meth c H locs 0 0 (twZ below args s G o none r) (F0 m 2 ls []) := by
  intro v1 T h
  refine wh_walk (body := (fun q => fX5_begins_b2 v0 q.1 q.2)) (P := (fun q : (Int32 × TW) => ∀ (H : Heap) (locs : List Loc) (ls : Array Slot), RepT G o (q.2) H → va_S (tFr o) s.heap H locs → lv_has ls 2 [(0, .ref (o + v0)), (1, .int (q.1))] → W p l e (gRm 0 0) s m args below meth c H locs 0 0 (twZ below args s G o none r) (F0 m 2 ls []))) (r := r) ?_ (v1, T) h
  intro q y hy hL hr H locs ls hR hS hl
  exact bX5_begins_2 (r := r) B hy hp_v0 (fun a0 a1 e => hL (a0, a1) e) (fun q e => hr q e) hR hS hl
noncomputable def fX5_begins (v0 : Nat) (T : TW) : Option (TW) :=
  fX5_begins_l2 v0 0 T
theorem bX5_begins_0 {p : Program} {l : Launch} {e : Env} {s : State} {m : MethodId} {args : Array Value} {below : List Frame} {meth : Method} {c : Code} {H : Heap} {locs : List Loc} {ls : Array Slot} {G : gE} {o : Nat} (B : gB G RX5 cX5_begins 2 none p s m args meth c) {v0 : Nat} {T : TW} {r : TW} (h : fX5_begins v0 T = some r) (hp_v0 : 1 ≤ v0 ∧ v0 ≤ 4)  (hR : RepT G o T H) (hS : va_S (tFr o) s.heap H locs) (hl : lv_has ls 2 [(0, .ref (o + v0))]) : W p l e (gRm 0 0) s m args below meth c H locs 0 0 (twZ below args s G o none r) (F0 m 0 ls []) := by
  have B0 := B
  obtain ⟨hx, hb, hml, hown, hts, hr, hlk, hK⟩ := B0
  unfold fX5_begins at h
  refine lv_iconst (v := 0) hx hb dX5_begins_0 (by decide) ?_
  refine lv_istore_n (lv' := [(1, .int 0), (0, .ref (o + v0))]) hx hb dX5_begins_1 rfl hl (by decide) rfl (fun ls hl => ?_)
  exact lX5_begins_2 B hp_v0 _ _ h H locs ls hR hS (lv_sub hl [1, 0] rfl)
theorem mX5_begins {l : Launch} {G : gE} {o : Nat} {v0 : Nat} {T : TW} {r : TW} (hp_v0 : 1 ≤ v0 ∧ v0 ≤ 4) (h : fX5_begins v0 T = some r) : twM l G o yX5_begins cX5_begins 2 none 0 0 [.ref (o + v0)] T none r :=
  tw_of (by decide +kernel) (Nat.le_of_ble_eq_true rfl) (fun p e s m args below meth c ls B hR hl => bX5_begins_0 B h hp_v0 hR va_S.rf hl)
noncomputable def fX5_thrown  (T : TW) : Option ((Int32 × TW)) :=
  some (tI T 6, T)
theorem bX5_thrown_0 {p : Program} {l : Launch} {e : Env} {s : State} {m : MethodId} {args : Array Value} {below : List Frame} {meth : Method} {c : Code} {H : Heap} {locs : List Loc} {ls : Array Slot} {G : gE} {o : Nat} (B : gB G RX5 cX5_thrown 1 (some .int) p s m args meth c)  {T : TW} {r : (Int32 × TW)} (h : fX5_thrown T = some r)   (hR : RepT G o T H) (hS : va_S (tFr o) s.heap H locs) (hl : lv_has ls 1 [(0, .ref o)]) : W p l e (gRm 0 0) s m args below meth c H locs 0 0 (twZ below args s G o (some (.int r.1)) r.2) (F0 m 0 ls []) := by
  have B0 := B
  obtain ⟨hx, hb, hml, hown, hts, hr, hlk, hK⟩ := B0
  unfold fX5_thrown at h
  refine lv_aload_n hx hb dX5_thrown_0 rfl (lv_at hl 0 rfl) ?_
  refine tw_get (k := 6) (v := .int (tI T 6)) hx hb hts hown hK hR (by decide) q2439 rfl (fun _ h9 => h9) dX5_thrown_1 ?_
  have eR := Option.some.inj h
  subst eR
  exact W.iret (v := tI T 6) hx hb hr (fun t ht _ => tw_fin hR hS ht) hS.2.2 dX5_thrown_4
theorem mX5_thrown {l : Launch} {G : gE} {o : Nat}  {T : TW} {r : (Int32 × TW)}  (h : fX5_thrown T = some r) : twM l G o yX5_thrown cX5_thrown 1 (some .int) 0 0 [.ref o] T (some (.int r.1)) r.2 :=
  tw_of (by decide +kernel) (Nat.le_of_ble_eq_true rfl) (fun p e s m args below meth c ls B hR hl => bX5_thrown_0 B h hR va_S.rf hl)
noncomputable def fX5_byteOf (v0 : Int64) (v2 : Int32) (T : TW) : Option ((Int32 × TW)) :=
  some (((v0 >>> ((8 * (7 - v2)).toInt64 &&& 63)) &&& 255).toInt32, T)
theorem bX5_byteOf_0 {p : Program} {l : Launch} {e : Env} {s : State} {m : MethodId} {args : Array Value} {below : List Frame} {meth : Method} {c : Code} {H : Heap} {locs : List Loc} {ls : Array Slot} {G : gE} {o : Nat} (B : gB G RX5 cX5_byteOf 3 (some .int) p s m args meth c) {v0 : Int64} {v2 : Int32} {T : TW} {r : (Int32 × TW)} (h : fX5_byteOf v0 v2 T = some r)   (hR : RepT G o T H) (hS : va_S (tFr o) s.heap H locs) (hl : lv_has ls 3 [(0, .long v0), (2, .int v2)]) : W p l e (gRm 0 0) s m args below meth c H locs 0 0 (twZ below args s G o (some (.int r.1)) r.2) (F0 m 0 ls []) := by
  have B0 := B
  obtain ⟨hx, hb, hml, hown, hts, hr, hlk, hK⟩ := B0
  unfold fX5_byteOf at h
  refine lv_lload_n hx hb dX5_byteOf_0 rfl (lv_at hl 0 rfl) ?_
  refine lv_bipush (v := 8) hx hb dX5_byteOf_1 (by decide) ?_
  refine lv_bipush (v := 7) hx hb dX5_byteOf_3 (by decide) ?_
  refine lv_iload_n hx hb dX5_byteOf_5 rfl (lv_at hl 1 rfl) ?_
  refine lv_isub hx hb dX5_byteOf_6 ?_
  refine lv_imul hx hb dX5_byteOf_7 ?_
  refine lv_lshr hx hb dX5_byteOf_8 rfl ?_
  refine lv_ldc2 (v := 255) hx hb hown (hts _ q2545) dX5_byteOf_9 ?_
  refine lv_land hx hb dX5_byteOf_12 ?_
  refine lv_l2i hx hb dX5_byteOf_13 rfl ?_
  have eR := Option.some.inj h
  subst eR
  exact W.iret (v := ((v0 >>> ((8 * (7 - v2)).toInt64 &&& 63)) &&& 255).toInt32) hx hb hr (fun t ht _ => tw_fin hR hS ht) hS.2.2 dX5_byteOf_14
theorem mX5_byteOf {l : Launch} {G : gE} {o : Nat} {v0 : Int64} {v2 : Int32} {T : TW} {r : (Int32 × TW)}  (h : fX5_byteOf v0 v2 T = some r) : twM l G o yX5_byteOf cX5_byteOf 3 (some .int) 0 0 [.long v0, .int v2] T (some (.int r.1)) r.2 :=
  tw_of (by decide +kernel) (Nat.le_of_ble_eq_true rfl) (fun p e s m args below meth c ls B hR hl => bX5_byteOf_0 B h hR va_S.rf hl)
noncomputable def fX5_append_b106  (T : TW) : Option ((Int32 × TW)) :=
  some (tI T 8, T)
theorem bX5_append_106 {p : Program} {l : Launch} {e : Env} {s : State} {m : MethodId} {args : Array Value} {below : List Frame} {meth : Method} {c : Code} {H : Heap} {locs : List Loc} {ls : Array Slot} {G : gE} {o : Nat} (B : gB G RX5 cX5_append 5 (some .int) p s m args meth c)  {T : TW} {r : (Int32 × TW)} (h : fX5_append_b106 T = some r)   (hR : RepT G o T H) (hS : va_S (tFr o) s.heap H locs) (hl : lv_has ls 5 [(0, .ref o)]) : W p l e (gRm 1 22) s m args below meth c H locs 0 0 (twZ below args s G o (some (.int r.1)) r.2) (F0 m 106 ls []) := by
  have B0 := B
  obtain ⟨hx, hb, hml, hown, hts, hr, hlk, hK⟩ := B0
  unfold fX5_append_b106 at h
  refine lv_aload_n hx hb dX5_append_106 rfl (lv_at hl 0 rfl) ?_
  refine tw_get (k := 8) (v := .int (tI T 8)) hx hb hts hown hK hR (by decide) q2441 rfl (fun _ h9 => h9) dX5_append_107 ?_
  have eR := Option.some.inj h
  subst eR
  exact W.iret (v := tI T 8) hx hb hr (fun t ht _ => tw_fin hR hS ht) hS.2.2 dX5_append_110
noncomputable def fX5_append_b100 (v1 : Int64) (v4 : Int32) (T : TW) : Option (Sum (Int32 × TW) ((Int32 × TW))) :=
  some (.inl (v4 + 1, T))
theorem bX5_append_100 {p : Program} {l : Launch} {e : Env} {s : State} {m : MethodId} {args : Array Value} {below : List Frame} {meth : Method} {c : Code} {H : Heap} {locs : List Loc} {ls : Array Slot} {G : gE} {o : Nat} (B : gB G RX5 cX5_append 5 (some .int) p s m args meth c) {v1 : Int64} {v4 : Int32} {T : TW} {x : Sum (Int32 × TW) ((Int32 × TW))} {r : (Int32 × TW)} (h : fX5_append_b100 v1 v4 T = some x)  (k58 : ∀ (v4' : Int32) (T' : TW), x = (.inl (v4', T')) → ∀ (H : Heap) (locs : List Loc) (ls : Array Slot), RepT G o (T') H → va_S (tFr o) s.heap H locs → lv_has ls 5 [(0, .ref o), (1, .long v1), (4, .int v4')] → W p l e (gRm 1 22) s m args below meth c H locs 0 0 (twZ below args s G o (some (.int r.1)) r.2) (F0 m 58 ls [])) (kR : ∀ q, x = (.inr q) → q = r) (hR : RepT G o T H) (hS : va_S (tFr o) s.heap H locs) (hl : lv_has ls 5 [(0, .ref o), (1, .long v1), (4, .int v4)]) : W p l e (gRm 1 22) s m args below meth c H locs 0 0 (twZ below args s G o (some (.int r.1)) r.2) (F0 m 100 ls []) := by
  have B0 := B
  obtain ⟨hx, hb, hml, hown, hts, hr, hlk, hK⟩ := B0
  unfold fX5_append_b100 at h
  refine lv_iinc (v := v4 + 1) (lv' := [(4, .int (v4 + 1)), (0, .ref o), (1, .long v1)]) hx hb dX5_append_100 hl (k := 2) rfl rfl (by decide) rfl (fun ls hl => ?_)
  refine lv_goto (tgt := 58) hx hb dX5_append_103 (by decide) ?_
  exact k58 _ _ (Option.some.inj h).symm H locs ls hR hS (lv_sub hl [1, 2, 0] rfl)
noncomputable def fX5_append_b58 (v1 : Int64) (v4 : Int32) (T : TW) : Option (Sum (Int32 × TW) ((Int32 × TW))) :=
  if 8 ≤ v4 then (
    (fX5_append_b106 T).map (fun y => (.inr y))
  ) else (
    b2_ (fX5_byteOf v1 v4 T) fun x4 T3 =>
    if x4 = 0 then (
      fX5_append_b100 v1 v4 T3
    ) else (
      b2_ (fX5_byteOf v1 v4 T3) fun x8 T7 =>
      (wrA T7 6 600 (tI T3 8) (vp_nar .byte (x8.toInt8.toInt32))).bind fun T9 =>
      nm_ (tsI T9 8 ((tI T9 8) + 1)) fun T11 =>
      fX5_append_b100 v1 v4 T11
    )
  )
theorem bX5_append_58 {p : Program} {l : Launch} {e : Env} {s : State} {m : MethodId} {args : Array Value} {below : List Frame} {meth : Method} {c : Code} {H : Heap} {locs : List Loc} {ls : Array Slot} {G : gE} {o : Nat} (B : gB G RX5 cX5_append 5 (some .int) p s m args meth c) {v1 : Int64} {v4 : Int32} {T : TW} {x : Sum (Int32 × TW) ((Int32 × TW))} {r : (Int32 × TW)} (h : fX5_append_b58 v1 v4 T = some x)  (k58 : ∀ (v4' : Int32) (T' : TW), x = (.inl (v4', T')) → ∀ (H : Heap) (locs : List Loc) (ls : Array Slot), RepT G o (T') H → va_S (tFr o) s.heap H locs → lv_has ls 5 [(0, .ref o), (1, .long v1), (4, .int v4')] → W p l e (gRm 1 22) s m args below meth c H locs 0 0 (twZ below args s G o (some (.int r.1)) r.2) (F0 m 58 ls [])) (kR : ∀ q, x = (.inr q) → q = r) (hR : RepT G o T H) (hS : va_S (tFr o) s.heap H locs) (hl : lv_has ls 5 [(0, .ref o), (1, .long v1), (4, .int v4)]) : W p l e (gRm 1 22) s m args below meth c H locs 0 0 (twZ below args s G o (some (.int r.1)) r.2) (F0 m 58 ls []) := by
  have B0 := B
  obtain ⟨hx, hb, hml, hown, hts, hr, hlk, hK⟩ := B0
  unfold fX5_append_b58 at h
  refine lv_iload hx hb dX5_append_58 (lv_at hl 2 rfl) ?_
  refine lv_bipush (v := 8) hx hb dX5_append_60 (by decide) ?_
  refine lv_icmp_ge (tgt := 106) hx hb dX5_append_62 (by decide) (fun c1 => ?_) (fun c1 => ?_)
  · replace h := it_o c1 h
    obtain ⟨y, h, ey⟩ := mp_o h
    have ey := kR _ ey.symm
    subst ey
    exact bX5_append_106 B h  hR hS (lv_sub hl [0] rfl)
  · replace h := if_o c1 h
    refine lv_lload_n hx hb dX5_append_65 rfl (lv_at hl 1 rfl) ?_
    refine lv_iload hx hb dX5_append_66 (lv_at hl 2 rfl) ?_
    replace h := b2_o h
    obtain ⟨x4, T3, e2, h⟩ := h
    refine tw_callS 2 (As := [.long v1, .int v4]) (rest := []) (v := (some (.int x4))) (T' := T3) (st1 := [.int x4]) hx hb hml hown hts hK hR (fun _ h9 => h9) (tw_A2 hR) hS (mX5_byteOf e2) (lw_S q2542 q2543 q137 q2544) (by decide +kernel) (Nat.le_of_ble_eq_true rfl) (Nat.le_of_ble_eq_true rfl) (Nat.zero_le _) (Nat.zero_le _) rfl hl.1 (Nat.le_of_ble_eq_true rfl) dX5_append_68 rfl rfl (fun H locs hR hS => ?_)
    refine lv_if_eq (tgt := 100) hx hb dX5_append_71 (by decide) (fun c5 => ?_) (fun c5 => ?_)
    · replace h := it_o c5 h
      exact bX5_append_100 B h k58 kR hR hS (lv_sub hl [0, 1, 2] rfl)
    · replace h := if_o c5 h
      refine lv_aload_n hx hb dX5_append_74 rfl (lv_at hl 0 rfl) ?_
      refine tw_get (k := 7) (v := .ref (o + 6)) hx hb hts hown hK hR (by decide) q2440 rfl (fun _ h9 => h9) dX5_append_75 ?_
      refine lv_aload_n hx hb dX5_append_78 rfl (lv_at hl 0 rfl) ?_
      refine tw_get (k := 8) (v := .int (tI T3 8)) hx hb hts hown hK hR (by decide) q2441 rfl (fun _ h9 => h9) dX5_append_79 ?_
      refine lv_lload_n hx hb dX5_append_82 rfl (lv_at hl 1 rfl) ?_
      refine lv_iload hx hb dX5_append_83 (lv_at hl 2 rfl) ?_
      replace h := b2_o h
      obtain ⟨x8, T7, e6, h⟩ := h
      refine tw_callS 2 (As := [.long v1, .int v4]) (rest := [.int (tI T3 8), .ref (o + 6)]) (v := (some (.int x8))) (T' := T7) (st1 := [.int x8, .int (tI T3 8), .ref (o + 6)]) hx hb hml hown hts hK hR (fun _ h9 => h9) (tw_A2 hR) hS (mX5_byteOf e6) (lw_S q2542 q2543 q137 q2544) (by decide +kernel) (Nat.le_of_ble_eq_true rfl) (Nat.le_of_ble_eq_true rfl) (Nat.zero_le _) (Nat.zero_le _) rfl hl.1 (Nat.le_of_ble_eq_true rfl) dX5_append_85 rfl rfl (fun H locs hR hS => ?_)
      refine lv_i2b hx hb dX5_append_88 rfl ?_
      replace h := bo_o h
      obtain ⟨T9, e10, h⟩ := h
      refine tw_bast (q := 6) hx hb hK hR (fun _ h9 => h9) hS rfl (fun _ => rfl) e10 dX5_append_89 (fun H locs hR hS => ?_)
      refine lv_aload_n hx hb dX5_append_90 rfl (lv_at hl 0 rfl) ?_
      refine lv_dup hx hb dX5_append_91 rfl ?_
      refine tw_get (k := 8) (v := .int (tI T9 8)) hx hb hts hown hK hR (by decide) q2441 rfl (fun _ h9 => h9) dX5_append_92 ?_
      refine lv_iconst (v := 1) hx hb dX5_append_95 (by decide) ?_
      refine lv_iadd hx hb dX5_append_96 ?_
      replace h := nm_o h
      obtain ⟨T11, e12, h⟩ := h
      refine tw_putI (k := 8) (x := (tI T9 8) + 1) (ty := .int) (T' := T11) hx hb hts hown hK hR (fun _ h9 => h9) hS (by decide) rfl e12 q2441 (fun _ h9 => h9) rfl (by decide +kernel) rfl rfl dX5_append_97 (fun H locs hR hS => ?_)
      exact bX5_append_100 B h k58 kR hR hS (lv_sub hl [0, 1, 2] rfl)
noncomputable def fX5_append_l58 (v1 : Int64) (v4 : Int32) (T : TW) : Option ((Int32 × TW)) := whileO (fun q => fX5_append_b58 v1 q.1 q.2) (v4, T)
theorem lX5_append_58 {p : Program} {l : Launch} {e : Env} {s : State} {m : MethodId} {args : Array Value} {below : List Frame} {meth : Method} {c : Code} {G : gE} {o : Nat} (B : gB G RX5 cX5_append 5 (some .int) p s m args meth c) {v1 : Int64} {r : (Int32 × TW)}   : ∀ (v4 : Int32) (T : TW), fX5_append_l58 v1 v4 T = some r → ∀ (H : Heap) (locs : List Loc) (ls : Array Slot), RepT G o (T) H → va_S (tFr o) s.heap H locs → lv_has ls 5 [(0, .ref o), (1, .long v1), (4, .int v4)] → W p l e (gRm 1 22) s m args below meth c H locs 0 0 (twZ below args s G o (some (.int r.1)) r.2) (F0 m 58 ls []) := by
  intro v4 T h
  refine wh_walk (body := (fun q => fX5_append_b58 v1 q.1 q.2)) (P := (fun q : (Int32 × TW) => ∀ (H : Heap) (locs : List Loc) (ls : Array Slot), RepT G o (q.2) H → va_S (tFr o) s.heap H locs → lv_has ls 5 [(0, .ref o), (1, .long v1), (4, .int (q.1))] → W p l e (gRm 1 22) s m args below meth c H locs 0 0 (twZ below args s G o (some (.int r.1)) r.2) (F0 m 58 ls []))) (r := r) ?_ (v4, T) h
  intro q y hy hL hr H locs ls hR hS hl
  exact bX5_append_58 (r := r) B hy (fun a0 a1 e => hL (a0, a1) e) (fun q e => hr q e) hR hS hl
noncomputable def fX5_append_b40 (v1 : Int64) (v3 : Int32) (T : TW) : Option ((Int32 × TW)) :=
  if (tI T 8) + v3 ≤ 600 then (
    fX5_append_l58 v1 0 T
  ) else (
    some ((-2), T)
  )
theorem bX5_append_40 {p : Program} {l : Launch} {e : Env} {s : State} {m : MethodId} {args : Array Value} {below : List Frame} {meth : Method} {c : Code} {H : Heap} {locs : List Loc} {ls : Array Slot} {G : gE} {o : Nat} (B : gB G RX5 cX5_append 5 (some .int) p s m args meth c) {v1 : Int64} {v3 : Int32} {T : TW} {r : (Int32 × TW)} (h : fX5_append_b40 v1 v3 T = some r)   (hR : RepT G o T H) (hS : va_S (tFr o) s.heap H locs) (hl : lv_has ls 5 [(0, .ref o), (1, .long v1), (3, .int v3)]) : W p l e (gRm 1 22) s m args below meth c H locs 0 0 (twZ below args s G o (some (.int r.1)) r.2) (F0 m 40 ls []) := by
  have B0 := B
  obtain ⟨hx, hb, hml, hown, hts, hr, hlk, hK⟩ := B0
  unfold fX5_append_b40 at h
  refine lv_aload_n hx hb dX5_append_40 rfl (lv_at hl 0 rfl) ?_
  refine tw_get (k := 8) (v := .int (tI T 8)) hx hb hts hown hK hR (by decide) q2441 rfl (fun _ h9 => h9) dX5_append_41 ?_
  refine lv_iload_n hx hb dX5_append_44 rfl (lv_at hl 2 rfl) ?_
  refine lv_iadd hx hb dX5_append_45 ?_
  refine lv_sipush (v := 600) hx hb dX5_append_46 (by decide) ?_
  refine lv_icmp_le (tgt := 55) hx hb dX5_append_49 (by decide) (fun c1 => ?_) (fun c1 => ?_)
  · replace h := it_o c1 h
    refine lv_iconst (v := 0) hx hb dX5_append_55 (by decide) ?_
    refine lv_istore (lv' := [(4, .int 0), (0, .ref o), (1, .long v1), (3, .int v3)]) hx hb dX5_append_56 hl (by decide) rfl (fun ls hl => ?_)
    exact lX5_append_58 B _ _ h H locs ls hR hS (lv_sub hl [1, 2, 0] rfl)
  · replace h := if_o c1 h
    refine lv_bipush (v := (-2)) hx hb dX5_append_52 (by decide) ?_
    have eR := Option.some.inj h
    subst eR
    exact W.iret (v := (-2)) hx hb hr (fun t ht _ => tw_fin hR hS ht) hS.2.2 dX5_append_54
noncomputable def fX5_append_b32 (v1 : Int64) (v4 : Int32) (s0 : Int32) (s1 : Int32) (T : TW) : Option (Sum (Int32 × Int32 × TW) ((Int32 × TW))) :=
  nm_ (s0 + s1) fun x1 =>
  some (.inl (x1, v4 + 1, T))
theorem bX5_append_32 {p : Program} {l : Launch} {e : Env} {s : State} {m : MethodId} {args : Array Value} {below : List Frame} {meth : Method} {c : Code} {H : Heap} {locs : List Loc} {ls : Array Slot} {G : gE} {o : Nat} (B : gB G RX5 cX5_append 5 (some .int) p s m args meth c) {v1 : Int64} {v4 : Int32} {s0 : Int32} {s1 : Int32} {T : TW} {x : Sum (Int32 × Int32 × TW) ((Int32 × TW))} {r : (Int32 × TW)} (h : fX5_append_b32 v1 v4 s0 s1 T = some x)  (k10 : ∀ (v3' : Int32) (v4' : Int32) (T' : TW), x = (.inl (v3', v4', T')) → ∀ (H : Heap) (locs : List Loc) (ls : Array Slot), RepT G o (T') H → va_S (tFr o) s.heap H locs → lv_has ls 5 [(0, .ref o), (1, .long v1), (3, .int v3'), (4, .int v4')] → W p l e (gRm 1 22) s m args below meth c H locs 0 0 (twZ below args s G o (some (.int r.1)) r.2) (F0 m 10 ls [])) (kR : ∀ q, x = (.inr q) → q = r) (hR : RepT G o T H) (hS : va_S (tFr o) s.heap H locs) (hl : lv_has ls 5 [(0, .ref o), (1, .long v1), (4, .int v4)]) : W p l e (gRm 1 22) s m args below meth c H locs 0 0 (twZ below args s G o (some (.int r.1)) r.2) (F0 m 32 ls [.int s1, .int s0]) := by
  have B0 := B
  obtain ⟨hx, hb, hml, hown, hts, hr, hlk, hK⟩ := B0
  unfold fX5_append_b32 at h
  refine lv_iadd hx hb dX5_append_32 ?_
  replace h := nm_o h
  obtain ⟨x1, e2, h⟩ := h
  refine lv_istore_n (lv' := [(3, .int x1), (0, .ref o), (1, .long v1), (4, .int v4)]) hx hb dX5_append_33 rfl hl (by decide) (by subst e2; rfl) (fun ls hl => ?_)
  refine lv_iinc (v := v4 + 1) (lv' := [(4, .int (v4 + 1)), (3, .int x1), (0, .ref o), (1, .long v1)]) hx hb dX5_append_34 hl (k := 3) rfl rfl (by decide) rfl (fun ls hl => ?_)
  refine lv_goto (tgt := 10) hx hb dX5_append_37 (by decide) ?_
  exact k10 _ _ _ (Option.some.inj h).symm H locs ls hR hS (lv_sub hl [2, 3, 1, 0] rfl)
noncomputable def fX5_append_b10 (v1 : Int64) (v3 : Int32) (v4 : Int32) (T : TW) : Option (Sum (Int32 × Int32 × TW) ((Int32 × TW))) :=
  if 8 ≤ v4 then (
    (fX5_append_b40 v1 v3 T).map (fun y => (.inr y))
  ) else (
    b2_ (fX5_byteOf v1 v4 T) fun x4 T3 =>
    if x4 = 0 then (
      fX5_append_b32 v1 v4 v3 0 T3
    ) else (
      fX5_append_b32 v1 v4 v3 1 T3
    )
  )
theorem bX5_append_10 {p : Program} {l : Launch} {e : Env} {s : State} {m : MethodId} {args : Array Value} {below : List Frame} {meth : Method} {c : Code} {H : Heap} {locs : List Loc} {ls : Array Slot} {G : gE} {o : Nat} (B : gB G RX5 cX5_append 5 (some .int) p s m args meth c) {v1 : Int64} {v3 : Int32} {v4 : Int32} {T : TW} {x : Sum (Int32 × Int32 × TW) ((Int32 × TW))} {r : (Int32 × TW)} (h : fX5_append_b10 v1 v3 v4 T = some x)  (k10 : ∀ (v3' : Int32) (v4' : Int32) (T' : TW), x = (.inl (v3', v4', T')) → ∀ (H : Heap) (locs : List Loc) (ls : Array Slot), RepT G o (T') H → va_S (tFr o) s.heap H locs → lv_has ls 5 [(0, .ref o), (1, .long v1), (3, .int v3'), (4, .int v4')] → W p l e (gRm 1 22) s m args below meth c H locs 0 0 (twZ below args s G o (some (.int r.1)) r.2) (F0 m 10 ls [])) (kR : ∀ q, x = (.inr q) → q = r) (hR : RepT G o T H) (hS : va_S (tFr o) s.heap H locs) (hl : lv_has ls 5 [(0, .ref o), (1, .long v1), (3, .int v3), (4, .int v4)]) : W p l e (gRm 1 22) s m args below meth c H locs 0 0 (twZ below args s G o (some (.int r.1)) r.2) (F0 m 10 ls []) := by
  have B0 := B
  obtain ⟨hx, hb, hml, hown, hts, hr, hlk, hK⟩ := B0
  unfold fX5_append_b10 at h
  refine lv_iload hx hb dX5_append_10 (lv_at hl 3 rfl) ?_
  refine lv_bipush (v := 8) hx hb dX5_append_12 (by decide) ?_
  refine lv_icmp_ge (tgt := 40) hx hb dX5_append_14 (by decide) (fun c1 => ?_) (fun c1 => ?_)
  · replace h := it_o c1 h
    obtain ⟨y, h, ey⟩ := mp_o h
    have ey := kR _ ey.symm
    subst ey
    exact bX5_append_40 B h  hR hS (lv_sub hl [0, 1, 2] rfl)
  · replace h := if_o c1 h
    refine lv_iload_n hx hb dX5_append_17 rfl (lv_at hl 2 rfl) ?_
    refine lv_lload_n hx hb dX5_append_18 rfl (lv_at hl 1 rfl) ?_
    refine lv_iload hx hb dX5_append_19 (lv_at hl 3 rfl) ?_
    replace h := b2_o h
    obtain ⟨x4, T3, e2, h⟩ := h
    refine tw_callS 2 (As := [.long v1, .int v4]) (rest := [.int v3]) (v := (some (.int x4))) (T' := T3) (st1 := [.int x4, .int v3]) hx hb hml hown hts hK hR (fun _ h9 => h9) (tw_A2 hR) hS (mX5_byteOf e2) (lw_S q2542 q2543 q137 q2544) (by decide +kernel) (Nat.le_of_ble_eq_true rfl) (Nat.le_of_ble_eq_true rfl) (Nat.zero_le _) (Nat.zero_le _) rfl hl.1 (Nat.le_of_ble_eq_true rfl) dX5_append_21 rfl rfl (fun H locs hR hS => ?_)
    refine lv_if_ne (tgt := 31) hx hb dX5_append_24 (by decide) (fun c5 => ?_) (fun c5 => ?_)
    · replace h := if_o c5 h
      refine lv_iconst (v := 1) hx hb dX5_append_31 (by decide) ?_
      exact bX5_append_32 B h k10 kR hR hS (lv_sub hl [0, 1, 3] rfl)
    · replace h := it_o c5 h
      refine lv_iconst (v := 0) hx hb dX5_append_27 (by decide) ?_
      refine lv_goto (tgt := 32) hx hb dX5_append_28 (by decide) ?_
      exact bX5_append_32 B h k10 kR hR hS (lv_sub hl [0, 1, 3] rfl)
noncomputable def fX5_append_l10 (v1 : Int64) (v3 : Int32) (v4 : Int32) (T : TW) : Option ((Int32 × TW)) := whileO (fun q => fX5_append_b10 v1 q.1 q.2.1 q.2.2) (v3, v4, T)
theorem lX5_append_10 {p : Program} {l : Launch} {e : Env} {s : State} {m : MethodId} {args : Array Value} {below : List Frame} {meth : Method} {c : Code} {G : gE} {o : Nat} (B : gB G RX5 cX5_append 5 (some .int) p s m args meth c) {v1 : Int64} {r : (Int32 × TW)}   : ∀ (v3 : Int32) (v4 : Int32) (T : TW), fX5_append_l10 v1 v3 v4 T = some r → ∀ (H : Heap) (locs : List Loc) (ls : Array Slot), RepT G o (T) H → va_S (tFr o) s.heap H locs → lv_has ls 5 [(0, .ref o), (1, .long v1), (3, .int v3), (4, .int v4)] → W p l e (gRm 1 22) s m args below meth c H locs 0 0 (twZ below args s G o (some (.int r.1)) r.2) (F0 m 10 ls []) := by
  intro v3 v4 T h
  refine wh_walk (body := (fun q => fX5_append_b10 v1 q.1 q.2.1 q.2.2)) (P := (fun q : (Int32 × Int32 × TW) => ∀ (H : Heap) (locs : List Loc) (ls : Array Slot), RepT G o (q.2.2) H → va_S (tFr o) s.heap H locs → lv_has ls 5 [(0, .ref o), (1, .long v1), (3, .int (q.1)), (4, .int (q.2.1))] → W p l e (gRm 1 22) s m args below meth c H locs 0 0 (twZ below args s G o (some (.int r.1)) r.2) (F0 m 10 ls []))) (r := r) ?_ (v3, v4, T) h
  intro q y hy hL hr H locs ls hR hS hl
  exact bX5_append_10 (r := r) B hy (fun a0 a1 a2 e => hL (a0, a1, a2) e) (fun q e => hr q e) hR hS hl
noncomputable def fX5_append (v1 : Int64) (T : TW) : Option ((Int32 × TW)) :=
  nm_ (tsI T 6 0) fun T1 =>
  fX5_append_l10 v1 0 0 T1
theorem bX5_append_0 {p : Program} {l : Launch} {e : Env} {s : State} {m : MethodId} {args : Array Value} {below : List Frame} {meth : Method} {c : Code} {H : Heap} {locs : List Loc} {ls : Array Slot} {G : gE} {o : Nat} (B : gB G RX5 cX5_append 5 (some .int) p s m args meth c) {v1 : Int64} {T : TW} {r : (Int32 × TW)} (h : fX5_append v1 T = some r)   (hR : RepT G o T H) (hS : va_S (tFr o) s.heap H locs) (hl : lv_has ls 5 [(0, .ref o), (1, .long v1)]) : W p l e (gRm 1 22) s m args below meth c H locs 0 0 (twZ below args s G o (some (.int r.1)) r.2) (F0 m 0 ls []) := by
  have B0 := B
  obtain ⟨hx, hb, hml, hown, hts, hr, hlk, hK⟩ := B0
  unfold fX5_append at h
  refine lv_aload_n hx hb dX5_append_0 rfl (lv_at hl 0 rfl) ?_
  refine lv_iconst (v := 0) hx hb dX5_append_1 (by decide) ?_
  replace h := nm_o h
  obtain ⟨T1, e2, h⟩ := h
  refine tw_putI (k := 6) (x := 0) (ty := .int) (T' := T1) hx hb hts hown hK hR (fun _ h9 => h9) hS (by decide) rfl e2 q2439 (fun _ h9 => h9) rfl (by decide +kernel) rfl rfl dX5_append_2 (fun H locs hR hS => ?_)
  refine lv_iconst (v := 0) hx hb dX5_append_5 (by decide) ?_
  refine lv_istore_n (lv' := [(3, .int 0), (0, .ref o), (1, .long v1)]) hx hb dX5_append_6 rfl hl (by decide) rfl (fun ls hl => ?_)
  refine lv_iconst (v := 0) hx hb dX5_append_7 (by decide) ?_
  refine lv_istore (lv' := [(4, .int 0), (3, .int 0), (0, .ref o), (1, .long v1)]) hx hb dX5_append_8 hl (by decide) rfl (fun ls hl => ?_)
  exact lX5_append_10 B _ _ _ h H locs ls hR hS (lv_sub hl [2, 3, 1, 0] rfl)
theorem mX5_append {l : Launch} {G : gE} {o : Nat} {v1 : Int64} {T : TW} {r : (Int32 × TW)}  (h : fX5_append v1 T = some r) : twM l G o yX5_append cX5_append 5 (some .int) 1 22 [.ref o, .long v1] T (some (.int r.1)) r.2 :=
  tw_of (by decide +kernel) (Nat.le_of_ble_eq_true rfl) (fun p e s m args below meth c ls B hR hl => bX5_append_0 B h hR va_S.rf hl)
noncomputable def fX5_here  (T : TW) : Option ((Int32 × TW)) :=
  if tI T 8 ≤ tI T 9 then (
    some ((-1), T)
  ) else (
    (rd_ (tA T 6) 600 (tI T 9)).bind fun x2 =>
    some (x2 &&& 255, T)
  )
theorem bX5_here_0 {p : Program} {l : Launch} {e : Env} {s : State} {m : MethodId} {args : Array Value} {below : List Frame} {meth : Method} {c : Code} {H : Heap} {locs : List Loc} {ls : Array Slot} {G : gE} {o : Nat} (B : gB G RX5 cX5_here 1 (some .int) p s m args meth c)  {T : TW} {r : (Int32 × TW)} (h : fX5_here T = some r)   (hR : RepT G o T H) (hS : va_S (tFr o) s.heap H locs) (hl : lv_has ls 1 [(0, .ref o)]) : W p l e (gRm 0 0) s m args below meth c H locs 0 0 (twZ below args s G o (some (.int r.1)) r.2) (F0 m 0 ls []) := by
  have B0 := B
  obtain ⟨hx, hb, hml, hown, hts, hr, hlk, hK⟩ := B0
  unfold fX5_here at h
  refine lv_aload_n hx hb dX5_here_0 rfl (lv_at hl 0 rfl) ?_
  refine tw_get (k := 9) (v := .int (tI T 9)) hx hb hts hown hK hR (by decide) q2442 rfl (fun _ h9 => h9) dX5_here_1 ?_
  refine lv_aload_n hx hb dX5_here_4 rfl (lv_at hl 0 rfl) ?_
  refine tw_get (k := 8) (v := .int (tI T 8)) hx hb hts hown hK hR (by decide) q2441 rfl (fun _ h9 => h9) dX5_here_5 ?_
  refine lv_icmp_ge (tgt := 27) hx hb dX5_here_8 (by decide) (fun c1 => ?_) (fun c1 => ?_)
  · replace h := it_o c1 h
    refine lv_iconst (v := (-1)) hx hb dX5_here_27 (by decide) ?_
    have eR := Option.some.inj h
    subst eR
    exact W.iret (v := (-1)) hx hb hr (fun t ht _ => tw_fin hR hS ht) hS.2.2 dX5_here_28
  · replace h := if_o c1 h
    refine lv_aload_n hx hb dX5_here_11 rfl (lv_at hl 0 rfl) ?_
    refine tw_get (k := 7) (v := .ref (o + 6)) hx hb hts hown hK hR (by decide) q2440 rfl (fun _ h9 => h9) dX5_here_12 ?_
    refine lv_aload_n hx hb dX5_here_15 rfl (lv_at hl 0 rfl) ?_
    refine tw_get (k := 9) (v := .int (tI T 9)) hx hb hts hown hK hR (by decide) q2442 rfl (fun _ h9 => h9) dX5_here_16 ?_
    replace h := bo_o h
    obtain ⟨x2, e3, h⟩ := h
    refine tw_bald (q := 6) hx hb hK hR rfl e3 dX5_here_19 ?_
    refine lv_sipush (v := 255) hx hb dX5_here_20 (by decide) ?_
    refine lv_iand hx hb dX5_here_23 ?_
    refine lv_goto (tgt := 28) hx hb dX5_here_24 (by decide) ?_
    have eR := Option.some.inj h
    subst eR
    exact W.iret (v := x2 &&& 255) hx hb hr (fun t ht _ => tw_fin hR hS ht) hS.2.2 dX5_here_28
theorem mX5_here {l : Launch} {G : gE} {o : Nat}  {T : TW} {r : (Int32 × TW)}  (h : fX5_here T = some r) : twM l G o yX5_here cX5_here 1 (some .int) 0 0 [.ref o] T (some (.int r.1)) r.2 :=
  tw_of (by decide +kernel) (Nat.le_of_ble_eq_true rfl) (fun p e s m args below meth c ls B hR hl => bX5_here_0 B h hR va_S.rf hl)
noncomputable def fX5_next_b22  (T : TW) : Option ((Int32 × TW)) :=
  nm_ (tsI T 10 (tI T 9)) fun T1 =>
  b2_ (fX5_here T1) fun x5 T4 =>
  some (x5, T4)
theorem bX5_next_22 {p : Program} {l : Launch} {e : Env} {s : State} {m : MethodId} {args : Array Value} {below : List Frame} {meth : Method} {c : Code} {H : Heap} {locs : List Loc} {ls : Array Slot} {G : gE} {o : Nat} (B : gB G RX5 cX5_next 1 (some .int) p s m args meth c)  {T : TW} {r : (Int32 × TW)} (h : fX5_next_b22 T = some r)   (hR : RepT G o T H) (hS : va_S (tFr o) s.heap H locs) (hl : lv_has ls 1 [(0, .ref o)]) : W p l e (gRm 1 20) s m args below meth c H locs 0 0 (twZ below args s G o (some (.int r.1)) r.2) (F0 m 22 ls []) := by
  have B0 := B
  obtain ⟨hx, hb, hml, hown, hts, hr, hlk, hK⟩ := B0
  unfold fX5_next_b22 at h
  refine lv_aload_n hx hb dX5_next_22 rfl (lv_at hl 0 rfl) ?_
  refine lv_aload_n hx hb dX5_next_23 rfl (lv_at hl 0 rfl) ?_
  refine tw_get (k := 9) (v := .int (tI T 9)) hx hb hts hown hK hR (by decide) q2442 rfl (fun _ h9 => h9) dX5_next_24 ?_
  replace h := nm_o h
  obtain ⟨T1, e2, h⟩ := h
  refine tw_putI (k := 10) (x := tI T 9) (ty := .int) (T' := T1) hx hb hts hown hK hR (fun _ h9 => h9) hS (by decide) rfl e2 q2443 (fun _ h9 => h9) rfl (by decide +kernel) rfl rfl dX5_next_27 (fun H locs hR hS => ?_)
  refine lv_aload_n hx hb dX5_next_30 rfl (lv_at hl 0 rfl) ?_
  replace h := b2_o h
  obtain ⟨x5, T4, e3, h⟩ := h
  refine tw_callV 0 (As := []) (rest := []) (v := (some (.int x5))) (T' := T4) (st1 := [.int x5]) hx hb hml hown hts hK hR (fun _ h9 => h9) (tw_A2 hR) hS (mX5_here e3) (lw_V q2558 q2560 qs59 q137 q2561) (by decide +kernel) (Nat.le_of_ble_eq_true rfl) (Nat.le_of_ble_eq_true rfl) (Nat.zero_le _) (Nat.zero_le _) rfl hl.1 (Nat.le_of_ble_eq_true rfl) dX5_next_31 rfl rfl (fun H locs hR hS => ?_)
  have eR := Option.some.inj h
  subst eR
  exact W.iret (v := x5) hx hb hr (fun t ht _ => tw_fin hR hS ht) hS.2.2 dX5_next_34
noncomputable def fX5_next_b0  (T : TW) : Option (Sum (TW) ((Int32 × TW))) :=
  b2_ (fX5_here T) fun x3 T2 =>
  if x3 = 32 then (
    nm_ (tsI T2 9 ((tI T2 9) + 1)) fun T5 =>
    some (.inl T5)
  ) else (
    (fX5_next_b22 T2).map (fun y => (.inr y))
  )
theorem bX5_next_0 {p : Program} {l : Launch} {e : Env} {s : State} {m : MethodId} {args : Array Value} {below : List Frame} {meth : Method} {c : Code} {H : Heap} {locs : List Loc} {ls : Array Slot} {G : gE} {o : Nat} (B : gB G RX5 cX5_next 1 (some .int) p s m args meth c)  {T : TW} {x : Sum (TW) ((Int32 × TW))} {r : (Int32 × TW)} (h : fX5_next_b0 T = some x)  (k0 : ∀  (T' : TW), x = (.inl T') → ∀ (H : Heap) (locs : List Loc) (ls : Array Slot), RepT G o (T') H → va_S (tFr o) s.heap H locs → lv_has ls 1 [(0, .ref o)] → W p l e (gRm 1 20) s m args below meth c H locs 0 0 (twZ below args s G o (some (.int r.1)) r.2) (F0 m 0 ls [])) (kR : ∀ q, x = (.inr q) → q = r) (hR : RepT G o T H) (hS : va_S (tFr o) s.heap H locs) (hl : lv_has ls 1 [(0, .ref o)]) : W p l e (gRm 1 20) s m args below meth c H locs 0 0 (twZ below args s G o (some (.int r.1)) r.2) (F0 m 0 ls []) := by
  have B0 := B
  obtain ⟨hx, hb, hml, hown, hts, hr, hlk, hK⟩ := B0
  unfold fX5_next_b0 at h
  refine lv_aload_n hx hb dX5_next_0 rfl (lv_at hl 0 rfl) ?_
  replace h := b2_o h
  obtain ⟨x3, T2, e1, h⟩ := h
  refine tw_callV 0 (As := []) (rest := []) (v := (some (.int x3))) (T' := T2) (st1 := [.int x3]) hx hb hml hown hts hK hR (fun _ h9 => h9) (tw_A2 hR) hS (mX5_here e1) (lw_V q2558 q2560 qs59 q137 q2561) (by decide +kernel) (Nat.le_of_ble_eq_true rfl) (Nat.le_of_ble_eq_true rfl) (Nat.zero_le _) (Nat.zero_le _) rfl hl.1 (Nat.le_of_ble_eq_true rfl) dX5_next_1 rfl rfl (fun H locs hR hS => ?_)
  refine lv_bipush (v := 32) hx hb dX5_next_4 (by decide) ?_
  refine lv_icmp_ne (tgt := 22) hx hb dX5_next_6 (by decide) (fun c4 => ?_) (fun c4 => ?_)
  · replace h := if_o c4 h
    obtain ⟨y, h, ey⟩ := mp_o h
    have ey := kR _ ey.symm
    subst ey
    exact bX5_next_22 B h  hR hS (lv_sub hl [0] rfl)
  · replace h := it_o c4 h
    refine lv_aload_n hx hb dX5_next_9 rfl (lv_at hl 0 rfl) ?_
    refine lv_dup hx hb dX5_next_10 rfl ?_
    refine tw_get (k := 9) (v := .int (tI T2 9)) hx hb hts hown hK hR (by decide) q2442 rfl (fun _ h9 => h9) dX5_next_11 ?_
    refine lv_iconst (v := 1) hx hb dX5_next_14 (by decide) ?_
    refine lv_iadd hx hb dX5_next_15 ?_
    replace h := nm_o h
    obtain ⟨T5, e6, h⟩ := h
    refine tw_putI (k := 9) (x := (tI T2 9) + 1) (ty := .int) (T' := T5) hx hb hts hown hK hR (fun _ h9 => h9) hS (by decide) rfl e6 q2442 (fun _ h9 => h9) rfl (by decide +kernel) rfl rfl dX5_next_16 (fun H locs hR hS => ?_)
    refine lv_goto (tgt := 0) hx hb dX5_next_19 (by decide) ?_
    exact k0 _ (Option.some.inj h).symm H locs ls hR hS (lv_sub hl [0] rfl)
noncomputable def fX5_next_l0  (T : TW) : Option ((Int32 × TW)) := whileO (fun q => fX5_next_b0 q) T
theorem lX5_next_0 {p : Program} {l : Launch} {e : Env} {s : State} {m : MethodId} {args : Array Value} {below : List Frame} {meth : Method} {c : Code} {G : gE} {o : Nat} (B : gB G RX5 cX5_next 1 (some .int) p s m args meth c)  {r : (Int32 × TW)}   : ∀ (T : TW), fX5_next_l0 T = some r → ∀ (H : Heap) (locs : List Loc) (ls : Array Slot), RepT G o (T) H → va_S (tFr o) s.heap H locs → lv_has ls 1 [(0, .ref o)] → W p l e (gRm 1 20) s m args below meth c H locs 0 0 (twZ below args s G o (some (.int r.1)) r.2) (F0 m 0 ls []) := by
  intro  T h
  refine wh_walk (body := (fun q => fX5_next_b0 q)) (P := (fun q : (TW) => ∀ (H : Heap) (locs : List Loc) (ls : Array Slot), RepT G o (q) H → va_S (tFr o) s.heap H locs → lv_has ls 1 [(0, .ref o)] → W p l e (gRm 1 20) s m args below meth c H locs 0 0 (twZ below args s G o (some (.int r.1)) r.2) (F0 m 0 ls []))) (r := r) ?_ T h
  intro q y hy hL hr H locs ls hR hS hl
  exact bX5_next_0 (r := r) B hy (fun a0 e => hL a0 e) (fun q e => hr q e) hR hS hl
noncomputable def fX5_next  (T : TW) : Option ((Int32 × TW)) := fX5_next_l0 T
theorem mX5_next {l : Launch} {G : gE} {o : Nat}  {T : TW} {r : (Int32 × TW)}  (h : fX5_next T = some r) : twM l G o yX5_next cX5_next 1 (some .int) 1 20 [.ref o] T (some (.int r.1)) r.2 :=
  tw_of (by decide +kernel) (Nat.le_of_ble_eq_true rfl) (fun p e s m args below meth c ls B hR hl => lX5_next_0 B _ h _ _ _ hR va_S.rf (lv_sub hl [0] rfl))
noncomputable def fX5_in (v0 : Int32) (v1 : Int32) (v2 : Int32) (T : TW) : Option ((Int32 × TW)) :=
  if v0 < v1 then (
    some (0, T)
  ) else (
    if v2 < v0 then (
      some (0, T)
    ) else (
      some (1, T)
    )
  )
theorem bX5_in_0 {p : Program} {l : Launch} {e : Env} {s : State} {m : MethodId} {args : Array Value} {below : List Frame} {meth : Method} {c : Code} {H : Heap} {locs : List Loc} {ls : Array Slot} {G : gE} {o : Nat} (B : gB G RX5 cX5_in 3 (some .boolean) p s m args meth c) {v0 : Int32} {v1 : Int32} {v2 : Int32} {T : TW} {r : (Int32 × TW)} (h : fX5_in v0 v1 v2 T = some r)   (hR : RepT G o T H) (hS : va_S (tFr o) s.heap H locs) (hl : lv_has ls 3 [(0, .int v0), (1, .int v1), (2, .int v2)]) : W p l e (gRm 0 0) s m args below meth c H locs 0 0 (twZ below args s G o (some (.int r.1)) r.2) (F0 m 0 ls []) := by
  have B0 := B
  obtain ⟨hx, hb, hml, hown, hts, hr, hlk, hK⟩ := B0
  unfold fX5_in at h
  refine lv_iload_n hx hb dX5_in_0 rfl (lv_at hl 0 rfl) ?_
  refine lv_iload_n hx hb dX5_in_1 rfl (lv_at hl 1 rfl) ?_
  refine lv_icmp_lt (tgt := 14) hx hb dX5_in_2 (by decide) (fun c1 => ?_) (fun c1 => ?_)
  · replace h := it_o c1 h
    refine lv_iconst (v := 0) hx hb dX5_in_14 (by decide) ?_
    have eR := Option.some.inj h
    subst eR
    exact W.zret (v := 0) hx hb hr rfl (fun t ht _ => tw_fin hR hS ht) hS.2.2 dX5_in_15
  · replace h := if_o c1 h
    refine lv_iload_n hx hb dX5_in_5 rfl (lv_at hl 0 rfl) ?_
    refine lv_iload_n hx hb dX5_in_6 rfl (lv_at hl 2 rfl) ?_
    refine lv_icmp_gt (tgt := 14) hx hb dX5_in_7 (by decide) (fun c2 => ?_) (fun c2 => ?_)
    · replace h := it_o c2 h
      refine lv_iconst (v := 0) hx hb dX5_in_14 (by decide) ?_
      have eR := Option.some.inj h
      subst eR
      exact W.zret (v := 0) hx hb hr rfl (fun t ht _ => tw_fin hR hS ht) hS.2.2 dX5_in_15
    · replace h := if_o c2 h
      refine lv_iconst (v := 1) hx hb dX5_in_10 (by decide) ?_
      refine lv_goto (tgt := 15) hx hb dX5_in_11 (by decide) ?_
      have eR := Option.some.inj h
      subst eR
      exact W.zret (v := 1) hx hb hr rfl (fun t ht _ => tw_fin hR hS ht) hS.2.2 dX5_in_15
theorem mX5_in {l : Launch} {G : gE} {o : Nat} {v0 : Int32} {v1 : Int32} {v2 : Int32} {T : TW} {r : (Int32 × TW)}  (h : fX5_in v0 v1 v2 T = some r) : twM l G o yX5_in cX5_in 3 (some .boolean) 0 0 [.int v0, .int v1, .int v2] T (some (.int r.1)) r.2 :=
  tw_of (by decide +kernel) (Nat.le_of_ble_eq_true rfl) (fun p e s m args below meth c ls B hR hl => bX5_in_0 B h hR va_S.rf hl)
noncomputable def fX5_reads_b5  (T : TW) : Option (Sum (TW) (TW)) :=
  b2_ (fX5_here T) fun x3 T2 =>
  b2_ (fX5_in x3 97 122 T2) fun x6 T5 =>
  if x6 = 0 then (
    some (.inr T5)
  ) else (
    nm_ (tsI T5 9 ((tI T5 9) + 1)) fun T8 =>
    some (.inl T8)
  )
theorem bX5_reads_5 {p : Program} {l : Launch} {e : Env} {s : State} {m : MethodId} {args : Array Value} {below : List Frame} {meth : Method} {c : Code} {H : Heap} {locs : List Loc} {ls : Array Slot} {G : gE} {o : Nat} (B : gB G RX5 cX5_reads 1 none p s m args meth c)  {T : TW} {x : Sum (TW) (TW)} {r : TW} (h : fX5_reads_b5 T = some x)  (k5 : ∀  (T' : TW), x = (.inl T') → ∀ (H : Heap) (locs : List Loc) (ls : Array Slot), RepT G o (T') H → va_S (tFr o) s.heap H locs → lv_has ls 1 [(0, .ref o)] → W p l e (gRm 2 40) s m args below meth c H locs 0 0 (twZ below args s G o none r) (F0 m 5 ls [])) (kR : ∀ q, x = (.inr q) → q = r) (hR : RepT G o T H) (hS : va_S (tFr o) s.heap H locs) (hl : lv_has ls 1 [(0, .ref o)]) : W p l e (gRm 2 40) s m args below meth c H locs 0 0 (twZ below args s G o none r) (F0 m 5 ls []) := by
  have B0 := B
  obtain ⟨hx, hb, hml, hown, hts, hr, hlk, hK⟩ := B0
  unfold fX5_reads_b5 at h
  refine lv_aload_n hx hb dX5_reads_5 rfl (lv_at hl 0 rfl) ?_
  replace h := b2_o h
  obtain ⟨x3, T2, e1, h⟩ := h
  refine tw_callV 0 (As := []) (rest := []) (v := (some (.int x3))) (T' := T2) (st1 := [.int x3]) hx hb hml hown hts hK hR (fun _ h9 => h9) (tw_A2 hR) hS (mX5_here e1) (lw_V q2558 q2560 qs59 q137 q2561) (by decide +kernel) (Nat.le_of_ble_eq_true rfl) (Nat.le_of_ble_eq_true rfl) (Nat.zero_le _) (Nat.zero_le _) rfl hl.1 (Nat.le_of_ble_eq_true rfl) dX5_reads_6 rfl rfl (fun H locs hR hS => ?_)
  refine lv_bipush (v := 97) hx hb dX5_reads_9 (by decide) ?_
  refine lv_bipush (v := 122) hx hb dX5_reads_11 (by decide) ?_
  replace h := b2_o h
  obtain ⟨x6, T5, e4, h⟩ := h
  refine tw_callS 3 (As := [.int x3, .int 97, .int 122]) (rest := []) (v := (some (.int x6))) (T' := T5) (st1 := [.int x6]) hx hb hml hown hts hK hR (fun _ h9 => h9) (tw_A2 hR) hS (mX5_in e4) (lw_S q2562 q2563 q137 q2564) (by decide +kernel) (Nat.le_of_ble_eq_true rfl) (Nat.le_of_ble_eq_true rfl) (Nat.zero_le _) (Nat.zero_le _) rfl hl.1 (Nat.le_of_ble_eq_true rfl) dX5_reads_13 rfl rfl (fun H locs hR hS => ?_)
  refine lv_if_eq (tgt := 32) hx hb dX5_reads_16 (by decide) (fun c7 => ?_) (fun c7 => ?_)
  · replace h := it_o c7 h
    have eR := kR _ (Option.some.inj h).symm
    subst eR
    exact W.vret hx hb hr (fun t ht _ => tw_fin hR hS ht) hS.2.2 dX5_reads_32
  · replace h := if_o c7 h
    refine lv_aload_n hx hb dX5_reads_19 rfl (lv_at hl 0 rfl) ?_
    refine lv_dup hx hb dX5_reads_20 rfl ?_
    refine tw_get (k := 9) (v := .int (tI T5 9)) hx hb hts hown hK hR (by decide) q2442 rfl (fun _ h9 => h9) dX5_reads_21 ?_
    refine lv_iconst (v := 1) hx hb dX5_reads_24 (by decide) ?_
    refine lv_iadd hx hb dX5_reads_25 ?_
    replace h := nm_o h
    obtain ⟨T8, e9, h⟩ := h
    refine tw_putI (k := 9) (x := (tI T5 9) + 1) (ty := .int) (T' := T8) hx hb hts hown hK hR (fun _ h9 => h9) hS (by decide) rfl e9 q2442 (fun _ h9 => h9) rfl (by decide +kernel) rfl rfl dX5_reads_26 (fun H locs hR hS => ?_)
    refine lv_goto (tgt := 5) hx hb dX5_reads_29 (by decide) ?_
    exact k5 _ (Option.some.inj h).symm H locs ls hR hS (lv_sub hl [0] rfl)
noncomputable def fX5_reads_l5  (T : TW) : Option (TW) := whileO (fun q => fX5_reads_b5 q) T
theorem lX5_reads_5 {p : Program} {l : Launch} {e : Env} {s : State} {m : MethodId} {args : Array Value} {below : List Frame} {meth : Method} {c : Code} {G : gE} {o : Nat} (B : gB G RX5 cX5_reads 1 none p s m args meth c)  {r : TW}   : ∀ (T : TW), fX5_reads_l5 T = some r → ∀ (H : Heap) (locs : List Loc) (ls : Array Slot), RepT G o (T) H → va_S (tFr o) s.heap H locs → lv_has ls 1 [(0, .ref o)] → W p l e (gRm 2 40) s m args below meth c H locs 0 0 (twZ below args s G o none r) (F0 m 5 ls []) := by
  intro  T h
  refine wh_walk (body := (fun q => fX5_reads_b5 q)) (P := (fun q : (TW) => ∀ (H : Heap) (locs : List Loc) (ls : Array Slot), RepT G o (q) H → va_S (tFr o) s.heap H locs → lv_has ls 1 [(0, .ref o)] → W p l e (gRm 2 40) s m args below meth c H locs 0 0 (twZ below args s G o none r) (F0 m 5 ls []))) (r := r) ?_ T h
  intro q y hy hL hr H locs ls hR hS hl
  exact bX5_reads_5 (r := r) B hy (fun a0 e => hL a0 e) (fun q e => hr q e) hR hS hl
noncomputable def fX5_reads  (T : TW) : Option (TW) :=
  b2_ (fX5_next T) fun x3 T2 =>
  fX5_reads_l5 T2
theorem bX5_reads_0 {p : Program} {l : Launch} {e : Env} {s : State} {m : MethodId} {args : Array Value} {below : List Frame} {meth : Method} {c : Code} {H : Heap} {locs : List Loc} {ls : Array Slot} {G : gE} {o : Nat} (B : gB G RX5 cX5_reads 1 none p s m args meth c)  {T : TW} {r : TW} (h : fX5_reads T = some r)   (hR : RepT G o T H) (hS : va_S (tFr o) s.heap H locs) (hl : lv_has ls 1 [(0, .ref o)]) : W p l e (gRm 2 40) s m args below meth c H locs 0 0 (twZ below args s G o none r) (F0 m 0 ls []) := by
  have B0 := B
  obtain ⟨hx, hb, hml, hown, hts, hr, hlk, hK⟩ := B0
  unfold fX5_reads at h
  refine lv_aload_n hx hb dX5_reads_0 rfl (lv_at hl 0 rfl) ?_
  replace h := b2_o h
  obtain ⟨x3, T2, e1, h⟩ := h
  refine tw_callV 0 (As := []) (rest := []) (v := (some (.int x3))) (T' := T2) (st1 := [.int x3]) hx hb hml hown hts hK hR (fun _ h9 => h9) (tw_A2 hR) hS (mX5_next e1) (lw_V q2554 q2556 qs58 q137 q2557) (by decide +kernel) (Nat.le_of_ble_eq_true rfl) (Nat.le_of_ble_eq_true rfl) (Nat.zero_le _) (Nat.zero_le _) rfl hl.1 (Nat.le_of_ble_eq_true rfl) dX5_reads_1 rfl rfl (fun H locs hR hS => ?_)
  refine lv_pop hx hb dX5_reads_4 rfl ?_
  exact lX5_reads_5 B _ h H locs ls hR hS (lv_sub hl [0] rfl)
theorem mX5_reads {l : Launch} {G : gE} {o : Nat}  {T : TW} {r : TW}  (h : fX5_reads T = some r) : twM l G o yX5_reads cX5_reads 1 none 2 40 [.ref o] T none r :=
  tw_of (by decide +kernel) (Nat.le_of_ble_eq_true rfl) (fun p e s m args below meth c ls B hR hl => bX5_reads_0 B h hR va_S.rf hl)
noncomputable def fX5_isWord_b60 (v1 : Nat) (v3 : Int32) (s0 : Int32) (T : TW) : Option (Sum (Int32 × Int32 × TW) ((Int32 × TW))) :=
  some (.inl (s0, v3 + 1, T))
theorem bX5_isWord_60 {p : Program} {l : Launch} {e : Env} {s : State} {m : MethodId} {args : Array Value} {below : List Frame} {meth : Method} {c : Code} {H : Heap} {locs : List Loc} {ls : Array Slot} {G : gE} {o : Nat} (B : gB G RX5 cX5_isWord 4 (some .boolean) p s m args meth c) {v1 : Nat} {v3 : Int32} {s0 : Int32} {T : TW} {x : Sum (Int32 × Int32 × TW) ((Int32 × TW))} {r : (Int32 × TW)} (h : fX5_isWord_b60 v1 v3 s0 T = some x) (hp_v1 : v1 < 5) (k24 : ∀ (v2' : Int32) (v3' : Int32) (T' : TW), x = (.inl (v2', v3', T')) → ∀ (H : Heap) (locs : List Loc) (ls : Array Slot), RepT G o (T') H → va_S (tFr o) s.heap H locs → lv_has ls 4 [(0, .ref o), (1, .ref (gK G v1)), (2, .int v2'), (3, .int v3')] → W p l e (gRm 7 327) s m args below meth c H locs 0 0 (twZ below args s G o (some (.int r.1)) r.2) (F0 m 24 ls [])) (kR : ∀ q, x = (.inr q) → q = r) (hR : RepT G o T H) (hS : va_S (tFr o) s.heap H locs) (hl : lv_has ls 4 [(0, .ref o), (1, .ref (gK G v1)), (3, .int v3)]) : W p l e (gRm 7 327) s m args below meth c H locs 0 0 (twZ below args s G o (some (.int r.1)) r.2) (F0 m 60 ls [.int s0]) := by
  have B0 := B
  obtain ⟨hx, hb, hml, hown, hts, hr, hlk, hK⟩ := B0
  unfold fX5_isWord_b60 at h
  refine lv_istore_n (lv' := [(2, .int s0), (0, .ref o), (1, .ref (gK G v1)), (3, .int v3)]) hx hb dX5_isWord_60 rfl hl (by decide) rfl (fun ls hl => ?_)
  refine lv_iinc (v := v3 + 1) (lv' := [(3, .int (v3 + 1)), (2, .int s0), (0, .ref o), (1, .ref (gK G v1))]) hx hb dX5_isWord_61 hl (k := 3) rfl rfl (by decide) rfl (fun ls hl => ?_)
  refine lv_goto (tgt := 24) hx hb dX5_isWord_64 (by decide) ?_
  exact k24 _ _ _ (Option.some.inj h).symm H locs ls hR hS (lv_sub hl [2, 3, 1, 0] rfl)
noncomputable def fX5_isWord_b24 (v1 : Nat) (v2 : Int32) (v3 : Int32) (T : TW) : Option (Sum (Int32 × Int32 × TW) ((Int32 × TW))) :=
  if v2 = 0 then (
    (bz_ v2).bind fun _ =>
    some (.inr (v2, T))
  ) else (
    nm_ (sLen v1) fun x3 =>
    if x3 ≤ v3 then (
      (bz_ v2).bind fun _ =>
      some (.inr (v2, T))
    ) else (
      (rd_ (tA T 6) 600 ((tI T 10) + v3)).bind fun x7 =>
      (sChr v1 v3).bind fun x9 =>
      if x7 = x9 then (
        fX5_isWord_b60 v1 v3 1 T
      ) else (
        fX5_isWord_b60 v1 v3 0 T
      )
    )
  )
theorem bX5_isWord_24 {p : Program} {l : Launch} {e : Env} {s : State} {m : MethodId} {args : Array Value} {below : List Frame} {meth : Method} {c : Code} {H : Heap} {locs : List Loc} {ls : Array Slot} {G : gE} {o : Nat} (B : gB G RX5 cX5_isWord 4 (some .boolean) p s m args meth c) {v1 : Nat} {v2 : Int32} {v3 : Int32} {T : TW} {x : Sum (Int32 × Int32 × TW) ((Int32 × TW))} {r : (Int32 × TW)} (h : fX5_isWord_b24 v1 v2 v3 T = some x) (hp_v1 : v1 < 5) (k24 : ∀ (v2' : Int32) (v3' : Int32) (T' : TW), x = (.inl (v2', v3', T')) → ∀ (H : Heap) (locs : List Loc) (ls : Array Slot), RepT G o (T') H → va_S (tFr o) s.heap H locs → lv_has ls 4 [(0, .ref o), (1, .ref (gK G v1)), (2, .int v2'), (3, .int v3')] → W p l e (gRm 7 327) s m args below meth c H locs 0 0 (twZ below args s G o (some (.int r.1)) r.2) (F0 m 24 ls [])) (kR : ∀ q, x = (.inr q) → q = r) (hR : RepT G o T H) (hS : va_S (tFr o) s.heap H locs) (hl : lv_has ls 4 [(0, .ref o), (1, .ref (gK G v1)), (2, .int v2), (3, .int v3)]) : W p l e (gRm 7 327) s m args below meth c H locs 0 0 (twZ below args s G o (some (.int r.1)) r.2) (F0 m 24 ls []) := by
  have B0 := B
  obtain ⟨hx, hb, hml, hown, hts, hr, hlk, hK⟩ := B0
  unfold fX5_isWord_b24 at h
  refine lv_iload_n hx hb dX5_isWord_24 rfl (lv_at hl 2 rfl) ?_
  refine lv_if_eq (tgt := 67) hx hb dX5_isWord_25 (by decide) (fun c1 => ?_) (fun c1 => ?_)
  · replace h := it_o c1 h
    refine lv_iload_n hx hb dX5_isWord_67 rfl (lv_at hl 2 rfl) ?_
    replace h := bo_o h
    obtain ⟨_, e2, h⟩ := h
    have eR := kR _ (Option.some.inj h).symm
    subst eR
    exact W.zret (v := v2) hx hb hr (bz_n e2) (fun t ht _ => tw_fin hR hS ht) hS.2.2 dX5_isWord_68
  · replace h := if_o c1 h
    refine lv_iload_n hx hb dX5_isWord_28 rfl (lv_at hl 3 rfl) ?_
    refine lv_aload_n hx hb dX5_isWord_29 rfl (lv_at hl 1 rfl) ?_
    replace h := nm_o h
    obtain ⟨x3, e4, h⟩ := h
    refine tw_slen q2570 (rest := [.int v3]) hx hb hml hown hts hK hR (fun _ h9 => h9) (tw_A2 hR) hS (k := v1) (by first | decide | assumption) e4 (Nat.le_of_ble_eq_true rfl) (Nat.le_of_ble_eq_true rfl) (Nat.zero_le _) (Nat.zero_le _) hl.1 (Nat.le_of_ble_eq_true rfl) dX5_isWord_30 (fun H locs hR hS => ?_)
    refine lv_icmp_ge (tgt := 67) hx hb dX5_isWord_33 (by decide) (fun c5 => ?_) (fun c5 => ?_)
    · replace h := it_o c5 h
      refine lv_iload_n hx hb dX5_isWord_67 rfl (lv_at hl 2 rfl) ?_
      replace h := bo_o h
      obtain ⟨_, e6, h⟩ := h
      have eR := kR _ (Option.some.inj h).symm
      subst eR
      exact W.zret (v := v2) hx hb hr (bz_n e6) (fun t ht _ => tw_fin hR hS ht) hS.2.2 dX5_isWord_68
    · replace h := if_o c5 h
      refine lv_aload_n hx hb dX5_isWord_36 rfl (lv_at hl 0 rfl) ?_
      refine tw_get (k := 7) (v := .ref (o + 6)) hx hb hts hown hK hR (by decide) q2440 rfl (fun _ h9 => h9) dX5_isWord_37 ?_
      refine lv_aload_n hx hb dX5_isWord_40 rfl (lv_at hl 0 rfl) ?_
      refine tw_get (k := 10) (v := .int (tI T 10)) hx hb hts hown hK hR (by decide) q2443 rfl (fun _ h9 => h9) dX5_isWord_41 ?_
      refine lv_iload_n hx hb dX5_isWord_44 rfl (lv_at hl 3 rfl) ?_
      refine lv_iadd hx hb dX5_isWord_45 ?_
      replace h := bo_o h
      obtain ⟨x7, e8, h⟩ := h
      refine tw_bald (q := 6) hx hb hK hR rfl e8 dX5_isWord_46 ?_
      refine lv_aload_n hx hb dX5_isWord_47 rfl (lv_at hl 1 rfl) ?_
      refine lv_iload_n hx hb dX5_isWord_48 rfl (lv_at hl 3 rfl) ?_
      replace h := bo_o h
      obtain ⟨x9, e10, h⟩ := h
      refine tw_schr q2571 (rest := [.int x7]) hx hb hml hown hts hK hR (fun _ h9 => h9) (tw_A2 hR) hS (k := v1) (by first | decide | assumption) e10 (Nat.le_of_ble_eq_true rfl) (Nat.le_of_ble_eq_true rfl) (Nat.zero_le _) (Nat.zero_le _) hl.1 (Nat.le_of_ble_eq_true rfl) dX5_isWord_49 (fun H locs hR hS => ?_)
      refine lv_icmp_ne (tgt := 59) hx hb dX5_isWord_52 (by decide) (fun c11 => ?_) (fun c11 => ?_)
      · replace h := if_o c11 h
        refine lv_iconst (v := 0) hx hb dX5_isWord_59 (by decide) ?_
        exact bX5_isWord_60 B h hp_v1 k24 kR hR hS (lv_sub hl [0, 1, 3] rfl)
      · replace h := it_o c11 h
        refine lv_iconst (v := 1) hx hb dX5_isWord_55 (by decide) ?_
        refine lv_goto (tgt := 60) hx hb dX5_isWord_56 (by decide) ?_
        exact bX5_isWord_60 B h hp_v1 k24 kR hR hS (lv_sub hl [0, 1, 3] rfl)
noncomputable def fX5_isWord_l24 (v1 : Nat) (v2 : Int32) (v3 : Int32) (T : TW) : Option ((Int32 × TW)) := whileO (fun q => fX5_isWord_b24 v1 q.1 q.2.1 q.2.2) (v2, v3, T)
theorem lX5_isWord_24 {p : Program} {l : Launch} {e : Env} {s : State} {m : MethodId} {args : Array Value} {below : List Frame} {meth : Method} {c : Code} {G : gE} {o : Nat} (B : gB G RX5 cX5_isWord 4 (some .boolean) p s m args meth c) {v1 : Nat} {r : (Int32 × TW)} (hp_v1 : v1 < 5)  : ∀ (v2 : Int32) (v3 : Int32) (T : TW), fX5_isWord_l24 v1 v2 v3 T = some r → ∀ (H : Heap) (locs : List Loc) (ls : Array Slot), RepT G o (T) H → va_S (tFr o) s.heap H locs → lv_has ls 4 [(0, .ref o), (1, .ref (gK G v1)), (2, .int v2), (3, .int v3)] → W p l e (gRm 7 327) s m args below meth c H locs 0 0 (twZ below args s G o (some (.int r.1)) r.2) (F0 m 24 ls []) := by
  intro v2 v3 T h
  refine wh_walk (body := (fun q => fX5_isWord_b24 v1 q.1 q.2.1 q.2.2)) (P := (fun q : (Int32 × Int32 × TW) => ∀ (H : Heap) (locs : List Loc) (ls : Array Slot), RepT G o (q.2.2) H → va_S (tFr o) s.heap H locs → lv_has ls 4 [(0, .ref o), (1, .ref (gK G v1)), (2, .int (q.1)), (3, .int (q.2.1))] → W p l e (gRm 7 327) s m args below meth c H locs 0 0 (twZ below args s G o (some (.int r.1)) r.2) (F0 m 24 ls []))) (r := r) ?_ (v2, v3, T) h
  intro q y hy hL hr H locs ls hR hS hl
  exact bX5_isWord_24 (r := r) B hy hp_v1 (fun a0 a1 a2 e => hL (a0, a1, a2) e) (fun q e => hr q e) hR hS hl
noncomputable def fX5_isWord_b21 (v1 : Nat) (s0 : Int32) (T : TW) : Option ((Int32 × TW)) :=
  fX5_isWord_l24 v1 s0 0 T
theorem bX5_isWord_21 {p : Program} {l : Launch} {e : Env} {s : State} {m : MethodId} {args : Array Value} {below : List Frame} {meth : Method} {c : Code} {H : Heap} {locs : List Loc} {ls : Array Slot} {G : gE} {o : Nat} (B : gB G RX5 cX5_isWord 4 (some .boolean) p s m args meth c) {v1 : Nat} {s0 : Int32} {T : TW} {r : (Int32 × TW)} (h : fX5_isWord_b21 v1 s0 T = some r) (hp_v1 : v1 < 5)  (hR : RepT G o T H) (hS : va_S (tFr o) s.heap H locs) (hl : lv_has ls 4 [(0, .ref o), (1, .ref (gK G v1))]) : W p l e (gRm 7 327) s m args below meth c H locs 0 0 (twZ below args s G o (some (.int r.1)) r.2) (F0 m 21 ls [.int s0]) := by
  have B0 := B
  obtain ⟨hx, hb, hml, hown, hts, hr, hlk, hK⟩ := B0
  unfold fX5_isWord_b21 at h
  refine lv_istore_n (lv' := [(2, .int s0), (0, .ref o), (1, .ref (gK G v1))]) hx hb dX5_isWord_21 rfl hl (by decide) rfl (fun ls hl => ?_)
  refine lv_iconst (v := 0) hx hb dX5_isWord_22 (by decide) ?_
  refine lv_istore_n (lv' := [(3, .int 0), (2, .int s0), (0, .ref o), (1, .ref (gK G v1))]) hx hb dX5_isWord_23 rfl hl (by decide) rfl (fun ls hl => ?_)
  exact lX5_isWord_24 B hp_v1 _ _ _ h H locs ls hR hS (lv_sub hl [2, 3, 1, 0] rfl)
noncomputable def fX5_isWord (v1 : Nat) (T : TW) : Option ((Int32 × TW)) :=
  nm_ (sLen v1) fun x1 =>
  if (tI T 9) - (tI T 10) = x1 then (
    fX5_isWord_b21 v1 1 T
  ) else (
    fX5_isWord_b21 v1 0 T
  )
theorem bX5_isWord_0 {p : Program} {l : Launch} {e : Env} {s : State} {m : MethodId} {args : Array Value} {below : List Frame} {meth : Method} {c : Code} {H : Heap} {locs : List Loc} {ls : Array Slot} {G : gE} {o : Nat} (B : gB G RX5 cX5_isWord 4 (some .boolean) p s m args meth c) {v1 : Nat} {T : TW} {r : (Int32 × TW)} (h : fX5_isWord v1 T = some r) (hp_v1 : v1 < 5)  (hR : RepT G o T H) (hS : va_S (tFr o) s.heap H locs) (hl : lv_has ls 4 [(0, .ref o), (1, .ref (gK G v1))]) : W p l e (gRm 7 327) s m args below meth c H locs 0 0 (twZ below args s G o (some (.int r.1)) r.2) (F0 m 0 ls []) := by
  have B0 := B
  obtain ⟨hx, hb, hml, hown, hts, hr, hlk, hK⟩ := B0
  unfold fX5_isWord at h
  refine lv_aload_n hx hb dX5_isWord_0 rfl (lv_at hl 0 rfl) ?_
  refine tw_get (k := 9) (v := .int (tI T 9)) hx hb hts hown hK hR (by decide) q2442 rfl (fun _ h9 => h9) dX5_isWord_1 ?_
  refine lv_aload_n hx hb dX5_isWord_4 rfl (lv_at hl 0 rfl) ?_
  refine tw_get (k := 10) (v := .int (tI T 10)) hx hb hts hown hK hR (by decide) q2443 rfl (fun _ h9 => h9) dX5_isWord_5 ?_
  refine lv_isub hx hb dX5_isWord_8 ?_
  refine lv_aload_n hx hb dX5_isWord_9 rfl (lv_at hl 1 rfl) ?_
  replace h := nm_o h
  obtain ⟨x1, e2, h⟩ := h
  refine tw_slen q2570 (rest := [.int ((tI T 9) - (tI T 10))]) hx hb hml hown hts hK hR (fun _ h9 => h9) (tw_A2 hR) hS (k := v1) (by first | decide | assumption) e2 (Nat.le_of_ble_eq_true rfl) (Nat.le_of_ble_eq_true rfl) (Nat.zero_le _) (Nat.zero_le _) hl.1 (Nat.le_of_ble_eq_true rfl) dX5_isWord_10 (fun H locs hR hS => ?_)
  refine lv_icmp_ne (tgt := 20) hx hb dX5_isWord_13 (by decide) (fun c3 => ?_) (fun c3 => ?_)
  · replace h := if_o c3 h
    refine lv_iconst (v := 0) hx hb dX5_isWord_20 (by decide) ?_
    exact bX5_isWord_21 B h hp_v1  hR hS (lv_sub hl [0, 1] rfl)
  · replace h := it_o c3 h
    refine lv_iconst (v := 1) hx hb dX5_isWord_16 (by decide) ?_
    refine lv_goto (tgt := 21) hx hb dX5_isWord_17 (by decide) ?_
    exact bX5_isWord_21 B h hp_v1  hR hS (lv_sub hl [0, 1] rfl)
theorem mX5_isWord {l : Launch} {G : gE} {o : Nat} {v1 : Nat} {T : TW} {r : (Int32 × TW)} (hp_v1 : v1 < 5) (h : fX5_isWord v1 T = some r) : twM l G o yX5_isWord cX5_isWord 4 (some .boolean) 7 327 [.ref o, .ref (gK G v1)] T (some (.int r.1)) r.2 :=
  tw_of (by decide +kernel) (Nat.le_of_ble_eq_true rfl) (fun p e s m args below meth c ls B hR hl => bX5_isWord_0 B h hp_v1 hR va_S.rf hl)
noncomputable def fX5_fails (v1 : Int32) (T : TW) : Option (TW) :=
  if tI T 11 = 0 then (
    nm_ (tsI T 11 v1) fun T2 =>
    nm_ (tsI T2 12 (tI T2 10)) fun T4 =>
    some T4
  ) else (
    some T
  )
theorem bX5_fails_0 {p : Program} {l : Launch} {e : Env} {s : State} {m : MethodId} {args : Array Value} {below : List Frame} {meth : Method} {c : Code} {H : Heap} {locs : List Loc} {ls : Array Slot} {G : gE} {o : Nat} (B : gB G RX5 cX5_fails 2 none p s m args meth c) {v1 : Int32} {T : TW} {r : TW} (h : fX5_fails v1 T = some r)   (hR : RepT G o T H) (hS : va_S (tFr o) s.heap H locs) (hl : lv_has ls 2 [(0, .ref o), (1, .int v1)]) : W p l e (gRm 0 0) s m args below meth c H locs 0 0 (twZ below args s G o none r) (F0 m 0 ls []) := by
  have B0 := B
  obtain ⟨hx, hb, hml, hown, hts, hr, hlk, hK⟩ := B0
  unfold fX5_fails at h
  refine lv_aload_n hx hb dX5_fails_0 rfl (lv_at hl 0 rfl) ?_
  refine tw_get (k := 11) (v := .int (tI T 11)) hx hb hts hown hK hR (by decide) q2444 rfl (fun _ h9 => h9) dX5_fails_1 ?_
  refine lv_if_ne (tgt := 20) hx hb dX5_fails_4 (by decide) (fun c1 => ?_) (fun c1 => ?_)
  · replace h := if_o c1 h
    have eR := Option.some.inj h
    subst eR
    exact W.vret hx hb hr (fun t ht _ => tw_fin hR hS ht) hS.2.2 dX5_fails_20
  · replace h := it_o c1 h
    refine lv_aload_n hx hb dX5_fails_7 rfl (lv_at hl 0 rfl) ?_
    refine lv_iload_n hx hb dX5_fails_8 rfl (lv_at hl 1 rfl) ?_
    replace h := nm_o h
    obtain ⟨T2, e3, h⟩ := h
    refine tw_putI (k := 11) (x := v1) (ty := .int) (T' := T2) hx hb hts hown hK hR (fun _ h9 => h9) hS (by decide) rfl e3 q2444 (fun _ h9 => h9) rfl (by decide +kernel) rfl rfl dX5_fails_9 (fun H locs hR hS => ?_)
    refine lv_aload_n hx hb dX5_fails_12 rfl (lv_at hl 0 rfl) ?_
    refine lv_aload_n hx hb dX5_fails_13 rfl (lv_at hl 0 rfl) ?_
    refine tw_get (k := 10) (v := .int (tI T2 10)) hx hb hts hown hK hR (by decide) q2443 rfl (fun _ h9 => h9) dX5_fails_14 ?_
    replace h := nm_o h
    obtain ⟨T4, e5, h⟩ := h
    refine tw_putI (k := 12) (x := tI T2 10) (ty := .int) (T' := T4) hx hb hts hown hK hR (fun _ h9 => h9) hS (by decide) rfl e5 q2445 (fun _ h9 => h9) rfl (by decide +kernel) rfl rfl dX5_fails_17 (fun H locs hR hS => ?_)
    have eR := Option.some.inj h
    subst eR
    exact W.vret hx hb hr (fun t ht _ => tw_fin hR hS ht) hS.2.2 dX5_fails_20
theorem mX5_fails {l : Launch} {G : gE} {o : Nat} {v1 : Int32} {T : TW} {r : TW}  (h : fX5_fails v1 T = some r) : twM l G o yX5_fails cX5_fails 2 none 0 0 [.ref o, .int v1] T none r :=
  tw_of (by decide +kernel) (Nat.le_of_ble_eq_true rfl) (fun p e s m args below meth c ls B hR hl => bX5_fails_0 B h hR va_S.rf hl)
noncomputable def fX5_number_b77 (v1 : Int32) (v2 : Int32) (v3 : Int32) (T : TW) : Option ((Int32 × TW)) :=
  b2_ (fX5_in v3 v1 v2 T) fun x3 T2 =>
  if x3 = 0 then (
    (fX5_fails 2 T2).bind fun T6 =>
    some (v1, T6)
  ) else (
    some (v3, T2)
  )
theorem bX5_number_77 {p : Program} {l : Launch} {e : Env} {s : State} {m : MethodId} {args : Array Value} {below : List Frame} {meth : Method} {c : Code} {H : Heap} {locs : List Loc} {ls : Array Slot} {G : gE} {o : Nat} (B : gB G RX5 cX5_number 4 (some .int) p s m args meth c) {v1 : Int32} {v2 : Int32} {v3 : Int32} {T : TW} {r : (Int32 × TW)} (h : fX5_number_b77 v1 v2 v3 T = some r)   (hR : RepT G o T H) (hS : va_S (tFr o) s.heap H locs) (hl : lv_has ls 4 [(0, .ref o), (1, .int v1), (2, .int v2), (3, .int v3)]) : W p l e (gRm 2 40) s m args below meth c H locs 0 0 (twZ below args s G o (some (.int r.1)) r.2) (F0 m 77 ls []) := by
  have B0 := B
  obtain ⟨hx, hb, hml, hown, hts, hr, hlk, hK⟩ := B0
  unfold fX5_number_b77 at h
  refine lv_iload_n hx hb dX5_number_77 rfl (lv_at hl 3 rfl) ?_
  refine lv_iload_n hx hb dX5_number_78 rfl (lv_at hl 1 rfl) ?_
  refine lv_iload_n hx hb dX5_number_79 rfl (lv_at hl 2 rfl) ?_
  replace h := b2_o h
  obtain ⟨x3, T2, e1, h⟩ := h
  refine tw_callS 3 (As := [.int v3, .int v1, .int v2]) (rest := []) (v := (some (.int x3))) (T' := T2) (st1 := [.int x3]) hx hb hml hown hts hK hR (fun _ h9 => h9) (tw_A2 hR) hS (mX5_in e1) (lw_S q2562 q2563 q137 q2564) (by decide +kernel) (Nat.le_of_ble_eq_true rfl) (Nat.le_of_ble_eq_true rfl) (Nat.zero_le _) (Nat.zero_le _) rfl hl.1 (Nat.le_of_ble_eq_true rfl) dX5_number_80 rfl rfl (fun H locs hR hS => ?_)
  refine lv_if_ne (tgt := 93) hx hb dX5_number_83 (by decide) (fun c4 => ?_) (fun c4 => ?_)
  · replace h := if_o c4 h
    refine lv_iload_n hx hb dX5_number_93 rfl (lv_at hl 3 rfl) ?_
    have eR := Option.some.inj h
    subst eR
    exact W.iret (v := v3) hx hb hr (fun t ht _ => tw_fin hR hS ht) hS.2.2 dX5_number_94
  · replace h := it_o c4 h
    refine lv_aload_n hx hb dX5_number_86 rfl (lv_at hl 0 rfl) ?_
    refine lv_iconst (v := 2) hx hb dX5_number_87 (by decide) ?_
    replace h := bo_o h
    obtain ⟨T6, e5, h⟩ := h
    refine tw_callV 1 (As := [.int 2]) (rest := []) (v := none) (T' := T6) (st1 := []) hx hb hml hown hts hK hR (fun _ h9 => h9) (tw_A2 hR) hS (mX5_fails e5) (lw_V q2582 q2584 qs61 q137 q2585) (by decide +kernel) (Nat.le_of_ble_eq_true rfl) (Nat.le_of_ble_eq_true rfl) (Nat.zero_le _) (Nat.zero_le _) rfl hl.1 (Nat.le_of_ble_eq_true rfl) dX5_number_88 rfl rfl (fun H locs hR hS => ?_)
    refine lv_iload_n hx hb dX5_number_91 rfl (lv_at hl 1 rfl) ?_
    have eR := Option.some.inj h
    subst eR
    exact W.iret (v := v1) hx hb hr (fun t ht _ => tw_fin hR hS ht) hS.2.2 dX5_number_92
noncomputable def fX5_number_b32 (v1 : Int32) (v2 : Int32) (v3 : Int32) (T : TW) : Option (Sum (Int32 × TW) ((Int32 × TW))) :=
  b2_ (fX5_here T) fun x3 T2 =>
  b2_ (fX5_in x3 48 57 T2) fun x6 T5 =>
  if x6 = 0 then (
    (fX5_number_b77 v1 v2 v3 T5).map (fun y => (.inr y))
  ) else (
    b2_ (fX5_here T5) fun x10 T9 =>
    nm_ (mnI 10000000 (((10 * v3) + x10) - 48)) fun x11 =>
    nm_ (tsI T9 9 ((tI T9 9) + 1)) fun T13 =>
    some (.inl (x11, T13))
  )
theorem bX5_number_32 {p : Program} {l : Launch} {e : Env} {s : State} {m : MethodId} {args : Array Value} {below : List Frame} {meth : Method} {c : Code} {H : Heap} {locs : List Loc} {ls : Array Slot} {G : gE} {o : Nat} (B : gB G RX5 cX5_number 4 (some .int) p s m args meth c) {v1 : Int32} {v2 : Int32} {v3 : Int32} {T : TW} {x : Sum (Int32 × TW) ((Int32 × TW))} {r : (Int32 × TW)} (h : fX5_number_b32 v1 v2 v3 T = some x)  (k32 : ∀ (v3' : Int32) (T' : TW), x = (.inl (v3', T')) → ∀ (H : Heap) (locs : List Loc) (ls : Array Slot), RepT G o (T') H → va_S (tFr o) s.heap H locs → lv_has ls 4 [(0, .ref o), (1, .int v1), (2, .int v2), (3, .int v3')] → W p l e (gRm 2 40) s m args below meth c H locs 0 0 (twZ below args s G o (some (.int r.1)) r.2) (F0 m 32 ls [])) (kR : ∀ q, x = (.inr q) → q = r) (hR : RepT G o T H) (hS : va_S (tFr o) s.heap H locs) (hl : lv_has ls 4 [(0, .ref o), (1, .int v1), (2, .int v2), (3, .int v3)]) : W p l e (gRm 2 40) s m args below meth c H locs 0 0 (twZ below args s G o (some (.int r.1)) r.2) (F0 m 32 ls []) := by
  have B0 := B
  obtain ⟨hx, hb, hml, hown, hts, hr, hlk, hK⟩ := B0
  unfold fX5_number_b32 at h
  refine lv_aload_n hx hb dX5_number_32 rfl (lv_at hl 0 rfl) ?_
  replace h := b2_o h
  obtain ⟨x3, T2, e1, h⟩ := h
  refine tw_callV 0 (As := []) (rest := []) (v := (some (.int x3))) (T' := T2) (st1 := [.int x3]) hx hb hml hown hts hK hR (fun _ h9 => h9) (tw_A2 hR) hS (mX5_here e1) (lw_V q2558 q2560 qs59 q137 q2561) (by decide +kernel) (Nat.le_of_ble_eq_true rfl) (Nat.le_of_ble_eq_true rfl) (Nat.zero_le _) (Nat.zero_le _) rfl hl.1 (Nat.le_of_ble_eq_true rfl) dX5_number_33 rfl rfl (fun H locs hR hS => ?_)
  refine lv_bipush (v := 48) hx hb dX5_number_36 (by decide) ?_
  refine lv_bipush (v := 57) hx hb dX5_number_38 (by decide) ?_
  replace h := b2_o h
  obtain ⟨x6, T5, e4, h⟩ := h
  refine tw_callS 3 (As := [.int x3, .int 48, .int 57]) (rest := []) (v := (some (.int x6))) (T' := T5) (st1 := [.int x6]) hx hb hml hown hts hK hR (fun _ h9 => h9) (tw_A2 hR) hS (mX5_in e4) (lw_S q2562 q2563 q137 q2564) (by decide +kernel) (Nat.le_of_ble_eq_true rfl) (Nat.le_of_ble_eq_true rfl) (Nat.zero_le _) (Nat.zero_le _) rfl hl.1 (Nat.le_of_ble_eq_true rfl) dX5_number_40 rfl rfl (fun H locs hR hS => ?_)
  refine lv_if_eq (tgt := 77) hx hb dX5_number_43 (by decide) (fun c7 => ?_) (fun c7 => ?_)
  · replace h := it_o c7 h
    obtain ⟨y, h, ey⟩ := mp_o h
    have ey := kR _ ey.symm
    subst ey
    exact bX5_number_77 B h  hR hS (lv_sub hl [0, 1, 2, 3] rfl)
  · replace h := if_o c7 h
    refine lv_ldc (v := 10000000) hx hb hown (hts _ q2590) dX5_number_46 ?_
    refine lv_bipush (v := 10) hx hb dX5_number_48 (by decide) ?_
    refine lv_iload_n hx hb dX5_number_50 rfl (lv_at hl 3 rfl) ?_
    refine lv_imul hx hb dX5_number_51 ?_
    refine lv_aload_n hx hb dX5_number_52 rfl (lv_at hl 0 rfl) ?_
    replace h := b2_o h
    obtain ⟨x10, T9, e8, h⟩ := h
    refine tw_callV 0 (As := []) (rest := [.int (10 * v3), .int 10000000]) (v := (some (.int x10))) (T' := T9) (st1 := [.int x10, .int (10 * v3), .int 10000000]) hx hb hml hown hts hK hR (fun _ h9 => h9) (tw_A2 hR) hS (mX5_here e8) (lw_V q2558 q2560 qs59 q137 q2561) (by decide +kernel) (Nat.le_of_ble_eq_true rfl) (Nat.le_of_ble_eq_true rfl) (Nat.zero_le _) (Nat.zero_le _) rfl hl.1 (Nat.le_of_ble_eq_true rfl) dX5_number_53 rfl rfl (fun H locs hR hS => ?_)
    refine lv_iadd hx hb dX5_number_56 ?_
    refine lv_bipush (v := 48) hx hb dX5_number_57 (by decide) ?_
    refine lv_isub hx hb dX5_number_59 ?_
    replace h := nm_o h
    obtain ⟨x11, e12, h⟩ := h
    refine va_mmin hx hb (hml.trans hl.1.symm) hown (hts _ q2591) (hts _ q313) (hts _ q127) (hts _ q314) (Nat.le_of_ble_eq_true rfl) (Nat.le_of_ble_eq_true rfl) (Nat.zero_le _) (Nat.zero_le _) dX5_number_60 ?_
    refine W.eq (g2 := F0 m 63 ls [.int x11]) (by rw [e12]; rfl) ?_
    refine lv_istore_n (lv' := [(3, .int x11), (0, .ref o), (1, .int v1), (2, .int v2)]) hx hb dX5_number_63 rfl hl (by decide) rfl (fun ls hl => ?_)
    refine lv_aload_n hx hb dX5_number_64 rfl (lv_at hl 1 rfl) ?_
    refine lv_dup hx hb dX5_number_65 rfl ?_
    refine tw_get (k := 9) (v := .int (tI T9 9)) hx hb hts hown hK hR (by decide) q2442 rfl (fun _ h9 => h9) dX5_number_66 ?_
    refine lv_iconst (v := 1) hx hb dX5_number_69 (by decide) ?_
    refine lv_iadd hx hb dX5_number_70 ?_
    replace h := nm_o h
    obtain ⟨T13, e14, h⟩ := h
    refine tw_putI (k := 9) (x := (tI T9 9) + 1) (ty := .int) (T' := T13) hx hb hts hown hK hR (fun _ h9 => h9) hS (by decide) rfl e14 q2442 (fun _ h9 => h9) rfl (by decide +kernel) rfl rfl dX5_number_71 (fun H locs hR hS => ?_)
    refine lv_goto (tgt := 32) hx hb dX5_number_74 (by decide) ?_
    exact k32 _ _ (Option.some.inj h).symm H locs ls hR hS (lv_sub hl [1, 2, 3, 0] rfl)
noncomputable def fX5_number_l32 (v1 : Int32) (v2 : Int32) (v3 : Int32) (T : TW) : Option ((Int32 × TW)) := whileO (fun q => fX5_number_b32 v1 v2 q.1 q.2) (v3, T)
theorem lX5_number_32 {p : Program} {l : Launch} {e : Env} {s : State} {m : MethodId} {args : Array Value} {below : List Frame} {meth : Method} {c : Code} {G : gE} {o : Nat} (B : gB G RX5 cX5_number 4 (some .int) p s m args meth c) {v1 : Int32} {v2 : Int32} {r : (Int32 × TW)}   : ∀ (v3 : Int32) (T : TW), fX5_number_l32 v1 v2 v3 T = some r → ∀ (H : Heap) (locs : List Loc) (ls : Array Slot), RepT G o (T) H → va_S (tFr o) s.heap H locs → lv_has ls 4 [(0, .ref o), (1, .int v1), (2, .int v2), (3, .int v3)] → W p l e (gRm 2 40) s m args below meth c H locs 0 0 (twZ below args s G o (some (.int r.1)) r.2) (F0 m 32 ls []) := by
  intro v3 T h
  refine wh_walk (body := (fun q => fX5_number_b32 v1 v2 q.1 q.2)) (P := (fun q : (Int32 × TW) => ∀ (H : Heap) (locs : List Loc) (ls : Array Slot), RepT G o (q.2) H → va_S (tFr o) s.heap H locs → lv_has ls 4 [(0, .ref o), (1, .int v1), (2, .int v2), (3, .int (q.1))] → W p l e (gRm 2 40) s m args below meth c H locs 0 0 (twZ below args s G o (some (.int r.1)) r.2) (F0 m 32 ls []))) (r := r) ?_ (v3, T) h
  intro q y hy hL hr H locs ls hR hS hl
  exact bX5_number_32 (r := r) B hy (fun a0 a1 e => hL (a0, a1) e) (fun q e => hr q e) hR hS hl
noncomputable def fX5_number (v1 : Int32) (v2 : Int32) (T : TW) : Option ((Int32 × TW)) :=
  if tI T 11 = 0 then (
    b2_ (fX5_next T) fun x4 T3 =>
    b2_ (fX5_in x4 48 57 T3) fun x7 T6 =>
    if x7 = 0 then (
      (fX5_fails 1 T6).bind fun T10 =>
      some (v1, T10)
    ) else (
      fX5_number_l32 v1 v2 0 T6
    )
  ) else (
    some (v1, T)
  )
theorem bX5_number_0 {p : Program} {l : Launch} {e : Env} {s : State} {m : MethodId} {args : Array Value} {below : List Frame} {meth : Method} {c : Code} {H : Heap} {locs : List Loc} {ls : Array Slot} {G : gE} {o : Nat} (B : gB G RX5 cX5_number 4 (some .int) p s m args meth c) {v1 : Int32} {v2 : Int32} {T : TW} {r : (Int32 × TW)} (h : fX5_number v1 v2 T = some r)   (hR : RepT G o T H) (hS : va_S (tFr o) s.heap H locs) (hl : lv_has ls 4 [(0, .ref o), (1, .int v1), (2, .int v2)]) : W p l e (gRm 2 40) s m args below meth c H locs 0 0 (twZ below args s G o (some (.int r.1)) r.2) (F0 m 0 ls []) := by
  have B0 := B
  obtain ⟨hx, hb, hml, hown, hts, hr, hlk, hK⟩ := B0
  unfold fX5_number at h
  refine lv_aload_n hx hb dX5_number_0 rfl (lv_at hl 0 rfl) ?_
  refine tw_get (k := 11) (v := .int (tI T 11)) hx hb hts hown hK hR (by decide) q2444 rfl (fun _ h9 => h9) dX5_number_1 ?_
  refine lv_if_eq (tgt := 9) hx hb dX5_number_4 (by decide) (fun c1 => ?_) (fun c1 => ?_)
  · replace h := it_o c1 h
    refine lv_aload_n hx hb dX5_number_9 rfl (lv_at hl 0 rfl) ?_
    replace h := b2_o h
    obtain ⟨x4, T3, e2, h⟩ := h
    refine tw_callV 0 (As := []) (rest := []) (v := (some (.int x4))) (T' := T3) (st1 := [.int x4]) hx hb hml hown hts hK hR (fun _ h9 => h9) (tw_A2 hR) hS (mX5_next e2) (lw_V q2554 q2556 qs58 q137 q2557) (by decide +kernel) (Nat.le_of_ble_eq_true rfl) (Nat.le_of_ble_eq_true rfl) (Nat.zero_le _) (Nat.zero_le _) rfl hl.1 (Nat.le_of_ble_eq_true rfl) dX5_number_10 rfl rfl (fun H locs hR hS => ?_)
    refine lv_bipush (v := 48) hx hb dX5_number_13 (by decide) ?_
    refine lv_bipush (v := 57) hx hb dX5_number_15 (by decide) ?_
    replace h := b2_o h
    obtain ⟨x7, T6, e5, h⟩ := h
    refine tw_callS 3 (As := [.int x4, .int 48, .int 57]) (rest := []) (v := (some (.int x7))) (T' := T6) (st1 := [.int x7]) hx hb hml hown hts hK hR (fun _ h9 => h9) (tw_A2 hR) hS (mX5_in e5) (lw_S q2562 q2563 q137 q2564) (by decide +kernel) (Nat.le_of_ble_eq_true rfl) (Nat.le_of_ble_eq_true rfl) (Nat.zero_le _) (Nat.zero_le _) rfl hl.1 (Nat.le_of_ble_eq_true rfl) dX5_number_17 rfl rfl (fun H locs hR hS => ?_)
    refine lv_if_ne (tgt := 30) hx hb dX5_number_20 (by decide) (fun c8 => ?_) (fun c8 => ?_)
    · replace h := if_o c8 h
      refine lv_iconst (v := 0) hx hb dX5_number_30 (by decide) ?_
      refine lv_istore_n (lv' := [(3, .int 0), (0, .ref o), (1, .int v1), (2, .int v2)]) hx hb dX5_number_31 rfl hl (by decide) rfl (fun ls hl => ?_)
      exact lX5_number_32 B _ _ h H locs ls hR hS (lv_sub hl [1, 2, 3, 0] rfl)
    · replace h := it_o c8 h
      refine lv_aload_n hx hb dX5_number_23 rfl (lv_at hl 0 rfl) ?_
      refine lv_iconst (v := 1) hx hb dX5_number_24 (by decide) ?_
      replace h := bo_o h
      obtain ⟨T10, e9, h⟩ := h
      refine tw_callV 1 (As := [.int 1]) (rest := []) (v := none) (T' := T10) (st1 := []) hx hb hml hown hts hK hR (fun _ h9 => h9) (tw_A2 hR) hS (mX5_fails e9) (lw_V q2582 q2584 qs61 q137 q2585) (by decide +kernel) (Nat.le_of_ble_eq_true rfl) (Nat.le_of_ble_eq_true rfl) (Nat.zero_le _) (Nat.zero_le _) rfl hl.1 (Nat.le_of_ble_eq_true rfl) dX5_number_25 rfl rfl (fun H locs hR hS => ?_)
      refine lv_iload_n hx hb dX5_number_28 rfl (lv_at hl 1 rfl) ?_
      have eR := Option.some.inj h
      subst eR
      exact W.iret (v := v1) hx hb hr (fun t ht _ => tw_fin hR hS ht) hS.2.2 dX5_number_29
  · replace h := if_o c1 h
    refine lv_iload_n hx hb dX5_number_7 rfl (lv_at hl 1 rfl) ?_
    have eR := Option.some.inj h
    subst eR
    exact W.iret (v := v1) hx hb hr (fun t ht _ => tw_fin hR hS ht) hS.2.2 dX5_number_8
theorem mX5_number {l : Launch} {G : gE} {o : Nat} {v1 : Int32} {v2 : Int32} {T : TW} {r : (Int32 × TW)}  (h : fX5_number v1 v2 T = some r) : twM l G o yX5_number cX5_number 4 (some .int) 2 40 [.ref o, .int v1, .int v2] T (some (.int r.1)) r.2 :=
  tw_of (by decide +kernel) (Nat.le_of_ble_eq_true rfl) (fun p e s m args below meth c ls B hR hl => bX5_number_0 B h hR va_S.rf hl)
noncomputable def fX5_isMore  (T : TW) : Option ((Int32 × TW)) :=
  if tI T 11 = 0 then (
    b2_ (fX5_next T) fun x4 T3 =>
    if 0 ≤ x4 then (
      b2_ (fX5_here T3) fun x8 T7 =>
      if x8 = 59 then (
        nm_ (tsI T7 9 ((tI T7 9) + 1)) fun T10 =>
        nm_ (tsI T10 13 ((tI T10 13) + 1)) fun T12 =>
        some (1, T12)
      ) else (
        (fX5_fails 1 T7).bind fun T15 =>
        some (0, T15)
      )
    ) else (
      some (0, T3)
    )
  ) else (
    some (0, T)
  )
theorem bX5_isMore_0 {p : Program} {l : Launch} {e : Env} {s : State} {m : MethodId} {args : Array Value} {below : List Frame} {meth : Method} {c : Code} {H : Heap} {locs : List Loc} {ls : Array Slot} {G : gE} {o : Nat} (B : gB G RX5 cX5_isMore 1 (some .boolean) p s m args meth c)  {T : TW} {r : (Int32 × TW)} (h : fX5_isMore T = some r)   (hR : RepT G o T H) (hS : va_S (tFr o) s.heap H locs) (hl : lv_has ls 1 [(0, .ref o)]) : W p l e (gRm 2 40) s m args below meth c H locs 0 0 (twZ below args s G o (some (.int r.1)) r.2) (F0 m 0 ls []) := by
  have B0 := B
  obtain ⟨hx, hb, hml, hown, hts, hr, hlk, hK⟩ := B0
  unfold fX5_isMore at h
  refine lv_aload_n hx hb dX5_isMore_0 rfl (lv_at hl 0 rfl) ?_
  refine tw_get (k := 11) (v := .int (tI T 11)) hx hb hts hown hK hR (by decide) q2444 rfl (fun _ h9 => h9) dX5_isMore_1 ?_
  refine lv_if_ne (tgt := 14) hx hb dX5_isMore_4 (by decide) (fun c1 => ?_) (fun c1 => ?_)
  · replace h := if_o c1 h
    refine lv_iconst (v := 0) hx hb dX5_isMore_14 (by decide) ?_
    have eR := Option.some.inj h
    subst eR
    exact W.zret (v := 0) hx hb hr rfl (fun t ht _ => tw_fin hR hS ht) hS.2.2 dX5_isMore_15
  · replace h := it_o c1 h
    refine lv_aload_n hx hb dX5_isMore_7 rfl (lv_at hl 0 rfl) ?_
    replace h := b2_o h
    obtain ⟨x4, T3, e2, h⟩ := h
    refine tw_callV 0 (As := []) (rest := []) (v := (some (.int x4))) (T' := T3) (st1 := [.int x4]) hx hb hml hown hts hK hR (fun _ h9 => h9) (tw_A2 hR) hS (mX5_next e2) (lw_V q2554 q2556 qs58 q137 q2557) (by decide +kernel) (Nat.le_of_ble_eq_true rfl) (Nat.le_of_ble_eq_true rfl) (Nat.zero_le _) (Nat.zero_le _) rfl hl.1 (Nat.le_of_ble_eq_true rfl) dX5_isMore_8 rfl rfl (fun H locs hR hS => ?_)
    refine lv_if_ge (tgt := 16) hx hb dX5_isMore_11 (by decide) (fun c5 => ?_) (fun c5 => ?_)
    · replace h := it_o c5 h
      refine lv_aload_n hx hb dX5_isMore_16 rfl (lv_at hl 0 rfl) ?_
      replace h := b2_o h
      obtain ⟨x8, T7, e6, h⟩ := h
      refine tw_callV 0 (As := []) (rest := []) (v := (some (.int x8))) (T' := T7) (st1 := [.int x8]) hx hb hml hown hts hK hR (fun _ h9 => h9) (tw_A2 hR) hS (mX5_here e6) (lw_V q2558 q2560 qs59 q137 q2561) (by decide +kernel) (Nat.le_of_ble_eq_true rfl) (Nat.le_of_ble_eq_true rfl) (Nat.zero_le _) (Nat.zero_le _) rfl hl.1 (Nat.le_of_ble_eq_true rfl) dX5_isMore_17 rfl rfl (fun H locs hR hS => ?_)
      refine lv_bipush (v := 59) hx hb dX5_isMore_20 (by decide) ?_
      refine lv_icmp_eq (tgt := 32) hx hb dX5_isMore_22 (by decide) (fun c9 => ?_) (fun c9 => ?_)
      · replace h := it_o c9 h
        refine lv_aload_n hx hb dX5_isMore_32 rfl (lv_at hl 0 rfl) ?_
        refine lv_dup hx hb dX5_isMore_33 rfl ?_
        refine tw_get (k := 9) (v := .int (tI T7 9)) hx hb hts hown hK hR (by decide) q2442 rfl (fun _ h9 => h9) dX5_isMore_34 ?_
        refine lv_iconst (v := 1) hx hb dX5_isMore_37 (by decide) ?_
        refine lv_iadd hx hb dX5_isMore_38 ?_
        replace h := nm_o h
        obtain ⟨T10, e11, h⟩ := h
        refine tw_putI (k := 9) (x := (tI T7 9) + 1) (ty := .int) (T' := T10) hx hb hts hown hK hR (fun _ h9 => h9) hS (by decide) rfl e11 q2442 (fun _ h9 => h9) rfl (by decide +kernel) rfl rfl dX5_isMore_39 (fun H locs hR hS => ?_)
        refine lv_aload_n hx hb dX5_isMore_42 rfl (lv_at hl 0 rfl) ?_
        refine lv_dup hx hb dX5_isMore_43 rfl ?_
        refine tw_get (k := 13) (v := .int (tI T10 13)) hx hb hts hown hK hR (by decide) q2446 rfl (fun _ h9 => h9) dX5_isMore_44 ?_
        refine lv_iconst (v := 1) hx hb dX5_isMore_47 (by decide) ?_
        refine lv_iadd hx hb dX5_isMore_48 ?_
        replace h := nm_o h
        obtain ⟨T12, e13, h⟩ := h
        refine tw_putI (k := 13) (x := (tI T10 13) + 1) (ty := .int) (T' := T12) hx hb hts hown hK hR (fun _ h9 => h9) hS (by decide) rfl e13 q2446 (fun _ h9 => h9) rfl (by decide +kernel) rfl rfl dX5_isMore_49 (fun H locs hR hS => ?_)
        refine lv_iconst (v := 1) hx hb dX5_isMore_52 (by decide) ?_
        have eR := Option.some.inj h
        subst eR
        exact W.zret (v := 1) hx hb hr rfl (fun t ht _ => tw_fin hR hS ht) hS.2.2 dX5_isMore_53
      · replace h := if_o c9 h
        refine lv_aload_n hx hb dX5_isMore_25 rfl (lv_at hl 0 rfl) ?_
        refine lv_iconst (v := 1) hx hb dX5_isMore_26 (by decide) ?_
        replace h := bo_o h
        obtain ⟨T15, e14, h⟩ := h
        refine tw_callV 1 (As := [.int 1]) (rest := []) (v := none) (T' := T15) (st1 := []) hx hb hml hown hts hK hR (fun _ h9 => h9) (tw_A2 hR) hS (mX5_fails e14) (lw_V q2582 q2584 qs61 q137 q2585) (by decide +kernel) (Nat.le_of_ble_eq_true rfl) (Nat.le_of_ble_eq_true rfl) (Nat.zero_le _) (Nat.zero_le _) rfl hl.1 (Nat.le_of_ble_eq_true rfl) dX5_isMore_27 rfl rfl (fun H locs hR hS => ?_)
        refine lv_iconst (v := 0) hx hb dX5_isMore_30 (by decide) ?_
        have eR := Option.some.inj h
        subst eR
        exact W.zret (v := 0) hx hb hr rfl (fun t ht _ => tw_fin hR hS ht) hS.2.2 dX5_isMore_31
    · replace h := if_o c5 h
      refine lv_iconst (v := 0) hx hb dX5_isMore_14 (by decide) ?_
      have eR := Option.some.inj h
      subst eR
      exact W.zret (v := 0) hx hb hr rfl (fun t ht _ => tw_fin hR hS ht) hS.2.2 dX5_isMore_15
theorem mX5_isMore {l : Launch} {G : gE} {o : Nat}  {T : TW} {r : (Int32 × TW)}  (h : fX5_isMore T = some r) : twM l G o yX5_isMore cX5_isMore 1 (some .boolean) 2 40 [.ref o] T (some (.int r.1)) r.2 :=
  tw_of (by decide +kernel) (Nat.le_of_ble_eq_true rfl) (fun p e s m args below meth c ls B hR hl => bX5_isMore_0 B h hR va_S.rf hl)
noncomputable def fX5_atArc (v0 : Int32) (v1 : Int32) (T : TW) : Option ((Int32 × TW)) :=
  some ((4 + (6 * v0)) + v1, T)
theorem bX5_atArc_0 {p : Program} {l : Launch} {e : Env} {s : State} {m : MethodId} {args : Array Value} {below : List Frame} {meth : Method} {c : Code} {H : Heap} {locs : List Loc} {ls : Array Slot} {G : gE} {o : Nat} (B : gB G RX5 cX5_atArc 2 (some .int) p s m args meth c) {v0 : Int32} {v1 : Int32} {T : TW} {r : (Int32 × TW)} (h : fX5_atArc v0 v1 T = some r)   (hR : RepT G o T H) (hS : va_S (tFr o) s.heap H locs) (hl : lv_has ls 2 [(0, .int v0), (1, .int v1)]) : W p l e (gRm 0 0) s m args below meth c H locs 0 0 (twZ below args s G o (some (.int r.1)) r.2) (F0 m 0 ls []) := by
  have B0 := B
  obtain ⟨hx, hb, hml, hown, hts, hr, hlk, hK⟩ := B0
  unfold fX5_atArc at h
  refine lv_iconst (v := 4) hx hb dX5_atArc_0 (by decide) ?_
  refine lv_bipush (v := 6) hx hb dX5_atArc_1 (by decide) ?_
  refine lv_iload_n hx hb dX5_atArc_3 rfl (lv_at hl 0 rfl) ?_
  refine lv_imul hx hb dX5_atArc_4 ?_
  refine lv_iadd hx hb dX5_atArc_5 ?_
  refine lv_iload_n hx hb dX5_atArc_6 rfl (lv_at hl 1 rfl) ?_
  refine lv_iadd hx hb dX5_atArc_7 ?_
  have eR := Option.some.inj h
  subst eR
  exact W.iret (v := (4 + (6 * v0)) + v1) hx hb hr (fun t ht _ => tw_fin hR hS ht) hS.2.2 dX5_atArc_8
theorem mX5_atArc {l : Launch} {G : gE} {o : Nat} {v0 : Int32} {v1 : Int32} {T : TW} {r : (Int32 × TW)}  (h : fX5_atArc v0 v1 T = some r) : twM l G o yX5_atArc cX5_atArc 2 (some .int) 0 0 [.int v0, .int v1] T (some (.int r.1)) r.2 :=
  tw_of (by decide +kernel) (Nat.le_of_ble_eq_true rfl) (fun p e s m args below meth c ls B hR hl => bX5_atArc_0 B h hR va_S.rf hl)
noncomputable def fX5_ends (v1 : Int32) (T : TW) : Option (TW) :=
  (rd_ (tA T 2) 172 0).bind fun x1 =>
  b2_ (fX5_number 0 (x1 - 1) T) fun x5 T4 =>
  (wrA T4 2 172 v1 x5).bind fun T6 =>
  (rd_ (tA T6 2) 172 0).bind fun x8 =>
  b2_ (fX5_number 0 (x8 - 1) T6) fun x12 T11 =>
  (wrA T11 2 172 (v1 + 1) x12).bind fun T13 =>
  (rd_ (tA T13 2) 172 v1).bind fun x15 =>
  (rd_ (tA T13 2) 172 (v1 + 1)).bind fun x17 =>
  if x15 = x17 then (
    (fX5_fails 3 T13).bind fun T21 =>
    some T21
  ) else (
    some T13
  )
theorem bX5_ends_0 {p : Program} {l : Launch} {e : Env} {s : State} {m : MethodId} {args : Array Value} {below : List Frame} {meth : Method} {c : Code} {H : Heap} {locs : List Loc} {ls : Array Slot} {G : gE} {o : Nat} (B : gB G RX5 cX5_ends 2 none p s m args meth c) {v1 : Int32} {T : TW} {r : TW} (h : fX5_ends v1 T = some r)   (hR : RepT G o T H) (hS : va_S (tFr o) s.heap H locs) (hl : lv_has ls 2 [(0, .ref o), (1, .int v1)]) : W p l e (gRm 3 63) s m args below meth c H locs 0 0 (twZ below args s G o none r) (F0 m 0 ls []) := by
  have B0 := B
  obtain ⟨hx, hb, hml, hown, hts, hr, hlk, hK⟩ := B0
  unfold fX5_ends at h
  refine lv_aload_n hx hb dX5_ends_0 rfl (lv_at hl 0 rfl) ?_
  refine tw_get (k := 1) (v := .ref (o + 2)) hx hb hts hown hK hR (by decide) q2434 rfl (fun _ h9 => h9) dX5_ends_1 ?_
  refine lv_iload_n hx hb dX5_ends_4 rfl (lv_at hl 1 rfl) ?_
  refine lv_aload_n hx hb dX5_ends_5 rfl (lv_at hl 0 rfl) ?_
  refine lv_iconst (v := 0) hx hb dX5_ends_6 (by decide) ?_
  refine lv_aload_n hx hb dX5_ends_7 rfl (lv_at hl 0 rfl) ?_
  refine tw_get (k := 1) (v := .ref (o + 2)) hx hb hts hown hK hR (by decide) q2434 rfl (fun _ h9 => h9) dX5_ends_8 ?_
  refine lv_iconst (v := 0) hx hb dX5_ends_11 (by decide) ?_
  replace h := bo_o h
  obtain ⟨x1, e2, h⟩ := h
  refine tw_iald (q := 2) hx hb hK hR rfl e2 dX5_ends_12 ?_
  refine lv_iconst (v := 1) hx hb dX5_ends_13 (by decide) ?_
  refine lv_isub hx hb dX5_ends_14 ?_
  replace h := b2_o h
  obtain ⟨x5, T4, e3, h⟩ := h
  refine tw_callV 2 (As := [.int 0, .int (x1 - 1)]) (rest := [.int v1, .ref (o + 2)]) (v := (some (.int x5))) (T' := T4) (st1 := [.int x5, .int v1, .ref (o + 2)]) hx hb hml hown hts hK hR (fun _ h9 => h9) (tw_A2 hR) hS (mX5_number e3) (lw_V q2586 q2588 qs62 q137 q2589) (by decide +kernel) (Nat.le_of_ble_eq_true rfl) (Nat.le_of_ble_eq_true rfl) (Nat.zero_le _) (Nat.zero_le _) rfl hl.1 (Nat.le_of_ble_eq_true rfl) dX5_ends_15 rfl rfl (fun H locs hR hS => ?_)
  replace h := bo_o h
  obtain ⟨T6, e7, h⟩ := h
  refine tw_iast (q := 2) hx hb hK hR (fun _ h9 => h9) hS rfl (fun _ => rfl) e7 dX5_ends_18 (fun H locs hR hS => ?_)
  refine lv_aload_n hx hb dX5_ends_19 rfl (lv_at hl 0 rfl) ?_
  refine tw_get (k := 1) (v := .ref (o + 2)) hx hb hts hown hK hR (by decide) q2434 rfl (fun _ h9 => h9) dX5_ends_20 ?_
  refine lv_iload_n hx hb dX5_ends_23 rfl (lv_at hl 1 rfl) ?_
  refine lv_iconst (v := 1) hx hb dX5_ends_24 (by decide) ?_
  refine lv_iadd hx hb dX5_ends_25 ?_
  refine lv_aload_n hx hb dX5_ends_26 rfl (lv_at hl 0 rfl) ?_
  refine lv_iconst (v := 0) hx hb dX5_ends_27 (by decide) ?_
  refine lv_aload_n hx hb dX5_ends_28 rfl (lv_at hl 0 rfl) ?_
  refine tw_get (k := 1) (v := .ref (o + 2)) hx hb hts hown hK hR (by decide) q2434 rfl (fun _ h9 => h9) dX5_ends_29 ?_
  refine lv_iconst (v := 0) hx hb dX5_ends_32 (by decide) ?_
  replace h := bo_o h
  obtain ⟨x8, e9, h⟩ := h
  refine tw_iald (q := 2) hx hb hK hR rfl e9 dX5_ends_33 ?_
  refine lv_iconst (v := 1) hx hb dX5_ends_34 (by decide) ?_
  refine lv_isub hx hb dX5_ends_35 ?_
  replace h := b2_o h
  obtain ⟨x12, T11, e10, h⟩ := h
  refine tw_callV 2 (As := [.int 0, .int (x8 - 1)]) (rest := [.int (v1 + 1), .ref (o + 2)]) (v := (some (.int x12))) (T' := T11) (st1 := [.int x12, .int (v1 + 1), .ref (o + 2)]) hx hb hml hown hts hK hR (fun _ h9 => h9) (tw_A2 hR) hS (mX5_number e10) (lw_V q2586 q2588 qs62 q137 q2589) (by decide +kernel) (Nat.le_of_ble_eq_true rfl) (Nat.le_of_ble_eq_true rfl) (Nat.zero_le _) (Nat.zero_le _) rfl hl.1 (Nat.le_of_ble_eq_true rfl) dX5_ends_36 rfl rfl (fun H locs hR hS => ?_)
  replace h := bo_o h
  obtain ⟨T13, e14, h⟩ := h
  refine tw_iast (q := 2) hx hb hK hR (fun _ h9 => h9) hS rfl (fun _ => rfl) e14 dX5_ends_39 (fun H locs hR hS => ?_)
  refine lv_aload_n hx hb dX5_ends_40 rfl (lv_at hl 0 rfl) ?_
  refine tw_get (k := 1) (v := .ref (o + 2)) hx hb hts hown hK hR (by decide) q2434 rfl (fun _ h9 => h9) dX5_ends_41 ?_
  refine lv_iload_n hx hb dX5_ends_44 rfl (lv_at hl 1 rfl) ?_
  replace h := bo_o h
  obtain ⟨x15, e16, h⟩ := h
  refine tw_iald (q := 2) hx hb hK hR rfl e16 dX5_ends_45 ?_
  refine lv_aload_n hx hb dX5_ends_46 rfl (lv_at hl 0 rfl) ?_
  refine tw_get (k := 1) (v := .ref (o + 2)) hx hb hts hown hK hR (by decide) q2434 rfl (fun _ h9 => h9) dX5_ends_47 ?_
  refine lv_iload_n hx hb dX5_ends_50 rfl (lv_at hl 1 rfl) ?_
  refine lv_iconst (v := 1) hx hb dX5_ends_51 (by decide) ?_
  refine lv_iadd hx hb dX5_ends_52 ?_
  replace h := bo_o h
  obtain ⟨x17, e18, h⟩ := h
  refine tw_iald (q := 2) hx hb hK hR rfl e18 dX5_ends_53 ?_
  refine lv_icmp_ne (tgt := 62) hx hb dX5_ends_54 (by decide) (fun c19 => ?_) (fun c19 => ?_)
  · replace h := if_o c19 h
    have eR := Option.some.inj h
    subst eR
    exact W.vret hx hb hr (fun t ht _ => tw_fin hR hS ht) hS.2.2 dX5_ends_62
  · replace h := it_o c19 h
    refine lv_aload_n hx hb dX5_ends_57 rfl (lv_at hl 0 rfl) ?_
    refine lv_iconst (v := 3) hx hb dX5_ends_58 (by decide) ?_
    replace h := bo_o h
    obtain ⟨T21, e20, h⟩ := h
    refine tw_callV 1 (As := [.int 3]) (rest := []) (v := none) (T' := T21) (st1 := []) hx hb hml hown hts hK hR (fun _ h9 => h9) (tw_A2 hR) hS (mX5_fails e20) (lw_V q2582 q2584 qs61 q137 q2585) (by decide +kernel) (Nat.le_of_ble_eq_true rfl) (Nat.le_of_ble_eq_true rfl) (Nat.zero_le _) (Nat.zero_le _) rfl hl.1 (Nat.le_of_ble_eq_true rfl) dX5_ends_59 rfl rfl (fun H locs hR hS => ?_)
    have eR := Option.some.inj h
    subst eR
    exact W.vret hx hb hr (fun t ht _ => tw_fin hR hS ht) hS.2.2 dX5_ends_62
theorem mX5_ends {l : Launch} {G : gE} {o : Nat} {v1 : Int32} {T : TW} {r : TW}  (h : fX5_ends v1 T = some r) : twM l G o yX5_ends cX5_ends 2 none 3 63 [.ref o, .int v1] T none r :=
  tw_of (by decide +kernel) (Nat.le_of_ble_eq_true rfl) (fun p e s m args below meth c ls B hR hl => bX5_ends_0 B h hR va_S.rf hl)
noncomputable def fX5_arcPart_b103  (T : TW) : Option (TW) :=
  (rd_ (tA T 2) 172 1).bind fun x1 =>
  (wrA T 2 172 1 (x1 + 1)).bind fun T3 =>
  some T3
theorem bX5_arcPart_103 {p : Program} {l : Launch} {e : Env} {s : State} {m : MethodId} {args : Array Value} {below : List Frame} {meth : Method} {c : Code} {H : Heap} {locs : List Loc} {ls : Array Slot} {G : gE} {o : Nat} (B : gB G RX5 cX5_arcPart 2 none p s m args meth c)  {T : TW} {r : TW} (h : fX5_arcPart_b103 T = some r)   (hR : RepT G o T H) (hS : va_S (tFr o) s.heap H locs) (hl : lv_has ls 2 [(0, .ref o)]) : W p l e (gRm 8 350) s m args below meth c H locs 0 0 (twZ below args s G o none r) (F0 m 103 ls []) := by
  have B0 := B
  obtain ⟨hx, hb, hml, hown, hts, hr, hlk, hK⟩ := B0
  unfold fX5_arcPart_b103 at h
  refine lv_aload_n hx hb dX5_arcPart_103 rfl (lv_at hl 0 rfl) ?_
  refine tw_get (k := 1) (v := .ref (o + 2)) hx hb hts hown hK hR (by decide) q2434 rfl (fun _ h9 => h9) dX5_arcPart_104 ?_
  refine lv_iconst (v := 1) hx hb dX5_arcPart_107 (by decide) ?_
  refine lv_dup2_11 hx hb dX5_arcPart_108 rfl rfl ?_
  replace h := bo_o h
  obtain ⟨x1, e2, h⟩ := h
  refine tw_iald (q := 2) hx hb hK hR rfl e2 dX5_arcPart_109 ?_
  refine lv_iconst (v := 1) hx hb dX5_arcPart_110 (by decide) ?_
  refine lv_iadd hx hb dX5_arcPart_111 ?_
  replace h := bo_o h
  obtain ⟨T3, e4, h⟩ := h
  refine tw_iast (q := 2) hx hb hK hR (fun _ h9 => h9) hS rfl (fun _ => rfl) e4 dX5_arcPart_112 (fun H locs hR hS => ?_)
  have eR := Option.some.inj h
  subst eR
  exact W.vret hx hb hr (fun t ht _ => tw_fin hR hS ht) hS.2.2 dX5_arcPart_113
noncomputable def fX5_arcPart_b85 (v1 : Int32) (T : TW) : Option (TW) :=
  b2_ (fX5_atArc v1 3 T) fun x3 T2 =>
  b2_ (fX5_number 1 9999 T2) fun x6 T5 =>
  (wrA T5 2 172 x3 x6).bind fun T7 =>
  fX5_arcPart_b103 T7
theorem bX5_arcPart_85 {p : Program} {l : Launch} {e : Env} {s : State} {m : MethodId} {args : Array Value} {below : List Frame} {meth : Method} {c : Code} {H : Heap} {locs : List Loc} {ls : Array Slot} {G : gE} {o : Nat} (B : gB G RX5 cX5_arcPart 2 none p s m args meth c) {v1 : Int32} {T : TW} {r : TW} (h : fX5_arcPart_b85 v1 T = some r)   (hR : RepT G o T H) (hS : va_S (tFr o) s.heap H locs) (hl : lv_has ls 2 [(0, .ref o), (1, .int v1)]) : W p l e (gRm 8 350) s m args below meth c H locs 0 0 (twZ below args s G o none r) (F0 m 85 ls []) := by
  have B0 := B
  obtain ⟨hx, hb, hml, hown, hts, hr, hlk, hK⟩ := B0
  unfold fX5_arcPart_b85 at h
  refine lv_aload_n hx hb dX5_arcPart_85 rfl (lv_at hl 0 rfl) ?_
  refine tw_get (k := 1) (v := .ref (o + 2)) hx hb hts hown hK hR (by decide) q2434 rfl (fun _ h9 => h9) dX5_arcPart_86 ?_
  refine lv_iload_n hx hb dX5_arcPart_89 rfl (lv_at hl 1 rfl) ?_
  refine lv_iconst (v := 3) hx hb dX5_arcPart_90 (by decide) ?_
  replace h := b2_o h
  obtain ⟨x3, T2, e1, h⟩ := h
  refine tw_callS 2 (As := [.int v1, .int 3]) (rest := [.ref (o + 2)]) (v := (some (.int x3))) (T' := T2) (st1 := [.int x3, .ref (o + 2)]) hx hb hml hown hts hK hR (fun _ h9 => h9) (tw_A2 hR) hS (mX5_atArc e1) (lw_S q2605 q2606 q137 q2607) (by decide +kernel) (Nat.le_of_ble_eq_true rfl) (Nat.le_of_ble_eq_true rfl) (Nat.zero_le _) (Nat.zero_le _) rfl hl.1 (Nat.le_of_ble_eq_true rfl) dX5_arcPart_91 rfl rfl (fun H locs hR hS => ?_)
  refine lv_aload_n hx hb dX5_arcPart_94 rfl (lv_at hl 0 rfl) ?_
  refine lv_iconst (v := 1) hx hb dX5_arcPart_95 (by decide) ?_
  refine lv_sipush (v := 9999) hx hb dX5_arcPart_96 (by decide) ?_
  replace h := b2_o h
  obtain ⟨x6, T5, e4, h⟩ := h
  refine tw_callV 2 (As := [.int 1, .int 9999]) (rest := [.int x3, .ref (o + 2)]) (v := (some (.int x6))) (T' := T5) (st1 := [.int x6, .int x3, .ref (o + 2)]) hx hb hml hown hts hK hR (fun _ h9 => h9) (tw_A2 hR) hS (mX5_number e4) (lw_V q2586 q2588 qs62 q137 q2589) (by decide +kernel) (Nat.le_of_ble_eq_true rfl) (Nat.le_of_ble_eq_true rfl) (Nat.zero_le _) (Nat.zero_le _) rfl hl.1 (Nat.le_of_ble_eq_true rfl) dX5_arcPart_99 rfl rfl (fun H locs hR hS => ?_)
  replace h := bo_o h
  obtain ⟨T7, e8, h⟩ := h
  refine tw_iast (q := 2) hx hb hK hR (fun _ h9 => h9) hS rfl (fun _ => rfl) e8 dX5_arcPart_102 (fun H locs hR hS => ?_)
  exact bX5_arcPart_103 B h  hR hS (lv_sub hl [0] rfl)
noncomputable def fX5_arcPart  (T : TW) : Option (TW) :=
  (rd_ (tA T 2) 172 1).bind fun x1 =>
  if x1 = 24 then (
    (fX5_fails 4 T).bind fun T5 =>
    some T5
  ) else (
    b2_ (fX5_atArc x1 0 T) fun x8 T7 =>
    (fX5_ends x8 T7).bind fun T10 =>
    b2_ (fX5_atArc x1 2 T10) fun x13 T12 =>
    b2_ (fX5_number 1 999 T12) fun x16 T15 =>
    (wrA T15 2 172 x13 x16).bind fun T17 =>
    if tI T17 11 = 0 then (
      b2_ (fX5_next T17) fun x22 T21 =>
      b2_ (fX5_in x22 97 122 T21) fun x25 T24 =>
      if x25 = 0 then (
        fX5_arcPart_b103 T24
      ) else (
        (fX5_reads T24).bind fun T28 =>
        b2_ (fX5_isWord 1 T28) fun x31 T30 =>
        if x31 = 0 then (
          (fX5_fails 1 T30).bind fun T34 =>
          fX5_arcPart_b85 x1 T34
        ) else (
          fX5_arcPart_b85 x1 T30
        )
      )
    ) else (
      fX5_arcPart_b103 T17
    )
  )
theorem bX5_arcPart_0 {p : Program} {l : Launch} {e : Env} {s : State} {m : MethodId} {args : Array Value} {below : List Frame} {meth : Method} {c : Code} {H : Heap} {locs : List Loc} {ls : Array Slot} {G : gE} {o : Nat} (B : gB G RX5 cX5_arcPart 2 none p s m args meth c)  {T : TW} {r : TW} (h : fX5_arcPart T = some r)   (hR : RepT G o T H) (hS : va_S (tFr o) s.heap H locs) (hl : lv_has ls 2 [(0, .ref o)]) : W p l e (gRm 8 350) s m args below meth c H locs 0 0 (twZ below args s G o none r) (F0 m 0 ls []) := by
  have B0 := B
  obtain ⟨hx, hb, hml, hown, hts, hr, hlk, hK⟩ := B0
  unfold fX5_arcPart at h
  refine lv_aload_n hx hb dX5_arcPart_0 rfl (lv_at hl 0 rfl) ?_
  refine tw_get (k := 1) (v := .ref (o + 2)) hx hb hts hown hK hR (by decide) q2434 rfl (fun _ h9 => h9) dX5_arcPart_1 ?_
  refine lv_iconst (v := 1) hx hb dX5_arcPart_4 (by decide) ?_
  replace h := bo_o h
  obtain ⟨x1, e2, h⟩ := h
  refine tw_iald (q := 2) hx hb hK hR rfl e2 dX5_arcPart_5 ?_
  refine lv_istore_n (lv' := [(1, .int x1), (0, .ref o)]) hx hb dX5_arcPart_6 rfl hl (by decide) rfl (fun ls hl => ?_)
  refine lv_iload_n hx hb dX5_arcPart_7 rfl (lv_at hl 0 rfl) ?_
  refine lv_bipush (v := 24) hx hb dX5_arcPart_8 (by decide) ?_
  refine lv_icmp_ne (tgt := 19) hx hb dX5_arcPart_10 (by decide) (fun c3 => ?_) (fun c3 => ?_)
  · replace h := if_o c3 h
    refine lv_aload_n hx hb dX5_arcPart_19 rfl (lv_at hl 1 rfl) ?_
    refine lv_iload_n hx hb dX5_arcPart_20 rfl (lv_at hl 0 rfl) ?_
    refine lv_iconst (v := 0) hx hb dX5_arcPart_21 (by decide) ?_
    replace h := b2_o h
    obtain ⟨x8, T7, e6, h⟩ := h
    refine tw_callS 2 (As := [.int x1, .int 0]) (rest := [.ref o]) (v := (some (.int x8))) (T' := T7) (st1 := [.int x8, .ref o]) hx hb hml hown hts hK hR (fun _ h9 => h9) (tw_A2 hR) hS (mX5_atArc e6) (lw_S q2605 q2606 q137 q2607) (by decide +kernel) (Nat.le_of_ble_eq_true rfl) (Nat.le_of_ble_eq_true rfl) (Nat.zero_le _) (Nat.zero_le _) rfl hl.1 (Nat.le_of_ble_eq_true rfl) dX5_arcPart_22 rfl rfl (fun H locs hR hS => ?_)
    replace h := bo_o h
    obtain ⟨T10, e9, h⟩ := h
    refine tw_callV 1 (As := [.int x8]) (rest := []) (v := none) (T' := T10) (st1 := []) hx hb hml hown hts hK hR (fun _ h9 => h9) (tw_A2 hR) hS (mX5_ends e9) (lw_V q2608 q2610 qs66 q137 q2611) (by decide +kernel) (Nat.le_of_ble_eq_true rfl) (Nat.le_of_ble_eq_true rfl) (Nat.zero_le _) (Nat.zero_le _) rfl hl.1 (Nat.le_of_ble_eq_true rfl) dX5_arcPart_25 rfl rfl (fun H locs hR hS => ?_)
    refine lv_aload_n hx hb dX5_arcPart_28 rfl (lv_at hl 1 rfl) ?_
    refine tw_get (k := 1) (v := .ref (o + 2)) hx hb hts hown hK hR (by decide) q2434 rfl (fun _ h9 => h9) dX5_arcPart_29 ?_
    refine lv_iload_n hx hb dX5_arcPart_32 rfl (lv_at hl 0 rfl) ?_
    refine lv_iconst (v := 2) hx hb dX5_arcPart_33 (by decide) ?_
    replace h := b2_o h
    obtain ⟨x13, T12, e11, h⟩ := h
    refine tw_callS 2 (As := [.int x1, .int 2]) (rest := [.ref (o + 2)]) (v := (some (.int x13))) (T' := T12) (st1 := [.int x13, .ref (o + 2)]) hx hb hml hown hts hK hR (fun _ h9 => h9) (tw_A2 hR) hS (mX5_atArc e11) (lw_S q2605 q2606 q137 q2607) (by decide +kernel) (Nat.le_of_ble_eq_true rfl) (Nat.le_of_ble_eq_true rfl) (Nat.zero_le _) (Nat.zero_le _) rfl hl.1 (Nat.le_of_ble_eq_true rfl) dX5_arcPart_34 rfl rfl (fun H locs hR hS => ?_)
    refine lv_aload_n hx hb dX5_arcPart_37 rfl (lv_at hl 1 rfl) ?_
    refine lv_iconst (v := 1) hx hb dX5_arcPart_38 (by decide) ?_
    refine lv_sipush (v := 999) hx hb dX5_arcPart_39 (by decide) ?_
    replace h := b2_o h
    obtain ⟨x16, T15, e14, h⟩ := h
    refine tw_callV 2 (As := [.int 1, .int 999]) (rest := [.int x13, .ref (o + 2)]) (v := (some (.int x16))) (T' := T15) (st1 := [.int x16, .int x13, .ref (o + 2)]) hx hb hml hown hts hK hR (fun _ h9 => h9) (tw_A2 hR) hS (mX5_number e14) (lw_V q2586 q2588 qs62 q137 q2589) (by decide +kernel) (Nat.le_of_ble_eq_true rfl) (Nat.le_of_ble_eq_true rfl) (Nat.zero_le _) (Nat.zero_le _) rfl hl.1 (Nat.le_of_ble_eq_true rfl) dX5_arcPart_42 rfl rfl (fun H locs hR hS => ?_)
    replace h := bo_o h
    obtain ⟨T17, e18, h⟩ := h
    refine tw_iast (q := 2) hx hb hK hR (fun _ h9 => h9) hS rfl (fun _ => rfl) e18 dX5_arcPart_45 (fun H locs hR hS => ?_)
    refine lv_aload_n hx hb dX5_arcPart_46 rfl (lv_at hl 1 rfl) ?_
    refine tw_get (k := 11) (v := .int (tI T17 11)) hx hb hts hown hK hR (by decide) q2444 rfl (fun _ h9 => h9) dX5_arcPart_47 ?_
    refine lv_if_ne (tgt := 103) hx hb dX5_arcPart_50 (by decide) (fun c19 => ?_) (fun c19 => ?_)
    · replace h := if_o c19 h
      exact bX5_arcPart_103 B h  hR hS (lv_sub hl [1] rfl)
    · replace h := it_o c19 h
      refine lv_aload_n hx hb dX5_arcPart_53 rfl (lv_at hl 1 rfl) ?_
      replace h := b2_o h
      obtain ⟨x22, T21, e20, h⟩ := h
      refine tw_callV 0 (As := []) (rest := []) (v := (some (.int x22))) (T' := T21) (st1 := [.int x22]) hx hb hml hown hts hK hR (fun _ h9 => h9) (tw_A2 hR) hS (mX5_next e20) (lw_V q2554 q2556 qs58 q137 q2557) (by decide +kernel) (Nat.le_of_ble_eq_true rfl) (Nat.le_of_ble_eq_true rfl) (Nat.zero_le _) (Nat.zero_le _) rfl hl.1 (Nat.le_of_ble_eq_true rfl) dX5_arcPart_54 rfl rfl (fun H locs hR hS => ?_)
      refine lv_bipush (v := 97) hx hb dX5_arcPart_57 (by decide) ?_
      refine lv_bipush (v := 122) hx hb dX5_arcPart_59 (by decide) ?_
      replace h := b2_o h
      obtain ⟨x25, T24, e23, h⟩ := h
      refine tw_callS 3 (As := [.int x22, .int 97, .int 122]) (rest := []) (v := (some (.int x25))) (T' := T24) (st1 := [.int x25]) hx hb hml hown hts hK hR (fun _ h9 => h9) (tw_A2 hR) hS (mX5_in e23) (lw_S q2562 q2563 q137 q2564) (by decide +kernel) (Nat.le_of_ble_eq_true rfl) (Nat.le_of_ble_eq_true rfl) (Nat.zero_le _) (Nat.zero_le _) rfl hl.1 (Nat.le_of_ble_eq_true rfl) dX5_arcPart_61 rfl rfl (fun H locs hR hS => ?_)
      refine lv_if_eq (tgt := 103) hx hb dX5_arcPart_64 (by decide) (fun c26 => ?_) (fun c26 => ?_)
      · replace h := it_o c26 h
        exact bX5_arcPart_103 B h  hR hS (lv_sub hl [1] rfl)
      · replace h := if_o c26 h
        refine lv_aload_n hx hb dX5_arcPart_67 rfl (lv_at hl 1 rfl) ?_
        replace h := bo_o h
        obtain ⟨T28, e27, h⟩ := h
        refine tw_callV 0 (As := []) (rest := []) (v := none) (T' := T28) (st1 := []) hx hb hml hown hts hK hR (fun _ h9 => h9) (tw_A2 hR) hS (mX5_reads e27) (lw_V q2550 q2552 qs57 q137 q2553) (by decide +kernel) (Nat.le_of_ble_eq_true rfl) (Nat.le_of_ble_eq_true rfl) (Nat.zero_le _) (Nat.zero_le _) rfl hl.1 (Nat.le_of_ble_eq_true rfl) dX5_arcPart_68 rfl rfl (fun H locs hR hS => ?_)
        refine lv_aload_n hx hb dX5_arcPart_71 rfl (lv_at hl 1 rfl) ?_
        refine va_ldcS hx hb hown (hK.2.2.1 _ (List.mem_of_getElem? (i := 6) rfl)) dX5_arcPart_72 ?_
        replace h := b2_o h
        obtain ⟨x31, T30, e29, h⟩ := h
        refine tw_callV 1 (As := [.ref (gK G 1)]) (rest := []) (v := (some (.int x31))) (T' := T30) (st1 := [.int x31]) hx hb hml hown hts hK hR (fun _ h9 => h9) (tw_A2 hR) hS (mX5_isWord (v1 := 1) (by decide) e29) (lw_V q2566 q2568 qs60 q137 q2569) (by decide +kernel) (Nat.le_of_ble_eq_true rfl) (Nat.le_of_ble_eq_true rfl) (Nat.zero_le _) (Nat.zero_le _) rfl hl.1 (Nat.le_of_ble_eq_true rfl) dX5_arcPart_74 rfl rfl (fun H locs hR hS => ?_)
        refine lv_if_ne (tgt := 85) hx hb dX5_arcPart_77 (by decide) (fun c32 => ?_) (fun c32 => ?_)
        · replace h := if_o c32 h
          exact bX5_arcPart_85 B h  hR hS (lv_sub hl [1, 0] rfl)
        · replace h := it_o c32 h
          refine lv_aload_n hx hb dX5_arcPart_80 rfl (lv_at hl 1 rfl) ?_
          refine lv_iconst (v := 1) hx hb dX5_arcPart_81 (by decide) ?_
          replace h := bo_o h
          obtain ⟨T34, e33, h⟩ := h
          refine tw_callV 1 (As := [.int 1]) (rest := []) (v := none) (T' := T34) (st1 := []) hx hb hml hown hts hK hR (fun _ h9 => h9) (tw_A2 hR) hS (mX5_fails e33) (lw_V q2582 q2584 qs61 q137 q2585) (by decide +kernel) (Nat.le_of_ble_eq_true rfl) (Nat.le_of_ble_eq_true rfl) (Nat.zero_le _) (Nat.zero_le _) rfl hl.1 (Nat.le_of_ble_eq_true rfl) dX5_arcPart_82 rfl rfl (fun H locs hR hS => ?_)
          exact bX5_arcPart_85 B h  hR hS (lv_sub hl [1, 0] rfl)
  · replace h := it_o c3 h
    refine lv_aload_n hx hb dX5_arcPart_13 rfl (lv_at hl 1 rfl) ?_
    refine lv_iconst (v := 4) hx hb dX5_arcPart_14 (by decide) ?_
    replace h := bo_o h
    obtain ⟨T5, e4, h⟩ := h
    refine tw_callV 1 (As := [.int 4]) (rest := []) (v := none) (T' := T5) (st1 := []) hx hb hml hown hts hK hR (fun _ h9 => h9) (tw_A2 hR) hS (mX5_fails e4) (lw_V q2582 q2584 qs61 q137 q2585) (by decide +kernel) (Nat.le_of_ble_eq_true rfl) (Nat.le_of_ble_eq_true rfl) (Nat.zero_le _) (Nat.zero_le _) rfl hl.1 (Nat.le_of_ble_eq_true rfl) dX5_arcPart_15 rfl rfl (fun H locs hR hS => ?_)
    have eR := Option.some.inj h
    subst eR
    exact W.vret hx hb hr (fun t ht _ => tw_fin hR hS ht) hS.2.2 dX5_arcPart_18
theorem mX5_arcPart {l : Launch} {G : gE} {o : Nat}  {T : TW} {r : TW}  (h : fX5_arcPart T = some r) : twM l G o yX5_arcPart cX5_arcPart 2 none 8 350 [.ref o] T none r :=
  tw_of (by decide +kernel) (Nat.le_of_ble_eq_true rfl) (fun p e s m args below meth c ls B hR hl => bX5_arcPart_0 B h hR va_S.rf hl)
noncomputable def fX5_tripPart  (T : TW) : Option (TW) :=
  (rd_ (tA T 2) 172 2).bind fun x1 =>
  nm_ (148 + (4 * x1)) fun x3 =>
  (rd_ (tA T 2) 172 2).bind fun x5 =>
  if x5 = 6 then (
    (fX5_fails 4 T).bind fun T9 =>
    some T9
  ) else (
    (fX5_ends x3 T).bind fun T11 =>
    b2_ (fX5_number 0 999 T11) fun x14 T13 =>
    (wrA T13 2 172 (x3 + 2) x14).bind fun T15 =>
    b2_ (fX5_number 1 20 T15) fun x19 T18 =>
    (wrA T18 2 172 (x3 + 3) x19).bind fun T20 =>
    (rd_ (tA T20 2) 172 2).bind fun x22 =>
    (wrA T20 2 172 2 (x22 + 1)).bind fun T24 =>
    some T24
  )
theorem bX5_tripPart_0 {p : Program} {l : Launch} {e : Env} {s : State} {m : MethodId} {args : Array Value} {below : List Frame} {meth : Method} {c : Code} {H : Heap} {locs : List Loc} {ls : Array Slot} {G : gE} {o : Nat} (B : gB G RX5 cX5_tripPart 2 none p s m args meth c)  {T : TW} {r : TW} (h : fX5_tripPart T = some r)   (hR : RepT G o T H) (hS : va_S (tFr o) s.heap H locs) (hl : lv_has ls 2 [(0, .ref o)]) : W p l e (gRm 4 84) s m args below meth c H locs 0 0 (twZ below args s G o none r) (F0 m 0 ls []) := by
  have B0 := B
  obtain ⟨hx, hb, hml, hown, hts, hr, hlk, hK⟩ := B0
  unfold fX5_tripPart at h
  refine lv_sipush (v := 148) hx hb dX5_tripPart_0 (by decide) ?_
  refine lv_iconst (v := 4) hx hb dX5_tripPart_3 (by decide) ?_
  refine lv_aload_n hx hb dX5_tripPart_4 rfl (lv_at hl 0 rfl) ?_
  refine tw_get (k := 1) (v := .ref (o + 2)) hx hb hts hown hK hR (by decide) q2434 rfl (fun _ h9 => h9) dX5_tripPart_5 ?_
  refine lv_iconst (v := 2) hx hb dX5_tripPart_8 (by decide) ?_
  replace h := bo_o h
  obtain ⟨x1, e2, h⟩ := h
  refine tw_iald (q := 2) hx hb hK hR rfl e2 dX5_tripPart_9 ?_
  refine lv_imul hx hb dX5_tripPart_10 ?_
  refine lv_iadd hx hb dX5_tripPart_11 ?_
  replace h := nm_o h
  obtain ⟨x3, e4, h⟩ := h
  refine lv_istore_n (lv' := [(1, .int x3), (0, .ref o)]) hx hb dX5_tripPart_12 rfl hl (by decide) (by subst e4; rfl) (fun ls hl => ?_)
  refine lv_aload_n hx hb dX5_tripPart_13 rfl (lv_at hl 1 rfl) ?_
  refine tw_get (k := 1) (v := .ref (o + 2)) hx hb hts hown hK hR (by decide) q2434 rfl (fun _ h9 => h9) dX5_tripPart_14 ?_
  refine lv_iconst (v := 2) hx hb dX5_tripPart_17 (by decide) ?_
  replace h := bo_o h
  obtain ⟨x5, e6, h⟩ := h
  refine tw_iald (q := 2) hx hb hK hR rfl e6 dX5_tripPart_18 ?_
  refine lv_bipush (v := 6) hx hb dX5_tripPart_19 (by decide) ?_
  refine lv_icmp_ne (tgt := 30) hx hb dX5_tripPart_21 (by decide) (fun c7 => ?_) (fun c7 => ?_)
  · replace h := if_o c7 h
    refine lv_aload_n hx hb dX5_tripPart_30 rfl (lv_at hl 1 rfl) ?_
    refine lv_iload_n hx hb dX5_tripPart_31 rfl (lv_at hl 0 rfl) ?_
    replace h := bo_o h
    obtain ⟨T11, e10, h⟩ := h
    refine tw_callV 1 (As := [.int x3]) (rest := []) (v := none) (T' := T11) (st1 := []) hx hb hml hown hts hK hR (fun _ h9 => h9) (tw_A2 hR) hS (mX5_ends e10) (lw_V q2608 q2610 qs66 q137 q2611) (by decide +kernel) (Nat.le_of_ble_eq_true rfl) (Nat.le_of_ble_eq_true rfl) (Nat.zero_le _) (Nat.zero_le _) rfl hl.1 (Nat.le_of_ble_eq_true rfl) dX5_tripPart_32 rfl rfl (fun H locs hR hS => ?_)
    refine lv_aload_n hx hb dX5_tripPart_35 rfl (lv_at hl 1 rfl) ?_
    refine tw_get (k := 1) (v := .ref (o + 2)) hx hb hts hown hK hR (by decide) q2434 rfl (fun _ h9 => h9) dX5_tripPart_36 ?_
    refine lv_iload_n hx hb dX5_tripPart_39 rfl (lv_at hl 0 rfl) ?_
    refine lv_iconst (v := 2) hx hb dX5_tripPart_40 (by decide) ?_
    refine lv_iadd hx hb dX5_tripPart_41 ?_
    refine lv_aload_n hx hb dX5_tripPart_42 rfl (lv_at hl 1 rfl) ?_
    refine lv_iconst (v := 0) hx hb dX5_tripPart_43 (by decide) ?_
    refine lv_sipush (v := 999) hx hb dX5_tripPart_44 (by decide) ?_
    replace h := b2_o h
    obtain ⟨x14, T13, e12, h⟩ := h
    refine tw_callV 2 (As := [.int 0, .int 999]) (rest := [.int (x3 + 2), .ref (o + 2)]) (v := (some (.int x14))) (T' := T13) (st1 := [.int x14, .int (x3 + 2), .ref (o + 2)]) hx hb hml hown hts hK hR (fun _ h9 => h9) (tw_A2 hR) hS (mX5_number e12) (lw_V q2586 q2588 qs62 q137 q2589) (by decide +kernel) (Nat.le_of_ble_eq_true rfl) (Nat.le_of_ble_eq_true rfl) (Nat.zero_le _) (Nat.zero_le _) rfl hl.1 (Nat.le_of_ble_eq_true rfl) dX5_tripPart_47 rfl rfl (fun H locs hR hS => ?_)
    replace h := bo_o h
    obtain ⟨T15, e16, h⟩ := h
    refine tw_iast (q := 2) hx hb hK hR (fun _ h9 => h9) hS rfl (fun _ => rfl) e16 dX5_tripPart_50 (fun H locs hR hS => ?_)
    refine lv_aload_n hx hb dX5_tripPart_51 rfl (lv_at hl 1 rfl) ?_
    refine tw_get (k := 1) (v := .ref (o + 2)) hx hb hts hown hK hR (by decide) q2434 rfl (fun _ h9 => h9) dX5_tripPart_52 ?_
    refine lv_iload_n hx hb dX5_tripPart_55 rfl (lv_at hl 0 rfl) ?_
    refine lv_iconst (v := 3) hx hb dX5_tripPart_56 (by decide) ?_
    refine lv_iadd hx hb dX5_tripPart_57 ?_
    refine lv_aload_n hx hb dX5_tripPart_58 rfl (lv_at hl 1 rfl) ?_
    refine lv_iconst (v := 1) hx hb dX5_tripPart_59 (by decide) ?_
    refine lv_bipush (v := 20) hx hb dX5_tripPart_60 (by decide) ?_
    replace h := b2_o h
    obtain ⟨x19, T18, e17, h⟩ := h
    refine tw_callV 2 (As := [.int 1, .int 20]) (rest := [.int (x3 + 3), .ref (o + 2)]) (v := (some (.int x19))) (T' := T18) (st1 := [.int x19, .int (x3 + 3), .ref (o + 2)]) hx hb hml hown hts hK hR (fun _ h9 => h9) (tw_A2 hR) hS (mX5_number e17) (lw_V q2586 q2588 qs62 q137 q2589) (by decide +kernel) (Nat.le_of_ble_eq_true rfl) (Nat.le_of_ble_eq_true rfl) (Nat.zero_le _) (Nat.zero_le _) rfl hl.1 (Nat.le_of_ble_eq_true rfl) dX5_tripPart_62 rfl rfl (fun H locs hR hS => ?_)
    replace h := bo_o h
    obtain ⟨T20, e21, h⟩ := h
    refine tw_iast (q := 2) hx hb hK hR (fun _ h9 => h9) hS rfl (fun _ => rfl) e21 dX5_tripPart_65 (fun H locs hR hS => ?_)
    refine lv_aload_n hx hb dX5_tripPart_66 rfl (lv_at hl 1 rfl) ?_
    refine tw_get (k := 1) (v := .ref (o + 2)) hx hb hts hown hK hR (by decide) q2434 rfl (fun _ h9 => h9) dX5_tripPart_67 ?_
    refine lv_iconst (v := 2) hx hb dX5_tripPart_70 (by decide) ?_
    refine lv_dup2_11 hx hb dX5_tripPart_71 rfl rfl ?_
    replace h := bo_o h
    obtain ⟨x22, e23, h⟩ := h
    refine tw_iald (q := 2) hx hb hK hR rfl e23 dX5_tripPart_72 ?_
    refine lv_iconst (v := 1) hx hb dX5_tripPart_73 (by decide) ?_
    refine lv_iadd hx hb dX5_tripPart_74 ?_
    replace h := bo_o h
    obtain ⟨T24, e25, h⟩ := h
    refine tw_iast (q := 2) hx hb hK hR (fun _ h9 => h9) hS rfl (fun _ => rfl) e25 dX5_tripPart_75 (fun H locs hR hS => ?_)
    have eR := Option.some.inj h
    subst eR
    exact W.vret hx hb hr (fun t ht _ => tw_fin hR hS ht) hS.2.2 dX5_tripPart_76
  · replace h := it_o c7 h
    refine lv_aload_n hx hb dX5_tripPart_24 rfl (lv_at hl 1 rfl) ?_
    refine lv_iconst (v := 4) hx hb dX5_tripPart_25 (by decide) ?_
    replace h := bo_o h
    obtain ⟨T9, e8, h⟩ := h
    refine tw_callV 1 (As := [.int 4]) (rest := []) (v := none) (T' := T9) (st1 := []) hx hb hml hown hts hK hR (fun _ h9 => h9) (tw_A2 hR) hS (mX5_fails e8) (lw_V q2582 q2584 qs61 q137 q2585) (by decide +kernel) (Nat.le_of_ble_eq_true rfl) (Nat.le_of_ble_eq_true rfl) (Nat.zero_le _) (Nat.zero_le _) rfl hl.1 (Nat.le_of_ble_eq_true rfl) dX5_tripPart_26 rfl rfl (fun H locs hR hS => ?_)
    have eR := Option.some.inj h
    subst eR
    exact W.vret hx hb hr (fun t ht _ => tw_fin hR hS ht) hS.2.2 dX5_tripPart_29
theorem mX5_tripPart {l : Launch} {G : gE} {o : Nat}  {T : TW} {r : TW}  (h : fX5_tripPart T = some r) : twM l G o yX5_tripPart cX5_tripPart 2 none 4 84 [.ref o] T none r :=
  tw_of (by decide +kernel) (Nat.le_of_ble_eq_true rfl) (fun p e s m args below meth c ls B hR hl => bX5_tripPart_0 B h hR va_S.rf hl)
noncomputable def fX5_statement  (T : TW) : Option (TW) :=
  (fX5_reads T).bind fun T2 =>
  b2_ (fX5_isWord 2 T2) fun x5 T4 =>
  if x5 = 0 then (
    b2_ (fX5_isWord 3 T4) fun x9 T8 =>
    if x9 = 0 then (
      (fX5_fails 1 T8).bind fun T12 =>
      some T12
    ) else (
      (fX5_tripPart T8).bind fun T14 =>
      some T14
    )
  ) else (
    (fX5_arcPart T4).bind fun T16 =>
    some T16
  )
theorem bX5_statement_0 {p : Program} {l : Launch} {e : Env} {s : State} {m : MethodId} {args : Array Value} {below : List Frame} {meth : Method} {c : Code} {H : Heap} {locs : List Loc} {ls : Array Slot} {G : gE} {o : Nat} (B : gB G RX5 cX5_statement 1 none p s m args meth c)  {T : TW} {r : TW} (h : fX5_statement T = some r)   (hR : RepT G o T H) (hS : va_S (tFr o) s.heap H locs) (hl : lv_has ls 1 [(0, .ref o)]) : W p l e (gRm 9 371) s m args below meth c H locs 0 0 (twZ below args s G o none r) (F0 m 0 ls []) := by
  have B0 := B
  obtain ⟨hx, hb, hml, hown, hts, hr, hlk, hK⟩ := B0
  unfold fX5_statement at h
  refine lv_aload_n hx hb dX5_statement_0 rfl (lv_at hl 0 rfl) ?_
  replace h := bo_o h
  obtain ⟨T2, e1, h⟩ := h
  refine tw_callV 0 (As := []) (rest := []) (v := none) (T' := T2) (st1 := []) hx hb hml hown hts hK hR (fun _ h9 => h9) (tw_A2 hR) hS (mX5_reads e1) (lw_V q2550 q2552 qs57 q137 q2553) (by decide +kernel) (Nat.le_of_ble_eq_true rfl) (Nat.le_of_ble_eq_true rfl) (Nat.zero_le _) (Nat.zero_le _) rfl hl.1 (Nat.le_of_ble_eq_true rfl) dX5_statement_1 rfl rfl (fun H locs hR hS => ?_)
  refine lv_aload_n hx hb dX5_statement_4 rfl (lv_at hl 0 rfl) ?_
  refine va_ldcS hx hb hown (hK.2.2.1 _ (List.mem_of_getElem? (i := 7) rfl)) dX5_statement_5 ?_
  replace h := b2_o h
  obtain ⟨x5, T4, e3, h⟩ := h
  refine tw_callV 1 (As := [.ref (gK G 2)]) (rest := []) (v := (some (.int x5))) (T' := T4) (st1 := [.int x5]) hx hb hml hown hts hK hR (fun _ h9 => h9) (tw_A2 hR) hS (mX5_isWord (v1 := 2) (by decide) e3) (lw_V q2566 q2568 qs60 q137 q2569) (by decide +kernel) (Nat.le_of_ble_eq_true rfl) (Nat.le_of_ble_eq_true rfl) (Nat.zero_le _) (Nat.zero_le _) rfl hl.1 (Nat.le_of_ble_eq_true rfl) dX5_statement_7 rfl rfl (fun H locs hR hS => ?_)
  refine lv_if_eq (tgt := 20) hx hb dX5_statement_10 (by decide) (fun c6 => ?_) (fun c6 => ?_)
  · replace h := it_o c6 h
    refine lv_aload_n hx hb dX5_statement_20 rfl (lv_at hl 0 rfl) ?_
    refine va_ldcS hx hb hown (hK.2.2.1 _ (List.mem_of_getElem? (i := 8) rfl)) dX5_statement_21 ?_
    replace h := b2_o h
    obtain ⟨x9, T8, e7, h⟩ := h
    refine tw_callV 1 (As := [.ref (gK G 3)]) (rest := []) (v := (some (.int x9))) (T' := T8) (st1 := [.int x9]) hx hb hml hown hts hK hR (fun _ h9 => h9) (tw_A2 hR) hS (mX5_isWord (v1 := 3) (by decide) e7) (lw_V q2566 q2568 qs60 q137 q2569) (by decide +kernel) (Nat.le_of_ble_eq_true rfl) (Nat.le_of_ble_eq_true rfl) (Nat.zero_le _) (Nat.zero_le _) rfl hl.1 (Nat.le_of_ble_eq_true rfl) dX5_statement_23 rfl rfl (fun H locs hR hS => ?_)
    refine lv_if_eq (tgt := 36) hx hb dX5_statement_26 (by decide) (fun c10 => ?_) (fun c10 => ?_)
    · replace h := it_o c10 h
      refine lv_aload_n hx hb dX5_statement_36 rfl (lv_at hl 0 rfl) ?_
      refine lv_iconst (v := 1) hx hb dX5_statement_37 (by decide) ?_
      replace h := bo_o h
      obtain ⟨T12, e11, h⟩ := h
      refine tw_callV 1 (As := [.int 1]) (rest := []) (v := none) (T' := T12) (st1 := []) hx hb hml hown hts hK hR (fun _ h9 => h9) (tw_A2 hR) hS (mX5_fails e11) (lw_V q2582 q2584 qs61 q137 q2585) (by decide +kernel) (Nat.le_of_ble_eq_true rfl) (Nat.le_of_ble_eq_true rfl) (Nat.zero_le _) (Nat.zero_le _) rfl hl.1 (Nat.le_of_ble_eq_true rfl) dX5_statement_38 rfl rfl (fun H locs hR hS => ?_)
      have eR := Option.some.inj h
      subst eR
      exact W.vret hx hb hr (fun t ht _ => tw_fin hR hS ht) hS.2.2 dX5_statement_41
    · replace h := if_o c10 h
      refine lv_aload_n hx hb dX5_statement_29 rfl (lv_at hl 0 rfl) ?_
      replace h := bo_o h
      obtain ⟨T14, e13, h⟩ := h
      refine tw_callV 0 (As := []) (rest := []) (v := none) (T' := T14) (st1 := []) hx hb hml hown hts hK hR (fun _ h9 => h9) (tw_A2 hR) hS (mX5_tripPart e13) (lw_V q2614 q2616 qs67 q137 q2617) (by decide +kernel) (Nat.le_of_ble_eq_true rfl) (Nat.le_of_ble_eq_true rfl) (Nat.zero_le _) (Nat.zero_le _) rfl hl.1 (Nat.le_of_ble_eq_true rfl) dX5_statement_30 rfl rfl (fun H locs hR hS => ?_)
      refine lv_goto (tgt := 41) hx hb dX5_statement_33 (by decide) ?_
      have eR := Option.some.inj h
      subst eR
      exact W.vret hx hb hr (fun t ht _ => tw_fin hR hS ht) hS.2.2 dX5_statement_41
  · replace h := if_o c6 h
    refine lv_aload_n hx hb dX5_statement_13 rfl (lv_at hl 0 rfl) ?_
    replace h := bo_o h
    obtain ⟨T16, e15, h⟩ := h
    refine tw_callV 0 (As := []) (rest := []) (v := none) (T' := T16) (st1 := []) hx hb hml hown hts hK hR (fun _ h9 => h9) (tw_A2 hR) hS (mX5_arcPart e15) (lw_V q2601 q2603 qs65 q137 q2604) (by decide +kernel) (Nat.le_of_ble_eq_true rfl) (Nat.le_of_ble_eq_true rfl) (Nat.zero_le _) (Nat.zero_le _) rfl hl.1 (Nat.le_of_ble_eq_true rfl) dX5_statement_14 rfl rfl (fun H locs hR hS => ?_)
    refine lv_goto (tgt := 41) hx hb dX5_statement_17 (by decide) ?_
    have eR := Option.some.inj h
    subst eR
    exact W.vret hx hb hr (fun t ht _ => tw_fin hR hS ht) hS.2.2 dX5_statement_41
theorem mX5_statement {l : Launch} {G : gE} {o : Nat}  {T : TW} {r : TW}  (h : fX5_statement T = some r) : twM l G o yX5_statement cX5_statement 1 none 9 371 [.ref o] T none r :=
  tw_of (by decide +kernel) (Nat.le_of_ble_eq_true rfl) (fun p e s m args below meth c ls B hR hl => bX5_statement_0 B h hR va_S.rf hl)
noncomputable def fX5_copies_b3 (v0 : Nat) (v1 : Int32) (v2 : Nat) (v3 : Int32) (v4 : Int32) (T : TW) : Option (Sum (Int32 × TW) (TW)) :=
  if 172 ≤ v4 then (
    some (.inr T)
  ) else (
    (rd_ (tA T v0) (tLen v0) ((172 * v1) + v4)).bind fun x2 =>
    (wrA T v2 (tLen v2) ((172 * v3) + v4) x2).bind fun T4 =>
    some (.inl (v4 + 1, T4))
  )
theorem bX5_copies_3 {p : Program} {l : Launch} {e : Env} {s : State} {m : MethodId} {args : Array Value} {below : List Frame} {meth : Method} {c : Code} {H : Heap} {locs : List Loc} {ls : Array Slot} {G : gE} {o : Nat} (B : gB G RX5 cX5_copies 5 none p s m args meth c) {v0 : Nat} {v1 : Int32} {v2 : Nat} {v3 : Int32} {v4 : Int32} {T : TW} {x : Sum (Int32 × TW) (TW)} {r : TW} (h : fX5_copies_b3 v0 v1 v2 v3 v4 T = some x) (hp_v0 : 1 ≤ v0 ∧ v0 ≤ 4) (hp_v2 : 1 ≤ v2 ∧ v2 ≤ 4) (k3 : ∀ (v4' : Int32) (T' : TW), x = (.inl (v4', T')) → ∀ (H : Heap) (locs : List Loc) (ls : Array Slot), RepT G o (T') H → va_S (tFr o) s.heap H locs → lv_has ls 5 [(0, .ref (o + v0)), (1, .int v1), (2, .ref (o + v2)), (3, .int v3), (4, .int v4')] → W p l e (gRm 0 0) s m args below meth c H locs 0 0 (twZ below args s G o none r) (F0 m 3 ls [])) (kR : ∀ q, x = (.inr q) → q = r) (hR : RepT G o T H) (hS : va_S (tFr o) s.heap H locs) (hl : lv_has ls 5 [(0, .ref (o + v0)), (1, .int v1), (2, .ref (o + v2)), (3, .int v3), (4, .int v4)]) : W p l e (gRm 0 0) s m args below meth c H locs 0 0 (twZ below args s G o none r) (F0 m 3 ls []) := by
  have B0 := B
  obtain ⟨hx, hb, hml, hown, hts, hr, hlk, hK⟩ := B0
  unfold fX5_copies_b3 at h
  refine lv_iload hx hb dX5_copies_3 (lv_at hl 4 rfl) ?_
  refine lv_sipush (v := 172) hx hb dX5_copies_5 (by decide) ?_
  refine lv_icmp_ge (tgt := 37) hx hb dX5_copies_8 (by decide) (fun c1 => ?_) (fun c1 => ?_)
  · replace h := it_o c1 h
    have eR := kR _ (Option.some.inj h).symm
    subst eR
    exact W.vret hx hb hr (fun t ht _ => tw_fin hR hS ht) hS.2.2 dX5_copies_37
  · replace h := if_o c1 h
    refine lv_aload_n hx hb dX5_copies_11 rfl (lv_at hl 2 rfl) ?_
    refine lv_sipush (v := 172) hx hb dX5_copies_12 (by decide) ?_
    refine lv_iload_n hx hb dX5_copies_15 rfl (lv_at hl 3 rfl) ?_
    refine lv_imul hx hb dX5_copies_16 ?_
    refine lv_iload hx hb dX5_copies_17 (lv_at hl 4 rfl) ?_
    refine lv_iadd hx hb dX5_copies_19 ?_
    refine lv_aload_n hx hb dX5_copies_20 rfl (lv_at hl 0 rfl) ?_
    refine lv_sipush (v := 172) hx hb dX5_copies_21 (by decide) ?_
    refine lv_iload_n hx hb dX5_copies_24 rfl (lv_at hl 1 rfl) ?_
    refine lv_imul hx hb dX5_copies_25 ?_
    refine lv_iload hx hb dX5_copies_26 (lv_at hl 4 rfl) ?_
    refine lv_iadd hx hb dX5_copies_28 ?_
    replace h := bo_o h
    obtain ⟨x2, e3, h⟩ := h
    refine tw_iald (q := v0) hx hb hK hR (tw_q4 hp_v0) e3 dX5_copies_29 ?_
    replace h := bo_o h
    obtain ⟨T4, e5, h⟩ := h
    refine tw_iast (q := v2) hx hb hK hR (fun _ h9 => h9) hS (tw_q4 hp_v2) (fun g => tw_s4 hp_v2 g) e5 dX5_copies_30 (fun H locs hR hS => ?_)
    refine lv_iinc (v := v4 + 1) (lv' := [(4, .int (v4 + 1)), (0, .ref (o + v0)), (1, .int v1), (2, .ref (o + v2)), (3, .int v3)]) hx hb dX5_copies_31 hl (k := 4) rfl rfl (by decide) rfl (fun ls hl => ?_)
    refine lv_goto (tgt := 3) hx hb dX5_copies_34 (by decide) ?_
    exact k3 _ _ (Option.some.inj h).symm H locs ls hR hS (lv_sub hl [1, 2, 3, 4, 0] rfl)
noncomputable def fX5_copies_l3 (v0 : Nat) (v1 : Int32) (v2 : Nat) (v3 : Int32) (v4 : Int32) (T : TW) : Option (TW) := whileO (fun q => fX5_copies_b3 v0 v1 v2 v3 q.1 q.2) (v4, T)
theorem lX5_copies_3 {p : Program} {l : Launch} {e : Env} {s : State} {m : MethodId} {args : Array Value} {below : List Frame} {meth : Method} {c : Code} {G : gE} {o : Nat} (B : gB G RX5 cX5_copies 5 none p s m args meth c) {v0 : Nat} {v1 : Int32} {v2 : Nat} {v3 : Int32} {r : TW} (hp_v0 : 1 ≤ v0 ∧ v0 ≤ 4) (hp_v2 : 1 ≤ v2 ∧ v2 ≤ 4)  : ∀ (v4 : Int32) (T : TW), fX5_copies_l3 v0 v1 v2 v3 v4 T = some r → ∀ (H : Heap) (locs : List Loc) (ls : Array Slot), RepT G o (T) H → va_S (tFr o) s.heap H locs → lv_has ls 5 [(0, .ref (o + v0)), (1, .int v1), (2, .ref (o + v2)), (3, .int v3), (4, .int v4)] → W p l e (gRm 0 0) s m args below meth c H locs 0 0 (twZ below args s G o none r) (F0 m 3 ls []) := by
  intro v4 T h
  refine wh_walk (body := (fun q => fX5_copies_b3 v0 v1 v2 v3 q.1 q.2)) (P := (fun q : (Int32 × TW) => ∀ (H : Heap) (locs : List Loc) (ls : Array Slot), RepT G o (q.2) H → va_S (tFr o) s.heap H locs → lv_has ls 5 [(0, .ref (o + v0)), (1, .int v1), (2, .ref (o + v2)), (3, .int v3), (4, .int (q.1))] → W p l e (gRm 0 0) s m args below meth c H locs 0 0 (twZ below args s G o none r) (F0 m 3 ls []))) (r := r) ?_ (v4, T) h
  intro q y hy hL hr H locs ls hR hS hl
  exact bX5_copies_3 (r := r) B hy hp_v0 hp_v2 (fun a0 a1 e => hL (a0, a1) e) (fun q e => hr q e) hR hS hl
noncomputable def fX5_copies (v0 : Nat) (v1 : Int32) (v2 : Nat) (v3 : Int32) (T : TW) : Option (TW) :=
  fX5_copies_l3 v0 v1 v2 v3 0 T
theorem bX5_copies_0 {p : Program} {l : Launch} {e : Env} {s : State} {m : MethodId} {args : Array Value} {below : List Frame} {meth : Method} {c : Code} {H : Heap} {locs : List Loc} {ls : Array Slot} {G : gE} {o : Nat} (B : gB G RX5 cX5_copies 5 none p s m args meth c) {v0 : Nat} {v1 : Int32} {v2 : Nat} {v3 : Int32} {T : TW} {r : TW} (h : fX5_copies v0 v1 v2 v3 T = some r) (hp_v0 : 1 ≤ v0 ∧ v0 ≤ 4) (hp_v2 : 1 ≤ v2 ∧ v2 ≤ 4)  (hR : RepT G o T H) (hS : va_S (tFr o) s.heap H locs) (hl : lv_has ls 5 [(0, .ref (o + v0)), (1, .int v1), (2, .ref (o + v2)), (3, .int v3)]) : W p l e (gRm 0 0) s m args below meth c H locs 0 0 (twZ below args s G o none r) (F0 m 0 ls []) := by
  have B0 := B
  obtain ⟨hx, hb, hml, hown, hts, hr, hlk, hK⟩ := B0
  unfold fX5_copies at h
  refine lv_iconst (v := 0) hx hb dX5_copies_0 (by decide) ?_
  refine lv_istore (lv' := [(4, .int 0), (0, .ref (o + v0)), (1, .int v1), (2, .ref (o + v2)), (3, .int v3)]) hx hb dX5_copies_1 hl (by decide) rfl (fun ls hl => ?_)
  exact lX5_copies_3 B hp_v0 hp_v2 _ _ h H locs ls hR hS (lv_sub hl [1, 2, 3, 4, 0] rfl)
theorem mX5_copies {l : Launch} {G : gE} {o : Nat} {v0 : Nat} {v1 : Int32} {v2 : Nat} {v3 : Int32} {T : TW} {r : TW} (hp_v0 : 1 ≤ v0 ∧ v0 ≤ 4) (hp_v2 : 1 ≤ v2 ∧ v2 ≤ 4) (h : fX5_copies v0 v1 v2 v3 T = some r) : twM l G o yX5_copies cX5_copies 5 none 0 0 [.ref (o + v0), .int v1, .ref (o + v2), .int v3] T none r :=
  tw_of (by decide +kernel) (Nat.le_of_ble_eq_true rfl) (fun p e s m args below meth c ls B hR hl => bX5_copies_0 B h hp_v0 hp_v2 hR va_S.rf hl)
noncomputable def fX5_load_b101 (s1 : Int32) (T : TW) : Option ((Int32 × TW)) :=
  nm_ (tsI T 15 s1) fun T1 =>
  if tI T1 11 = 0 then (
    (fX5_copies 2 0 1 0 T1).bind fun T5 =>
    nm_ (tsI T5 5 0) fun T6 =>
    (rd_ (tA T6 1) 172 1).bind fun x8 =>
    some (x8, T6)
  ) else (
    some ((-100) - (tI T1 12), T1)
  )
theorem bX5_load_101 {p : Program} {l : Launch} {e : Env} {s : State} {m : MethodId} {args : Array Value} {below : List Frame} {meth : Method} {c : Code} {H : Heap} {locs : List Loc} {ls : Array Slot} {G : gE} {o : Nat} (B : gB G RX5 cX5_load 1 (some .int) p s m args meth c) {s1 : Int32} {T : TW} {r : (Int32 × TW)} (h : fX5_load_b101 s1 T = some r)   (hR : RepT G o T H) (hS : va_S (tFr o) s.heap H locs) (hl : lv_has ls 1 [(0, .ref o)]) : W p l e (gRm 10 391) s m args below meth c H locs 0 0 (twZ below args s G o (some (.int r.1)) r.2) (F0 m 101 ls [.int s1, .ref o]) := by
  have B0 := B
  obtain ⟨hx, hb, hml, hown, hts, hr, hlk, hK⟩ := B0
  unfold fX5_load_b101 at h
  replace h := nm_o h
  obtain ⟨T1, e2, h⟩ := h
  refine tw_putI (k := 15) (x := s1) (ty := .int) (T' := T1) hx hb hts hown hK hR (fun _ h9 => h9) hS (by decide) rfl e2 q2448 (fun _ h9 => h9) rfl (by decide +kernel) rfl rfl dX5_load_101 (fun H locs hR hS => ?_)
  refine lv_aload_n hx hb dX5_load_104 rfl (lv_at hl 0 rfl) ?_
  refine tw_get (k := 11) (v := .int (tI T1 11)) hx hb hts hown hK hR (by decide) q2444 rfl (fun _ h9 => h9) dX5_load_105 ?_
  refine lv_if_eq (tgt := 119) hx hb dX5_load_108 (by decide) (fun c3 => ?_) (fun c3 => ?_)
  · replace h := it_o c3 h
    refine lv_aload_n hx hb dX5_load_119 rfl (lv_at hl 0 rfl) ?_
    refine tw_get (k := 1) (v := .ref (o + 2)) hx hb hts hown hK hR (by decide) q2434 rfl (fun _ h9 => h9) dX5_load_120 ?_
    refine lv_iconst (v := 0) hx hb dX5_load_123 (by decide) ?_
    refine lv_aload_n hx hb dX5_load_124 rfl (lv_at hl 0 rfl) ?_
    refine tw_get (k := 0) (v := .ref (o + 1)) hx hb hts hown hK hR (by decide) q2433 rfl (fun _ h9 => h9) dX5_load_125 ?_
    refine lv_iconst (v := 0) hx hb dX5_load_128 (by decide) ?_
    replace h := bo_o h
    obtain ⟨T5, e4, h⟩ := h
    refine tw_callS 4 (As := [.ref (o + 2), .int 0, .ref (o + 1), .int 0]) (rest := []) (v := none) (T' := T5) (st1 := []) hx hb hml hown hts hK hR (fun _ h9 => h9) (tw_A2 hR) hS (mX5_copies (v0 := 2) (v2 := 1) (by decide) (by decide) e4) (lw_S q2618 q2619 q137 q2620) (by decide +kernel) (Nat.le_of_ble_eq_true rfl) (Nat.le_of_ble_eq_true rfl) (Nat.zero_le _) (Nat.zero_le _) rfl hl.1 (Nat.le_of_ble_eq_true rfl) dX5_load_129 rfl rfl (fun H locs hR hS => ?_)
    refine lv_aload_n hx hb dX5_load_132 rfl (lv_at hl 0 rfl) ?_
    refine lv_iconst (v := 0) hx hb dX5_load_133 (by decide) ?_
    replace h := nm_o h
    obtain ⟨T6, e7, h⟩ := h
    refine tw_putI (k := 5) (x := 0) (ty := .int) (T' := T6) hx hb hts hown hK hR (fun _ h9 => h9) hS (by decide) rfl e7 q2438 (fun _ h9 => h9) rfl (by decide +kernel) rfl rfl dX5_load_134 (fun H locs hR hS => ?_)
    refine lv_aload_n hx hb dX5_load_137 rfl (lv_at hl 0 rfl) ?_
    refine tw_get (k := 0) (v := .ref (o + 1)) hx hb hts hown hK hR (by decide) q2433 rfl (fun _ h9 => h9) dX5_load_138 ?_
    refine lv_iconst (v := 1) hx hb dX5_load_141 (by decide) ?_
    replace h := bo_o h
    obtain ⟨x8, e9, h⟩ := h
    refine tw_iald (q := 1) hx hb hK hR rfl e9 dX5_load_142 ?_
    have eR := Option.some.inj h
    subst eR
    exact W.iret (v := x8) hx hb hr (fun t ht _ => tw_fin hR hS ht) hS.2.2 dX5_load_143
  · replace h := if_o c3 h
    refine lv_bipush (v := (-100)) hx hb dX5_load_111 (by decide) ?_
    refine lv_aload_n hx hb dX5_load_113 rfl (lv_at hl 0 rfl) ?_
    refine tw_get (k := 12) (v := .int (tI T1 12)) hx hb hts hown hK hR (by decide) q2445 rfl (fun _ h9 => h9) dX5_load_114 ?_
    refine lv_isub hx hb dX5_load_117 ?_
    have eR := Option.some.inj h
    subst eR
    exact W.iret (v := (-100) - (tI T1 12)) hx hb hr (fun t ht _ => tw_fin hR hS ht) hS.2.2 dX5_load_118
noncomputable def fX5_load_b72  (T : TW) : Option ((Int32 × TW)) :=
  nm_ (tsI T 8 0) fun T1 =>
  nm_ (tsI T1 14 (tI T1 11)) fun T3 =>
  if tI T3 11 = 0 then (
    fX5_load_b101 (-1) T3
  ) else (
    fX5_load_b101 (tI T3 13) T3
  )
theorem bX5_load_72 {p : Program} {l : Launch} {e : Env} {s : State} {m : MethodId} {args : Array Value} {below : List Frame} {meth : Method} {c : Code} {H : Heap} {locs : List Loc} {ls : Array Slot} {G : gE} {o : Nat} (B : gB G RX5 cX5_load 1 (some .int) p s m args meth c)  {T : TW} {r : (Int32 × TW)} (h : fX5_load_b72 T = some r)   (hR : RepT G o T H) (hS : va_S (tFr o) s.heap H locs) (hl : lv_has ls 1 [(0, .ref o)]) : W p l e (gRm 10 391) s m args below meth c H locs 0 0 (twZ below args s G o (some (.int r.1)) r.2) (F0 m 72 ls []) := by
  have B0 := B
  obtain ⟨hx, hb, hml, hown, hts, hr, hlk, hK⟩ := B0
  unfold fX5_load_b72 at h
  refine lv_aload_n hx hb dX5_load_72 rfl (lv_at hl 0 rfl) ?_
  refine lv_iconst (v := 0) hx hb dX5_load_73 (by decide) ?_
  replace h := nm_o h
  obtain ⟨T1, e2, h⟩ := h
  refine tw_putI (k := 8) (x := 0) (ty := .int) (T' := T1) hx hb hts hown hK hR (fun _ h9 => h9) hS (by decide) rfl e2 q2441 (fun _ h9 => h9) rfl (by decide +kernel) rfl rfl dX5_load_74 (fun H locs hR hS => ?_)
  refine lv_aload_n hx hb dX5_load_77 rfl (lv_at hl 0 rfl) ?_
  refine lv_aload_n hx hb dX5_load_78 rfl (lv_at hl 0 rfl) ?_
  refine tw_get (k := 11) (v := .int (tI T1 11)) hx hb hts hown hK hR (by decide) q2444 rfl (fun _ h9 => h9) dX5_load_79 ?_
  replace h := nm_o h
  obtain ⟨T3, e4, h⟩ := h
  refine tw_putI (k := 14) (x := tI T1 11) (ty := .int) (T' := T3) hx hb hts hown hK hR (fun _ h9 => h9) hS (by decide) rfl e4 q2447 (fun _ h9 => h9) rfl (by decide +kernel) rfl rfl dX5_load_82 (fun H locs hR hS => ?_)
  refine lv_aload_n hx hb dX5_load_85 rfl (lv_at hl 0 rfl) ?_
  refine lv_aload_n hx hb dX5_load_86 rfl (lv_at hl 0 rfl) ?_
  refine tw_get (k := 11) (v := .int (tI T3 11)) hx hb hts hown hK hR (by decide) q2444 rfl (fun _ h9 => h9) dX5_load_87 ?_
  refine lv_if_ne (tgt := 97) hx hb dX5_load_90 (by decide) (fun c5 => ?_) (fun c5 => ?_)
  · replace h := if_o c5 h
    refine lv_aload_n hx hb dX5_load_97 rfl (lv_at hl 0 rfl) ?_
    refine tw_get (k := 13) (v := .int (tI T3 13)) hx hb hts hown hK hR (by decide) q2446 rfl (fun _ h9 => h9) dX5_load_98 ?_
    exact bX5_load_101 B h  hR hS (lv_sub hl [0] rfl)
  · replace h := it_o c5 h
    refine lv_iconst (v := (-1)) hx hb dX5_load_93 (by decide) ?_
    refine lv_goto (tgt := 101) hx hb dX5_load_94 (by decide) ?_
    exact bX5_load_101 B h  hR hS (lv_sub hl [0] rfl)
noncomputable def fX5_load_b58  (T : TW) : Option (Sum (TW) ((Int32 × TW))) :=
  b2_ (fX5_isMore T) fun x3 T2 =>
  if x3 = 0 then (
    (fX5_load_b72 T2).map (fun y => (.inr y))
  ) else (
    (fX5_statement T2).bind fun T6 =>
    some (.inl T6)
  )
theorem bX5_load_58 {p : Program} {l : Launch} {e : Env} {s : State} {m : MethodId} {args : Array Value} {below : List Frame} {meth : Method} {c : Code} {H : Heap} {locs : List Loc} {ls : Array Slot} {G : gE} {o : Nat} (B : gB G RX5 cX5_load 1 (some .int) p s m args meth c)  {T : TW} {x : Sum (TW) ((Int32 × TW))} {r : (Int32 × TW)} (h : fX5_load_b58 T = some x)  (k58 : ∀  (T' : TW), x = (.inl T') → ∀ (H : Heap) (locs : List Loc) (ls : Array Slot), RepT G o (T') H → va_S (tFr o) s.heap H locs → lv_has ls 1 [(0, .ref o)] → W p l e (gRm 10 391) s m args below meth c H locs 0 0 (twZ below args s G o (some (.int r.1)) r.2) (F0 m 58 ls [])) (kR : ∀ q, x = (.inr q) → q = r) (hR : RepT G o T H) (hS : va_S (tFr o) s.heap H locs) (hl : lv_has ls 1 [(0, .ref o)]) : W p l e (gRm 10 391) s m args below meth c H locs 0 0 (twZ below args s G o (some (.int r.1)) r.2) (F0 m 58 ls []) := by
  have B0 := B
  obtain ⟨hx, hb, hml, hown, hts, hr, hlk, hK⟩ := B0
  unfold fX5_load_b58 at h
  refine lv_aload_n hx hb dX5_load_58 rfl (lv_at hl 0 rfl) ?_
  replace h := b2_o h
  obtain ⟨x3, T2, e1, h⟩ := h
  refine tw_callV 0 (As := []) (rest := []) (v := (some (.int x3))) (T' := T2) (st1 := [.int x3]) hx hb hml hown hts hK hR (fun _ h9 => h9) (tw_A2 hR) hS (mX5_isMore e1) (lw_V q2592 q2594 qs63 q137 q2595) (by decide +kernel) (Nat.le_of_ble_eq_true rfl) (Nat.le_of_ble_eq_true rfl) (Nat.zero_le _) (Nat.zero_le _) rfl hl.1 (Nat.le_of_ble_eq_true rfl) dX5_load_59 rfl rfl (fun H locs hR hS => ?_)
  refine lv_if_eq (tgt := 72) hx hb dX5_load_62 (by decide) (fun c4 => ?_) (fun c4 => ?_)
  · replace h := it_o c4 h
    obtain ⟨y, h, ey⟩ := mp_o h
    have ey := kR _ ey.symm
    subst ey
    exact bX5_load_72 B h  hR hS (lv_sub hl [0] rfl)
  · replace h := if_o c4 h
    refine lv_aload_n hx hb dX5_load_65 rfl (lv_at hl 0 rfl) ?_
    replace h := bo_o h
    obtain ⟨T6, e5, h⟩ := h
    refine tw_callV 0 (As := []) (rest := []) (v := none) (T' := T6) (st1 := []) hx hb hml hown hts hK hR (fun _ h9 => h9) (tw_A2 hR) hS (mX5_statement e5) (lw_V q2596 q2598 qs64 q137 q2599) (by decide +kernel) (Nat.le_of_ble_eq_true rfl) (Nat.le_of_ble_eq_true rfl) (Nat.zero_le _) (Nat.zero_le _) rfl hl.1 (Nat.le_of_ble_eq_true rfl) dX5_load_66 rfl rfl (fun H locs hR hS => ?_)
    refine lv_goto (tgt := 58) hx hb dX5_load_69 (by decide) ?_
    exact k58 _ (Option.some.inj h).symm H locs ls hR hS (lv_sub hl [0] rfl)
noncomputable def fX5_load_l58  (T : TW) : Option ((Int32 × TW)) := whileO (fun q => fX5_load_b58 q) T
theorem lX5_load_58 {p : Program} {l : Launch} {e : Env} {s : State} {m : MethodId} {args : Array Value} {below : List Frame} {meth : Method} {c : Code} {G : gE} {o : Nat} (B : gB G RX5 cX5_load 1 (some .int) p s m args meth c)  {r : (Int32 × TW)}   : ∀ (T : TW), fX5_load_l58 T = some r → ∀ (H : Heap) (locs : List Loc) (ls : Array Slot), RepT G o (T) H → va_S (tFr o) s.heap H locs → lv_has ls 1 [(0, .ref o)] → W p l e (gRm 10 391) s m args below meth c H locs 0 0 (twZ below args s G o (some (.int r.1)) r.2) (F0 m 58 ls []) := by
  intro  T h
  refine wh_walk (body := (fun q => fX5_load_b58 q)) (P := (fun q : (TW) => ∀ (H : Heap) (locs : List Loc) (ls : Array Slot), RepT G o (q) H → va_S (tFr o) s.heap H locs → lv_has ls 1 [(0, .ref o)] → W p l e (gRm 10 391) s m args below meth c H locs 0 0 (twZ below args s G o (some (.int r.1)) r.2) (F0 m 58 ls []))) (r := r) ?_ T h
  intro q y hy hL hr H locs ls hR hS hl
  exact bX5_load_58 (r := r) B hy (fun a0 e => hL a0 e) (fun q e => hr q e) hR hS hl
noncomputable def fX5_load_b45  (T : TW) : Option ((Int32 × TW)) :=
  b2_ (fX5_number 2 10 T) fun x3 T2 =>
  (wrA T2 2 172 0 x3).bind fun T4 =>
  fX5_load_l58 T4
theorem bX5_load_45 {p : Program} {l : Launch} {e : Env} {s : State} {m : MethodId} {args : Array Value} {below : List Frame} {meth : Method} {c : Code} {H : Heap} {locs : List Loc} {ls : Array Slot} {G : gE} {o : Nat} (B : gB G RX5 cX5_load 1 (some .int) p s m args meth c)  {T : TW} {r : (Int32 × TW)} (h : fX5_load_b45 T = some r)   (hR : RepT G o T H) (hS : va_S (tFr o) s.heap H locs) (hl : lv_has ls 1 [(0, .ref o)]) : W p l e (gRm 10 391) s m args below meth c H locs 0 0 (twZ below args s G o (some (.int r.1)) r.2) (F0 m 45 ls []) := by
  have B0 := B
  obtain ⟨hx, hb, hml, hown, hts, hr, hlk, hK⟩ := B0
  unfold fX5_load_b45 at h
  refine lv_aload_n hx hb dX5_load_45 rfl (lv_at hl 0 rfl) ?_
  refine tw_get (k := 1) (v := .ref (o + 2)) hx hb hts hown hK hR (by decide) q2434 rfl (fun _ h9 => h9) dX5_load_46 ?_
  refine lv_iconst (v := 0) hx hb dX5_load_49 (by decide) ?_
  refine lv_aload_n hx hb dX5_load_50 rfl (lv_at hl 0 rfl) ?_
  refine lv_iconst (v := 2) hx hb dX5_load_51 (by decide) ?_
  refine lv_bipush (v := 10) hx hb dX5_load_52 (by decide) ?_
  replace h := b2_o h
  obtain ⟨x3, T2, e1, h⟩ := h
  refine tw_callV 2 (As := [.int 2, .int 10]) (rest := [.int 0, .ref (o + 2)]) (v := (some (.int x3))) (T' := T2) (st1 := [.int x3, .int 0, .ref (o + 2)]) hx hb hml hown hts hK hR (fun _ h9 => h9) (tw_A2 hR) hS (mX5_number e1) (lw_V q2586 q2588 qs62 q137 q2589) (by decide +kernel) (Nat.le_of_ble_eq_true rfl) (Nat.le_of_ble_eq_true rfl) (Nat.zero_le _) (Nat.zero_le _) rfl hl.1 (Nat.le_of_ble_eq_true rfl) dX5_load_54 rfl rfl (fun H locs hR hS => ?_)
  replace h := bo_o h
  obtain ⟨T4, e5, h⟩ := h
  refine tw_iast (q := 2) hx hb hK hR (fun _ h9 => h9) hS rfl (fun _ => rfl) e5 dX5_load_57 (fun H locs hR hS => ?_)
  exact lX5_load_58 B _ h H locs ls hR hS (lv_sub hl [0] rfl)
noncomputable def fX5_load  (T : TW) : Option ((Int32 × TW)) :=
  nm_ (tsI T 6 0) fun T1 =>
  nm_ (tsI T1 9 0) fun T3 =>
  nm_ (tsI T3 11 0) fun T5 =>
  nm_ (tsI T5 13 0) fun T7 =>
  (fX5_begins 2 T7).bind fun T10 =>
  (fX5_reads T10).bind fun T12 =>
  b2_ (fX5_isWord 0 T12) fun x15 T14 =>
  if x15 = 0 then (
    (fX5_fails 1 T14).bind fun T18 =>
    fX5_load_b45 T18
  ) else (
    fX5_load_b45 T14
  )
theorem bX5_load_0 {p : Program} {l : Launch} {e : Env} {s : State} {m : MethodId} {args : Array Value} {below : List Frame} {meth : Method} {c : Code} {H : Heap} {locs : List Loc} {ls : Array Slot} {G : gE} {o : Nat} (B : gB G RX5 cX5_load 1 (some .int) p s m args meth c)  {T : TW} {r : (Int32 × TW)} (h : fX5_load T = some r)   (hR : RepT G o T H) (hS : va_S (tFr o) s.heap H locs) (hl : lv_has ls 1 [(0, .ref o)]) : W p l e (gRm 10 391) s m args below meth c H locs 0 0 (twZ below args s G o (some (.int r.1)) r.2) (F0 m 0 ls []) := by
  have B0 := B
  obtain ⟨hx, hb, hml, hown, hts, hr, hlk, hK⟩ := B0
  unfold fX5_load at h
  refine lv_aload_n hx hb dX5_load_0 rfl (lv_at hl 0 rfl) ?_
  refine lv_iconst (v := 0) hx hb dX5_load_1 (by decide) ?_
  replace h := nm_o h
  obtain ⟨T1, e2, h⟩ := h
  refine tw_putI (k := 6) (x := 0) (ty := .int) (T' := T1) hx hb hts hown hK hR (fun _ h9 => h9) hS (by decide) rfl e2 q2439 (fun _ h9 => h9) rfl (by decide +kernel) rfl rfl dX5_load_2 (fun H locs hR hS => ?_)
  refine lv_aload_n hx hb dX5_load_5 rfl (lv_at hl 0 rfl) ?_
  refine lv_iconst (v := 0) hx hb dX5_load_6 (by decide) ?_
  replace h := nm_o h
  obtain ⟨T3, e4, h⟩ := h
  refine tw_putI (k := 9) (x := 0) (ty := .int) (T' := T3) hx hb hts hown hK hR (fun _ h9 => h9) hS (by decide) rfl e4 q2442 (fun _ h9 => h9) rfl (by decide +kernel) rfl rfl dX5_load_7 (fun H locs hR hS => ?_)
  refine lv_aload_n hx hb dX5_load_10 rfl (lv_at hl 0 rfl) ?_
  refine lv_iconst (v := 0) hx hb dX5_load_11 (by decide) ?_
  replace h := nm_o h
  obtain ⟨T5, e6, h⟩ := h
  refine tw_putI (k := 11) (x := 0) (ty := .int) (T' := T5) hx hb hts hown hK hR (fun _ h9 => h9) hS (by decide) rfl e6 q2444 (fun _ h9 => h9) rfl (by decide +kernel) rfl rfl dX5_load_12 (fun H locs hR hS => ?_)
  refine lv_aload_n hx hb dX5_load_15 rfl (lv_at hl 0 rfl) ?_
  refine lv_iconst (v := 0) hx hb dX5_load_16 (by decide) ?_
  replace h := nm_o h
  obtain ⟨T7, e8, h⟩ := h
  refine tw_putI (k := 13) (x := 0) (ty := .int) (T' := T7) hx hb hts hown hK hR (fun _ h9 => h9) hS (by decide) rfl e8 q2446 (fun _ h9 => h9) rfl (by decide +kernel) rfl rfl dX5_load_17 (fun H locs hR hS => ?_)
  refine lv_aload_n hx hb dX5_load_20 rfl (lv_at hl 0 rfl) ?_
  refine tw_get (k := 1) (v := .ref (o + 2)) hx hb hts hown hK hR (by decide) q2434 rfl (fun _ h9 => h9) dX5_load_21 ?_
  replace h := bo_o h
  obtain ⟨T10, e9, h⟩ := h
  refine tw_callS 1 (As := [.ref (o + 2)]) (rest := []) (v := none) (T' := T10) (st1 := []) hx hb hml hown hts hK hR (fun _ h9 => h9) (tw_A2 hR) hS (mX5_begins (v0 := 2) (by decide) e9) (lw_S q2430 q2431 q137 q2432) (by decide +kernel) (Nat.le_of_ble_eq_true rfl) (Nat.le_of_ble_eq_true rfl) (Nat.zero_le _) (Nat.zero_le _) rfl hl.1 (Nat.le_of_ble_eq_true rfl) dX5_load_24 rfl rfl (fun H locs hR hS => ?_)
  refine lv_aload_n hx hb dX5_load_27 rfl (lv_at hl 0 rfl) ?_
  replace h := bo_o h
  obtain ⟨T12, e11, h⟩ := h
  refine tw_callV 0 (As := []) (rest := []) (v := none) (T' := T12) (st1 := []) hx hb hml hown hts hK hR (fun _ h9 => h9) (tw_A2 hR) hS (mX5_reads e11) (lw_V q2550 q2552 qs57 q137 q2553) (by decide +kernel) (Nat.le_of_ble_eq_true rfl) (Nat.le_of_ble_eq_true rfl) (Nat.zero_le _) (Nat.zero_le _) rfl hl.1 (Nat.le_of_ble_eq_true rfl) dX5_load_28 rfl rfl (fun H locs hR hS => ?_)
  refine lv_aload_n hx hb dX5_load_31 rfl (lv_at hl 0 rfl) ?_
  refine va_ldcS hx hb hown (hK.2.2.1 _ (List.mem_of_getElem? (i := 5) rfl)) dX5_load_32 ?_
  replace h := b2_o h
  obtain ⟨x15, T14, e13, h⟩ := h
  refine tw_callV 1 (As := [.ref (gK G 0)]) (rest := []) (v := (some (.int x15))) (T' := T14) (st1 := [.int x15]) hx hb hml hown hts hK hR (fun _ h9 => h9) (tw_A2 hR) hS (mX5_isWord (v1 := 0) (by decide) e13) (lw_V q2566 q2568 qs60 q137 q2569) (by decide +kernel) (Nat.le_of_ble_eq_true rfl) (Nat.le_of_ble_eq_true rfl) (Nat.zero_le _) (Nat.zero_le _) rfl hl.1 (Nat.le_of_ble_eq_true rfl) dX5_load_34 rfl rfl (fun H locs hR hS => ?_)
  refine lv_if_ne (tgt := 45) hx hb dX5_load_37 (by decide) (fun c16 => ?_) (fun c16 => ?_)
  · replace h := if_o c16 h
    exact bX5_load_45 B h  hR hS (lv_sub hl [0] rfl)
  · replace h := it_o c16 h
    refine lv_aload_n hx hb dX5_load_40 rfl (lv_at hl 0 rfl) ?_
    refine lv_iconst (v := 1) hx hb dX5_load_41 (by decide) ?_
    replace h := bo_o h
    obtain ⟨T18, e17, h⟩ := h
    refine tw_callV 1 (As := [.int 1]) (rest := []) (v := none) (T' := T18) (st1 := []) hx hb hml hown hts hK hR (fun _ h9 => h9) (tw_A2 hR) hS (mX5_fails e17) (lw_V q2582 q2584 qs61 q137 q2585) (by decide +kernel) (Nat.le_of_ble_eq_true rfl) (Nat.le_of_ble_eq_true rfl) (Nat.zero_le _) (Nat.zero_le _) rfl hl.1 (Nat.le_of_ble_eq_true rfl) dX5_load_42 rfl rfl (fun H locs hR hS => ?_)
    exact bX5_load_45 B h  hR hS (lv_sub hl [0] rfl)
theorem mX5_load {l : Launch} {G : gE} {o : Nat}  {T : TW} {r : (Int32 × TW)}  (h : fX5_load T = some r) : twM l G o yX5_load cX5_load 1 (some .int) 10 391 [.ref o] T (some (.int r.1)) r.2 :=
  tw_of (by decide +kernel) (Nat.le_of_ble_eq_true rfl) (fun p e s m args below meth c ls B hR hl => bX5_load_0 B h hR va_S.rf hl)
noncomputable def fX5_loadError  (T : TW) : Option ((Int32 × TW)) :=
  nm_ (tsI T 6 0) fun T1 =>
  some (tI T1 14, T1)
theorem bX5_loadError_0 {p : Program} {l : Launch} {e : Env} {s : State} {m : MethodId} {args : Array Value} {below : List Frame} {meth : Method} {c : Code} {H : Heap} {locs : List Loc} {ls : Array Slot} {G : gE} {o : Nat} (B : gB G RX5 cX5_loadError 1 (some .int) p s m args meth c)  {T : TW} {r : (Int32 × TW)} (h : fX5_loadError T = some r)   (hR : RepT G o T H) (hS : va_S (tFr o) s.heap H locs) (hl : lv_has ls 1 [(0, .ref o)]) : W p l e (gRm 0 0) s m args below meth c H locs 0 0 (twZ below args s G o (some (.int r.1)) r.2) (F0 m 0 ls []) := by
  have B0 := B
  obtain ⟨hx, hb, hml, hown, hts, hr, hlk, hK⟩ := B0
  unfold fX5_loadError at h
  refine lv_aload_n hx hb dX5_loadError_0 rfl (lv_at hl 0 rfl) ?_
  refine lv_iconst (v := 0) hx hb dX5_loadError_1 (by decide) ?_
  replace h := nm_o h
  obtain ⟨T1, e2, h⟩ := h
  refine tw_putI (k := 6) (x := 0) (ty := .int) (T' := T1) hx hb hts hown hK hR (fun _ h9 => h9) hS (by decide) rfl e2 q2439 (fun _ h9 => h9) rfl (by decide +kernel) rfl rfl dX5_loadError_2 (fun H locs hR hS => ?_)
  refine lv_aload_n hx hb dX5_loadError_5 rfl (lv_at hl 0 rfl) ?_
  refine tw_get (k := 14) (v := .int (tI T1 14)) hx hb hts hown hK hR (by decide) q2447 rfl (fun _ h9 => h9) dX5_loadError_6 ?_
  have eR := Option.some.inj h
  subst eR
  exact W.iret (v := tI T1 14) hx hb hr (fun t ht _ => tw_fin hR hS ht) hS.2.2 dX5_loadError_9
theorem mX5_loadError {l : Launch} {G : gE} {o : Nat}  {T : TW} {r : (Int32 × TW)}  (h : fX5_loadError T = some r) : twM l G o yX5_loadError cX5_loadError 1 (some .int) 0 0 [.ref o] T (some (.int r.1)) r.2 :=
  tw_of (by decide +kernel) (Nat.le_of_ble_eq_true rfl) (fun p e s m args below meth c ls B hR hl => bX5_loadError_0 B h hR va_S.rf hl)
noncomputable def fX5_loadStatement  (T : TW) : Option ((Int32 × TW)) :=
  nm_ (tsI T 6 0) fun T1 =>
  some (tI T1 15, T1)
theorem bX5_loadStatement_0 {p : Program} {l : Launch} {e : Env} {s : State} {m : MethodId} {args : Array Value} {below : List Frame} {meth : Method} {c : Code} {H : Heap} {locs : List Loc} {ls : Array Slot} {G : gE} {o : Nat} (B : gB G RX5 cX5_loadStatement 1 (some .int) p s m args meth c)  {T : TW} {r : (Int32 × TW)} (h : fX5_loadStatement T = some r)   (hR : RepT G o T H) (hS : va_S (tFr o) s.heap H locs) (hl : lv_has ls 1 [(0, .ref o)]) : W p l e (gRm 0 0) s m args below meth c H locs 0 0 (twZ below args s G o (some (.int r.1)) r.2) (F0 m 0 ls []) := by
  have B0 := B
  obtain ⟨hx, hb, hml, hown, hts, hr, hlk, hK⟩ := B0
  unfold fX5_loadStatement at h
  refine lv_aload_n hx hb dX5_loadStatement_0 rfl (lv_at hl 0 rfl) ?_
  refine lv_iconst (v := 0) hx hb dX5_loadStatement_1 (by decide) ?_
  replace h := nm_o h
  obtain ⟨T1, e2, h⟩ := h
  refine tw_putI (k := 6) (x := 0) (ty := .int) (T' := T1) hx hb hts hown hK hR (fun _ h9 => h9) hS (by decide) rfl e2 q2439 (fun _ h9 => h9) rfl (by decide +kernel) rfl rfl dX5_loadStatement_2 (fun H locs hR hS => ?_)
  refine lv_aload_n hx hb dX5_loadStatement_5 rfl (lv_at hl 0 rfl) ?_
  refine tw_get (k := 15) (v := .int (tI T1 15)) hx hb hts hown hK hR (by decide) q2448 rfl (fun _ h9 => h9) dX5_loadStatement_6 ?_
  have eR := Option.some.inj h
  subst eR
  exact W.iret (v := tI T1 15) hx hb hr (fun t ht _ => tw_fin hR hS ht) hS.2.2 dX5_loadStatement_9
theorem mX5_loadStatement {l : Launch} {G : gE} {o : Nat}  {T : TW} {r : (Int32 × TW)}  (h : fX5_loadStatement T = some r) : twM l G o yX5_loadStatement cX5_loadStatement 1 (some .int) 0 0 [.ref o] T (some (.int r.1)) r.2 :=
  tw_of (by decide +kernel) (Nat.le_of_ble_eq_true rfl) (fun p e s m args below meth c ls B hR hl => bX5_loadStatement_0 B h hR va_S.rf hl)
noncomputable def fX5_isThrown_b10 (v1 : Int32) (s1 : Int32) (T : TW) : Option ((Int32 × TW)) :=
  nm_ (tsI T 6 s1) fun T1 =>
  if v1 = 0 then (
    some (1, T1)
  ) else (
    some (0, T1)
  )
theorem bX5_isThrown_10 {p : Program} {l : Launch} {e : Env} {s : State} {m : MethodId} {args : Array Value} {below : List Frame} {meth : Method} {c : Code} {H : Heap} {locs : List Loc} {ls : Array Slot} {G : gE} {o : Nat} (B : gB G RX5 cX5_isThrown 3 (some .boolean) p s m args meth c) {v1 : Int32} {s1 : Int32} {T : TW} {r : (Int32 × TW)} (h : fX5_isThrown_b10 v1 s1 T = some r)   (hR : RepT G o T H) (hS : va_S (tFr o) s.heap H locs) (hl : lv_has ls 3 [(1, .int v1)]) : W p l e (gRm 0 0) s m args below meth c H locs 0 0 (twZ below args s G o (some (.int r.1)) r.2) (F0 m 10 ls [.int s1, .ref o]) := by
  have B0 := B
  obtain ⟨hx, hb, hml, hown, hts, hr, hlk, hK⟩ := B0
  unfold fX5_isThrown_b10 at h
  replace h := nm_o h
  obtain ⟨T1, e2, h⟩ := h
  refine tw_putI (k := 6) (x := s1) (ty := .int) (T' := T1) hx hb hts hown hK hR (fun _ h9 => h9) hS (by decide) rfl e2 q2439 (fun _ h9 => h9) rfl (by decide +kernel) rfl rfl dX5_isThrown_10 (fun H locs hR hS => ?_)
  refine lv_iload_n hx hb dX5_isThrown_13 rfl (lv_at hl 0 rfl) ?_
  refine lv_if_ne (tgt := 21) hx hb dX5_isThrown_14 (by decide) (fun c3 => ?_) (fun c3 => ?_)
  · replace h := if_o c3 h
    refine lv_iconst (v := 0) hx hb dX5_isThrown_21 (by decide) ?_
    have eR := Option.some.inj h
    subst eR
    exact W.zret (v := 0) hx hb hr rfl (fun t ht _ => tw_fin hR hS ht) hS.2.2 dX5_isThrown_22
  · replace h := it_o c3 h
    refine lv_iconst (v := 1) hx hb dX5_isThrown_17 (by decide) ?_
    refine lv_goto (tgt := 22) hx hb dX5_isThrown_18 (by decide) ?_
    have eR := Option.some.inj h
    subst eR
    exact W.zret (v := 1) hx hb hr rfl (fun t ht _ => tw_fin hR hS ht) hS.2.2 dX5_isThrown_22
noncomputable def fX5_isThrown (v1 : Int32) (v2 : Int32) (T : TW) : Option ((Int32 × TW)) :=
  if v1 = 0 then (
    fX5_isThrown_b10 v1 v2 T
  ) else (
    fX5_isThrown_b10 v1 0 T
  )
theorem bX5_isThrown_0 {p : Program} {l : Launch} {e : Env} {s : State} {m : MethodId} {args : Array Value} {below : List Frame} {meth : Method} {c : Code} {H : Heap} {locs : List Loc} {ls : Array Slot} {G : gE} {o : Nat} (B : gB G RX5 cX5_isThrown 3 (some .boolean) p s m args meth c) {v1 : Int32} {v2 : Int32} {T : TW} {r : (Int32 × TW)} (h : fX5_isThrown v1 v2 T = some r)   (hR : RepT G o T H) (hS : va_S (tFr o) s.heap H locs) (hl : lv_has ls 3 [(0, .ref o), (1, .int v1), (2, .int v2)]) : W p l e (gRm 0 0) s m args below meth c H locs 0 0 (twZ below args s G o (some (.int r.1)) r.2) (F0 m 0 ls []) := by
  have B0 := B
  obtain ⟨hx, hb, hml, hown, hts, hr, hlk, hK⟩ := B0
  unfold fX5_isThrown at h
  refine lv_aload_n hx hb dX5_isThrown_0 rfl (lv_at hl 0 rfl) ?_
  refine lv_iload_n hx hb dX5_isThrown_1 rfl (lv_at hl 1 rfl) ?_
  refine lv_if_eq (tgt := 9) hx hb dX5_isThrown_2 (by decide) (fun c1 => ?_) (fun c1 => ?_)
  · replace h := it_o c1 h
    refine lv_iload_n hx hb dX5_isThrown_9 rfl (lv_at hl 2 rfl) ?_
    exact bX5_isThrown_10 B h  hR hS (lv_sub hl [1] rfl)
  · replace h := if_o c1 h
    refine lv_iconst (v := 0) hx hb dX5_isThrown_5 (by decide) ?_
    refine lv_goto (tgt := 10) hx hb dX5_isThrown_6 (by decide) ?_
    exact bX5_isThrown_10 B h  hR hS (lv_sub hl [1] rfl)
theorem mX5_isThrown {l : Launch} {G : gE} {o : Nat} {v1 : Int32} {v2 : Int32} {T : TW} {r : (Int32 × TW)}  (h : fX5_isThrown v1 v2 T = some r) : twM l G o yX5_isThrown cX5_isThrown 3 (some .boolean) 0 0 [.ref o, .int v1, .int v2] T (some (.int r.1)) r.2 :=
  tw_of (by decide +kernel) (Nat.le_of_ble_eq_true rfl) (fun p e s m args below meth c ls B hR hl => bX5_isThrown_0 B h hR va_S.rf hl)
noncomputable def fX5_arc (v1 : Int32) (v2 : Int32) (T : TW) : Option ((Int32 × TW)) :=
  b2_ (fX5_atArc v1 v2 T) fun x3 T2 =>
  (rd_ (tA T2 1) 172 x3).bind fun x4 =>
  some (x4, T2)
theorem bX5_arc_0 {p : Program} {l : Launch} {e : Env} {s : State} {m : MethodId} {args : Array Value} {below : List Frame} {meth : Method} {c : Code} {H : Heap} {locs : List Loc} {ls : Array Slot} {G : gE} {o : Nat} (B : gB G RX5 cX5_arc 3 (some .int) p s m args meth c) {v1 : Int32} {v2 : Int32} {T : TW} {r : (Int32 × TW)} (h : fX5_arc v1 v2 T = some r)   (hR : RepT G o T H) (hS : va_S (tFr o) s.heap H locs) (hl : lv_has ls 3 [(0, .ref o), (1, .int v1), (2, .int v2)]) : W p l e (gRm 1 21) s m args below meth c H locs 0 0 (twZ below args s G o (some (.int r.1)) r.2) (F0 m 0 ls []) := by
  have B0 := B
  obtain ⟨hx, hb, hml, hown, hts, hr, hlk, hK⟩ := B0
  unfold fX5_arc at h
  refine lv_aload_n hx hb dX5_arc_0 rfl (lv_at hl 0 rfl) ?_
  refine tw_get (k := 0) (v := .ref (o + 1)) hx hb hts hown hK hR (by decide) q2433 rfl (fun _ h9 => h9) dX5_arc_1 ?_
  refine lv_iload_n hx hb dX5_arc_4 rfl (lv_at hl 1 rfl) ?_
  refine lv_iload_n hx hb dX5_arc_5 rfl (lv_at hl 2 rfl) ?_
  replace h := b2_o h
  obtain ⟨x3, T2, e1, h⟩ := h
  refine tw_callS 2 (As := [.int v1, .int v2]) (rest := [.ref (o + 1)]) (v := (some (.int x3))) (T' := T2) (st1 := [.int x3, .ref (o + 1)]) hx hb hml hown hts hK hR (fun _ h9 => h9) (tw_A2 hR) hS (mX5_atArc e1) (lw_S q2605 q2606 q137 q2607) (by decide +kernel) (Nat.le_of_ble_eq_true rfl) (Nat.le_of_ble_eq_true rfl) (Nat.zero_le _) (Nat.zero_le _) rfl hl.1 (Nat.le_of_ble_eq_true rfl) dX5_arc_6 rfl rfl (fun H locs hR hS => ?_)
  replace h := bo_o h
  obtain ⟨x4, e5, h⟩ := h
  refine tw_iald (q := 1) hx hb hK hR rfl e5 dX5_arc_9 ?_
  have eR := Option.some.inj h
  subst eR
  exact W.iret (v := x4) hx hb hr (fun t ht _ => tw_fin hR hS ht) hS.2.2 dX5_arc_10
theorem mX5_arc {l : Launch} {G : gE} {o : Nat} {v1 : Int32} {v2 : Int32} {T : TW} {r : (Int32 × TW)}  (h : fX5_arc v1 v2 T = some r) : twM l G o yX5_arc cX5_arc 3 (some .int) 1 21 [.ref o, .int v1, .int v2] T (some (.int r.1)) r.2 :=
  tw_of (by decide +kernel) (Nat.le_of_ble_eq_true rfl) (fun p e s m args below meth c ls B hR hl => bX5_arc_0 B h hR va_S.rf hl)
noncomputable def fX5_count_b68 (v1 : Int32) (v3 : Int32) (s0 : Int32) (s1 : Int32) (T : TW) : Option (Sum (Int32 × Int32 × TW) ((Int32 × TW))) :=
  nm_ (s0 + s1) fun x1 =>
  some (.inl (x1, v3 + 1, T))
theorem bX5_count_68 {p : Program} {l : Launch} {e : Env} {s : State} {m : MethodId} {args : Array Value} {below : List Frame} {meth : Method} {c : Code} {H : Heap} {locs : List Loc} {ls : Array Slot} {G : gE} {o : Nat} (B : gB G RX5 cX5_count 4 (some .int) p s m args meth c) {v1 : Int32} {v3 : Int32} {s0 : Int32} {s1 : Int32} {T : TW} {x : Sum (Int32 × Int32 × TW) ((Int32 × TW))} {r : (Int32 × TW)} (h : fX5_count_b68 v1 v3 s0 s1 T = some x)  (k34 : ∀ (v2' : Int32) (v3' : Int32) (T' : TW), x = (.inl (v2', v3', T')) → ∀ (H : Heap) (locs : List Loc) (ls : Array Slot), RepT G o (T') H → va_S (tFr o) s.heap H locs → lv_has ls 4 [(0, .ref o), (1, .int v1), (2, .int v2'), (3, .int v3')] → W p l e (gRm 2 43) s m args below meth c H locs 0 0 (twZ below args s G o (some (.int r.1)) r.2) (F0 m 34 ls [])) (kR : ∀ q, x = (.inr q) → q = r) (hR : RepT G o T H) (hS : va_S (tFr o) s.heap H locs) (hl : lv_has ls 4 [(0, .ref o), (1, .int v1), (3, .int v3)]) : W p l e (gRm 2 43) s m args below meth c H locs 0 0 (twZ below args s G o (some (.int r.1)) r.2) (F0 m 68 ls [.int s1, .int s0]) := by
  have B0 := B
  obtain ⟨hx, hb, hml, hown, hts, hr, hlk, hK⟩ := B0
  unfold fX5_count_b68 at h
  refine lv_iadd hx hb dX5_count_68 ?_
  replace h := nm_o h
  obtain ⟨x1, e2, h⟩ := h
  refine lv_istore_n (lv' := [(2, .int x1), (0, .ref o), (1, .int v1), (3, .int v3)]) hx hb dX5_count_69 rfl hl (by decide) (by subst e2; rfl) (fun ls hl => ?_)
  refine lv_iinc (v := v3 + 1) (lv' := [(3, .int (v3 + 1)), (2, .int x1), (0, .ref o), (1, .int v1)]) hx hb dX5_count_70 hl (k := 3) rfl rfl (by decide) rfl (fun ls hl => ?_)
  refine lv_goto (tgt := 34) hx hb dX5_count_73 (by decide) ?_
  exact k34 _ _ _ (Option.some.inj h).symm H locs ls hR hS (lv_sub hl [2, 3, 1, 0] rfl)
noncomputable def fX5_count_b57 (v1 : Int32) (v3 : Int32) (s0 : Int32) (s2 : Int32) (s3 : Int32) (T : TW) : Option (Sum (Int32 × Int32 × TW) ((Int32 × TW))) :=
  b2_ (fX5_arc s2 s3 T) fun x3 T2 =>
  if x3 ≤ 0 then (
    fX5_count_b68 v1 v3 s0 0 T2
  ) else (
    fX5_count_b68 v1 v3 s0 1 T2
  )
theorem bX5_count_57 {p : Program} {l : Launch} {e : Env} {s : State} {m : MethodId} {args : Array Value} {below : List Frame} {meth : Method} {c : Code} {H : Heap} {locs : List Loc} {ls : Array Slot} {G : gE} {o : Nat} (B : gB G RX5 cX5_count 4 (some .int) p s m args meth c) {v1 : Int32} {v3 : Int32} {s0 : Int32} {s2 : Int32} {s3 : Int32} {T : TW} {x : Sum (Int32 × Int32 × TW) ((Int32 × TW))} {r : (Int32 × TW)} (h : fX5_count_b57 v1 v3 s0 s2 s3 T = some x)  (k34 : ∀ (v2' : Int32) (v3' : Int32) (T' : TW), x = (.inl (v2', v3', T')) → ∀ (H : Heap) (locs : List Loc) (ls : Array Slot), RepT G o (T') H → va_S (tFr o) s.heap H locs → lv_has ls 4 [(0, .ref o), (1, .int v1), (2, .int v2'), (3, .int v3')] → W p l e (gRm 2 43) s m args below meth c H locs 0 0 (twZ below args s G o (some (.int r.1)) r.2) (F0 m 34 ls [])) (kR : ∀ q, x = (.inr q) → q = r) (hR : RepT G o T H) (hS : va_S (tFr o) s.heap H locs) (hl : lv_has ls 4 [(0, .ref o), (1, .int v1), (3, .int v3)]) : W p l e (gRm 2 43) s m args below meth c H locs 0 0 (twZ below args s G o (some (.int r.1)) r.2) (F0 m 57 ls [.int s3, .int s2, .ref o, .int s0]) := by
  have B0 := B
  obtain ⟨hx, hb, hml, hown, hts, hr, hlk, hK⟩ := B0
  unfold fX5_count_b57 at h
  replace h := b2_o h
  obtain ⟨x3, T2, e1, h⟩ := h
  refine tw_callV 2 (As := [.int s2, .int s3]) (rest := [.int s0]) (v := (some (.int x3))) (T' := T2) (st1 := [.int x3, .int s0]) hx hb hml hown hts hK hR (fun _ h9 => h9) (tw_A2 hR) hS (mX5_arc e1) (lw_V q2637 q2639 qs69 q137 q2640) (by decide +kernel) (Nat.le_of_ble_eq_true rfl) (Nat.le_of_ble_eq_true rfl) (Nat.zero_le _) (Nat.zero_le _) rfl hl.1 (Nat.le_of_ble_eq_true rfl) dX5_count_57 rfl rfl (fun H locs hR hS => ?_)
  refine lv_if_le (tgt := 67) hx hb dX5_count_60 (by decide) (fun c4 => ?_) (fun c4 => ?_)
  · replace h := it_o c4 h
    refine lv_iconst (v := 0) hx hb dX5_count_67 (by decide) ?_
    exact bX5_count_68 B h k34 kR hR hS (lv_sub hl [0, 1, 2] rfl)
  · replace h := if_o c4 h
    refine lv_iconst (v := 1) hx hb dX5_count_63 (by decide) ?_
    refine lv_goto (tgt := 68) hx hb dX5_count_64 (by decide) ?_
    exact bX5_count_68 B h k34 kR hR hS (lv_sub hl [0, 1, 2] rfl)
noncomputable def fX5_count_b34 (v1 : Int32) (v2 : Int32) (v3 : Int32) (T : TW) : Option (Sum (Int32 × Int32 × TW) ((Int32 × TW))) :=
  (rd_ (tA T 1) 172 1).bind fun x1 =>
  if x1 ≤ v3 then (
    some (.inr (v2, T))
  ) else (
    if v1 = 3 then (
      fX5_count_b57 v1 v3 v2 v3 3 T
    ) else (
      fX5_count_b57 v1 v3 v2 v3 5 T
    )
  )
theorem bX5_count_34 {p : Program} {l : Launch} {e : Env} {s : State} {m : MethodId} {args : Array Value} {below : List Frame} {meth : Method} {c : Code} {H : Heap} {locs : List Loc} {ls : Array Slot} {G : gE} {o : Nat} (B : gB G RX5 cX5_count 4 (some .int) p s m args meth c) {v1 : Int32} {v2 : Int32} {v3 : Int32} {T : TW} {x : Sum (Int32 × Int32 × TW) ((Int32 × TW))} {r : (Int32 × TW)} (h : fX5_count_b34 v1 v2 v3 T = some x)  (k34 : ∀ (v2' : Int32) (v3' : Int32) (T' : TW), x = (.inl (v2', v3', T')) → ∀ (H : Heap) (locs : List Loc) (ls : Array Slot), RepT G o (T') H → va_S (tFr o) s.heap H locs → lv_has ls 4 [(0, .ref o), (1, .int v1), (2, .int v2'), (3, .int v3')] → W p l e (gRm 2 43) s m args below meth c H locs 0 0 (twZ below args s G o (some (.int r.1)) r.2) (F0 m 34 ls [])) (kR : ∀ q, x = (.inr q) → q = r) (hR : RepT G o T H) (hS : va_S (tFr o) s.heap H locs) (hl : lv_has ls 4 [(0, .ref o), (1, .int v1), (2, .int v2), (3, .int v3)]) : W p l e (gRm 2 43) s m args below meth c H locs 0 0 (twZ below args s G o (some (.int r.1)) r.2) (F0 m 34 ls []) := by
  have B0 := B
  obtain ⟨hx, hb, hml, hown, hts, hr, hlk, hK⟩ := B0
  unfold fX5_count_b34 at h
  refine lv_iload_n hx hb dX5_count_34 rfl (lv_at hl 3 rfl) ?_
  refine lv_aload_n hx hb dX5_count_35 rfl (lv_at hl 0 rfl) ?_
  refine tw_get (k := 0) (v := .ref (o + 1)) hx hb hts hown hK hR (by decide) q2433 rfl (fun _ h9 => h9) dX5_count_36 ?_
  refine lv_iconst (v := 1) hx hb dX5_count_39 (by decide) ?_
  replace h := bo_o h
  obtain ⟨x1, e2, h⟩ := h
  refine tw_iald (q := 1) hx hb hK hR rfl e2 dX5_count_40 ?_
  refine lv_icmp_ge (tgt := 76) hx hb dX5_count_41 (by decide) (fun c3 => ?_) (fun c3 => ?_)
  · replace h := it_o c3 h
    refine lv_iload_n hx hb dX5_count_76 rfl (lv_at hl 2 rfl) ?_
    have eR := kR _ (Option.some.inj h).symm
    subst eR
    exact W.iret (v := v2) hx hb hr (fun t ht _ => tw_fin hR hS ht) hS.2.2 dX5_count_77
  · replace h := if_o c3 h
    refine lv_iload_n hx hb dX5_count_44 rfl (lv_at hl 2 rfl) ?_
    refine lv_aload_n hx hb dX5_count_45 rfl (lv_at hl 0 rfl) ?_
    refine lv_iload_n hx hb dX5_count_46 rfl (lv_at hl 3 rfl) ?_
    refine lv_iload_n hx hb dX5_count_47 rfl (lv_at hl 1 rfl) ?_
    refine lv_iconst (v := 3) hx hb dX5_count_48 (by decide) ?_
    refine lv_icmp_ne (tgt := 56) hx hb dX5_count_49 (by decide) (fun c4 => ?_) (fun c4 => ?_)
    · replace h := if_o c4 h
      refine lv_iconst (v := 5) hx hb dX5_count_56 (by decide) ?_
      exact bX5_count_57 B h k34 kR hR hS (lv_sub hl [0, 1, 3] rfl)
    · replace h := it_o c4 h
      refine lv_iconst (v := 3) hx hb dX5_count_52 (by decide) ?_
      refine lv_goto (tgt := 57) hx hb dX5_count_53 (by decide) ?_
      exact bX5_count_57 B h k34 kR hR hS (lv_sub hl [0, 1, 3] rfl)
noncomputable def fX5_count_l34 (v1 : Int32) (v2 : Int32) (v3 : Int32) (T : TW) : Option ((Int32 × TW)) := whileO (fun q => fX5_count_b34 v1 q.1 q.2.1 q.2.2) (v2, v3, T)
theorem lX5_count_34 {p : Program} {l : Launch} {e : Env} {s : State} {m : MethodId} {args : Array Value} {below : List Frame} {meth : Method} {c : Code} {G : gE} {o : Nat} (B : gB G RX5 cX5_count 4 (some .int) p s m args meth c) {v1 : Int32} {r : (Int32 × TW)}   : ∀ (v2 : Int32) (v3 : Int32) (T : TW), fX5_count_l34 v1 v2 v3 T = some r → ∀ (H : Heap) (locs : List Loc) (ls : Array Slot), RepT G o (T) H → va_S (tFr o) s.heap H locs → lv_has ls 4 [(0, .ref o), (1, .int v1), (2, .int v2), (3, .int v3)] → W p l e (gRm 2 43) s m args below meth c H locs 0 0 (twZ below args s G o (some (.int r.1)) r.2) (F0 m 34 ls []) := by
  intro v2 v3 T h
  refine wh_walk (body := (fun q => fX5_count_b34 v1 q.1 q.2.1 q.2.2)) (P := (fun q : (Int32 × Int32 × TW) => ∀ (H : Heap) (locs : List Loc) (ls : Array Slot), RepT G o (q.2.2) H → va_S (tFr o) s.heap H locs → lv_has ls 4 [(0, .ref o), (1, .int v1), (2, .int (q.1)), (3, .int (q.2.1))] → W p l e (gRm 2 43) s m args below meth c H locs 0 0 (twZ below args s G o (some (.int r.1)) r.2) (F0 m 34 ls []))) (r := r) ?_ (v2, v3, T) h
  intro q y hy hL hr H locs ls hR hS hl
  exact bX5_count_34 (r := r) B hy (fun a0 a1 a2 e => hL (a0, a1, a2) e) (fun q e => hr q e) hR hS hl
noncomputable def fX5_count (v1 : Int32) (T : TW) : Option ((Int32 × TW)) :=
  b2_ (fX5_in v1 0 4 T) fun x3 T2 =>
  b2_ (fX5_isThrown x3 1 T2) fun x6 T5 =>
  if x6 = 0 then (
    if 3 ≤ v1 then (
      fX5_count_l34 v1 0 0 T5
    ) else (
      (rd_ (tA T5 1) 172 (0 + v1)).bind fun x9 =>
      some (x9, T5)
    )
  ) else (
    some (0, T5)
  )
theorem bX5_count_0 {p : Program} {l : Launch} {e : Env} {s : State} {m : MethodId} {args : Array Value} {below : List Frame} {meth : Method} {c : Code} {H : Heap} {locs : List Loc} {ls : Array Slot} {G : gE} {o : Nat} (B : gB G RX5 cX5_count 4 (some .int) p s m args meth c) {v1 : Int32} {T : TW} {r : (Int32 × TW)} (h : fX5_count v1 T = some r)   (hR : RepT G o T H) (hS : va_S (tFr o) s.heap H locs) (hl : lv_has ls 4 [(0, .ref o), (1, .int v1)]) : W p l e (gRm 2 43) s m args below meth c H locs 0 0 (twZ below args s G o (some (.int r.1)) r.2) (F0 m 0 ls []) := by
  have B0 := B
  obtain ⟨hx, hb, hml, hown, hts, hr, hlk, hK⟩ := B0
  unfold fX5_count at h
  refine lv_aload_n hx hb dX5_count_0 rfl (lv_at hl 0 rfl) ?_
  refine lv_iload_n hx hb dX5_count_1 rfl (lv_at hl 1 rfl) ?_
  refine lv_iconst (v := 0) hx hb dX5_count_2 (by decide) ?_
  refine lv_iconst (v := 4) hx hb dX5_count_3 (by decide) ?_
  replace h := b2_o h
  obtain ⟨x3, T2, e1, h⟩ := h
  refine tw_callS 3 (As := [.int v1, .int 0, .int 4]) (rest := [.ref o]) (v := (some (.int x3))) (T' := T2) (st1 := [.int x3, .ref o]) hx hb hml hown hts hK hR (fun _ h9 => h9) (tw_A2 hR) hS (mX5_in e1) (lw_S q2562 q2563 q137 q2564) (by decide +kernel) (Nat.le_of_ble_eq_true rfl) (Nat.le_of_ble_eq_true rfl) (Nat.zero_le _) (Nat.zero_le _) rfl hl.1 (Nat.le_of_ble_eq_true rfl) dX5_count_4 rfl rfl (fun H locs hR hS => ?_)
  refine lv_iconst (v := 1) hx hb dX5_count_7 (by decide) ?_
  replace h := b2_o h
  obtain ⟨x6, T5, e4, h⟩ := h
  refine tw_callV 2 (As := [.int x3, .int 1]) (rest := []) (v := (some (.int x6))) (T' := T5) (st1 := [.int x6]) hx hb hml hown hts hK hR (fun _ h9 => h9) (tw_A2 hR) hS (mX5_isThrown e4) (lw_V q2633 q2635 qs68 q137 q2636) (by decide +kernel) (Nat.le_of_ble_eq_true rfl) (Nat.le_of_ble_eq_true rfl) (Nat.zero_le _) (Nat.zero_le _) rfl hl.1 (Nat.le_of_ble_eq_true rfl) dX5_count_8 rfl rfl (fun H locs hR hS => ?_)
  refine lv_if_eq (tgt := 16) hx hb dX5_count_11 (by decide) (fun c7 => ?_) (fun c7 => ?_)
  · replace h := it_o c7 h
    refine lv_iload_n hx hb dX5_count_16 rfl (lv_at hl 1 rfl) ?_
    refine lv_iconst (v := 3) hx hb dX5_count_17 (by decide) ?_
    refine lv_icmp_ge (tgt := 30) hx hb dX5_count_18 (by decide) (fun c8 => ?_) (fun c8 => ?_)
    · replace h := it_o c8 h
      refine lv_iconst (v := 0) hx hb dX5_count_30 (by decide) ?_
      refine lv_istore_n (lv' := [(2, .int 0), (0, .ref o), (1, .int v1)]) hx hb dX5_count_31 rfl hl (by decide) rfl (fun ls hl => ?_)
      refine lv_iconst (v := 0) hx hb dX5_count_32 (by decide) ?_
      refine lv_istore_n (lv' := [(3, .int 0), (2, .int 0), (0, .ref o), (1, .int v1)]) hx hb dX5_count_33 rfl hl (by decide) rfl (fun ls hl => ?_)
      exact lX5_count_34 B _ _ _ h H locs ls hR hS (lv_sub hl [2, 3, 1, 0] rfl)
    · replace h := if_o c8 h
      refine lv_aload_n hx hb dX5_count_21 rfl (lv_at hl 0 rfl) ?_
      refine tw_get (k := 0) (v := .ref (o + 1)) hx hb hts hown hK hR (by decide) q2433 rfl (fun _ h9 => h9) dX5_count_22 ?_
      refine lv_iconst (v := 0) hx hb dX5_count_25 (by decide) ?_
      refine lv_iload_n hx hb dX5_count_26 rfl (lv_at hl 1 rfl) ?_
      refine lv_iadd hx hb dX5_count_27 ?_
      replace h := bo_o h
      obtain ⟨x9, e10, h⟩ := h
      refine tw_iald (q := 1) hx hb hK hR rfl e10 dX5_count_28 ?_
      have eR := Option.some.inj h
      subst eR
      exact W.iret (v := x9) hx hb hr (fun t ht _ => tw_fin hR hS ht) hS.2.2 dX5_count_29
  · replace h := if_o c7 h
    refine lv_iconst (v := 0) hx hb dX5_count_14 (by decide) ?_
    have eR := Option.some.inj h
    subst eR
    exact W.iret (v := 0) hx hb hr (fun t ht _ => tw_fin hR hS ht) hS.2.2 dX5_count_15
theorem mX5_count {l : Launch} {G : gE} {o : Nat} {v1 : Int32} {T : TW} {r : (Int32 × TW)}  (h : fX5_count v1 T = some r) : twM l G o yX5_count cX5_count 4 (some .int) 2 43 [.ref o, .int v1] T (some (.int r.1)) r.2 :=
  tw_of (by decide +kernel) (Nat.le_of_ble_eq_true rfl) (fun p e s m args below meth c ls B hR hl => bX5_count_0 B h hR va_S.rf hl)
noncomputable def fX5_isArc (v1 : Int32) (T : TW) : Option ((Int32 × TW)) :=
  (rd_ (tA T 1) 172 1).bind fun x1 =>
  b2_ (fX5_in v1 0 (x1 - 1) T) fun x5 T4 =>
  (bz_ x5).bind fun _ =>
  some (x5, T4)
theorem bX5_isArc_0 {p : Program} {l : Launch} {e : Env} {s : State} {m : MethodId} {args : Array Value} {below : List Frame} {meth : Method} {c : Code} {H : Heap} {locs : List Loc} {ls : Array Slot} {G : gE} {o : Nat} (B : gB G RX5 cX5_isArc 2 (some .boolean) p s m args meth c) {v1 : Int32} {T : TW} {r : (Int32 × TW)} (h : fX5_isArc v1 T = some r)   (hR : RepT G o T H) (hS : va_S (tFr o) s.heap H locs) (hl : lv_has ls 2 [(0, .ref o), (1, .int v1)]) : W p l e (gRm 1 22) s m args below meth c H locs 0 0 (twZ below args s G o (some (.int r.1)) r.2) (F0 m 0 ls []) := by
  have B0 := B
  obtain ⟨hx, hb, hml, hown, hts, hr, hlk, hK⟩ := B0
  unfold fX5_isArc at h
  refine lv_iload_n hx hb dX5_isArc_0 rfl (lv_at hl 1 rfl) ?_
  refine lv_iconst (v := 0) hx hb dX5_isArc_1 (by decide) ?_
  refine lv_aload_n hx hb dX5_isArc_2 rfl (lv_at hl 0 rfl) ?_
  refine tw_get (k := 0) (v := .ref (o + 1)) hx hb hts hown hK hR (by decide) q2433 rfl (fun _ h9 => h9) dX5_isArc_3 ?_
  refine lv_iconst (v := 1) hx hb dX5_isArc_6 (by decide) ?_
  replace h := bo_o h
  obtain ⟨x1, e2, h⟩ := h
  refine tw_iald (q := 1) hx hb hK hR rfl e2 dX5_isArc_7 ?_
  refine lv_iconst (v := 1) hx hb dX5_isArc_8 (by decide) ?_
  refine lv_isub hx hb dX5_isArc_9 ?_
  replace h := b2_o h
  obtain ⟨x5, T4, e3, h⟩ := h
  refine tw_callS 3 (As := [.int v1, .int 0, .int (x1 - 1)]) (rest := []) (v := (some (.int x5))) (T' := T4) (st1 := [.int x5]) hx hb hml hown hts hK hR (fun _ h9 => h9) (tw_A2 hR) hS (mX5_in e3) (lw_S q2562 q2563 q137 q2564) (by decide +kernel) (Nat.le_of_ble_eq_true rfl) (Nat.le_of_ble_eq_true rfl) (Nat.zero_le _) (Nat.zero_le _) rfl hl.1 (Nat.le_of_ble_eq_true rfl) dX5_isArc_10 rfl rfl (fun H locs hR hS => ?_)
  replace h := bo_o h
  obtain ⟨_, e6, h⟩ := h
  have eR := Option.some.inj h
  subst eR
  exact W.zret (v := x5) hx hb hr (bz_n e6) (fun t ht _ => tw_fin hR hS ht) hS.2.2 dX5_isArc_13
theorem mX5_isArc {l : Launch} {G : gE} {o : Nat} {v1 : Int32} {T : TW} {r : (Int32 × TW)}  (h : fX5_isArc v1 T = some r) : twM l G o yX5_isArc cX5_isArc 2 (some .boolean) 1 22 [.ref o, .int v1] T (some (.int r.1)) r.2 :=
  tw_of (by decide +kernel) (Nat.le_of_ble_eq_true rfl) (fun p e s m args below meth c ls B hR hl => bX5_isArc_0 B h hR va_S.rf hl)
noncomputable def fX5_arcValue (v1 : Int32) (v2 : Int32) (T : TW) : Option ((Int32 × TW)) :=
  b2_ (fX5_isArc v1 T) fun x3 T2 =>
  b2_ (fX5_isThrown x3 1 T2) fun x6 T5 =>
  if x6 = 0 then (
    b2_ (fX5_in v2 0 5 T5) fun x10 T9 =>
    b2_ (fX5_isThrown x10 2 T9) fun x13 T12 =>
    if x13 = 0 then (
      b2_ (fX5_arc v1 v2 T12) fun x17 T16 =>
      some (x17, T16)
    ) else (
      some (0, T12)
    )
  ) else (
    some (0, T5)
  )
theorem bX5_arcValue_0 {p : Program} {l : Launch} {e : Env} {s : State} {m : MethodId} {args : Array Value} {below : List Frame} {meth : Method} {c : Code} {H : Heap} {locs : List Loc} {ls : Array Slot} {G : gE} {o : Nat} (B : gB G RX5 cX5_arcValue 3 (some .int) p s m args meth c) {v1 : Int32} {v2 : Int32} {T : TW} {r : (Int32 × TW)} (h : fX5_arcValue v1 v2 T = some r)   (hR : RepT G o T H) (hS : va_S (tFr o) s.heap H locs) (hl : lv_has ls 3 [(0, .ref o), (1, .int v1), (2, .int v2)]) : W p l e (gRm 2 43) s m args below meth c H locs 0 0 (twZ below args s G o (some (.int r.1)) r.2) (F0 m 0 ls []) := by
  have B0 := B
  obtain ⟨hx, hb, hml, hown, hts, hr, hlk, hK⟩ := B0
  unfold fX5_arcValue at h
  refine lv_aload_n hx hb dX5_arcValue_0 rfl (lv_at hl 0 rfl) ?_
  refine lv_aload_n hx hb dX5_arcValue_1 rfl (lv_at hl 0 rfl) ?_
  refine lv_iload_n hx hb dX5_arcValue_2 rfl (lv_at hl 1 rfl) ?_
  replace h := b2_o h
  obtain ⟨x3, T2, e1, h⟩ := h
  refine tw_callV 1 (As := [.int v1]) (rest := [.ref o]) (v := (some (.int x3))) (T' := T2) (st1 := [.int x3, .ref o]) hx hb hml hown hts hK hR (fun _ h9 => h9) (tw_A2 hR) hS (mX5_isArc e1) (lw_V q2645 q2647 qs70 q137 q2648) (by decide +kernel) (Nat.le_of_ble_eq_true rfl) (Nat.le_of_ble_eq_true rfl) (Nat.zero_le _) (Nat.zero_le _) rfl hl.1 (Nat.le_of_ble_eq_true rfl) dX5_arcValue_3 rfl rfl (fun H locs hR hS => ?_)
  refine lv_iconst (v := 1) hx hb dX5_arcValue_6 (by decide) ?_
  replace h := b2_o h
  obtain ⟨x6, T5, e4, h⟩ := h
  refine tw_callV 2 (As := [.int x3, .int 1]) (rest := []) (v := (some (.int x6))) (T' := T5) (st1 := [.int x6]) hx hb hml hown hts hK hR (fun _ h9 => h9) (tw_A2 hR) hS (mX5_isThrown e4) (lw_V q2633 q2635 qs68 q137 q2636) (by decide +kernel) (Nat.le_of_ble_eq_true rfl) (Nat.le_of_ble_eq_true rfl) (Nat.zero_le _) (Nat.zero_le _) rfl hl.1 (Nat.le_of_ble_eq_true rfl) dX5_arcValue_7 rfl rfl (fun H locs hR hS => ?_)
  refine lv_if_ne (tgt := 27) hx hb dX5_arcValue_10 (by decide) (fun c7 => ?_) (fun c7 => ?_)
  · replace h := if_o c7 h
    refine lv_iconst (v := 0) hx hb dX5_arcValue_27 (by decide) ?_
    have eR := Option.some.inj h
    subst eR
    exact W.iret (v := 0) hx hb hr (fun t ht _ => tw_fin hR hS ht) hS.2.2 dX5_arcValue_28
  · replace h := it_o c7 h
    refine lv_aload_n hx hb dX5_arcValue_13 rfl (lv_at hl 0 rfl) ?_
    refine lv_iload_n hx hb dX5_arcValue_14 rfl (lv_at hl 2 rfl) ?_
    refine lv_iconst (v := 0) hx hb dX5_arcValue_15 (by decide) ?_
    refine lv_iconst (v := 5) hx hb dX5_arcValue_16 (by decide) ?_
    replace h := b2_o h
    obtain ⟨x10, T9, e8, h⟩ := h
    refine tw_callS 3 (As := [.int v2, .int 0, .int 5]) (rest := [.ref o]) (v := (some (.int x10))) (T' := T9) (st1 := [.int x10, .ref o]) hx hb hml hown hts hK hR (fun _ h9 => h9) (tw_A2 hR) hS (mX5_in e8) (lw_S q2562 q2563 q137 q2564) (by decide +kernel) (Nat.le_of_ble_eq_true rfl) (Nat.le_of_ble_eq_true rfl) (Nat.zero_le _) (Nat.zero_le _) rfl hl.1 (Nat.le_of_ble_eq_true rfl) dX5_arcValue_17 rfl rfl (fun H locs hR hS => ?_)
    refine lv_iconst (v := 2) hx hb dX5_arcValue_20 (by decide) ?_
    replace h := b2_o h
    obtain ⟨x13, T12, e11, h⟩ := h
    refine tw_callV 2 (As := [.int x10, .int 2]) (rest := []) (v := (some (.int x13))) (T' := T12) (st1 := [.int x13]) hx hb hml hown hts hK hR (fun _ h9 => h9) (tw_A2 hR) hS (mX5_isThrown e11) (lw_V q2633 q2635 qs68 q137 q2636) (by decide +kernel) (Nat.le_of_ble_eq_true rfl) (Nat.le_of_ble_eq_true rfl) (Nat.zero_le _) (Nat.zero_le _) rfl hl.1 (Nat.le_of_ble_eq_true rfl) dX5_arcValue_21 rfl rfl (fun H locs hR hS => ?_)
    refine lv_if_eq (tgt := 29) hx hb dX5_arcValue_24 (by decide) (fun c14 => ?_) (fun c14 => ?_)
    · replace h := it_o c14 h
      refine lv_aload_n hx hb dX5_arcValue_29 rfl (lv_at hl 0 rfl) ?_
      refine lv_iload_n hx hb dX5_arcValue_30 rfl (lv_at hl 1 rfl) ?_
      refine lv_iload_n hx hb dX5_arcValue_31 rfl (lv_at hl 2 rfl) ?_
      replace h := b2_o h
      obtain ⟨x17, T16, e15, h⟩ := h
      refine tw_callV 2 (As := [.int v1, .int v2]) (rest := []) (v := (some (.int x17))) (T' := T16) (st1 := [.int x17]) hx hb hml hown hts hK hR (fun _ h9 => h9) (tw_A2 hR) hS (mX5_arc e15) (lw_V q2637 q2639 qs69 q137 q2640) (by decide +kernel) (Nat.le_of_ble_eq_true rfl) (Nat.le_of_ble_eq_true rfl) (Nat.zero_le _) (Nat.zero_le _) rfl hl.1 (Nat.le_of_ble_eq_true rfl) dX5_arcValue_32 rfl rfl (fun H locs hR hS => ?_)
      have eR := Option.some.inj h
      subst eR
      exact W.iret (v := x17) hx hb hr (fun t ht _ => tw_fin hR hS ht) hS.2.2 dX5_arcValue_35
    · replace h := if_o c14 h
      refine lv_iconst (v := 0) hx hb dX5_arcValue_27 (by decide) ?_
      have eR := Option.some.inj h
      subst eR
      exact W.iret (v := 0) hx hb hr (fun t ht _ => tw_fin hR hS ht) hS.2.2 dX5_arcValue_28
theorem mX5_arcValue {l : Launch} {G : gE} {o : Nat} {v1 : Int32} {v2 : Int32} {T : TW} {r : (Int32 × TW)}  (h : fX5_arcValue v1 v2 T = some r) : twM l G o yX5_arcValue cX5_arcValue 3 (some .int) 2 43 [.ref o, .int v1, .int v2] T (some (.int r.1)) r.2 :=
  tw_of (by decide +kernel) (Nat.le_of_ble_eq_true rfl) (fun p e s m args below meth c ls B hR hl => bX5_arcValue_0 B h hR va_S.rf hl)
noncomputable def fX5_isTrip (v1 : Int32) (T : TW) : Option ((Int32 × TW)) :=
  (rd_ (tA T 1) 172 2).bind fun x1 =>
  b2_ (fX5_in v1 0 (x1 - 1) T) fun x5 T4 =>
  (bz_ x5).bind fun _ =>
  some (x5, T4)
theorem bX5_isTrip_0 {p : Program} {l : Launch} {e : Env} {s : State} {m : MethodId} {args : Array Value} {below : List Frame} {meth : Method} {c : Code} {H : Heap} {locs : List Loc} {ls : Array Slot} {G : gE} {o : Nat} (B : gB G RX5 cX5_isTrip 2 (some .boolean) p s m args meth c) {v1 : Int32} {T : TW} {r : (Int32 × TW)} (h : fX5_isTrip v1 T = some r)   (hR : RepT G o T H) (hS : va_S (tFr o) s.heap H locs) (hl : lv_has ls 2 [(0, .ref o), (1, .int v1)]) : W p l e (gRm 1 22) s m args below meth c H locs 0 0 (twZ below args s G o (some (.int r.1)) r.2) (F0 m 0 ls []) := by
  have B0 := B
  obtain ⟨hx, hb, hml, hown, hts, hr, hlk, hK⟩ := B0
  unfold fX5_isTrip at h
  refine lv_iload_n hx hb dX5_isTrip_0 rfl (lv_at hl 1 rfl) ?_
  refine lv_iconst (v := 0) hx hb dX5_isTrip_1 (by decide) ?_
  refine lv_aload_n hx hb dX5_isTrip_2 rfl (lv_at hl 0 rfl) ?_
  refine tw_get (k := 0) (v := .ref (o + 1)) hx hb hts hown hK hR (by decide) q2433 rfl (fun _ h9 => h9) dX5_isTrip_3 ?_
  refine lv_iconst (v := 2) hx hb dX5_isTrip_6 (by decide) ?_
  replace h := bo_o h
  obtain ⟨x1, e2, h⟩ := h
  refine tw_iald (q := 1) hx hb hK hR rfl e2 dX5_isTrip_7 ?_
  refine lv_iconst (v := 1) hx hb dX5_isTrip_8 (by decide) ?_
  refine lv_isub hx hb dX5_isTrip_9 ?_
  replace h := b2_o h
  obtain ⟨x5, T4, e3, h⟩ := h
  refine tw_callS 3 (As := [.int v1, .int 0, .int (x1 - 1)]) (rest := []) (v := (some (.int x5))) (T' := T4) (st1 := [.int x5]) hx hb hml hown hts hK hR (fun _ h9 => h9) (tw_A2 hR) hS (mX5_in e3) (lw_S q2562 q2563 q137 q2564) (by decide +kernel) (Nat.le_of_ble_eq_true rfl) (Nat.le_of_ble_eq_true rfl) (Nat.zero_le _) (Nat.zero_le _) rfl hl.1 (Nat.le_of_ble_eq_true rfl) dX5_isTrip_10 rfl rfl (fun H locs hR hS => ?_)
  replace h := bo_o h
  obtain ⟨_, e6, h⟩ := h
  have eR := Option.some.inj h
  subst eR
  exact W.zret (v := x5) hx hb hr (bz_n e6) (fun t ht _ => tw_fin hR hS ht) hS.2.2 dX5_isTrip_13
theorem mX5_isTrip {l : Launch} {G : gE} {o : Nat} {v1 : Int32} {T : TW} {r : (Int32 × TW)}  (h : fX5_isTrip v1 T = some r) : twM l G o yX5_isTrip cX5_isTrip 2 (some .boolean) 1 22 [.ref o, .int v1] T (some (.int r.1)) r.2 :=
  tw_of (by decide +kernel) (Nat.le_of_ble_eq_true rfl) (fun p e s m args below meth c ls B hR hl => bX5_isTrip_0 B h hR va_S.rf hl)
noncomputable def fX5_trip (v1 : Int32) (v2 : Int32) (T : TW) : Option ((Int32 × TW)) :=
  (rd_ (tA T 1) 172 ((148 + (4 * v1)) + v2)).bind fun x1 =>
  some (x1, T)
theorem bX5_trip_0 {p : Program} {l : Launch} {e : Env} {s : State} {m : MethodId} {args : Array Value} {below : List Frame} {meth : Method} {c : Code} {H : Heap} {locs : List Loc} {ls : Array Slot} {G : gE} {o : Nat} (B : gB G RX5 cX5_trip 3 (some .int) p s m args meth c) {v1 : Int32} {v2 : Int32} {T : TW} {r : (Int32 × TW)} (h : fX5_trip v1 v2 T = some r)   (hR : RepT G o T H) (hS : va_S (tFr o) s.heap H locs) (hl : lv_has ls 3 [(0, .ref o), (1, .int v1), (2, .int v2)]) : W p l e (gRm 0 0) s m args below meth c H locs 0 0 (twZ below args s G o (some (.int r.1)) r.2) (F0 m 0 ls []) := by
  have B0 := B
  obtain ⟨hx, hb, hml, hown, hts, hr, hlk, hK⟩ := B0
  unfold fX5_trip at h
  refine lv_aload_n hx hb dX5_trip_0 rfl (lv_at hl 0 rfl) ?_
  refine tw_get (k := 0) (v := .ref (o + 1)) hx hb hts hown hK hR (by decide) q2433 rfl (fun _ h9 => h9) dX5_trip_1 ?_
  refine lv_sipush (v := 148) hx hb dX5_trip_4 (by decide) ?_
  refine lv_iconst (v := 4) hx hb dX5_trip_7 (by decide) ?_
  refine lv_iload_n hx hb dX5_trip_8 rfl (lv_at hl 1 rfl) ?_
  refine lv_imul hx hb dX5_trip_9 ?_
  refine lv_iadd hx hb dX5_trip_10 ?_
  refine lv_iload_n hx hb dX5_trip_11 rfl (lv_at hl 2 rfl) ?_
  refine lv_iadd hx hb dX5_trip_12 ?_
  replace h := bo_o h
  obtain ⟨x1, e2, h⟩ := h
  refine tw_iald (q := 1) hx hb hK hR rfl e2 dX5_trip_13 ?_
  have eR := Option.some.inj h
  subst eR
  exact W.iret (v := x1) hx hb hr (fun t ht _ => tw_fin hR hS ht) hS.2.2 dX5_trip_14
theorem mX5_trip {l : Launch} {G : gE} {o : Nat} {v1 : Int32} {v2 : Int32} {T : TW} {r : (Int32 × TW)}  (h : fX5_trip v1 v2 T = some r) : twM l G o yX5_trip cX5_trip 3 (some .int) 0 0 [.ref o, .int v1, .int v2] T (some (.int r.1)) r.2 :=
  tw_of (by decide +kernel) (Nat.le_of_ble_eq_true rfl) (fun p e s m args below meth c ls B hR hl => bX5_trip_0 B h hR va_S.rf hl)
noncomputable def fX5_tripValue (v1 : Int32) (v2 : Int32) (T : TW) : Option ((Int32 × TW)) :=
  b2_ (fX5_isTrip v1 T) fun x3 T2 =>
  b2_ (fX5_isThrown x3 1 T2) fun x6 T5 =>
  if x6 = 0 then (
    b2_ (fX5_in v2 0 3 T5) fun x10 T9 =>
    b2_ (fX5_isThrown x10 2 T9) fun x13 T12 =>
    if x13 = 0 then (
      b2_ (fX5_trip v1 v2 T12) fun x17 T16 =>
      some (x17, T16)
    ) else (
      some (0, T12)
    )
  ) else (
    some (0, T5)
  )
theorem bX5_tripValue_0 {p : Program} {l : Launch} {e : Env} {s : State} {m : MethodId} {args : Array Value} {below : List Frame} {meth : Method} {c : Code} {H : Heap} {locs : List Loc} {ls : Array Slot} {G : gE} {o : Nat} (B : gB G RX5 cX5_tripValue 3 (some .int) p s m args meth c) {v1 : Int32} {v2 : Int32} {T : TW} {r : (Int32 × TW)} (h : fX5_tripValue v1 v2 T = some r)   (hR : RepT G o T H) (hS : va_S (tFr o) s.heap H locs) (hl : lv_has ls 3 [(0, .ref o), (1, .int v1), (2, .int v2)]) : W p l e (gRm 2 43) s m args below meth c H locs 0 0 (twZ below args s G o (some (.int r.1)) r.2) (F0 m 0 ls []) := by
  have B0 := B
  obtain ⟨hx, hb, hml, hown, hts, hr, hlk, hK⟩ := B0
  unfold fX5_tripValue at h
  refine lv_aload_n hx hb dX5_tripValue_0 rfl (lv_at hl 0 rfl) ?_
  refine lv_aload_n hx hb dX5_tripValue_1 rfl (lv_at hl 0 rfl) ?_
  refine lv_iload_n hx hb dX5_tripValue_2 rfl (lv_at hl 1 rfl) ?_
  replace h := b2_o h
  obtain ⟨x3, T2, e1, h⟩ := h
  refine tw_callV 1 (As := [.int v1]) (rest := [.ref o]) (v := (some (.int x3))) (T' := T2) (st1 := [.int x3, .ref o]) hx hb hml hown hts hK hR (fun _ h9 => h9) (tw_A2 hR) hS (mX5_isTrip e1) (lw_V q2653 q2655 qs71 q137 q2656) (by decide +kernel) (Nat.le_of_ble_eq_true rfl) (Nat.le_of_ble_eq_true rfl) (Nat.zero_le _) (Nat.zero_le _) rfl hl.1 (Nat.le_of_ble_eq_true rfl) dX5_tripValue_3 rfl rfl (fun H locs hR hS => ?_)
  refine lv_iconst (v := 1) hx hb dX5_tripValue_6 (by decide) ?_
  replace h := b2_o h
  obtain ⟨x6, T5, e4, h⟩ := h
  refine tw_callV 2 (As := [.int x3, .int 1]) (rest := []) (v := (some (.int x6))) (T' := T5) (st1 := [.int x6]) hx hb hml hown hts hK hR (fun _ h9 => h9) (tw_A2 hR) hS (mX5_isThrown e4) (lw_V q2633 q2635 qs68 q137 q2636) (by decide +kernel) (Nat.le_of_ble_eq_true rfl) (Nat.le_of_ble_eq_true rfl) (Nat.zero_le _) (Nat.zero_le _) rfl hl.1 (Nat.le_of_ble_eq_true rfl) dX5_tripValue_7 rfl rfl (fun H locs hR hS => ?_)
  refine lv_if_ne (tgt := 27) hx hb dX5_tripValue_10 (by decide) (fun c7 => ?_) (fun c7 => ?_)
  · replace h := if_o c7 h
    refine lv_iconst (v := 0) hx hb dX5_tripValue_27 (by decide) ?_
    have eR := Option.some.inj h
    subst eR
    exact W.iret (v := 0) hx hb hr (fun t ht _ => tw_fin hR hS ht) hS.2.2 dX5_tripValue_28
  · replace h := it_o c7 h
    refine lv_aload_n hx hb dX5_tripValue_13 rfl (lv_at hl 0 rfl) ?_
    refine lv_iload_n hx hb dX5_tripValue_14 rfl (lv_at hl 2 rfl) ?_
    refine lv_iconst (v := 0) hx hb dX5_tripValue_15 (by decide) ?_
    refine lv_iconst (v := 3) hx hb dX5_tripValue_16 (by decide) ?_
    replace h := b2_o h
    obtain ⟨x10, T9, e8, h⟩ := h
    refine tw_callS 3 (As := [.int v2, .int 0, .int 3]) (rest := [.ref o]) (v := (some (.int x10))) (T' := T9) (st1 := [.int x10, .ref o]) hx hb hml hown hts hK hR (fun _ h9 => h9) (tw_A2 hR) hS (mX5_in e8) (lw_S q2562 q2563 q137 q2564) (by decide +kernel) (Nat.le_of_ble_eq_true rfl) (Nat.le_of_ble_eq_true rfl) (Nat.zero_le _) (Nat.zero_le _) rfl hl.1 (Nat.le_of_ble_eq_true rfl) dX5_tripValue_17 rfl rfl (fun H locs hR hS => ?_)
    refine lv_iconst (v := 2) hx hb dX5_tripValue_20 (by decide) ?_
    replace h := b2_o h
    obtain ⟨x13, T12, e11, h⟩ := h
    refine tw_callV 2 (As := [.int x10, .int 2]) (rest := []) (v := (some (.int x13))) (T' := T12) (st1 := [.int x13]) hx hb hml hown hts hK hR (fun _ h9 => h9) (tw_A2 hR) hS (mX5_isThrown e11) (lw_V q2633 q2635 qs68 q137 q2636) (by decide +kernel) (Nat.le_of_ble_eq_true rfl) (Nat.le_of_ble_eq_true rfl) (Nat.zero_le _) (Nat.zero_le _) rfl hl.1 (Nat.le_of_ble_eq_true rfl) dX5_tripValue_21 rfl rfl (fun H locs hR hS => ?_)
    refine lv_if_eq (tgt := 29) hx hb dX5_tripValue_24 (by decide) (fun c14 => ?_) (fun c14 => ?_)
    · replace h := it_o c14 h
      refine lv_aload_n hx hb dX5_tripValue_29 rfl (lv_at hl 0 rfl) ?_
      refine lv_iload_n hx hb dX5_tripValue_30 rfl (lv_at hl 1 rfl) ?_
      refine lv_iload_n hx hb dX5_tripValue_31 rfl (lv_at hl 2 rfl) ?_
      replace h := b2_o h
      obtain ⟨x17, T16, e15, h⟩ := h
      refine tw_callV 2 (As := [.int v1, .int v2]) (rest := []) (v := (some (.int x17))) (T' := T16) (st1 := [.int x17]) hx hb hml hown hts hK hR (fun _ h9 => h9) (tw_A2 hR) hS (mX5_trip e15) (lw_V q2657 q2659 qs72 q137 q2660) (by decide +kernel) (Nat.le_of_ble_eq_true rfl) (Nat.le_of_ble_eq_true rfl) (Nat.zero_le _) (Nat.zero_le _) rfl hl.1 (Nat.le_of_ble_eq_true rfl) dX5_tripValue_32 rfl rfl (fun H locs hR hS => ?_)
      have eR := Option.some.inj h
      subst eR
      exact W.iret (v := x17) hx hb hr (fun t ht _ => tw_fin hR hS ht) hS.2.2 dX5_tripValue_35
    · replace h := if_o c14 h
      refine lv_iconst (v := 0) hx hb dX5_tripValue_27 (by decide) ?_
      have eR := Option.some.inj h
      subst eR
      exact W.iret (v := 0) hx hb hr (fun t ht _ => tw_fin hR hS ht) hS.2.2 dX5_tripValue_28
theorem mX5_tripValue {l : Launch} {G : gE} {o : Nat} {v1 : Int32} {v2 : Int32} {T : TW} {r : (Int32 × TW)}  (h : fX5_tripValue v1 v2 T = some r) : twM l G o yX5_tripValue cX5_tripValue 3 (some .int) 2 43 [.ref o, .int v1, .int v2] T (some (.int r.1)) r.2 :=
  tw_of (by decide +kernel) (Nat.le_of_ble_eq_true rfl) (fun p e s m args below meth c ls B hR hl => bX5_tripValue_0 B h hR va_S.rf hl)
noncomputable def fX5_keeps_b50  (T : TW) : Option (TW) :=
  (fX5_copies 1 0 4 (tI T 5) T).bind fun T2 =>
  nm_ (tsI T2 5 ((tI T2 5) + 1)) fun T3 =>
  some T3
theorem bX5_keeps_50 {p : Program} {l : Launch} {e : Env} {s : State} {m : MethodId} {args : Array Value} {below : List Frame} {meth : Method} {c : Code} {H : Heap} {locs : List Loc} {ls : Array Slot} {G : gE} {o : Nat} (B : gB G RX5 cX5_keeps 2 none p s m args meth c)  {T : TW} {r : TW} (h : fX5_keeps_b50 T = some r)   (hR : RepT G o T H) (hS : va_S (tFr o) s.heap H locs) (hl : lv_has ls 2 [(0, .ref o)]) : W p l e (gRm 1 24) s m args below meth c H locs 0 0 (twZ below args s G o none r) (F0 m 50 ls []) := by
  have B0 := B
  obtain ⟨hx, hb, hml, hown, hts, hr, hlk, hK⟩ := B0
  unfold fX5_keeps_b50 at h
  refine lv_aload_n hx hb dX5_keeps_50 rfl (lv_at hl 0 rfl) ?_
  refine tw_get (k := 0) (v := .ref (o + 1)) hx hb hts hown hK hR (by decide) q2433 rfl (fun _ h9 => h9) dX5_keeps_51 ?_
  refine lv_iconst (v := 0) hx hb dX5_keeps_54 (by decide) ?_
  refine lv_aload_n hx hb dX5_keeps_55 rfl (lv_at hl 0 rfl) ?_
  refine tw_get (k := 3) (v := .ref (o + 4)) hx hb hts hown hK hR (by decide) q2436 rfl (fun _ h9 => h9) dX5_keeps_56 ?_
  refine lv_aload_n hx hb dX5_keeps_59 rfl (lv_at hl 0 rfl) ?_
  refine tw_get (k := 5) (v := .int (tI T 5)) hx hb hts hown hK hR (by decide) q2438 rfl (fun _ h9 => h9) dX5_keeps_60 ?_
  replace h := bo_o h
  obtain ⟨T2, e1, h⟩ := h
  refine tw_callS 4 (As := [.ref (o + 1), .int 0, .ref (o + 4), .int (tI T 5)]) (rest := []) (v := none) (T' := T2) (st1 := []) hx hb hml hown hts hK hR (fun _ h9 => h9) (tw_A2 hR) hS (mX5_copies (v0 := 1) (v2 := 4) (by decide) (by decide) e1) (lw_S q2618 q2619 q137 q2620) (by decide +kernel) (Nat.le_of_ble_eq_true rfl) (Nat.le_of_ble_eq_true rfl) (Nat.zero_le _) (Nat.zero_le _) rfl hl.1 (Nat.le_of_ble_eq_true rfl) dX5_keeps_63 rfl rfl (fun H locs hR hS => ?_)
  refine lv_aload_n hx hb dX5_keeps_66 rfl (lv_at hl 0 rfl) ?_
  refine lv_dup hx hb dX5_keeps_67 rfl ?_
  refine tw_get (k := 5) (v := .int (tI T2 5)) hx hb hts hown hK hR (by decide) q2438 rfl (fun _ h9 => h9) dX5_keeps_68 ?_
  refine lv_iconst (v := 1) hx hb dX5_keeps_71 (by decide) ?_
  refine lv_iadd hx hb dX5_keeps_72 ?_
  replace h := nm_o h
  obtain ⟨T3, e4, h⟩ := h
  refine tw_putI (k := 5) (x := (tI T2 5) + 1) (ty := .int) (T' := T3) hx hb hts hown hK hR (fun _ h9 => h9) hS (by decide) rfl e4 q2438 (fun _ h9 => h9) rfl (by decide +kernel) rfl rfl dX5_keeps_73 (fun H locs hR hS => ?_)
  have eR := Option.some.inj h
  subst eR
  exact W.vret hx hb hr (fun t ht _ => tw_fin hR hS ht) hS.2.2 dX5_keeps_76
noncomputable def fX5_keeps_b40  (T : TW) : Option (TW) :=
  nm_ (tsI T 5 ((tI T 5) - 1)) fun T1 =>
  fX5_keeps_b50 T1
theorem bX5_keeps_40 {p : Program} {l : Launch} {e : Env} {s : State} {m : MethodId} {args : Array Value} {below : List Frame} {meth : Method} {c : Code} {H : Heap} {locs : List Loc} {ls : Array Slot} {G : gE} {o : Nat} (B : gB G RX5 cX5_keeps 2 none p s m args meth c)  {T : TW} {r : TW} (h : fX5_keeps_b40 T = some r)   (hR : RepT G o T H) (hS : va_S (tFr o) s.heap H locs) (hl : lv_has ls 2 [(0, .ref o)]) : W p l e (gRm 1 24) s m args below meth c H locs 0 0 (twZ below args s G o none r) (F0 m 40 ls []) := by
  have B0 := B
  obtain ⟨hx, hb, hml, hown, hts, hr, hlk, hK⟩ := B0
  unfold fX5_keeps_b40 at h
  refine lv_aload_n hx hb dX5_keeps_40 rfl (lv_at hl 0 rfl) ?_
  refine lv_dup hx hb dX5_keeps_41 rfl ?_
  refine tw_get (k := 5) (v := .int (tI T 5)) hx hb hts hown hK hR (by decide) q2438 rfl (fun _ h9 => h9) dX5_keeps_42 ?_
  refine lv_iconst (v := 1) hx hb dX5_keeps_45 (by decide) ?_
  refine lv_isub hx hb dX5_keeps_46 ?_
  replace h := nm_o h
  obtain ⟨T1, e2, h⟩ := h
  refine tw_putI (k := 5) (x := (tI T 5) - 1) (ty := .int) (T' := T1) hx hb hts hown hK hR (fun _ h9 => h9) hS (by decide) rfl e2 q2438 (fun _ h9 => h9) rfl (by decide +kernel) rfl rfl dX5_keeps_47 (fun H locs hR hS => ?_)
  exact bX5_keeps_50 B h  hR hS (lv_sub hl [0] rfl)
noncomputable def fX5_keeps_b11 (v1 : Int32) (T : TW) : Option (Sum (Int32 × TW) (TW)) :=
  if 1892 ≤ v1 then (
    (fX5_keeps_b40 T).map (fun y => (.inr y))
  ) else (
    (rd_ (tA T 4) 2064 (v1 + 172)).bind fun x2 =>
    (wrA T 4 2064 v1 x2).bind fun T4 =>
    some (.inl (v1 + 1, T4))
  )
theorem bX5_keeps_11 {p : Program} {l : Launch} {e : Env} {s : State} {m : MethodId} {args : Array Value} {below : List Frame} {meth : Method} {c : Code} {H : Heap} {locs : List Loc} {ls : Array Slot} {G : gE} {o : Nat} (B : gB G RX5 cX5_keeps 2 none p s m args meth c) {v1 : Int32} {T : TW} {x : Sum (Int32 × TW) (TW)} {r : TW} (h : fX5_keeps_b11 v1 T = some x)  (k11 : ∀ (v1' : Int32) (T' : TW), x = (.inl (v1', T')) → ∀ (H : Heap) (locs : List Loc) (ls : Array Slot), RepT G o (T') H → va_S (tFr o) s.heap H locs → lv_has ls 2 [(0, .ref o), (1, .int v1')] → W p l e (gRm 1 24) s m args below meth c H locs 0 0 (twZ below args s G o none r) (F0 m 11 ls [])) (kR : ∀ q, x = (.inr q) → q = r) (hR : RepT G o T H) (hS : va_S (tFr o) s.heap H locs) (hl : lv_has ls 2 [(0, .ref o), (1, .int v1)]) : W p l e (gRm 1 24) s m args below meth c H locs 0 0 (twZ below args s G o none r) (F0 m 11 ls []) := by
  have B0 := B
  obtain ⟨hx, hb, hml, hown, hts, hr, hlk, hK⟩ := B0
  unfold fX5_keeps_b11 at h
  refine lv_iload_n hx hb dX5_keeps_11 rfl (lv_at hl 1 rfl) ?_
  refine lv_sipush (v := 1892) hx hb dX5_keeps_12 (by decide) ?_
  refine lv_icmp_ge (tgt := 40) hx hb dX5_keeps_15 (by decide) (fun c1 => ?_) (fun c1 => ?_)
  · replace h := it_o c1 h
    obtain ⟨y, h, ey⟩ := mp_o h
    have ey := kR _ ey.symm
    subst ey
    exact bX5_keeps_40 B h  hR hS (lv_sub hl [0] rfl)
  · replace h := if_o c1 h
    refine lv_aload_n hx hb dX5_keeps_18 rfl (lv_at hl 0 rfl) ?_
    refine tw_get (k := 3) (v := .ref (o + 4)) hx hb hts hown hK hR (by decide) q2436 rfl (fun _ h9 => h9) dX5_keeps_19 ?_
    refine lv_iload_n hx hb dX5_keeps_22 rfl (lv_at hl 1 rfl) ?_
    refine lv_aload_n hx hb dX5_keeps_23 rfl (lv_at hl 0 rfl) ?_
    refine tw_get (k := 3) (v := .ref (o + 4)) hx hb hts hown hK hR (by decide) q2436 rfl (fun _ h9 => h9) dX5_keeps_24 ?_
    refine lv_iload_n hx hb dX5_keeps_27 rfl (lv_at hl 1 rfl) ?_
    refine lv_sipush (v := 172) hx hb dX5_keeps_28 (by decide) ?_
    refine lv_iadd hx hb dX5_keeps_31 ?_
    replace h := bo_o h
    obtain ⟨x2, e3, h⟩ := h
    refine tw_iald (q := 4) hx hb hK hR rfl e3 dX5_keeps_32 ?_
    replace h := bo_o h
    obtain ⟨T4, e5, h⟩ := h
    refine tw_iast (q := 4) hx hb hK hR (fun _ h9 => h9) hS rfl (fun _ => rfl) e5 dX5_keeps_33 (fun H locs hR hS => ?_)
    refine lv_iinc (v := v1 + 1) (lv' := [(1, .int (v1 + 1)), (0, .ref o)]) hx hb dX5_keeps_34 hl (k := 1) rfl rfl (by decide) rfl (fun ls hl => ?_)
    refine lv_goto (tgt := 11) hx hb dX5_keeps_37 (by decide) ?_
    exact k11 _ _ (Option.some.inj h).symm H locs ls hR hS (lv_sub hl [1, 0] rfl)
noncomputable def fX5_keeps_l11 (v1 : Int32) (T : TW) : Option (TW) := whileO (fun q => fX5_keeps_b11 q.1 q.2) (v1, T)
theorem lX5_keeps_11 {p : Program} {l : Launch} {e : Env} {s : State} {m : MethodId} {args : Array Value} {below : List Frame} {meth : Method} {c : Code} {G : gE} {o : Nat} (B : gB G RX5 cX5_keeps 2 none p s m args meth c)  {r : TW}   : ∀ (v1 : Int32) (T : TW), fX5_keeps_l11 v1 T = some r → ∀ (H : Heap) (locs : List Loc) (ls : Array Slot), RepT G o (T) H → va_S (tFr o) s.heap H locs → lv_has ls 2 [(0, .ref o), (1, .int v1)] → W p l e (gRm 1 24) s m args below meth c H locs 0 0 (twZ below args s G o none r) (F0 m 11 ls []) := by
  intro v1 T h
  refine wh_walk (body := (fun q => fX5_keeps_b11 q.1 q.2)) (P := (fun q : (Int32 × TW) => ∀ (H : Heap) (locs : List Loc) (ls : Array Slot), RepT G o (q.2) H → va_S (tFr o) s.heap H locs → lv_has ls 2 [(0, .ref o), (1, .int (q.1))] → W p l e (gRm 1 24) s m args below meth c H locs 0 0 (twZ below args s G o none r) (F0 m 11 ls []))) (r := r) ?_ (v1, T) h
  intro q y hy hL hr H locs ls hR hS hl
  exact bX5_keeps_11 (r := r) B hy (fun a0 a1 e => hL (a0, a1) e) (fun q e => hr q e) hR hS hl
noncomputable def fX5_keeps  (T : TW) : Option (TW) :=
  if tI T 5 = 12 then (
    fX5_keeps_l11 0 T
  ) else (
    fX5_keeps_b50 T
  )
theorem bX5_keeps_0 {p : Program} {l : Launch} {e : Env} {s : State} {m : MethodId} {args : Array Value} {below : List Frame} {meth : Method} {c : Code} {H : Heap} {locs : List Loc} {ls : Array Slot} {G : gE} {o : Nat} (B : gB G RX5 cX5_keeps 2 none p s m args meth c)  {T : TW} {r : TW} (h : fX5_keeps T = some r)   (hR : RepT G o T H) (hS : va_S (tFr o) s.heap H locs) (hl : lv_has ls 2 [(0, .ref o)]) : W p l e (gRm 1 24) s m args below meth c H locs 0 0 (twZ below args s G o none r) (F0 m 0 ls []) := by
  have B0 := B
  obtain ⟨hx, hb, hml, hown, hts, hr, hlk, hK⟩ := B0
  unfold fX5_keeps at h
  refine lv_aload_n hx hb dX5_keeps_0 rfl (lv_at hl 0 rfl) ?_
  refine tw_get (k := 5) (v := .int (tI T 5)) hx hb hts hown hK hR (by decide) q2438 rfl (fun _ h9 => h9) dX5_keeps_1 ?_
  refine lv_bipush (v := 12) hx hb dX5_keeps_4 (by decide) ?_
  refine lv_icmp_ne (tgt := 50) hx hb dX5_keeps_6 (by decide) (fun c1 => ?_) (fun c1 => ?_)
  · replace h := if_o c1 h
    exact bX5_keeps_50 B h  hR hS (lv_sub hl [0] rfl)
  · replace h := it_o c1 h
    refine lv_iconst (v := 0) hx hb dX5_keeps_9 (by decide) ?_
    refine lv_istore_n (lv' := [(1, .int 0), (0, .ref o)]) hx hb dX5_keeps_10 rfl hl (by decide) rfl (fun ls hl => ?_)
    exact lX5_keeps_11 B _ _ h H locs ls hR hS (lv_sub hl [1, 0] rfl)
theorem mX5_keeps {l : Launch} {G : gE} {o : Nat}  {T : TW} {r : TW}  (h : fX5_keeps T = some r) : twM l G o yX5_keeps cX5_keeps 2 none 1 24 [.ref o] T none r :=
  tw_of (by decide +kernel) (Nat.le_of_ble_eq_true rfl) (fun p e s m args below meth c ls B hR hl => bX5_keeps_0 B h hR va_S.rf hl)
noncomputable def fX5_sets (v1 : Int32) (v2 : Int32) (T : TW) : Option ((Int32 × TW)) :=
  (fX5_keeps T).bind fun T2 =>
  (rd_ (tA T2 1) 172 v1).bind fun x3 =>
  (wrA T2 1 172 v1 v2).bind fun T5 =>
  some (x3, T5)
theorem bX5_sets_0 {p : Program} {l : Launch} {e : Env} {s : State} {m : MethodId} {args : Array Value} {below : List Frame} {meth : Method} {c : Code} {H : Heap} {locs : List Loc} {ls : Array Slot} {G : gE} {o : Nat} (B : gB G RX5 cX5_sets 4 (some .int) p s m args meth c) {v1 : Int32} {v2 : Int32} {T : TW} {r : (Int32 × TW)} (h : fX5_sets v1 v2 T = some r)   (hR : RepT G o T H) (hS : va_S (tFr o) s.heap H locs) (hl : lv_has ls 4 [(0, .ref o), (1, .int v1), (2, .int v2)]) : W p l e (gRm 2 45) s m args below meth c H locs 0 0 (twZ below args s G o (some (.int r.1)) r.2) (F0 m 0 ls []) := by
  have B0 := B
  obtain ⟨hx, hb, hml, hown, hts, hr, hlk, hK⟩ := B0
  unfold fX5_sets at h
  refine lv_aload_n hx hb dX5_sets_0 rfl (lv_at hl 0 rfl) ?_
  replace h := bo_o h
  obtain ⟨T2, e1, h⟩ := h
  refine tw_callV 0 (As := []) (rest := []) (v := none) (T' := T2) (st1 := []) hx hb hml hown hts hK hR (fun _ h9 => h9) (tw_A2 hR) hS (mX5_keeps e1) (lw_V q2669 q2671 qs74 q137 q2672) (by decide +kernel) (Nat.le_of_ble_eq_true rfl) (Nat.le_of_ble_eq_true rfl) (Nat.zero_le _) (Nat.zero_le _) rfl hl.1 (Nat.le_of_ble_eq_true rfl) dX5_sets_1 rfl rfl (fun H locs hR hS => ?_)
  refine lv_aload_n hx hb dX5_sets_4 rfl (lv_at hl 0 rfl) ?_
  refine tw_get (k := 0) (v := .ref (o + 1)) hx hb hts hown hK hR (by decide) q2433 rfl (fun _ h9 => h9) dX5_sets_5 ?_
  refine lv_iload_n hx hb dX5_sets_8 rfl (lv_at hl 1 rfl) ?_
  replace h := bo_o h
  obtain ⟨x3, e4, h⟩ := h
  refine tw_iald (q := 1) hx hb hK hR rfl e4 dX5_sets_9 ?_
  refine lv_istore_n (lv' := [(3, .int x3), (0, .ref o), (1, .int v1), (2, .int v2)]) hx hb dX5_sets_10 rfl hl (by decide) rfl (fun ls hl => ?_)
  refine lv_aload_n hx hb dX5_sets_11 rfl (lv_at hl 1 rfl) ?_
  refine tw_get (k := 0) (v := .ref (o + 1)) hx hb hts hown hK hR (by decide) q2433 rfl (fun _ h9 => h9) dX5_sets_12 ?_
  refine lv_iload_n hx hb dX5_sets_15 rfl (lv_at hl 2 rfl) ?_
  refine lv_iload_n hx hb dX5_sets_16 rfl (lv_at hl 3 rfl) ?_
  replace h := bo_o h
  obtain ⟨T5, e6, h⟩ := h
  refine tw_iast (q := 1) hx hb hK hR (fun _ h9 => h9) hS rfl (fun _ => rfl) e6 dX5_sets_17 (fun H locs hR hS => ?_)
  refine lv_iload_n hx hb dX5_sets_18 rfl (lv_at hl 0 rfl) ?_
  have eR := Option.some.inj h
  subst eR
  exact W.iret (v := x3) hx hb hr (fun t ht _ => tw_fin hR hS ht) hS.2.2 dX5_sets_19
theorem mX5_sets {l : Launch} {G : gE} {o : Nat} {v1 : Int32} {v2 : Int32} {T : TW} {r : (Int32 × TW)}  (h : fX5_sets v1 v2 T = some r) : twM l G o yX5_sets cX5_sets 4 (some .int) 2 45 [.ref o, .int v1, .int v2] T (some (.int r.1)) r.2 :=
  tw_of (by decide +kernel) (Nat.le_of_ble_eq_true rfl) (fun p e s m args below meth c ls B hR hl => bX5_sets_0 B h hR va_S.rf hl)
noncomputable def fX5_setToll (v1 : Int32) (v2 : Int32) (T : TW) : Option ((Int32 × TW)) :=
  b2_ (fX5_isArc v1 T) fun x3 T2 =>
  b2_ (fX5_isThrown x3 1 T2) fun x6 T5 =>
  if x6 = 0 then (
    b2_ (fX5_arc v1 3 T5) fun x10 T9 =>
    b2_ (fX5_in v2 0 x10 T9) fun x13 T12 =>
    b2_ (fX5_isThrown x13 2 T12) fun x16 T15 =>
    if x16 = 0 then (
      b2_ (fX5_atArc v1 4 T15) fun x20 T19 =>
      b2_ (fX5_sets x20 v2 T19) fun x23 T22 =>
      some (x23, T22)
    ) else (
      some (0, T15)
    )
  ) else (
    some (0, T5)
  )
theorem bX5_setToll_0 {p : Program} {l : Launch} {e : Env} {s : State} {m : MethodId} {args : Array Value} {below : List Frame} {meth : Method} {c : Code} {H : Heap} {locs : List Loc} {ls : Array Slot} {G : gE} {o : Nat} (B : gB G RX5 cX5_setToll 3 (some .int) p s m args meth c) {v1 : Int32} {v2 : Int32} {T : TW} {r : (Int32 × TW)} (h : fX5_setToll v1 v2 T = some r)   (hR : RepT G o T H) (hS : va_S (tFr o) s.heap H locs) (hl : lv_has ls 3 [(0, .ref o), (1, .int v1), (2, .int v2)]) : W p l e (gRm 3 68) s m args below meth c H locs 0 0 (twZ below args s G o (some (.int r.1)) r.2) (F0 m 0 ls []) := by
  have B0 := B
  obtain ⟨hx, hb, hml, hown, hts, hr, hlk, hK⟩ := B0
  unfold fX5_setToll at h
  refine lv_aload_n hx hb dX5_setToll_0 rfl (lv_at hl 0 rfl) ?_
  refine lv_aload_n hx hb dX5_setToll_1 rfl (lv_at hl 0 rfl) ?_
  refine lv_iload_n hx hb dX5_setToll_2 rfl (lv_at hl 1 rfl) ?_
  replace h := b2_o h
  obtain ⟨x3, T2, e1, h⟩ := h
  refine tw_callV 1 (As := [.int v1]) (rest := [.ref o]) (v := (some (.int x3))) (T' := T2) (st1 := [.int x3, .ref o]) hx hb hml hown hts hK hR (fun _ h9 => h9) (tw_A2 hR) hS (mX5_isArc e1) (lw_V q2645 q2647 qs70 q137 q2648) (by decide +kernel) (Nat.le_of_ble_eq_true rfl) (Nat.le_of_ble_eq_true rfl) (Nat.zero_le _) (Nat.zero_le _) rfl hl.1 (Nat.le_of_ble_eq_true rfl) dX5_setToll_3 rfl rfl (fun H locs hR hS => ?_)
  refine lv_iconst (v := 1) hx hb dX5_setToll_6 (by decide) ?_
  replace h := b2_o h
  obtain ⟨x6, T5, e4, h⟩ := h
  refine tw_callV 2 (As := [.int x3, .int 1]) (rest := []) (v := (some (.int x6))) (T' := T5) (st1 := [.int x6]) hx hb hml hown hts hK hR (fun _ h9 => h9) (tw_A2 hR) hS (mX5_isThrown e4) (lw_V q2633 q2635 qs68 q137 q2636) (by decide +kernel) (Nat.le_of_ble_eq_true rfl) (Nat.le_of_ble_eq_true rfl) (Nat.zero_le _) (Nat.zero_le _) rfl hl.1 (Nat.le_of_ble_eq_true rfl) dX5_setToll_7 rfl rfl (fun H locs hR hS => ?_)
  refine lv_if_ne (tgt := 32) hx hb dX5_setToll_10 (by decide) (fun c7 => ?_) (fun c7 => ?_)
  · replace h := if_o c7 h
    refine lv_iconst (v := 0) hx hb dX5_setToll_32 (by decide) ?_
    have eR := Option.some.inj h
    subst eR
    exact W.iret (v := 0) hx hb hr (fun t ht _ => tw_fin hR hS ht) hS.2.2 dX5_setToll_33
  · replace h := it_o c7 h
    refine lv_aload_n hx hb dX5_setToll_13 rfl (lv_at hl 0 rfl) ?_
    refine lv_iload_n hx hb dX5_setToll_14 rfl (lv_at hl 2 rfl) ?_
    refine lv_iconst (v := 0) hx hb dX5_setToll_15 (by decide) ?_
    refine lv_aload_n hx hb dX5_setToll_16 rfl (lv_at hl 0 rfl) ?_
    refine lv_iload_n hx hb dX5_setToll_17 rfl (lv_at hl 1 rfl) ?_
    refine lv_iconst (v := 3) hx hb dX5_setToll_18 (by decide) ?_
    replace h := b2_o h
    obtain ⟨x10, T9, e8, h⟩ := h
    refine tw_callV 2 (As := [.int v1, .int 3]) (rest := [.int 0, .int v2, .ref o]) (v := (some (.int x10))) (T' := T9) (st1 := [.int x10, .int 0, .int v2, .ref o]) hx hb hml hown hts hK hR (fun _ h9 => h9) (tw_A2 hR) hS (mX5_arc e8) (lw_V q2637 q2639 qs69 q137 q2640) (by decide +kernel) (Nat.le_of_ble_eq_true rfl) (Nat.le_of_ble_eq_true rfl) (Nat.zero_le _) (Nat.zero_le _) rfl hl.1 (Nat.le_of_ble_eq_true rfl) dX5_setToll_19 rfl rfl (fun H locs hR hS => ?_)
    replace h := b2_o h
    obtain ⟨x13, T12, e11, h⟩ := h
    refine tw_callS 3 (As := [.int v2, .int 0, .int x10]) (rest := [.ref o]) (v := (some (.int x13))) (T' := T12) (st1 := [.int x13, .ref o]) hx hb hml hown hts hK hR (fun _ h9 => h9) (tw_A2 hR) hS (mX5_in e11) (lw_S q2562 q2563 q137 q2564) (by decide +kernel) (Nat.le_of_ble_eq_true rfl) (Nat.le_of_ble_eq_true rfl) (Nat.zero_le _) (Nat.zero_le _) rfl hl.1 (Nat.le_of_ble_eq_true rfl) dX5_setToll_22 rfl rfl (fun H locs hR hS => ?_)
    refine lv_iconst (v := 2) hx hb dX5_setToll_25 (by decide) ?_
    replace h := b2_o h
    obtain ⟨x16, T15, e14, h⟩ := h
    refine tw_callV 2 (As := [.int x13, .int 2]) (rest := []) (v := (some (.int x16))) (T' := T15) (st1 := [.int x16]) hx hb hml hown hts hK hR (fun _ h9 => h9) (tw_A2 hR) hS (mX5_isThrown e14) (lw_V q2633 q2635 qs68 q137 q2636) (by decide +kernel) (Nat.le_of_ble_eq_true rfl) (Nat.le_of_ble_eq_true rfl) (Nat.zero_le _) (Nat.zero_le _) rfl hl.1 (Nat.le_of_ble_eq_true rfl) dX5_setToll_26 rfl rfl (fun H locs hR hS => ?_)
    refine lv_if_eq (tgt := 34) hx hb dX5_setToll_29 (by decide) (fun c17 => ?_) (fun c17 => ?_)
    · replace h := it_o c17 h
      refine lv_aload_n hx hb dX5_setToll_34 rfl (lv_at hl 0 rfl) ?_
      refine lv_iload_n hx hb dX5_setToll_35 rfl (lv_at hl 1 rfl) ?_
      refine lv_iconst (v := 4) hx hb dX5_setToll_36 (by decide) ?_
      replace h := b2_o h
      obtain ⟨x20, T19, e18, h⟩ := h
      refine tw_callS 2 (As := [.int v1, .int 4]) (rest := [.ref o]) (v := (some (.int x20))) (T' := T19) (st1 := [.int x20, .ref o]) hx hb hml hown hts hK hR (fun _ h9 => h9) (tw_A2 hR) hS (mX5_atArc e18) (lw_S q2605 q2606 q137 q2607) (by decide +kernel) (Nat.le_of_ble_eq_true rfl) (Nat.le_of_ble_eq_true rfl) (Nat.zero_le _) (Nat.zero_le _) rfl hl.1 (Nat.le_of_ble_eq_true rfl) dX5_setToll_37 rfl rfl (fun H locs hR hS => ?_)
      refine lv_iload_n hx hb dX5_setToll_40 rfl (lv_at hl 2 rfl) ?_
      replace h := b2_o h
      obtain ⟨x23, T22, e21, h⟩ := h
      refine tw_callV 2 (As := [.int x20, .int v2]) (rest := []) (v := (some (.int x23))) (T' := T22) (st1 := [.int x23]) hx hb hml hown hts hK hR (fun _ h9 => h9) (tw_A2 hR) hS (mX5_sets e21) (lw_V q2665 q2667 qs73 q137 q2668) (by decide +kernel) (Nat.le_of_ble_eq_true rfl) (Nat.le_of_ble_eq_true rfl) (Nat.zero_le _) (Nat.zero_le _) rfl hl.1 (Nat.le_of_ble_eq_true rfl) dX5_setToll_41 rfl rfl (fun H locs hR hS => ?_)
      have eR := Option.some.inj h
      subst eR
      exact W.iret (v := x23) hx hb hr (fun t ht _ => tw_fin hR hS ht) hS.2.2 dX5_setToll_44
    · replace h := if_o c17 h
      refine lv_iconst (v := 0) hx hb dX5_setToll_32 (by decide) ?_
      have eR := Option.some.inj h
      subst eR
      exact W.iret (v := 0) hx hb hr (fun t ht _ => tw_fin hR hS ht) hS.2.2 dX5_setToll_33
theorem mX5_setToll {l : Launch} {G : gE} {o : Nat} {v1 : Int32} {v2 : Int32} {T : TW} {r : (Int32 × TW)}  (h : fX5_setToll v1 v2 T = some r) : twM l G o yX5_setToll cX5_setToll 3 (some .int) 3 68 [.ref o, .int v1, .int v2] T (some (.int r.1)) r.2 :=
  tw_of (by decide +kernel) (Nat.le_of_ble_eq_true rfl) (fun p e s m args below meth c ls B hR hl => bX5_setToll_0 B h hR va_S.rf hl)
noncomputable def fX5_becomes (v1 : Int32) (v2 : Int32) (T : TW) : Option ((Int32 × TW)) :=
  b2_ (fX5_arc v1 4 T) fun x3 T2 =>
  b2_ (fX5_atArc v1 4 T2) fun x6 T5 =>
  b2_ (fX5_arc v1 3 T5) fun x9 T8 =>
  nm_ (mnI x9 v2) fun x10 =>
  nm_ (mxI 0 x10) fun x12 =>
  (wrA T8 1 172 x6 x12).bind fun T14 =>
  b2_ (fX5_arc v1 4 T14) fun x18 T17 =>
  if x18 = x3 then (
    some (0, T17)
  ) else (
    some (1, T17)
  )
theorem bX5_becomes_0 {p : Program} {l : Launch} {e : Env} {s : State} {m : MethodId} {args : Array Value} {below : List Frame} {meth : Method} {c : Code} {H : Heap} {locs : List Loc} {ls : Array Slot} {G : gE} {o : Nat} (B : gB G RX5 cX5_becomes 4 (some .int) p s m args meth c) {v1 : Int32} {v2 : Int32} {T : TW} {r : (Int32 × TW)} (h : fX5_becomes v1 v2 T = some r)   (hR : RepT G o T H) (hS : va_S (tFr o) s.heap H locs) (hl : lv_has ls 4 [(0, .ref o), (1, .int v1), (2, .int v2)]) : W p l e (gRm 2 43) s m args below meth c H locs 0 0 (twZ below args s G o (some (.int r.1)) r.2) (F0 m 0 ls []) := by
  have B0 := B
  obtain ⟨hx, hb, hml, hown, hts, hr, hlk, hK⟩ := B0
  unfold fX5_becomes at h
  refine lv_aload_n hx hb dX5_becomes_0 rfl (lv_at hl 0 rfl) ?_
  refine lv_iload_n hx hb dX5_becomes_1 rfl (lv_at hl 1 rfl) ?_
  refine lv_iconst (v := 4) hx hb dX5_becomes_2 (by decide) ?_
  replace h := b2_o h
  obtain ⟨x3, T2, e1, h⟩ := h
  refine tw_callV 2 (As := [.int v1, .int 4]) (rest := []) (v := (some (.int x3))) (T' := T2) (st1 := [.int x3]) hx hb hml hown hts hK hR (fun _ h9 => h9) (tw_A2 hR) hS (mX5_arc e1) (lw_V q2637 q2639 qs69 q137 q2640) (by decide +kernel) (Nat.le_of_ble_eq_true rfl) (Nat.le_of_ble_eq_true rfl) (Nat.zero_le _) (Nat.zero_le _) rfl hl.1 (Nat.le_of_ble_eq_true rfl) dX5_becomes_3 rfl rfl (fun H locs hR hS => ?_)
  refine lv_istore_n (lv' := [(3, .int x3), (0, .ref o), (1, .int v1), (2, .int v2)]) hx hb dX5_becomes_6 rfl hl (by decide) rfl (fun ls hl => ?_)
  refine lv_aload_n hx hb dX5_becomes_7 rfl (lv_at hl 1 rfl) ?_
  refine tw_get (k := 0) (v := .ref (o + 1)) hx hb hts hown hK hR (by decide) q2433 rfl (fun _ h9 => h9) dX5_becomes_8 ?_
  refine lv_iload_n hx hb dX5_becomes_11 rfl (lv_at hl 2 rfl) ?_
  refine lv_iconst (v := 4) hx hb dX5_becomes_12 (by decide) ?_
  replace h := b2_o h
  obtain ⟨x6, T5, e4, h⟩ := h
  refine tw_callS 2 (As := [.int v1, .int 4]) (rest := [.ref (o + 1)]) (v := (some (.int x6))) (T' := T5) (st1 := [.int x6, .ref (o + 1)]) hx hb hml hown hts hK hR (fun _ h9 => h9) (tw_A2 hR) hS (mX5_atArc e4) (lw_S q2605 q2606 q137 q2607) (by decide +kernel) (Nat.le_of_ble_eq_true rfl) (Nat.le_of_ble_eq_true rfl) (Nat.zero_le _) (Nat.zero_le _) rfl hl.1 (Nat.le_of_ble_eq_true rfl) dX5_becomes_13 rfl rfl (fun H locs hR hS => ?_)
  refine lv_iconst (v := 0) hx hb dX5_becomes_16 (by decide) ?_
  refine lv_aload_n hx hb dX5_becomes_17 rfl (lv_at hl 1 rfl) ?_
  refine lv_iload_n hx hb dX5_becomes_18 rfl (lv_at hl 2 rfl) ?_
  refine lv_iconst (v := 3) hx hb dX5_becomes_19 (by decide) ?_
  replace h := b2_o h
  obtain ⟨x9, T8, e7, h⟩ := h
  refine tw_callV 2 (As := [.int v1, .int 3]) (rest := [.int 0, .int x6, .ref (o + 1)]) (v := (some (.int x9))) (T' := T8) (st1 := [.int x9, .int 0, .int x6, .ref (o + 1)]) hx hb hml hown hts hK hR (fun _ h9 => h9) (tw_A2 hR) hS (mX5_arc e7) (lw_V q2637 q2639 qs69 q137 q2640) (by decide +kernel) (Nat.le_of_ble_eq_true rfl) (Nat.le_of_ble_eq_true rfl) (Nat.zero_le _) (Nat.zero_le _) rfl hl.1 (Nat.le_of_ble_eq_true rfl) dX5_becomes_20 rfl rfl (fun H locs hR hS => ?_)
  refine lv_iload_n hx hb dX5_becomes_23 rfl (lv_at hl 3 rfl) ?_
  replace h := nm_o h
  obtain ⟨x10, e11, h⟩ := h
  refine va_mmin hx hb (hml.trans hl.1.symm) hown (hts _ q2591) (hts _ q313) (hts _ q127) (hts _ q314) (Nat.le_of_ble_eq_true rfl) (Nat.le_of_ble_eq_true rfl) (Nat.zero_le _) (Nat.zero_le _) dX5_becomes_24 ?_
  refine W.eq (g2 := F0 m 27 ls [.int x10, .int 0, .int x6, .ref (o + 1)]) (by rw [e11]; rfl) ?_
  replace h := nm_o h
  obtain ⟨x12, e13, h⟩ := h
  refine va_mmax hx hb (hml.trans hl.1.symm) hown (hts _ q2681) (hts _ q295) (hts _ q127) (hts _ q296) (Nat.le_of_ble_eq_true rfl) (Nat.le_of_ble_eq_true rfl) (Nat.zero_le _) (Nat.zero_le _) dX5_becomes_27 ?_
  refine W.eq (g2 := F0 m 30 ls [.int x12, .int x6, .ref (o + 1)]) (by rw [e13]; rfl) ?_
  replace h := bo_o h
  obtain ⟨T14, e15, h⟩ := h
  refine tw_iast (q := 1) hx hb hK hR (fun _ h9 => h9) hS rfl (fun _ => rfl) e15 dX5_becomes_30 (fun H locs hR hS => ?_)
  refine lv_aload_n hx hb dX5_becomes_31 rfl (lv_at hl 1 rfl) ?_
  refine lv_iload_n hx hb dX5_becomes_32 rfl (lv_at hl 2 rfl) ?_
  refine lv_iconst (v := 4) hx hb dX5_becomes_33 (by decide) ?_
  replace h := b2_o h
  obtain ⟨x18, T17, e16, h⟩ := h
  refine tw_callV 2 (As := [.int v1, .int 4]) (rest := []) (v := (some (.int x18))) (T' := T17) (st1 := [.int x18]) hx hb hml hown hts hK hR (fun _ h9 => h9) (tw_A2 hR) hS (mX5_arc e16) (lw_V q2637 q2639 qs69 q137 q2640) (by decide +kernel) (Nat.le_of_ble_eq_true rfl) (Nat.le_of_ble_eq_true rfl) (Nat.zero_le _) (Nat.zero_le _) rfl hl.1 (Nat.le_of_ble_eq_true rfl) dX5_becomes_34 rfl rfl (fun H locs hR hS => ?_)
  refine lv_iload_n hx hb dX5_becomes_37 rfl (lv_at hl 0 rfl) ?_
  refine lv_icmp_ne (tgt := 45) hx hb dX5_becomes_38 (by decide) (fun c19 => ?_) (fun c19 => ?_)
  · replace h := if_o c19 h
    refine lv_iconst (v := 1) hx hb dX5_becomes_45 (by decide) ?_
    have eR := Option.some.inj h
    subst eR
    exact W.iret (v := 1) hx hb hr (fun t ht _ => tw_fin hR hS ht) hS.2.2 dX5_becomes_46
  · replace h := it_o c19 h
    refine lv_iconst (v := 0) hx hb dX5_becomes_41 (by decide) ?_
    refine lv_goto (tgt := 46) hx hb dX5_becomes_42 (by decide) ?_
    have eR := Option.some.inj h
    subst eR
    exact W.iret (v := 0) hx hb hr (fun t ht _ => tw_fin hR hS ht) hS.2.2 dX5_becomes_46
theorem mX5_becomes {l : Launch} {G : gE} {o : Nat} {v1 : Int32} {v2 : Int32} {T : TW} {r : (Int32 × TW)}  (h : fX5_becomes v1 v2 T = some r) : twM l G o yX5_becomes cX5_becomes 4 (some .int) 2 43 [.ref o, .int v1, .int v2] T (some (.int r.1)) r.2 :=
  tw_of (by decide +kernel) (Nat.le_of_ble_eq_true rfl) (fun p e s m args below meth c ls B hR hl => bX5_becomes_0 B h hR va_S.rf hl)
noncomputable def fX5_addTolls_b28 (v1 : Int32) (v2 : Int32) (v3 : Int32) (T : TW) : Option (Sum (Int32 × Int32 × TW) ((Int32 × TW))) :=
  (rd_ (tA T 1) 172 1).bind fun x1 =>
  if x1 ≤ v3 then (
    some (.inr (v2, T))
  ) else (
    b2_ (fX5_arc v3 4 T) fun x6 T5 =>
    b2_ (fX5_becomes v3 (x6 + v1) T5) fun x9 T8 =>
    nm_ (v2 + x9) fun x10 =>
    some (.inl (x10, v3 + 1, T8))
  )
theorem bX5_addTolls_28 {p : Program} {l : Launch} {e : Env} {s : State} {m : MethodId} {args : Array Value} {below : List Frame} {meth : Method} {c : Code} {H : Heap} {locs : List Loc} {ls : Array Slot} {G : gE} {o : Nat} (B : gB G RX5 cX5_addTolls 4 (some .int) p s m args meth c) {v1 : Int32} {v2 : Int32} {v3 : Int32} {T : TW} {x : Sum (Int32 × Int32 × TW) ((Int32 × TW))} {r : (Int32 × TW)} (h : fX5_addTolls_b28 v1 v2 v3 T = some x)  (k28 : ∀ (v2' : Int32) (v3' : Int32) (T' : TW), x = (.inl (v2', v3', T')) → ∀ (H : Heap) (locs : List Loc) (ls : Array Slot), RepT G o (T') H → va_S (tFr o) s.heap H locs → lv_has ls 4 [(0, .ref o), (1, .int v1), (2, .int v2'), (3, .int v3')] → W p l e (gRm 3 66) s m args below meth c H locs 0 0 (twZ below args s G o (some (.int r.1)) r.2) (F0 m 28 ls [])) (kR : ∀ q, x = (.inr q) → q = r) (hR : RepT G o T H) (hS : va_S (tFr o) s.heap H locs) (hl : lv_has ls 4 [(0, .ref o), (1, .int v1), (2, .int v2), (3, .int v3)]) : W p l e (gRm 3 66) s m args below meth c H locs 0 0 (twZ below args s G o (some (.int r.1)) r.2) (F0 m 28 ls []) := by
  have B0 := B
  obtain ⟨hx, hb, hml, hown, hts, hr, hlk, hK⟩ := B0
  unfold fX5_addTolls_b28 at h
  refine lv_iload_n hx hb dX5_addTolls_28 rfl (lv_at hl 3 rfl) ?_
  refine lv_aload_n hx hb dX5_addTolls_29 rfl (lv_at hl 0 rfl) ?_
  refine tw_get (k := 0) (v := .ref (o + 1)) hx hb hts hown hK hR (by decide) q2433 rfl (fun _ h9 => h9) dX5_addTolls_30 ?_
  refine lv_iconst (v := 1) hx hb dX5_addTolls_33 (by decide) ?_
  replace h := bo_o h
  obtain ⟨x1, e2, h⟩ := h
  refine tw_iald (q := 1) hx hb hK hR rfl e2 dX5_addTolls_34 ?_
  refine lv_icmp_ge (tgt := 60) hx hb dX5_addTolls_35 (by decide) (fun c3 => ?_) (fun c3 => ?_)
  · replace h := it_o c3 h
    refine lv_iload_n hx hb dX5_addTolls_60 rfl (lv_at hl 2 rfl) ?_
    have eR := kR _ (Option.some.inj h).symm
    subst eR
    exact W.iret (v := v2) hx hb hr (fun t ht _ => tw_fin hR hS ht) hS.2.2 dX5_addTolls_61
  · replace h := if_o c3 h
    refine lv_iload_n hx hb dX5_addTolls_38 rfl (lv_at hl 2 rfl) ?_
    refine lv_aload_n hx hb dX5_addTolls_39 rfl (lv_at hl 0 rfl) ?_
    refine lv_iload_n hx hb dX5_addTolls_40 rfl (lv_at hl 3 rfl) ?_
    refine lv_aload_n hx hb dX5_addTolls_41 rfl (lv_at hl 0 rfl) ?_
    refine lv_iload_n hx hb dX5_addTolls_42 rfl (lv_at hl 3 rfl) ?_
    refine lv_iconst (v := 4) hx hb dX5_addTolls_43 (by decide) ?_
    replace h := b2_o h
    obtain ⟨x6, T5, e4, h⟩ := h
    refine tw_callV 2 (As := [.int v3, .int 4]) (rest := [.int v3, .ref o, .int v2]) (v := (some (.int x6))) (T' := T5) (st1 := [.int x6, .int v3, .ref o, .int v2]) hx hb hml hown hts hK hR (fun _ h9 => h9) (tw_A2 hR) hS (mX5_arc e4) (lw_V q2637 q2639 qs69 q137 q2640) (by decide +kernel) (Nat.le_of_ble_eq_true rfl) (Nat.le_of_ble_eq_true rfl) (Nat.zero_le _) (Nat.zero_le _) rfl hl.1 (Nat.le_of_ble_eq_true rfl) dX5_addTolls_44 rfl rfl (fun H locs hR hS => ?_)
    refine lv_iload_n hx hb dX5_addTolls_47 rfl (lv_at hl 1 rfl) ?_
    refine lv_iadd hx hb dX5_addTolls_48 ?_
    replace h := b2_o h
    obtain ⟨x9, T8, e7, h⟩ := h
    refine tw_callV 2 (As := [.int v3, .int (x6 + v1)]) (rest := [.int v2]) (v := (some (.int x9))) (T' := T8) (st1 := [.int x9, .int v2]) hx hb hml hown hts hK hR (fun _ h9 => h9) (tw_A2 hR) hS (mX5_becomes e7) (lw_V q2677 q2679 qs75 q137 q2680) (by decide +kernel) (Nat.le_of_ble_eq_true rfl) (Nat.le_of_ble_eq_true rfl) (Nat.zero_le _) (Nat.zero_le _) rfl hl.1 (Nat.le_of_ble_eq_true rfl) dX5_addTolls_49 rfl rfl (fun H locs hR hS => ?_)
    refine lv_iadd hx hb dX5_addTolls_52 ?_
    replace h := nm_o h
    obtain ⟨x10, e11, h⟩ := h
    refine lv_istore_n (lv' := [(2, .int x10), (0, .ref o), (1, .int v1), (3, .int v3)]) hx hb dX5_addTolls_53 rfl hl (by decide) (by subst e11; rfl) (fun ls hl => ?_)
    refine lv_iinc (v := v3 + 1) (lv' := [(3, .int (v3 + 1)), (2, .int x10), (0, .ref o), (1, .int v1)]) hx hb dX5_addTolls_54 hl (k := 3) rfl rfl (by decide) rfl (fun ls hl => ?_)
    refine lv_goto (tgt := 28) hx hb dX5_addTolls_57 (by decide) ?_
    exact k28 _ _ _ (Option.some.inj h).symm H locs ls hR hS (lv_sub hl [2, 3, 1, 0] rfl)
noncomputable def fX5_addTolls_l28 (v1 : Int32) (v2 : Int32) (v3 : Int32) (T : TW) : Option ((Int32 × TW)) := whileO (fun q => fX5_addTolls_b28 v1 q.1 q.2.1 q.2.2) (v2, v3, T)
theorem lX5_addTolls_28 {p : Program} {l : Launch} {e : Env} {s : State} {m : MethodId} {args : Array Value} {below : List Frame} {meth : Method} {c : Code} {G : gE} {o : Nat} (B : gB G RX5 cX5_addTolls 4 (some .int) p s m args meth c) {v1 : Int32} {r : (Int32 × TW)}   : ∀ (v2 : Int32) (v3 : Int32) (T : TW), fX5_addTolls_l28 v1 v2 v3 T = some r → ∀ (H : Heap) (locs : List Loc) (ls : Array Slot), RepT G o (T) H → va_S (tFr o) s.heap H locs → lv_has ls 4 [(0, .ref o), (1, .int v1), (2, .int v2), (3, .int v3)] → W p l e (gRm 3 66) s m args below meth c H locs 0 0 (twZ below args s G o (some (.int r.1)) r.2) (F0 m 28 ls []) := by
  intro v2 v3 T h
  refine wh_walk (body := (fun q => fX5_addTolls_b28 v1 q.1 q.2.1 q.2.2)) (P := (fun q : (Int32 × Int32 × TW) => ∀ (H : Heap) (locs : List Loc) (ls : Array Slot), RepT G o (q.2.2) H → va_S (tFr o) s.heap H locs → lv_has ls 4 [(0, .ref o), (1, .int v1), (2, .int (q.1)), (3, .int (q.2.1))] → W p l e (gRm 3 66) s m args below meth c H locs 0 0 (twZ below args s G o (some (.int r.1)) r.2) (F0 m 28 ls []))) (r := r) ?_ (v2, v3, T) h
  intro q y hy hL hr H locs ls hR hS hl
  exact bX5_addTolls_28 (r := r) B hy (fun a0 a1 a2 e => hL (a0, a1, a2) e) (fun q e => hr q e) hR hS hl
noncomputable def fX5_addTolls (v1 : Int32) (T : TW) : Option ((Int32 × TW)) :=
  b2_ (fX5_in v1 (-9999) 9999 T) fun x3 T2 =>
  b2_ (fX5_isThrown x3 1 T2) fun x6 T5 =>
  if x6 = 0 then (
    (fX5_keeps T5).bind fun T9 =>
    fX5_addTolls_l28 v1 0 0 T9
  ) else (
    some (0, T5)
  )
theorem bX5_addTolls_0 {p : Program} {l : Launch} {e : Env} {s : State} {m : MethodId} {args : Array Value} {below : List Frame} {meth : Method} {c : Code} {H : Heap} {locs : List Loc} {ls : Array Slot} {G : gE} {o : Nat} (B : gB G RX5 cX5_addTolls 4 (some .int) p s m args meth c) {v1 : Int32} {T : TW} {r : (Int32 × TW)} (h : fX5_addTolls v1 T = some r)   (hR : RepT G o T H) (hS : va_S (tFr o) s.heap H locs) (hl : lv_has ls 4 [(0, .ref o), (1, .int v1)]) : W p l e (gRm 3 66) s m args below meth c H locs 0 0 (twZ below args s G o (some (.int r.1)) r.2) (F0 m 0 ls []) := by
  have B0 := B
  obtain ⟨hx, hb, hml, hown, hts, hr, hlk, hK⟩ := B0
  unfold fX5_addTolls at h
  refine lv_aload_n hx hb dX5_addTolls_0 rfl (lv_at hl 0 rfl) ?_
  refine lv_iload_n hx hb dX5_addTolls_1 rfl (lv_at hl 1 rfl) ?_
  refine lv_sipush (v := (-9999)) hx hb dX5_addTolls_2 (by decide) ?_
  refine lv_sipush (v := 9999) hx hb dX5_addTolls_5 (by decide) ?_
  replace h := b2_o h
  obtain ⟨x3, T2, e1, h⟩ := h
  refine tw_callS 3 (As := [.int v1, .int (-9999), .int 9999]) (rest := [.ref o]) (v := (some (.int x3))) (T' := T2) (st1 := [.int x3, .ref o]) hx hb hml hown hts hK hR (fun _ h9 => h9) (tw_A2 hR) hS (mX5_in e1) (lw_S q2562 q2563 q137 q2564) (by decide +kernel) (Nat.le_of_ble_eq_true rfl) (Nat.le_of_ble_eq_true rfl) (Nat.zero_le _) (Nat.zero_le _) rfl hl.1 (Nat.le_of_ble_eq_true rfl) dX5_addTolls_8 rfl rfl (fun H locs hR hS => ?_)
  refine lv_iconst (v := 1) hx hb dX5_addTolls_11 (by decide) ?_
  replace h := b2_o h
  obtain ⟨x6, T5, e4, h⟩ := h
  refine tw_callV 2 (As := [.int x3, .int 1]) (rest := []) (v := (some (.int x6))) (T' := T5) (st1 := [.int x6]) hx hb hml hown hts hK hR (fun _ h9 => h9) (tw_A2 hR) hS (mX5_isThrown e4) (lw_V q2633 q2635 qs68 q137 q2636) (by decide +kernel) (Nat.le_of_ble_eq_true rfl) (Nat.le_of_ble_eq_true rfl) (Nat.zero_le _) (Nat.zero_le _) rfl hl.1 (Nat.le_of_ble_eq_true rfl) dX5_addTolls_12 rfl rfl (fun H locs hR hS => ?_)
  refine lv_if_eq (tgt := 20) hx hb dX5_addTolls_15 (by decide) (fun c7 => ?_) (fun c7 => ?_)
  · replace h := it_o c7 h
    refine lv_aload_n hx hb dX5_addTolls_20 rfl (lv_at hl 0 rfl) ?_
    replace h := bo_o h
    obtain ⟨T9, e8, h⟩ := h
    refine tw_callV 0 (As := []) (rest := []) (v := none) (T' := T9) (st1 := []) hx hb hml hown hts hK hR (fun _ h9 => h9) (tw_A2 hR) hS (mX5_keeps e8) (lw_V q2669 q2671 qs74 q137 q2672) (by decide +kernel) (Nat.le_of_ble_eq_true rfl) (Nat.le_of_ble_eq_true rfl) (Nat.zero_le _) (Nat.zero_le _) rfl hl.1 (Nat.le_of_ble_eq_true rfl) dX5_addTolls_21 rfl rfl (fun H locs hR hS => ?_)
    refine lv_iconst (v := 0) hx hb dX5_addTolls_24 (by decide) ?_
    refine lv_istore_n (lv' := [(2, .int 0), (0, .ref o), (1, .int v1)]) hx hb dX5_addTolls_25 rfl hl (by decide) rfl (fun ls hl => ?_)
    refine lv_iconst (v := 0) hx hb dX5_addTolls_26 (by decide) ?_
    refine lv_istore_n (lv' := [(3, .int 0), (2, .int 0), (0, .ref o), (1, .int v1)]) hx hb dX5_addTolls_27 rfl hl (by decide) rfl (fun ls hl => ?_)
    exact lX5_addTolls_28 B _ _ _ h H locs ls hR hS (lv_sub hl [2, 3, 1, 0] rfl)
  · replace h := if_o c7 h
    refine lv_iconst (v := 0) hx hb dX5_addTolls_18 (by decide) ?_
    have eR := Option.some.inj h
    subst eR
    exact W.iret (v := 0) hx hb hr (fun t ht _ => tw_fin hR hS ht) hS.2.2 dX5_addTolls_19
theorem mX5_addTolls {l : Launch} {G : gE} {o : Nat} {v1 : Int32} {T : TW} {r : (Int32 × TW)}  (h : fX5_addTolls v1 T = some r) : twM l G o yX5_addTolls cX5_addTolls 4 (some .int) 3 66 [.ref o, .int v1] T (some (.int r.1)) r.2 :=
  tw_of (by decide +kernel) (Nat.le_of_ble_eq_true rfl) (fun p e s m args below meth c ls B hR hl => bX5_addTolls_0 B h hR va_S.rf hl)
noncomputable def fX5_clearTolls_b13 (v1 : Int32) (v2 : Int32) (T : TW) : Option (Sum (Int32 × Int32 × TW) ((Int32 × TW))) :=
  (rd_ (tA T 1) 172 1).bind fun x1 =>
  if x1 ≤ v2 then (
    some (.inr (v1, T))
  ) else (
    b2_ (fX5_becomes v2 0 T) fun x6 T5 =>
    nm_ (v1 + x6) fun x7 =>
    some (.inl (x7, v2 + 1, T5))
  )
theorem bX5_clearTolls_13 {p : Program} {l : Launch} {e : Env} {s : State} {m : MethodId} {args : Array Value} {below : List Frame} {meth : Method} {c : Code} {H : Heap} {locs : List Loc} {ls : Array Slot} {G : gE} {o : Nat} (B : gB G RX5 cX5_clearTolls 3 (some .int) p s m args meth c) {v1 : Int32} {v2 : Int32} {T : TW} {x : Sum (Int32 × Int32 × TW) ((Int32 × TW))} {r : (Int32 × TW)} (h : fX5_clearTolls_b13 v1 v2 T = some x)  (k13 : ∀ (v1' : Int32) (v2' : Int32) (T' : TW), x = (.inl (v1', v2', T')) → ∀ (H : Heap) (locs : List Loc) (ls : Array Slot), RepT G o (T') H → va_S (tFr o) s.heap H locs → lv_has ls 3 [(0, .ref o), (1, .int v1'), (2, .int v2')] → W p l e (gRm 3 66) s m args below meth c H locs 0 0 (twZ below args s G o (some (.int r.1)) r.2) (F0 m 13 ls [])) (kR : ∀ q, x = (.inr q) → q = r) (hR : RepT G o T H) (hS : va_S (tFr o) s.heap H locs) (hl : lv_has ls 3 [(0, .ref o), (1, .int v1), (2, .int v2)]) : W p l e (gRm 3 66) s m args below meth c H locs 0 0 (twZ below args s G o (some (.int r.1)) r.2) (F0 m 13 ls []) := by
  have B0 := B
  obtain ⟨hx, hb, hml, hown, hts, hr, hlk, hK⟩ := B0
  unfold fX5_clearTolls_b13 at h
  refine lv_iload_n hx hb dX5_clearTolls_13 rfl (lv_at hl 2 rfl) ?_
  refine lv_aload_n hx hb dX5_clearTolls_14 rfl (lv_at hl 0 rfl) ?_
  refine tw_get (k := 0) (v := .ref (o + 1)) hx hb hts hown hK hR (by decide) q2433 rfl (fun _ h9 => h9) dX5_clearTolls_15 ?_
  refine lv_iconst (v := 1) hx hb dX5_clearTolls_18 (by decide) ?_
  replace h := bo_o h
  obtain ⟨x1, e2, h⟩ := h
  refine tw_iald (q := 1) hx hb hK hR rfl e2 dX5_clearTolls_19 ?_
  refine lv_icmp_ge (tgt := 38) hx hb dX5_clearTolls_20 (by decide) (fun c3 => ?_) (fun c3 => ?_)
  · replace h := it_o c3 h
    refine lv_iload_n hx hb dX5_clearTolls_38 rfl (lv_at hl 1 rfl) ?_
    have eR := kR _ (Option.some.inj h).symm
    subst eR
    exact W.iret (v := v1) hx hb hr (fun t ht _ => tw_fin hR hS ht) hS.2.2 dX5_clearTolls_39
  · replace h := if_o c3 h
    refine lv_iload_n hx hb dX5_clearTolls_23 rfl (lv_at hl 1 rfl) ?_
    refine lv_aload_n hx hb dX5_clearTolls_24 rfl (lv_at hl 0 rfl) ?_
    refine lv_iload_n hx hb dX5_clearTolls_25 rfl (lv_at hl 2 rfl) ?_
    refine lv_iconst (v := 0) hx hb dX5_clearTolls_26 (by decide) ?_
    replace h := b2_o h
    obtain ⟨x6, T5, e4, h⟩ := h
    refine tw_callV 2 (As := [.int v2, .int 0]) (rest := [.int v1]) (v := (some (.int x6))) (T' := T5) (st1 := [.int x6, .int v1]) hx hb hml hown hts hK hR (fun _ h9 => h9) (tw_A2 hR) hS (mX5_becomes e4) (lw_V q2677 q2679 qs75 q137 q2680) (by decide +kernel) (Nat.le_of_ble_eq_true rfl) (Nat.le_of_ble_eq_true rfl) (Nat.zero_le _) (Nat.zero_le _) rfl hl.1 (Nat.le_of_ble_eq_true rfl) dX5_clearTolls_27 rfl rfl (fun H locs hR hS => ?_)
    refine lv_iadd hx hb dX5_clearTolls_30 ?_
    replace h := nm_o h
    obtain ⟨x7, e8, h⟩ := h
    refine lv_istore_n (lv' := [(1, .int x7), (0, .ref o), (2, .int v2)]) hx hb dX5_clearTolls_31 rfl hl (by decide) (by subst e8; rfl) (fun ls hl => ?_)
    refine lv_iinc (v := v2 + 1) (lv' := [(2, .int (v2 + 1)), (1, .int x7), (0, .ref o)]) hx hb dX5_clearTolls_32 hl (k := 2) rfl rfl (by decide) rfl (fun ls hl => ?_)
    refine lv_goto (tgt := 13) hx hb dX5_clearTolls_35 (by decide) ?_
    exact k13 _ _ _ (Option.some.inj h).symm H locs ls hR hS (lv_sub hl [2, 1, 0] rfl)
noncomputable def fX5_clearTolls_l13 (v1 : Int32) (v2 : Int32) (T : TW) : Option ((Int32 × TW)) := whileO (fun q => fX5_clearTolls_b13 q.1 q.2.1 q.2.2) (v1, v2, T)
theorem lX5_clearTolls_13 {p : Program} {l : Launch} {e : Env} {s : State} {m : MethodId} {args : Array Value} {below : List Frame} {meth : Method} {c : Code} {G : gE} {o : Nat} (B : gB G RX5 cX5_clearTolls 3 (some .int) p s m args meth c)  {r : (Int32 × TW)}   : ∀ (v1 : Int32) (v2 : Int32) (T : TW), fX5_clearTolls_l13 v1 v2 T = some r → ∀ (H : Heap) (locs : List Loc) (ls : Array Slot), RepT G o (T) H → va_S (tFr o) s.heap H locs → lv_has ls 3 [(0, .ref o), (1, .int v1), (2, .int v2)] → W p l e (gRm 3 66) s m args below meth c H locs 0 0 (twZ below args s G o (some (.int r.1)) r.2) (F0 m 13 ls []) := by
  intro v1 v2 T h
  refine wh_walk (body := (fun q => fX5_clearTolls_b13 q.1 q.2.1 q.2.2)) (P := (fun q : (Int32 × Int32 × TW) => ∀ (H : Heap) (locs : List Loc) (ls : Array Slot), RepT G o (q.2.2) H → va_S (tFr o) s.heap H locs → lv_has ls 3 [(0, .ref o), (1, .int (q.1)), (2, .int (q.2.1))] → W p l e (gRm 3 66) s m args below meth c H locs 0 0 (twZ below args s G o (some (.int r.1)) r.2) (F0 m 13 ls []))) (r := r) ?_ (v1, v2, T) h
  intro q y hy hL hr H locs ls hR hS hl
  exact bX5_clearTolls_13 (r := r) B hy (fun a0 a1 a2 e => hL (a0, a1, a2) e) (fun q e => hr q e) hR hS hl
noncomputable def fX5_clearTolls  (T : TW) : Option ((Int32 × TW)) :=
  nm_ (tsI T 6 0) fun T1 =>
  (fX5_keeps T1).bind fun T4 =>
  fX5_clearTolls_l13 0 0 T4
theorem bX5_clearTolls_0 {p : Program} {l : Launch} {e : Env} {s : State} {m : MethodId} {args : Array Value} {below : List Frame} {meth : Method} {c : Code} {H : Heap} {locs : List Loc} {ls : Array Slot} {G : gE} {o : Nat} (B : gB G RX5 cX5_clearTolls 3 (some .int) p s m args meth c)  {T : TW} {r : (Int32 × TW)} (h : fX5_clearTolls T = some r)   (hR : RepT G o T H) (hS : va_S (tFr o) s.heap H locs) (hl : lv_has ls 3 [(0, .ref o)]) : W p l e (gRm 3 66) s m args below meth c H locs 0 0 (twZ below args s G o (some (.int r.1)) r.2) (F0 m 0 ls []) := by
  have B0 := B
  obtain ⟨hx, hb, hml, hown, hts, hr, hlk, hK⟩ := B0
  unfold fX5_clearTolls at h
  refine lv_aload_n hx hb dX5_clearTolls_0 rfl (lv_at hl 0 rfl) ?_
  refine lv_iconst (v := 0) hx hb dX5_clearTolls_1 (by decide) ?_
  replace h := nm_o h
  obtain ⟨T1, e2, h⟩ := h
  refine tw_putI (k := 6) (x := 0) (ty := .int) (T' := T1) hx hb hts hown hK hR (fun _ h9 => h9) hS (by decide) rfl e2 q2439 (fun _ h9 => h9) rfl (by decide +kernel) rfl rfl dX5_clearTolls_2 (fun H locs hR hS => ?_)
  refine lv_aload_n hx hb dX5_clearTolls_5 rfl (lv_at hl 0 rfl) ?_
  replace h := bo_o h
  obtain ⟨T4, e3, h⟩ := h
  refine tw_callV 0 (As := []) (rest := []) (v := none) (T' := T4) (st1 := []) hx hb hml hown hts hK hR (fun _ h9 => h9) (tw_A2 hR) hS (mX5_keeps e3) (lw_V q2669 q2671 qs74 q137 q2672) (by decide +kernel) (Nat.le_of_ble_eq_true rfl) (Nat.le_of_ble_eq_true rfl) (Nat.zero_le _) (Nat.zero_le _) rfl hl.1 (Nat.le_of_ble_eq_true rfl) dX5_clearTolls_6 rfl rfl (fun H locs hR hS => ?_)
  refine lv_iconst (v := 0) hx hb dX5_clearTolls_9 (by decide) ?_
  refine lv_istore_n (lv' := [(1, .int 0), (0, .ref o)]) hx hb dX5_clearTolls_10 rfl hl (by decide) rfl (fun ls hl => ?_)
  refine lv_iconst (v := 0) hx hb dX5_clearTolls_11 (by decide) ?_
  refine lv_istore_n (lv' := [(2, .int 0), (1, .int 0), (0, .ref o)]) hx hb dX5_clearTolls_12 rfl hl (by decide) rfl (fun ls hl => ?_)
  exact lX5_clearTolls_13 B _ _ _ h H locs ls hR hS (lv_sub hl [2, 1, 0] rfl)
theorem mX5_clearTolls {l : Launch} {G : gE} {o : Nat}  {T : TW} {r : (Int32 × TW)}  (h : fX5_clearTolls T = some r) : twM l G o yX5_clearTolls cX5_clearTolls 3 (some .int) 3 66 [.ref o] T (some (.int r.1)) r.2 :=
  tw_of (by decide +kernel) (Nat.le_of_ble_eq_true rfl) (fun p e s m args below meth c ls B hR hl => bX5_clearTolls_0 B h hR va_S.rf hl)
noncomputable def fX5_scaleTolls_b26 (v1 : Int32) (v2 : Int32) (v3 : Int32) (T : TW) : Option (Sum (Int32 × Int32 × TW) ((Int32 × TW))) :=
  (rd_ (tA T 1) 172 1).bind fun x1 =>
  if x1 ≤ v3 then (
    some (.inr (v2, T))
  ) else (
    b2_ (fX5_arc v3 4 T) fun x6 T5 =>
    b2_ (fX5_becomes v3 ((x6 * v1) / 100) T5) fun x9 T8 =>
    nm_ (v2 + x9) fun x10 =>
    some (.inl (x10, v3 + 1, T8))
  )
theorem bX5_scaleTolls_26 {p : Program} {l : Launch} {e : Env} {s : State} {m : MethodId} {args : Array Value} {below : List Frame} {meth : Method} {c : Code} {H : Heap} {locs : List Loc} {ls : Array Slot} {G : gE} {o : Nat} (B : gB G RX5 cX5_scaleTolls 4 (some .int) p s m args meth c) {v1 : Int32} {v2 : Int32} {v3 : Int32} {T : TW} {x : Sum (Int32 × Int32 × TW) ((Int32 × TW))} {r : (Int32 × TW)} (h : fX5_scaleTolls_b26 v1 v2 v3 T = some x)  (k26 : ∀ (v2' : Int32) (v3' : Int32) (T' : TW), x = (.inl (v2', v3', T')) → ∀ (H : Heap) (locs : List Loc) (ls : Array Slot), RepT G o (T') H → va_S (tFr o) s.heap H locs → lv_has ls 4 [(0, .ref o), (1, .int v1), (2, .int v2'), (3, .int v3')] → W p l e (gRm 3 66) s m args below meth c H locs 0 0 (twZ below args s G o (some (.int r.1)) r.2) (F0 m 26 ls [])) (kR : ∀ q, x = (.inr q) → q = r) (hR : RepT G o T H) (hS : va_S (tFr o) s.heap H locs) (hl : lv_has ls 4 [(0, .ref o), (1, .int v1), (2, .int v2), (3, .int v3)]) : W p l e (gRm 3 66) s m args below meth c H locs 0 0 (twZ below args s G o (some (.int r.1)) r.2) (F0 m 26 ls []) := by
  have B0 := B
  obtain ⟨hx, hb, hml, hown, hts, hr, hlk, hK⟩ := B0
  unfold fX5_scaleTolls_b26 at h
  refine lv_iload_n hx hb dX5_scaleTolls_26 rfl (lv_at hl 3 rfl) ?_
  refine lv_aload_n hx hb dX5_scaleTolls_27 rfl (lv_at hl 0 rfl) ?_
  refine tw_get (k := 0) (v := .ref (o + 1)) hx hb hts hown hK hR (by decide) q2433 rfl (fun _ h9 => h9) dX5_scaleTolls_28 ?_
  refine lv_iconst (v := 1) hx hb dX5_scaleTolls_31 (by decide) ?_
  replace h := bo_o h
  obtain ⟨x1, e2, h⟩ := h
  refine tw_iald (q := 1) hx hb hK hR rfl e2 dX5_scaleTolls_32 ?_
  refine lv_icmp_ge (tgt := 61) hx hb dX5_scaleTolls_33 (by decide) (fun c3 => ?_) (fun c3 => ?_)
  · replace h := it_o c3 h
    refine lv_iload_n hx hb dX5_scaleTolls_61 rfl (lv_at hl 2 rfl) ?_
    have eR := kR _ (Option.some.inj h).symm
    subst eR
    exact W.iret (v := v2) hx hb hr (fun t ht _ => tw_fin hR hS ht) hS.2.2 dX5_scaleTolls_62
  · replace h := if_o c3 h
    refine lv_iload_n hx hb dX5_scaleTolls_36 rfl (lv_at hl 2 rfl) ?_
    refine lv_aload_n hx hb dX5_scaleTolls_37 rfl (lv_at hl 0 rfl) ?_
    refine lv_iload_n hx hb dX5_scaleTolls_38 rfl (lv_at hl 3 rfl) ?_
    refine lv_aload_n hx hb dX5_scaleTolls_39 rfl (lv_at hl 0 rfl) ?_
    refine lv_iload_n hx hb dX5_scaleTolls_40 rfl (lv_at hl 3 rfl) ?_
    refine lv_iconst (v := 4) hx hb dX5_scaleTolls_41 (by decide) ?_
    replace h := b2_o h
    obtain ⟨x6, T5, e4, h⟩ := h
    refine tw_callV 2 (As := [.int v3, .int 4]) (rest := [.int v3, .ref o, .int v2]) (v := (some (.int x6))) (T' := T5) (st1 := [.int x6, .int v3, .ref o, .int v2]) hx hb hml hown hts hK hR (fun _ h9 => h9) (tw_A2 hR) hS (mX5_arc e4) (lw_V q2637 q2639 qs69 q137 q2640) (by decide +kernel) (Nat.le_of_ble_eq_true rfl) (Nat.le_of_ble_eq_true rfl) (Nat.zero_le _) (Nat.zero_le _) rfl hl.1 (Nat.le_of_ble_eq_true rfl) dX5_scaleTolls_42 rfl rfl (fun H locs hR hS => ?_)
    refine lv_iload_n hx hb dX5_scaleTolls_45 rfl (lv_at hl 1 rfl) ?_
    refine lv_imul hx hb dX5_scaleTolls_46 ?_
    refine lv_bipush (v := 100) hx hb dX5_scaleTolls_47 (by decide) ?_
    refine lv_idiv hx hb dX5_scaleTolls_49 (by decide) ?_
    replace h := b2_o h
    obtain ⟨x9, T8, e7, h⟩ := h
    refine tw_callV 2 (As := [.int v3, .int ((x6 * v1) / 100)]) (rest := [.int v2]) (v := (some (.int x9))) (T' := T8) (st1 := [.int x9, .int v2]) hx hb hml hown hts hK hR (fun _ h9 => h9) (tw_A2 hR) hS (mX5_becomes e7) (lw_V q2677 q2679 qs75 q137 q2680) (by decide +kernel) (Nat.le_of_ble_eq_true rfl) (Nat.le_of_ble_eq_true rfl) (Nat.zero_le _) (Nat.zero_le _) rfl hl.1 (Nat.le_of_ble_eq_true rfl) dX5_scaleTolls_50 rfl rfl (fun H locs hR hS => ?_)
    refine lv_iadd hx hb dX5_scaleTolls_53 ?_
    replace h := nm_o h
    obtain ⟨x10, e11, h⟩ := h
    refine lv_istore_n (lv' := [(2, .int x10), (0, .ref o), (1, .int v1), (3, .int v3)]) hx hb dX5_scaleTolls_54 rfl hl (by decide) (by subst e11; rfl) (fun ls hl => ?_)
    refine lv_iinc (v := v3 + 1) (lv' := [(3, .int (v3 + 1)), (2, .int x10), (0, .ref o), (1, .int v1)]) hx hb dX5_scaleTolls_55 hl (k := 3) rfl rfl (by decide) rfl (fun ls hl => ?_)
    refine lv_goto (tgt := 26) hx hb dX5_scaleTolls_58 (by decide) ?_
    exact k26 _ _ _ (Option.some.inj h).symm H locs ls hR hS (lv_sub hl [2, 3, 1, 0] rfl)
noncomputable def fX5_scaleTolls_l26 (v1 : Int32) (v2 : Int32) (v3 : Int32) (T : TW) : Option ((Int32 × TW)) := whileO (fun q => fX5_scaleTolls_b26 v1 q.1 q.2.1 q.2.2) (v2, v3, T)
theorem lX5_scaleTolls_26 {p : Program} {l : Launch} {e : Env} {s : State} {m : MethodId} {args : Array Value} {below : List Frame} {meth : Method} {c : Code} {G : gE} {o : Nat} (B : gB G RX5 cX5_scaleTolls 4 (some .int) p s m args meth c) {v1 : Int32} {r : (Int32 × TW)}   : ∀ (v2 : Int32) (v3 : Int32) (T : TW), fX5_scaleTolls_l26 v1 v2 v3 T = some r → ∀ (H : Heap) (locs : List Loc) (ls : Array Slot), RepT G o (T) H → va_S (tFr o) s.heap H locs → lv_has ls 4 [(0, .ref o), (1, .int v1), (2, .int v2), (3, .int v3)] → W p l e (gRm 3 66) s m args below meth c H locs 0 0 (twZ below args s G o (some (.int r.1)) r.2) (F0 m 26 ls []) := by
  intro v2 v3 T h
  refine wh_walk (body := (fun q => fX5_scaleTolls_b26 v1 q.1 q.2.1 q.2.2)) (P := (fun q : (Int32 × Int32 × TW) => ∀ (H : Heap) (locs : List Loc) (ls : Array Slot), RepT G o (q.2.2) H → va_S (tFr o) s.heap H locs → lv_has ls 4 [(0, .ref o), (1, .int v1), (2, .int (q.1)), (3, .int (q.2.1))] → W p l e (gRm 3 66) s m args below meth c H locs 0 0 (twZ below args s G o (some (.int r.1)) r.2) (F0 m 26 ls []))) (r := r) ?_ (v2, v3, T) h
  intro q y hy hL hr H locs ls hR hS hl
  exact bX5_scaleTolls_26 (r := r) B hy (fun a0 a1 a2 e => hL (a0, a1, a2) e) (fun q e => hr q e) hR hS hl
noncomputable def fX5_scaleTolls (v1 : Int32) (T : TW) : Option ((Int32 × TW)) :=
  b2_ (fX5_in v1 0 1000 T) fun x3 T2 =>
  b2_ (fX5_isThrown x3 1 T2) fun x6 T5 =>
  if x6 = 0 then (
    (fX5_keeps T5).bind fun T9 =>
    fX5_scaleTolls_l26 v1 0 0 T9
  ) else (
    some (0, T5)
  )
theorem bX5_scaleTolls_0 {p : Program} {l : Launch} {e : Env} {s : State} {m : MethodId} {args : Array Value} {below : List Frame} {meth : Method} {c : Code} {H : Heap} {locs : List Loc} {ls : Array Slot} {G : gE} {o : Nat} (B : gB G RX5 cX5_scaleTolls 4 (some .int) p s m args meth c) {v1 : Int32} {T : TW} {r : (Int32 × TW)} (h : fX5_scaleTolls v1 T = some r)   (hR : RepT G o T H) (hS : va_S (tFr o) s.heap H locs) (hl : lv_has ls 4 [(0, .ref o), (1, .int v1)]) : W p l e (gRm 3 66) s m args below meth c H locs 0 0 (twZ below args s G o (some (.int r.1)) r.2) (F0 m 0 ls []) := by
  have B0 := B
  obtain ⟨hx, hb, hml, hown, hts, hr, hlk, hK⟩ := B0
  unfold fX5_scaleTolls at h
  refine lv_aload_n hx hb dX5_scaleTolls_0 rfl (lv_at hl 0 rfl) ?_
  refine lv_iload_n hx hb dX5_scaleTolls_1 rfl (lv_at hl 1 rfl) ?_
  refine lv_iconst (v := 0) hx hb dX5_scaleTolls_2 (by decide) ?_
  refine lv_sipush (v := 1000) hx hb dX5_scaleTolls_3 (by decide) ?_
  replace h := b2_o h
  obtain ⟨x3, T2, e1, h⟩ := h
  refine tw_callS 3 (As := [.int v1, .int 0, .int 1000]) (rest := [.ref o]) (v := (some (.int x3))) (T' := T2) (st1 := [.int x3, .ref o]) hx hb hml hown hts hK hR (fun _ h9 => h9) (tw_A2 hR) hS (mX5_in e1) (lw_S q2562 q2563 q137 q2564) (by decide +kernel) (Nat.le_of_ble_eq_true rfl) (Nat.le_of_ble_eq_true rfl) (Nat.zero_le _) (Nat.zero_le _) rfl hl.1 (Nat.le_of_ble_eq_true rfl) dX5_scaleTolls_6 rfl rfl (fun H locs hR hS => ?_)
  refine lv_iconst (v := 1) hx hb dX5_scaleTolls_9 (by decide) ?_
  replace h := b2_o h
  obtain ⟨x6, T5, e4, h⟩ := h
  refine tw_callV 2 (As := [.int x3, .int 1]) (rest := []) (v := (some (.int x6))) (T' := T5) (st1 := [.int x6]) hx hb hml hown hts hK hR (fun _ h9 => h9) (tw_A2 hR) hS (mX5_isThrown e4) (lw_V q2633 q2635 qs68 q137 q2636) (by decide +kernel) (Nat.le_of_ble_eq_true rfl) (Nat.le_of_ble_eq_true rfl) (Nat.zero_le _) (Nat.zero_le _) rfl hl.1 (Nat.le_of_ble_eq_true rfl) dX5_scaleTolls_10 rfl rfl (fun H locs hR hS => ?_)
  refine lv_if_eq (tgt := 18) hx hb dX5_scaleTolls_13 (by decide) (fun c7 => ?_) (fun c7 => ?_)
  · replace h := it_o c7 h
    refine lv_aload_n hx hb dX5_scaleTolls_18 rfl (lv_at hl 0 rfl) ?_
    replace h := bo_o h
    obtain ⟨T9, e8, h⟩ := h
    refine tw_callV 0 (As := []) (rest := []) (v := none) (T' := T9) (st1 := []) hx hb hml hown hts hK hR (fun _ h9 => h9) (tw_A2 hR) hS (mX5_keeps e8) (lw_V q2669 q2671 qs74 q137 q2672) (by decide +kernel) (Nat.le_of_ble_eq_true rfl) (Nat.le_of_ble_eq_true rfl) (Nat.zero_le _) (Nat.zero_le _) rfl hl.1 (Nat.le_of_ble_eq_true rfl) dX5_scaleTolls_19 rfl rfl (fun H locs hR hS => ?_)
    refine lv_iconst (v := 0) hx hb dX5_scaleTolls_22 (by decide) ?_
    refine lv_istore_n (lv' := [(2, .int 0), (0, .ref o), (1, .int v1)]) hx hb dX5_scaleTolls_23 rfl hl (by decide) rfl (fun ls hl => ?_)
    refine lv_iconst (v := 0) hx hb dX5_scaleTolls_24 (by decide) ?_
    refine lv_istore_n (lv' := [(3, .int 0), (2, .int 0), (0, .ref o), (1, .int v1)]) hx hb dX5_scaleTolls_25 rfl hl (by decide) rfl (fun ls hl => ?_)
    exact lX5_scaleTolls_26 B _ _ _ h H locs ls hR hS (lv_sub hl [2, 3, 1, 0] rfl)
  · replace h := if_o c7 h
    refine lv_iconst (v := 0) hx hb dX5_scaleTolls_16 (by decide) ?_
    have eR := Option.some.inj h
    subst eR
    exact W.iret (v := 0) hx hb hr (fun t ht _ => tw_fin hR hS ht) hS.2.2 dX5_scaleTolls_17
theorem mX5_scaleTolls {l : Launch} {G : gE} {o : Nat} {v1 : Int32} {T : TW} {r : (Int32 × TW)}  (h : fX5_scaleTolls v1 T = some r) : twM l G o yX5_scaleTolls cX5_scaleTolls 4 (some .int) 3 66 [.ref o, .int v1] T (some (.int r.1)) r.2 :=
  tw_of (by decide +kernel) (Nat.le_of_ble_eq_true rfl) (fun p e s m args below meth c ls B hR hl => bX5_scaleTolls_0 B h hR va_S.rf hl)
