set_option maxRecDepth 100000
noncomputable def fX5_nextNode_b91 (v1 : Int32) (v2 : Int32) (v3 : Int32) (v4 : Int32) (T : TW) : Option (Sum (Int32 × Int32 × TW) ((Int32 × TW))) :=
  some (.inl (v3, v4 + 1, T))
theorem bX5_nextNode_91 {p : Program} {l : Launch} {e : Env} {s : State} {m : MethodId} {args : Array Value} {below : List Frame} {meth : Method} {c : Code} {H : Heap} {locs : List Loc} {ls : Array Slot} {G : gE} {o : Nat} (B : gB G RX5 cX5_nextNode 6 (some .int) p s m args meth c) {v1 : Int32} {v2 : Int32} {v3 : Int32} {v4 : Int32} {T : TW} {x : Sum (Int32 × Int32 × TW) ((Int32 × TW))} {r : (Int32 × TW)} (h : fX5_nextNode_b91 v1 v2 v3 v4 T = some x)  (k5 : ∀ (v3' : Int32) (v4' : Int32) (T' : TW), x = (.inl (v3', v4', T')) → ∀ (H : Heap) (locs : List Loc) (ls : Array Slot), RepT G o (T') H → va_S (tFr o) s.heap H locs → lv_has ls 6 [(0, .ref o), (1, .int v1), (2, .int v2), (3, .int v3'), (4, .int v4')] → W p l e (gRm 0 0) s m args below meth c H locs 0 0 (twZ below args s G o (some (.int r.1)) r.2) (F0 m 5 ls [])) (kR : ∀ q, x = (.inr q) → q = r) (hR : RepT G o T H) (hS : va_S (tFr o) s.heap H locs) (hl : lv_has ls 6 [(0, .ref o), (1, .int v1), (2, .int v2), (3, .int v3), (4, .int v4)]) : W p l e (gRm 0 0) s m args below meth c H locs 0 0 (twZ below args s G o (some (.int r.1)) r.2) (F0 m 91 ls []) := by
  have B0 := B
  obtain ⟨hx, hb, hml, hown, hts, hr, hlk, hK⟩ := B0
  unfold fX5_nextNode_b91 at h
  refine lv_iinc (v := v4 + 1) (lv' := [(4, .int (v4 + 1)), (0, .ref o), (1, .int v1), (2, .int v2), (3, .int v3)]) hx hb dX5_nextNode_91 hl (k := 4) rfl rfl (by decide) rfl (fun ls hl => ?_)
  refine lv_goto (tgt := 5) hx hb dX5_nextNode_94 (by decide) ?_
  exact k5 _ _ _ (Option.some.inj h).symm H locs ls hR hS (lv_sub hl [1, 2, 3, 4, 0] rfl)
noncomputable def fX5_nextNode_b88 (v1 : Int32) (v2 : Int32) (v4 : Int32) (T : TW) : Option (Sum (Int32 × Int32 × TW) ((Int32 × TW))) :=
  fX5_nextNode_b91 v1 v2 v4 v4 T
theorem bX5_nextNode_88 {p : Program} {l : Launch} {e : Env} {s : State} {m : MethodId} {args : Array Value} {below : List Frame} {meth : Method} {c : Code} {H : Heap} {locs : List Loc} {ls : Array Slot} {G : gE} {o : Nat} (B : gB G RX5 cX5_nextNode 6 (some .int) p s m args meth c) {v1 : Int32} {v2 : Int32} {v4 : Int32} {T : TW} {x : Sum (Int32 × Int32 × TW) ((Int32 × TW))} {r : (Int32 × TW)} (h : fX5_nextNode_b88 v1 v2 v4 T = some x)  (k5 : ∀ (v3' : Int32) (v4' : Int32) (T' : TW), x = (.inl (v3', v4', T')) → ∀ (H : Heap) (locs : List Loc) (ls : Array Slot), RepT G o (T') H → va_S (tFr o) s.heap H locs → lv_has ls 6 [(0, .ref o), (1, .int v1), (2, .int v2), (3, .int v3'), (4, .int v4')] → W p l e (gRm 0 0) s m args below meth c H locs 0 0 (twZ below args s G o (some (.int r.1)) r.2) (F0 m 5 ls [])) (kR : ∀ q, x = (.inr q) → q = r) (hR : RepT G o T H) (hS : va_S (tFr o) s.heap H locs) (hl : lv_has ls 6 [(0, .ref o), (1, .int v1), (2, .int v2), (4, .int v4)]) : W p l e (gRm 0 0) s m args below meth c H locs 0 0 (twZ below args s G o (some (.int r.1)) r.2) (F0 m 88 ls []) := by
  have B0 := B
  obtain ⟨hx, hb, hml, hown, hts, hr, hlk, hK⟩ := B0
  unfold fX5_nextNode_b88 at h
  refine lv_iload hx hb dX5_nextNode_88 (lv_at hl 3 rfl) ?_
  refine lv_istore_n (lv' := [(3, .int v4), (0, .ref o), (1, .int v1), (2, .int v2), (4, .int v4)]) hx hb dX5_nextNode_90 rfl hl (by decide) rfl (fun ls hl => ?_)
  exact bX5_nextNode_91 B h k5 kR hR hS (lv_sub hl [1, 2, 3, 0, 4] rfl)
noncomputable def fX5_nextNode_b49 (v1 : Int32) (v2 : Int32) (v3 : Int32) (v4 : Int32) (s0 : Int32) (T : TW) : Option (Sum (Int32 × Int32 × TW) ((Int32 × TW))) :=
  (rd_ (tA T 9) 10 v4).bind fun x1 =>
  if x1 = (-1) then (
    fX5_nextNode_b91 v1 v2 v3 v4 T
  ) else (
    if s0 = 0 then (
      fX5_nextNode_b91 v1 v2 v3 v4 T
    ) else (
      if v3 = (-1) then (
        fX5_nextNode_b88 v1 v2 v4 T
      ) else (
        (rd_ (tA T 9) 10 v4).bind fun x6 =>
        (rd_ (tA T 9) 10 v3).bind fun x8 =>
        if x8 ≤ x6 then (
          fX5_nextNode_b91 v1 v2 v3 v4 T
        ) else (
          fX5_nextNode_b88 v1 v2 v4 T
        )
      )
    )
  )
theorem bX5_nextNode_49 {p : Program} {l : Launch} {e : Env} {s : State} {m : MethodId} {args : Array Value} {below : List Frame} {meth : Method} {c : Code} {H : Heap} {locs : List Loc} {ls : Array Slot} {G : gE} {o : Nat} (B : gB G RX5 cX5_nextNode 6 (some .int) p s m args meth c) {v1 : Int32} {v2 : Int32} {v3 : Int32} {v4 : Int32} {s0 : Int32} {T : TW} {x : Sum (Int32 × Int32 × TW) ((Int32 × TW))} {r : (Int32 × TW)} (h : fX5_nextNode_b49 v1 v2 v3 v4 s0 T = some x)  (k5 : ∀ (v3' : Int32) (v4' : Int32) (T' : TW), x = (.inl (v3', v4', T')) → ∀ (H : Heap) (locs : List Loc) (ls : Array Slot), RepT G o (T') H → va_S (tFr o) s.heap H locs → lv_has ls 6 [(0, .ref o), (1, .int v1), (2, .int v2), (3, .int v3'), (4, .int v4')] → W p l e (gRm 0 0) s m args below meth c H locs 0 0 (twZ below args s G o (some (.int r.1)) r.2) (F0 m 5 ls [])) (kR : ∀ q, x = (.inr q) → q = r) (hR : RepT G o T H) (hS : va_S (tFr o) s.heap H locs) (hl : lv_has ls 6 [(0, .ref o), (1, .int v1), (2, .int v2), (3, .int v3), (4, .int v4)]) : W p l e (gRm 0 0) s m args below meth c H locs 0 0 (twZ below args s G o (some (.int r.1)) r.2) (F0 m 49 ls [.int s0]) := by
  have B0 := B
  obtain ⟨hx, hb, hml, hown, hts, hr, hlk, hK⟩ := B0
  unfold fX5_nextNode_b49 at h
  refine lv_istore (lv' := [(5, .int s0), (0, .ref o), (1, .int v1), (2, .int v2), (3, .int v3), (4, .int v4)]) hx hb dX5_nextNode_49 hl (by decide) rfl (fun ls hl => ?_)
  refine lv_aload_n hx hb dX5_nextNode_51 rfl (lv_at hl 1 rfl) ?_
  refine tw_get (k := 22) (v := .ref (o + 9)) hx hb hts hown hK hR (by decide) q2455 rfl (fun _ h9 => h9) dX5_nextNode_52 ?_
  refine lv_iload hx hb dX5_nextNode_55 (lv_at hl 5 rfl) ?_
  replace h := bo_o h
  obtain ⟨x1, e2, h⟩ := h
  refine tw_iald (q := 9) hx hb hK hR rfl e2 dX5_nextNode_57 ?_
  refine lv_iconst (v := (-1)) hx hb dX5_nextNode_58 (by decide) ?_
  refine lv_icmp_eq (tgt := 91) hx hb dX5_nextNode_59 (by decide) (fun c3 => ?_) (fun c3 => ?_)
  · replace h := it_o c3 h
    exact bX5_nextNode_91 B h k5 kR hR hS (lv_sub hl [1, 2, 3, 4, 5] rfl)
  · replace h := if_o c3 h
    refine lv_iload hx hb dX5_nextNode_62 (lv_at hl 0 rfl) ?_
    refine lv_if_eq (tgt := 91) hx hb dX5_nextNode_64 (by decide) (fun c4 => ?_) (fun c4 => ?_)
    · replace h := it_o c4 h
      exact bX5_nextNode_91 B h k5 kR hR hS (lv_sub hl [1, 2, 3, 4, 5] rfl)
    · replace h := if_o c4 h
      refine lv_iload_n hx hb dX5_nextNode_67 rfl (lv_at hl 4 rfl) ?_
      refine lv_iconst (v := (-1)) hx hb dX5_nextNode_68 (by decide) ?_
      refine lv_icmp_eq (tgt := 88) hx hb dX5_nextNode_69 (by decide) (fun c5 => ?_) (fun c5 => ?_)
      · replace h := it_o c5 h
        exact bX5_nextNode_88 B h k5 kR hR hS (lv_sub hl [1, 2, 3, 5] rfl)
      · replace h := if_o c5 h
        refine lv_aload_n hx hb dX5_nextNode_72 rfl (lv_at hl 1 rfl) ?_
        refine tw_get (k := 22) (v := .ref (o + 9)) hx hb hts hown hK hR (by decide) q2455 rfl (fun _ h9 => h9) dX5_nextNode_73 ?_
        refine lv_iload hx hb dX5_nextNode_76 (lv_at hl 5 rfl) ?_
        replace h := bo_o h
        obtain ⟨x6, e7, h⟩ := h
        refine tw_iald (q := 9) hx hb hK hR rfl e7 dX5_nextNode_78 ?_
        refine lv_aload_n hx hb dX5_nextNode_79 rfl (lv_at hl 1 rfl) ?_
        refine tw_get (k := 22) (v := .ref (o + 9)) hx hb hts hown hK hR (by decide) q2455 rfl (fun _ h9 => h9) dX5_nextNode_80 ?_
        refine lv_iload_n hx hb dX5_nextNode_83 rfl (lv_at hl 4 rfl) ?_
        replace h := bo_o h
        obtain ⟨x8, e9, h⟩ := h
        refine tw_iald (q := 9) hx hb hK hR rfl e9 dX5_nextNode_84 ?_
        refine lv_icmp_ge (tgt := 91) hx hb dX5_nextNode_85 (by decide) (fun c10 => ?_) (fun c10 => ?_)
        · replace h := it_o c10 h
          exact bX5_nextNode_91 B h k5 kR hR hS (lv_sub hl [1, 2, 3, 4, 5] rfl)
        · replace h := if_o c10 h
          exact bX5_nextNode_88 B h k5 kR hR hS (lv_sub hl [1, 2, 3, 5] rfl)
noncomputable def fX5_nextNode_b44 (v1 : Int32) (v2 : Int32) (v3 : Int32) (v4 : Int32) (T : TW) : Option (Sum (Int32 × Int32 × TW) ((Int32 × TW))) :=
  fX5_nextNode_b49 v1 v2 v3 v4 1 T
theorem bX5_nextNode_44 {p : Program} {l : Launch} {e : Env} {s : State} {m : MethodId} {args : Array Value} {below : List Frame} {meth : Method} {c : Code} {H : Heap} {locs : List Loc} {ls : Array Slot} {G : gE} {o : Nat} (B : gB G RX5 cX5_nextNode 6 (some .int) p s m args meth c) {v1 : Int32} {v2 : Int32} {v3 : Int32} {v4 : Int32} {T : TW} {x : Sum (Int32 × Int32 × TW) ((Int32 × TW))} {r : (Int32 × TW)} (h : fX5_nextNode_b44 v1 v2 v3 v4 T = some x)  (k5 : ∀ (v3' : Int32) (v4' : Int32) (T' : TW), x = (.inl (v3', v4', T')) → ∀ (H : Heap) (locs : List Loc) (ls : Array Slot), RepT G o (T') H → va_S (tFr o) s.heap H locs → lv_has ls 6 [(0, .ref o), (1, .int v1), (2, .int v2), (3, .int v3'), (4, .int v4')] → W p l e (gRm 0 0) s m args below meth c H locs 0 0 (twZ below args s G o (some (.int r.1)) r.2) (F0 m 5 ls [])) (kR : ∀ q, x = (.inr q) → q = r) (hR : RepT G o T H) (hS : va_S (tFr o) s.heap H locs) (hl : lv_has ls 6 [(0, .ref o), (1, .int v1), (2, .int v2), (3, .int v3), (4, .int v4)]) : W p l e (gRm 0 0) s m args below meth c H locs 0 0 (twZ below args s G o (some (.int r.1)) r.2) (F0 m 44 ls []) := by
  have B0 := B
  obtain ⟨hx, hb, hml, hown, hts, hr, hlk, hK⟩ := B0
  unfold fX5_nextNode_b44 at h
  refine lv_iconst (v := 1) hx hb dX5_nextNode_44 (by decide) ?_
  refine lv_goto (tgt := 49) hx hb dX5_nextNode_45 (by decide) ?_
  exact bX5_nextNode_49 B h k5 kR hR hS (lv_sub hl [0, 1, 2, 3, 4] rfl)
noncomputable def fX5_nextNode_b48 (v1 : Int32) (v2 : Int32) (v3 : Int32) (v4 : Int32) (T : TW) : Option (Sum (Int32 × Int32 × TW) ((Int32 × TW))) :=
  fX5_nextNode_b49 v1 v2 v3 v4 0 T
theorem bX5_nextNode_48 {p : Program} {l : Launch} {e : Env} {s : State} {m : MethodId} {args : Array Value} {below : List Frame} {meth : Method} {c : Code} {H : Heap} {locs : List Loc} {ls : Array Slot} {G : gE} {o : Nat} (B : gB G RX5 cX5_nextNode 6 (some .int) p s m args meth c) {v1 : Int32} {v2 : Int32} {v3 : Int32} {v4 : Int32} {T : TW} {x : Sum (Int32 × Int32 × TW) ((Int32 × TW))} {r : (Int32 × TW)} (h : fX5_nextNode_b48 v1 v2 v3 v4 T = some x)  (k5 : ∀ (v3' : Int32) (v4' : Int32) (T' : TW), x = (.inl (v3', v4', T')) → ∀ (H : Heap) (locs : List Loc) (ls : Array Slot), RepT G o (T') H → va_S (tFr o) s.heap H locs → lv_has ls 6 [(0, .ref o), (1, .int v1), (2, .int v2), (3, .int v3'), (4, .int v4')] → W p l e (gRm 0 0) s m args below meth c H locs 0 0 (twZ below args s G o (some (.int r.1)) r.2) (F0 m 5 ls [])) (kR : ∀ q, x = (.inr q) → q = r) (hR : RepT G o T H) (hS : va_S (tFr o) s.heap H locs) (hl : lv_has ls 6 [(0, .ref o), (1, .int v1), (2, .int v2), (3, .int v3), (4, .int v4)]) : W p l e (gRm 0 0) s m args below meth c H locs 0 0 (twZ below args s G o (some (.int r.1)) r.2) (F0 m 48 ls []) := by
  have B0 := B
  obtain ⟨hx, hb, hml, hown, hts, hr, hlk, hK⟩ := B0
  unfold fX5_nextNode_b48 at h
  refine lv_iconst (v := 0) hx hb dX5_nextNode_48 (by decide) ?_
  exact bX5_nextNode_49 B h k5 kR hR hS (lv_sub hl [0, 1, 2, 3, 4] rfl)
noncomputable def fX5_nextNode_b5 (v1 : Int32) (v2 : Int32) (v3 : Int32) (v4 : Int32) (T : TW) : Option (Sum (Int32 × Int32 × TW) ((Int32 × TW))) :=
  (rd_ (tA T 1) 172 0).bind fun x1 =>
  if x1 ≤ v4 then (
    some (.inr (v3, T))
  ) else (
    (rd_ (tA T 9) 10 v4).bind fun x4 =>
    if v2 < x4 then (
      fX5_nextNode_b44 v1 v2 v3 v4 T
    ) else (
      (rd_ (tA T 9) 10 v4).bind fun x7 =>
      if x7 = v2 then (
        if v4 ≤ v1 then (
          fX5_nextNode_b48 v1 v2 v3 v4 T
        ) else (
          fX5_nextNode_b44 v1 v2 v3 v4 T
        )
      ) else (
        fX5_nextNode_b48 v1 v2 v3 v4 T
      )
    )
  )
theorem bX5_nextNode_5 {p : Program} {l : Launch} {e : Env} {s : State} {m : MethodId} {args : Array Value} {below : List Frame} {meth : Method} {c : Code} {H : Heap} {locs : List Loc} {ls : Array Slot} {G : gE} {o : Nat} (B : gB G RX5 cX5_nextNode 6 (some .int) p s m args meth c) {v1 : Int32} {v2 : Int32} {v3 : Int32} {v4 : Int32} {T : TW} {x : Sum (Int32 × Int32 × TW) ((Int32 × TW))} {r : (Int32 × TW)} (h : fX5_nextNode_b5 v1 v2 v3 v4 T = some x)  (k5 : ∀ (v3' : Int32) (v4' : Int32) (T' : TW), x = (.inl (v3', v4', T')) → ∀ (H : Heap) (locs : List Loc) (ls : Array Slot), RepT G o (T') H → va_S (tFr o) s.heap H locs → lv_has ls 6 [(0, .ref o), (1, .int v1), (2, .int v2), (3, .int v3'), (4, .int v4')] → W p l e (gRm 0 0) s m args below meth c H locs 0 0 (twZ below args s G o (some (.int r.1)) r.2) (F0 m 5 ls [])) (kR : ∀ q, x = (.inr q) → q = r) (hR : RepT G o T H) (hS : va_S (tFr o) s.heap H locs) (hl : lv_has ls 6 [(0, .ref o), (1, .int v1), (2, .int v2), (3, .int v3), (4, .int v4)]) : W p l e (gRm 0 0) s m args below meth c H locs 0 0 (twZ below args s G o (some (.int r.1)) r.2) (F0 m 5 ls []) := by
  have B0 := B
  obtain ⟨hx, hb, hml, hown, hts, hr, hlk, hK⟩ := B0
  unfold fX5_nextNode_b5 at h
  refine lv_iload hx hb dX5_nextNode_5 (lv_at hl 4 rfl) ?_
  refine lv_aload_n hx hb dX5_nextNode_7 rfl (lv_at hl 0 rfl) ?_
  refine tw_get (k := 0) (v := .ref (o + 1)) hx hb hts hown hK hR (by decide) q2433 rfl (fun _ h9 => h9) dX5_nextNode_8 ?_
  refine lv_iconst (v := 0) hx hb dX5_nextNode_11 (by decide) ?_
  replace h := bo_o h
  obtain ⟨x1, e2, h⟩ := h
  refine tw_iald (q := 1) hx hb hK hR rfl e2 dX5_nextNode_12 ?_
  refine lv_icmp_ge (tgt := 97) hx hb dX5_nextNode_13 (by decide) (fun c3 => ?_) (fun c3 => ?_)
  · replace h := it_o c3 h
    refine lv_iload_n hx hb dX5_nextNode_97 rfl (lv_at hl 3 rfl) ?_
    have eR := kR _ (Option.some.inj h).symm
    subst eR
    exact W.iret (v := v3) hx hb hr (fun t ht _ => tw_fin hR hS ht) hS.2.2 dX5_nextNode_98
  · replace h := if_o c3 h
    refine lv_aload_n hx hb dX5_nextNode_16 rfl (lv_at hl 0 rfl) ?_
    refine tw_get (k := 22) (v := .ref (o + 9)) hx hb hts hown hK hR (by decide) q2455 rfl (fun _ h9 => h9) dX5_nextNode_17 ?_
    refine lv_iload hx hb dX5_nextNode_20 (lv_at hl 4 rfl) ?_
    replace h := bo_o h
    obtain ⟨x4, e5, h⟩ := h
    refine tw_iald (q := 9) hx hb hK hR rfl e5 dX5_nextNode_22 ?_
    refine lv_iload_n hx hb dX5_nextNode_23 rfl (lv_at hl 2 rfl) ?_
    refine lv_icmp_gt (tgt := 44) hx hb dX5_nextNode_24 (by decide) (fun c6 => ?_) (fun c6 => ?_)
    · replace h := it_o c6 h
      exact bX5_nextNode_44 B h k5 kR hR hS (lv_sub hl [0, 1, 2, 3, 4] rfl)
    · replace h := if_o c6 h
      refine lv_aload_n hx hb dX5_nextNode_27 rfl (lv_at hl 0 rfl) ?_
      refine tw_get (k := 22) (v := .ref (o + 9)) hx hb hts hown hK hR (by decide) q2455 rfl (fun _ h9 => h9) dX5_nextNode_28 ?_
      refine lv_iload hx hb dX5_nextNode_31 (lv_at hl 4 rfl) ?_
      replace h := bo_o h
      obtain ⟨x7, e8, h⟩ := h
      refine tw_iald (q := 9) hx hb hK hR rfl e8 dX5_nextNode_33 ?_
      refine lv_iload_n hx hb dX5_nextNode_34 rfl (lv_at hl 2 rfl) ?_
      refine lv_icmp_ne (tgt := 48) hx hb dX5_nextNode_35 (by decide) (fun c9 => ?_) (fun c9 => ?_)
      · replace h := if_o c9 h
        exact bX5_nextNode_48 B h k5 kR hR hS (lv_sub hl [0, 1, 2, 3, 4] rfl)
      · replace h := it_o c9 h
        refine lv_iload hx hb dX5_nextNode_38 (lv_at hl 4 rfl) ?_
        refine lv_iload_n hx hb dX5_nextNode_40 rfl (lv_at hl 1 rfl) ?_
        refine lv_icmp_le (tgt := 48) hx hb dX5_nextNode_41 (by decide) (fun c10 => ?_) (fun c10 => ?_)
        · replace h := it_o c10 h
          exact bX5_nextNode_48 B h k5 kR hR hS (lv_sub hl [0, 1, 2, 3, 4] rfl)
        · replace h := if_o c10 h
          exact bX5_nextNode_44 B h k5 kR hR hS (lv_sub hl [0, 1, 2, 3, 4] rfl)
noncomputable def fX5_nextNode_l5 (v1 : Int32) (v2 : Int32) (v3 : Int32) (v4 : Int32) (T : TW) : Option ((Int32 × TW)) := whileO (fun q => fX5_nextNode_b5 v1 v2 q.1 q.2.1 q.2.2) (v3, v4, T)
theorem lX5_nextNode_5 {p : Program} {l : Launch} {e : Env} {s : State} {m : MethodId} {args : Array Value} {below : List Frame} {meth : Method} {c : Code} {G : gE} {o : Nat} (B : gB G RX5 cX5_nextNode 6 (some .int) p s m args meth c) {v1 : Int32} {v2 : Int32} {r : (Int32 × TW)}   : ∀ (v3 : Int32) (v4 : Int32) (T : TW), fX5_nextNode_l5 v1 v2 v3 v4 T = some r → ∀ (H : Heap) (locs : List Loc) (ls : Array Slot), RepT G o (T) H → va_S (tFr o) s.heap H locs → lv_has ls 6 [(0, .ref o), (1, .int v1), (2, .int v2), (3, .int v3), (4, .int v4)] → W p l e (gRm 0 0) s m args below meth c H locs 0 0 (twZ below args s G o (some (.int r.1)) r.2) (F0 m 5 ls []) := by
  intro v3 v4 T h
  refine wh_walk (body := (fun q => fX5_nextNode_b5 v1 v2 q.1 q.2.1 q.2.2)) (P := (fun q : (Int32 × Int32 × TW) => ∀ (H : Heap) (locs : List Loc) (ls : Array Slot), RepT G o (q.2.2) H → va_S (tFr o) s.heap H locs → lv_has ls 6 [(0, .ref o), (1, .int v1), (2, .int v2), (3, .int (q.1)), (4, .int (q.2.1))] → W p l e (gRm 0 0) s m args below meth c H locs 0 0 (twZ below args s G o (some (.int r.1)) r.2) (F0 m 5 ls []))) (r := r) ?_ (v3, v4, T) h
  intro q y hy hL hr H locs ls hR hS hl
  exact bX5_nextNode_5 (r := r) B hy (fun a0 a1 a2 e => hL (a0, a1, a2) e) (fun q e => hr q e) hR hS hl
noncomputable def fX5_nextNode (v1 : Int32) (v2 : Int32) (T : TW) : Option ((Int32 × TW)) :=
  fX5_nextNode_l5 v1 v2 (-1) 0 T
theorem bX5_nextNode_0 {p : Program} {l : Launch} {e : Env} {s : State} {m : MethodId} {args : Array Value} {below : List Frame} {meth : Method} {c : Code} {H : Heap} {locs : List Loc} {ls : Array Slot} {G : gE} {o : Nat} (B : gB G RX5 cX5_nextNode 6 (some .int) p s m args meth c) {v1 : Int32} {v2 : Int32} {T : TW} {r : (Int32 × TW)} (h : fX5_nextNode v1 v2 T = some r)   (hR : RepT G o T H) (hS : va_S (tFr o) s.heap H locs) (hl : lv_has ls 6 [(0, .ref o), (1, .int v1), (2, .int v2)]) : W p l e (gRm 0 0) s m args below meth c H locs 0 0 (twZ below args s G o (some (.int r.1)) r.2) (F0 m 0 ls []) := by
  have B0 := B
  obtain ⟨hx, hb, hml, hown, hts, hr, hlk, hK⟩ := B0
  unfold fX5_nextNode at h
  refine lv_iconst (v := (-1)) hx hb dX5_nextNode_0 (by decide) ?_
  refine lv_istore_n (lv' := [(3, .int (-1)), (0, .ref o), (1, .int v1), (2, .int v2)]) hx hb dX5_nextNode_1 rfl hl (by decide) rfl (fun ls hl => ?_)
  refine lv_iconst (v := 0) hx hb dX5_nextNode_2 (by decide) ?_
  refine lv_istore (lv' := [(4, .int 0), (3, .int (-1)), (0, .ref o), (1, .int v1), (2, .int v2)]) hx hb dX5_nextNode_3 hl (by decide) rfl (fun ls hl => ?_)
  exact lX5_nextNode_5 B _ _ _ h H locs ls hR hS (lv_sub hl [2, 3, 4, 1, 0] rfl)
theorem mX5_nextNode {l : Launch} {G : gE} {o : Nat} {v1 : Int32} {v2 : Int32} {T : TW} {r : (Int32 × TW)}  (h : fX5_nextNode v1 v2 T = some r) : twM l G o yX5_nextNode cX5_nextNode 6 (some .int) 0 0 [.ref o, .int v1, .int v2] T (some (.int r.1)) r.2 :=
  tw_of (by decide +kernel) (Nat.le_of_ble_eq_true rfl) (fun p e s m args below meth c ls B hR hl => bX5_nextNode_0 B h hR va_S.rf hl)
noncomputable def fX5_isTight (v1 : Int32) (v2 : Int32) (T : TW) : Option ((Int32 × TW)) :=
  b2_ (fX5_isOpen v2 T) fun x3 T2 =>
  if x3 = 0 then (
    some (0, T2)
  ) else (
    b2_ (fX5_arc v2 1 T2) fun x7 T6 =>
    (rd_ (tA T6 9) 10 x7).bind fun x8 =>
    if x8 = (-1) then (
      some (0, T6)
    ) else (
      b2_ (fX5_arc v2 0 T6) fun x13 T12 =>
      (rd_ (tA T12 9) 10 x13).bind fun x14 =>
      b2_ (fX5_arc v2 1 T12) fun x18 T17 =>
      (rd_ (tA T17 9) 10 x18).bind fun x19 =>
      b2_ (fX5_feltOn v1 v2 T17) fun x23 T22 =>
      if x14 = x19 + x23 then (
        some (1, T22)
      ) else (
        some (0, T22)
      )
    )
  )
theorem bX5_isTight_0 {p : Program} {l : Launch} {e : Env} {s : State} {m : MethodId} {args : Array Value} {below : List Frame} {meth : Method} {c : Code} {H : Heap} {locs : List Loc} {ls : Array Slot} {G : gE} {o : Nat} (B : gB G RX5 cX5_isTight 3 (some .boolean) p s m args meth c) {v1 : Int32} {v2 : Int32} {T : TW} {r : (Int32 × TW)} (h : fX5_isTight v1 v2 T = some r)   (hR : RepT G o T H) (hS : va_S (tFr o) s.heap H locs) (hl : lv_has ls 3 [(0, .ref o), (1, .int v1), (2, .int v2)]) : W p l e (gRm 3 65) s m args below meth c H locs 0 0 (twZ below args s G o (some (.int r.1)) r.2) (F0 m 0 ls []) := by
  have B0 := B
  obtain ⟨hx, hb, hml, hown, hts, hr, hlk, hK⟩ := B0
  unfold fX5_isTight at h
  refine lv_aload_n hx hb dX5_isTight_0 rfl (lv_at hl 0 rfl) ?_
  refine lv_iload_n hx hb dX5_isTight_1 rfl (lv_at hl 2 rfl) ?_
  replace h := b2_o h
  obtain ⟨x3, T2, e1, h⟩ := h
  refine tw_callV 1 (As := [.int v2]) (rest := []) (v := (some (.int x3))) (T' := T2) (st1 := [.int x3]) hx hb hml hown hts hK hR (fun _ h9 => h9) (tw_A2 hR) hS (mX5_isOpen e1) (lw_V q2735 q2737 qs79 q137 q2738) (by decide +kernel) (Nat.le_of_ble_eq_true rfl) (Nat.le_of_ble_eq_true rfl) (Nat.zero_le _) (Nat.zero_le _) rfl hl.1 (Nat.le_of_ble_eq_true rfl) dX5_isTight_2 rfl rfl (fun H locs hR hS => ?_)
  refine lv_if_eq (tgt := 59) hx hb dX5_isTight_5 (by decide) (fun c4 => ?_) (fun c4 => ?_)
  · replace h := it_o c4 h
    refine lv_iconst (v := 0) hx hb dX5_isTight_59 (by decide) ?_
    have eR := Option.some.inj h
    subst eR
    exact W.zret (v := 0) hx hb hr rfl (fun t ht _ => tw_fin hR hS ht) hS.2.2 dX5_isTight_60
  · replace h := if_o c4 h
    refine lv_aload_n hx hb dX5_isTight_8 rfl (lv_at hl 0 rfl) ?_
    refine tw_get (k := 22) (v := .ref (o + 9)) hx hb hts hown hK hR (by decide) q2455 rfl (fun _ h9 => h9) dX5_isTight_9 ?_
    refine lv_aload_n hx hb dX5_isTight_12 rfl (lv_at hl 0 rfl) ?_
    refine lv_iload_n hx hb dX5_isTight_13 rfl (lv_at hl 2 rfl) ?_
    refine lv_iconst (v := 1) hx hb dX5_isTight_14 (by decide) ?_
    replace h := b2_o h
    obtain ⟨x7, T6, e5, h⟩ := h
    refine tw_callV 2 (As := [.int v2, .int 1]) (rest := [.ref (o + 9)]) (v := (some (.int x7))) (T' := T6) (st1 := [.int x7, .ref (o + 9)]) hx hb hml hown hts hK hR (fun _ h9 => h9) (tw_A2 hR) hS (mX5_arc e5) (lw_V q2637 q2639 qs69 q137 q2640) (by decide +kernel) (Nat.le_of_ble_eq_true rfl) (Nat.le_of_ble_eq_true rfl) (Nat.zero_le _) (Nat.zero_le _) rfl hl.1 (Nat.le_of_ble_eq_true rfl) dX5_isTight_15 rfl rfl (fun H locs hR hS => ?_)
    replace h := bo_o h
    obtain ⟨x8, e9, h⟩ := h
    refine tw_iald (q := 9) hx hb hK hR rfl e9 dX5_isTight_18 ?_
    refine lv_iconst (v := (-1)) hx hb dX5_isTight_19 (by decide) ?_
    refine lv_icmp_eq (tgt := 59) hx hb dX5_isTight_20 (by decide) (fun c10 => ?_) (fun c10 => ?_)
    · replace h := it_o c10 h
      refine lv_iconst (v := 0) hx hb dX5_isTight_59 (by decide) ?_
      have eR := Option.some.inj h
      subst eR
      exact W.zret (v := 0) hx hb hr rfl (fun t ht _ => tw_fin hR hS ht) hS.2.2 dX5_isTight_60
    · replace h := if_o c10 h
      refine lv_aload_n hx hb dX5_isTight_23 rfl (lv_at hl 0 rfl) ?_
      refine tw_get (k := 22) (v := .ref (o + 9)) hx hb hts hown hK hR (by decide) q2455 rfl (fun _ h9 => h9) dX5_isTight_24 ?_
      refine lv_aload_n hx hb dX5_isTight_27 rfl (lv_at hl 0 rfl) ?_
      refine lv_iload_n hx hb dX5_isTight_28 rfl (lv_at hl 2 rfl) ?_
      refine lv_iconst (v := 0) hx hb dX5_isTight_29 (by decide) ?_
      replace h := b2_o h
      obtain ⟨x13, T12, e11, h⟩ := h
      refine tw_callV 2 (As := [.int v2, .int 0]) (rest := [.ref (o + 9)]) (v := (some (.int x13))) (T' := T12) (st1 := [.int x13, .ref (o + 9)]) hx hb hml hown hts hK hR (fun _ h9 => h9) (tw_A2 hR) hS (mX5_arc e11) (lw_V q2637 q2639 qs69 q137 q2640) (by decide +kernel) (Nat.le_of_ble_eq_true rfl) (Nat.le_of_ble_eq_true rfl) (Nat.zero_le _) (Nat.zero_le _) rfl hl.1 (Nat.le_of_ble_eq_true rfl) dX5_isTight_30 rfl rfl (fun H locs hR hS => ?_)
      replace h := bo_o h
      obtain ⟨x14, e15, h⟩ := h
      refine tw_iald (q := 9) hx hb hK hR rfl e15 dX5_isTight_33 ?_
      refine lv_aload_n hx hb dX5_isTight_34 rfl (lv_at hl 0 rfl) ?_
      refine tw_get (k := 22) (v := .ref (o + 9)) hx hb hts hown hK hR (by decide) q2455 rfl (fun _ h9 => h9) dX5_isTight_35 ?_
      refine lv_aload_n hx hb dX5_isTight_38 rfl (lv_at hl 0 rfl) ?_
      refine lv_iload_n hx hb dX5_isTight_39 rfl (lv_at hl 2 rfl) ?_
      refine lv_iconst (v := 1) hx hb dX5_isTight_40 (by decide) ?_
      replace h := b2_o h
      obtain ⟨x18, T17, e16, h⟩ := h
      refine tw_callV 2 (As := [.int v2, .int 1]) (rest := [.ref (o + 9), .int x14]) (v := (some (.int x18))) (T' := T17) (st1 := [.int x18, .ref (o + 9), .int x14]) hx hb hml hown hts hK hR (fun _ h9 => h9) (tw_A2 hR) hS (mX5_arc e16) (lw_V q2637 q2639 qs69 q137 q2640) (by decide +kernel) (Nat.le_of_ble_eq_true rfl) (Nat.le_of_ble_eq_true rfl) (Nat.zero_le _) (Nat.zero_le _) rfl hl.1 (Nat.le_of_ble_eq_true rfl) dX5_isTight_41 rfl rfl (fun H locs hR hS => ?_)
      replace h := bo_o h
      obtain ⟨x19, e20, h⟩ := h
      refine tw_iald (q := 9) hx hb hK hR rfl e20 dX5_isTight_44 ?_
      refine lv_aload_n hx hb dX5_isTight_45 rfl (lv_at hl 0 rfl) ?_
      refine lv_iload_n hx hb dX5_isTight_46 rfl (lv_at hl 1 rfl) ?_
      refine lv_iload_n hx hb dX5_isTight_47 rfl (lv_at hl 2 rfl) ?_
      replace h := b2_o h
      obtain ⟨x23, T22, e21, h⟩ := h
      refine tw_callV 2 (As := [.int v1, .int v2]) (rest := [.int x19, .int x14]) (v := (some (.int x23))) (T' := T22) (st1 := [.int x23, .int x19, .int x14]) hx hb hml hown hts hK hR (fun _ h9 => h9) (tw_A2 hR) hS (mX5_feltOn e21) (lw_V q2747 q2749 qs81 q137 q2750) (by decide +kernel) (Nat.le_of_ble_eq_true rfl) (Nat.le_of_ble_eq_true rfl) (Nat.zero_le _) (Nat.zero_le _) rfl hl.1 (Nat.le_of_ble_eq_true rfl) dX5_isTight_48 rfl rfl (fun H locs hR hS => ?_)
      refine lv_iadd hx hb dX5_isTight_51 ?_
      refine lv_icmp_ne (tgt := 59) hx hb dX5_isTight_52 (by decide) (fun c24 => ?_) (fun c24 => ?_)
      · replace h := if_o c24 h
        refine lv_iconst (v := 0) hx hb dX5_isTight_59 (by decide) ?_
        have eR := Option.some.inj h
        subst eR
        exact W.zret (v := 0) hx hb hr rfl (fun t ht _ => tw_fin hR hS ht) hS.2.2 dX5_isTight_60
      · replace h := it_o c24 h
        refine lv_iconst (v := 1) hx hb dX5_isTight_55 (by decide) ?_
        refine lv_goto (tgt := 60) hx hb dX5_isTight_56 (by decide) ?_
        have eR := Option.some.inj h
        subst eR
        exact W.zret (v := 1) hx hb hr rfl (fun t ht _ => tw_fin hR hS ht) hS.2.2 dX5_isTight_60
theorem mX5_isTight {l : Launch} {G : gE} {o : Nat} {v1 : Int32} {v2 : Int32} {T : TW} {r : (Int32 × TW)}  (h : fX5_isTight v1 v2 T = some r) : twM l G o yX5_isTight cX5_isTight 3 (some .boolean) 3 65 [.ref o, .int v1, .int v2] T (some (.int r.1)) r.2 :=
  tw_of (by decide +kernel) (Nat.le_of_ble_eq_true rfl) (fun p e s m args below meth c ls B hR hl => bX5_isTight_0 B h hR va_S.rf hl)
noncomputable def fX5_laysTies_b208 (v1 : Int32) (v2 : Int32) (v3 : Int32) (T : TW) : Option (Sum (Int32 × TW) (TW)) :=
  (rd_ (tA T 9) 10 v3).bind fun x1 =>
  b2_ (fX5_nextNode v3 x1 T) fun x5 T4 =>
  some (.inl (x5, T4))
theorem bX5_laysTies_208 {p : Program} {l : Launch} {e : Env} {s : State} {m : MethodId} {args : Array Value} {below : List Frame} {meth : Method} {c : Code} {H : Heap} {locs : List Loc} {ls : Array Slot} {G : gE} {o : Nat} (B : gB G RX5 cX5_laysTies 5 none p s m args meth c) {v1 : Int32} {v2 : Int32} {v3 : Int32} {T : TW} {x : Sum (Int32 × TW) (TW)} {r : TW} (h : fX5_laysTies_b208 v1 v2 v3 T = some x)  (k19 : ∀ (v3' : Int32) (T' : TW), x = (.inl (v3', T')) → ∀ (H : Heap) (locs : List Loc) (ls : Array Slot), RepT G o (T') H → va_S (tFr o) s.heap H locs → lv_has ls 5 [(0, .ref o), (1, .int v1), (2, .int v2), (3, .int v3')] → W p l e (gRm 6 134) s m args below meth c H locs 0 0 (twZ below args s G o none r) (F0 m 19 ls [])) (kR : ∀ q, x = (.inr q) → q = r) (hR : RepT G o T H) (hS : va_S (tFr o) s.heap H locs) (hl : lv_has ls 5 [(0, .ref o), (1, .int v1), (2, .int v2), (3, .int v3)]) : W p l e (gRm 6 134) s m args below meth c H locs 0 0 (twZ below args s G o none r) (F0 m 208 ls []) := by
  have B0 := B
  obtain ⟨hx, hb, hml, hown, hts, hr, hlk, hK⟩ := B0
  unfold fX5_laysTies_b208 at h
  refine lv_aload_n hx hb dX5_laysTies_208 rfl (lv_at hl 0 rfl) ?_
  refine lv_iload_n hx hb dX5_laysTies_209 rfl (lv_at hl 3 rfl) ?_
  refine lv_aload_n hx hb dX5_laysTies_210 rfl (lv_at hl 0 rfl) ?_
  refine tw_get (k := 22) (v := .ref (o + 9)) hx hb hts hown hK hR (by decide) q2455 rfl (fun _ h9 => h9) dX5_laysTies_211 ?_
  refine lv_iload_n hx hb dX5_laysTies_214 rfl (lv_at hl 3 rfl) ?_
  replace h := bo_o h
  obtain ⟨x1, e2, h⟩ := h
  refine tw_iald (q := 9) hx hb hK hR rfl e2 dX5_laysTies_215 ?_
  replace h := b2_o h
  obtain ⟨x5, T4, e3, h⟩ := h
  refine tw_callV 2 (As := [.int v3, .int x1]) (rest := []) (v := (some (.int x5))) (T' := T4) (st1 := [.int x5]) hx hb hml hown hts hK hR (fun _ h9 => h9) (tw_A2 hR) hS (mX5_nextNode e3) (lw_V q2838 q2840 qs92 q137 q2841) (by decide +kernel) (Nat.le_of_ble_eq_true rfl) (Nat.le_of_ble_eq_true rfl) (Nat.zero_le _) (Nat.zero_le _) rfl hl.1 (Nat.le_of_ble_eq_true rfl) dX5_laysTies_216 rfl rfl (fun H locs hR hS => ?_)
  refine lv_istore_n (lv' := [(3, .int x5), (0, .ref o), (1, .int v1), (2, .int v2)]) hx hb dX5_laysTies_219 rfl hl (by decide) rfl (fun ls hl => ?_)
  refine lv_goto (tgt := 19) hx hb dX5_laysTies_220 (by decide) ?_
  exact k19 _ _ (Option.some.inj h).symm H locs ls hR hS (lv_sub hl [1, 2, 3, 0] rfl)
noncomputable def fX5_laysTies_b202 (v1 : Int32) (v2 : Int32) (v3 : Int32) (v4 : Int32) (T : TW) : Option (Sum (Int32 × TW) (Sum (Int32 × TW) (TW))) :=
  some (.inl (v4 + 1, T))
theorem bX5_laysTies_202 {p : Program} {l : Launch} {e : Env} {s : State} {m : MethodId} {args : Array Value} {below : List Frame} {meth : Method} {c : Code} {H : Heap} {locs : List Loc} {ls : Array Slot} {G : gE} {o : Nat} (B : gB G RX5 cX5_laysTies 5 none p s m args meth c) {v1 : Int32} {v2 : Int32} {v3 : Int32} {v4 : Int32} {T : TW} {x : Sum (Int32 × TW) (Sum (Int32 × TW) (TW))} {r : TW} (h : fX5_laysTies_b202 v1 v2 v3 v4 T = some x)  (k79 : ∀ (v4' : Int32) (T' : TW), x = (.inl (v4', T')) → ∀ (H : Heap) (locs : List Loc) (ls : Array Slot), RepT G o (T') H → va_S (tFr o) s.heap H locs → lv_has ls 5 [(0, .ref o), (1, .int v1), (2, .int v2), (3, .int v3), (4, .int v4')] → W p l e (gRm 6 134) s m args below meth c H locs 0 0 (twZ below args s G o none r) (F0 m 79 ls [])) (k19 : ∀ (v3' : Int32) (T' : TW), x = (.inr (.inl (v3', T'))) → ∀ (H : Heap) (locs : List Loc) (ls : Array Slot), RepT G o (T') H → va_S (tFr o) s.heap H locs → lv_has ls 5 [(0, .ref o), (1, .int v1), (2, .int v2), (3, .int v3')] → W p l e (gRm 6 134) s m args below meth c H locs 0 0 (twZ below args s G o none r) (F0 m 19 ls [])) (kR : ∀ q, x = (.inr (.inr q)) → q = r) (hR : RepT G o T H) (hS : va_S (tFr o) s.heap H locs) (hl : lv_has ls 5 [(0, .ref o), (1, .int v1), (2, .int v2), (3, .int v3), (4, .int v4)]) : W p l e (gRm 6 134) s m args below meth c H locs 0 0 (twZ below args s G o none r) (F0 m 202 ls []) := by
  have B0 := B
  obtain ⟨hx, hb, hml, hown, hts, hr, hlk, hK⟩ := B0
  unfold fX5_laysTies_b202 at h
  refine lv_iinc (v := v4 + 1) (lv' := [(4, .int (v4 + 1)), (0, .ref o), (1, .int v1), (2, .int v2), (3, .int v3)]) hx hb dX5_laysTies_202 hl (k := 4) rfl rfl (by decide) rfl (fun ls hl => ?_)
  refine lv_goto (tgt := 79) hx hb dX5_laysTies_205 (by decide) ?_
  exact k79 _ _ (Option.some.inj h).symm H locs ls hR hS (lv_sub hl [1, 2, 3, 4, 0] rfl)
noncomputable def fX5_laysTies_b79 (v1 : Int32) (v2 : Int32) (v3 : Int32) (v4 : Int32) (T : TW) : Option (Sum (Int32 × TW) (Sum (Int32 × TW) (TW))) :=
  (rd_ (tA T 1) 172 1).bind fun x1 =>
  if x1 ≤ v4 then (
    (fX5_laysTies_b208 v1 v2 v3 T).map (fun y => (.inr y))
  ) else (
    b2_ (fX5_arc v4 0 T) fun x6 T5 =>
    if x6 = v3 then (
      b2_ (fX5_isTight v1 v4 T5) fun x10 T9 =>
      if x10 = 0 then (
        fX5_laysTies_b202 v1 v2 v3 v4 T9
      ) else (
        (rd_ (tB T9 12) 10 v3).bind fun x12 =>
        b2_ (fX5_arc v4 1 T9) fun x16 T15 =>
        (rd_ (tB T15 12) 10 x16).bind fun x17 =>
        (wrB T15 12 10 v3 (x12 + x17)).bind fun T19 =>
        (rd_ (tA T19 10) 10 v3).bind fun x21 =>
        b2_ (fX5_arc v4 1 T19) fun x25 T24 =>
        (rd_ (tA T24 10) 10 x25).bind fun x26 =>
        b2_ (fX5_arc v4 4 T24) fun x30 T29 =>
        nm_ (mxI x21 (x26 + x30)) fun x31 =>
        (wrA T29 10 10 v3 x31).bind fun T33 =>
        (rd_ (tA T33 11) 10 v3).bind fun x35 =>
        b2_ (fX5_arc v4 1 T33) fun x39 T38 =>
        (rd_ (tA T38 11) 10 x39).bind fun x40 =>
        b2_ (fX5_arc v4 4 T38) fun x44 T43 =>
        nm_ (mnI x35 (x40 + x44)) fun x45 =>
        (wrA T43 11 10 v3 x45).bind fun T47 =>
        fX5_laysTies_b202 v1 v2 v3 v4 T47
      )
    ) else (
      fX5_laysTies_b202 v1 v2 v3 v4 T5
    )
  )
theorem bX5_laysTies_79 {p : Program} {l : Launch} {e : Env} {s : State} {m : MethodId} {args : Array Value} {below : List Frame} {meth : Method} {c : Code} {H : Heap} {locs : List Loc} {ls : Array Slot} {G : gE} {o : Nat} (B : gB G RX5 cX5_laysTies 5 none p s m args meth c) {v1 : Int32} {v2 : Int32} {v3 : Int32} {v4 : Int32} {T : TW} {x : Sum (Int32 × TW) (Sum (Int32 × TW) (TW))} {r : TW} (h : fX5_laysTies_b79 v1 v2 v3 v4 T = some x)  (k79 : ∀ (v4' : Int32) (T' : TW), x = (.inl (v4', T')) → ∀ (H : Heap) (locs : List Loc) (ls : Array Slot), RepT G o (T') H → va_S (tFr o) s.heap H locs → lv_has ls 5 [(0, .ref o), (1, .int v1), (2, .int v2), (3, .int v3), (4, .int v4')] → W p l e (gRm 6 134) s m args below meth c H locs 0 0 (twZ below args s G o none r) (F0 m 79 ls [])) (k19 : ∀ (v3' : Int32) (T' : TW), x = (.inr (.inl (v3', T'))) → ∀ (H : Heap) (locs : List Loc) (ls : Array Slot), RepT G o (T') H → va_S (tFr o) s.heap H locs → lv_has ls 5 [(0, .ref o), (1, .int v1), (2, .int v2), (3, .int v3')] → W p l e (gRm 6 134) s m args below meth c H locs 0 0 (twZ below args s G o none r) (F0 m 19 ls [])) (kR : ∀ q, x = (.inr (.inr q)) → q = r) (hR : RepT G o T H) (hS : va_S (tFr o) s.heap H locs) (hl : lv_has ls 5 [(0, .ref o), (1, .int v1), (2, .int v2), (3, .int v3), (4, .int v4)]) : W p l e (gRm 6 134) s m args below meth c H locs 0 0 (twZ below args s G o none r) (F0 m 79 ls []) := by
  have B0 := B
  obtain ⟨hx, hb, hml, hown, hts, hr, hlk, hK⟩ := B0
  unfold fX5_laysTies_b79 at h
  refine lv_iload hx hb dX5_laysTies_79 (lv_at hl 4 rfl) ?_
  refine lv_aload_n hx hb dX5_laysTies_81 rfl (lv_at hl 0 rfl) ?_
  refine tw_get (k := 0) (v := .ref (o + 1)) hx hb hts hown hK hR (by decide) q2433 rfl (fun _ h9 => h9) dX5_laysTies_82 ?_
  refine lv_iconst (v := 1) hx hb dX5_laysTies_85 (by decide) ?_
  replace h := bo_o h
  obtain ⟨x1, e2, h⟩ := h
  refine tw_iald (q := 1) hx hb hK hR rfl e2 dX5_laysTies_86 ?_
  refine lv_icmp_ge (tgt := 208) hx hb dX5_laysTies_87 (by decide) (fun c3 => ?_) (fun c3 => ?_)
  · replace h := it_o c3 h
    obtain ⟨y, h, ey⟩ := mp_o h
    exact bX5_laysTies_208 B h (fun _ _ e => k19 _ _ (by rw [← ey, e])) (fun q e => kR q (by rw [← ey, e])) hR hS (lv_sub hl [0, 1, 2, 3] rfl)
  · replace h := if_o c3 h
    refine lv_aload_n hx hb dX5_laysTies_90 rfl (lv_at hl 0 rfl) ?_
    refine lv_iload hx hb dX5_laysTies_91 (lv_at hl 4 rfl) ?_
    refine lv_iconst (v := 0) hx hb dX5_laysTies_93 (by decide) ?_
    replace h := b2_o h
    obtain ⟨x6, T5, e4, h⟩ := h
    refine tw_callV 2 (As := [.int v4, .int 0]) (rest := []) (v := (some (.int x6))) (T' := T5) (st1 := [.int x6]) hx hb hml hown hts hK hR (fun _ h9 => h9) (tw_A2 hR) hS (mX5_arc e4) (lw_V q2637 q2639 qs69 q137 q2640) (by decide +kernel) (Nat.le_of_ble_eq_true rfl) (Nat.le_of_ble_eq_true rfl) (Nat.zero_le _) (Nat.zero_le _) rfl hl.1 (Nat.le_of_ble_eq_true rfl) dX5_laysTies_94 rfl rfl (fun H locs hR hS => ?_)
    refine lv_iload_n hx hb dX5_laysTies_97 rfl (lv_at hl 3 rfl) ?_
    refine lv_icmp_ne (tgt := 202) hx hb dX5_laysTies_98 (by decide) (fun c7 => ?_) (fun c7 => ?_)
    · replace h := if_o c7 h
      exact bX5_laysTies_202 B h k79 k19 kR hR hS (lv_sub hl [0, 1, 2, 3, 4] rfl)
    · replace h := it_o c7 h
      refine lv_aload_n hx hb dX5_laysTies_101 rfl (lv_at hl 0 rfl) ?_
      refine lv_iload_n hx hb dX5_laysTies_102 rfl (lv_at hl 1 rfl) ?_
      refine lv_iload hx hb dX5_laysTies_103 (lv_at hl 4 rfl) ?_
      replace h := b2_o h
      obtain ⟨x10, T9, e8, h⟩ := h
      refine tw_callV 2 (As := [.int v1, .int v4]) (rest := []) (v := (some (.int x10))) (T' := T9) (st1 := [.int x10]) hx hb hml hown hts hK hR (fun _ h9 => h9) (tw_A2 hR) hS (mX5_isTight e8) (lw_V q2844 q2846 qs93 q137 q2847) (by decide +kernel) (Nat.le_of_ble_eq_true rfl) (Nat.le_of_ble_eq_true rfl) (Nat.zero_le _) (Nat.zero_le _) rfl hl.1 (Nat.le_of_ble_eq_true rfl) dX5_laysTies_105 rfl rfl (fun H locs hR hS => ?_)
      refine lv_if_eq (tgt := 202) hx hb dX5_laysTies_108 (by decide) (fun c11 => ?_) (fun c11 => ?_)
      · replace h := it_o c11 h
        exact bX5_laysTies_202 B h k79 k19 kR hR hS (lv_sub hl [0, 1, 2, 3, 4] rfl)
      · replace h := if_o c11 h
        refine lv_aload_n hx hb dX5_laysTies_111 rfl (lv_at hl 0 rfl) ?_
        refine tw_get (k := 25) (v := .ref (o + 12)) hx hb hts hown hK hR (by decide) q2458 rfl (fun _ h9 => h9) dX5_laysTies_112 ?_
        refine lv_iload_n hx hb dX5_laysTies_115 rfl (lv_at hl 3 rfl) ?_
        refine lv_dup2_11 hx hb dX5_laysTies_116 rfl rfl ?_
        replace h := bo_o h
        obtain ⟨x12, e13, h⟩ := h
        refine tw_lald (q := 12) hx hb hK hR rfl e13 dX5_laysTies_117 ?_
        refine lv_aload_n hx hb dX5_laysTies_118 rfl (lv_at hl 0 rfl) ?_
        refine tw_get (k := 25) (v := .ref (o + 12)) hx hb hts hown hK hR (by decide) q2458 rfl (fun _ h9 => h9) dX5_laysTies_119 ?_
        refine lv_aload_n hx hb dX5_laysTies_122 rfl (lv_at hl 0 rfl) ?_
        refine lv_iload hx hb dX5_laysTies_123 (lv_at hl 4 rfl) ?_
        refine lv_iconst (v := 1) hx hb dX5_laysTies_125 (by decide) ?_
        replace h := b2_o h
        obtain ⟨x16, T15, e14, h⟩ := h
        refine tw_callV 2 (As := [.int v4, .int 1]) (rest := [.ref (o + 12), .long x12, .int v3, .ref (o + 12)]) (v := (some (.int x16))) (T' := T15) (st1 := [.int x16, .ref (o + 12), .long x12, .int v3, .ref (o + 12)]) hx hb hml hown hts hK hR (fun _ h9 => h9) (tw_A2 hR) hS (mX5_arc e14) (lw_V q2637 q2639 qs69 q137 q2640) (by decide +kernel) (Nat.le_of_ble_eq_true rfl) (Nat.le_of_ble_eq_true rfl) (Nat.zero_le _) (Nat.zero_le _) rfl hl.1 (Nat.le_of_ble_eq_true rfl) dX5_laysTies_126 rfl rfl (fun H locs hR hS => ?_)
        replace h := bo_o h
        obtain ⟨x17, e18, h⟩ := h
        refine tw_lald (q := 12) hx hb hK hR rfl e18 dX5_laysTies_129 ?_
        refine lv_ladd hx hb dX5_laysTies_130 ?_
        replace h := bo_o h
        obtain ⟨T19, e20, h⟩ := h
        refine tw_last (q := 12) hx hb hK hR (fun _ h9 => h9) hS rfl (fun _ => rfl) e20 dX5_laysTies_131 (fun H locs hR hS => ?_)
        refine lv_aload_n hx hb dX5_laysTies_132 rfl (lv_at hl 0 rfl) ?_
        refine tw_get (k := 23) (v := .ref (o + 10)) hx hb hts hown hK hR (by decide) q2456 rfl (fun _ h9 => h9) dX5_laysTies_133 ?_
        refine lv_iload_n hx hb dX5_laysTies_136 rfl (lv_at hl 3 rfl) ?_
        refine lv_aload_n hx hb dX5_laysTies_137 rfl (lv_at hl 0 rfl) ?_
        refine tw_get (k := 23) (v := .ref (o + 10)) hx hb hts hown hK hR (by decide) q2456 rfl (fun _ h9 => h9) dX5_laysTies_138 ?_
        refine lv_iload_n hx hb dX5_laysTies_141 rfl (lv_at hl 3 rfl) ?_
        replace h := bo_o h
        obtain ⟨x21, e22, h⟩ := h
        refine tw_iald (q := 10) hx hb hK hR rfl e22 dX5_laysTies_142 ?_
        refine lv_aload_n hx hb dX5_laysTies_143 rfl (lv_at hl 0 rfl) ?_
        refine tw_get (k := 23) (v := .ref (o + 10)) hx hb hts hown hK hR (by decide) q2456 rfl (fun _ h9 => h9) dX5_laysTies_144 ?_
        refine lv_aload_n hx hb dX5_laysTies_147 rfl (lv_at hl 0 rfl) ?_
        refine lv_iload hx hb dX5_laysTies_148 (lv_at hl 4 rfl) ?_
        refine lv_iconst (v := 1) hx hb dX5_laysTies_150 (by decide) ?_
        replace h := b2_o h
        obtain ⟨x25, T24, e23, h⟩ := h
        refine tw_callV 2 (As := [.int v4, .int 1]) (rest := [.ref (o + 10), .int x21, .int v3, .ref (o + 10)]) (v := (some (.int x25))) (T' := T24) (st1 := [.int x25, .ref (o + 10), .int x21, .int v3, .ref (o + 10)]) hx hb hml hown hts hK hR (fun _ h9 => h9) (tw_A2 hR) hS (mX5_arc e23) (lw_V q2637 q2639 qs69 q137 q2640) (by decide +kernel) (Nat.le_of_ble_eq_true rfl) (Nat.le_of_ble_eq_true rfl) (Nat.zero_le _) (Nat.zero_le _) rfl hl.1 (Nat.le_of_ble_eq_true rfl) dX5_laysTies_151 rfl rfl (fun H locs hR hS => ?_)
        replace h := bo_o h
        obtain ⟨x26, e27, h⟩ := h
        refine tw_iald (q := 10) hx hb hK hR rfl e27 dX5_laysTies_154 ?_
        refine lv_aload_n hx hb dX5_laysTies_155 rfl (lv_at hl 0 rfl) ?_
        refine lv_iload hx hb dX5_laysTies_156 (lv_at hl 4 rfl) ?_
        refine lv_iconst (v := 4) hx hb dX5_laysTies_158 (by decide) ?_
        replace h := b2_o h
        obtain ⟨x30, T29, e28, h⟩ := h
        refine tw_callV 2 (As := [.int v4, .int 4]) (rest := [.int x26, .int x21, .int v3, .ref (o + 10)]) (v := (some (.int x30))) (T' := T29) (st1 := [.int x30, .int x26, .int x21, .int v3, .ref (o + 10)]) hx hb hml hown hts hK hR (fun _ h9 => h9) (tw_A2 hR) hS (mX5_arc e28) (lw_V q2637 q2639 qs69 q137 q2640) (by decide +kernel) (Nat.le_of_ble_eq_true rfl) (Nat.le_of_ble_eq_true rfl) (Nat.zero_le _) (Nat.zero_le _) rfl hl.1 (Nat.le_of_ble_eq_true rfl) dX5_laysTies_159 rfl rfl (fun H locs hR hS => ?_)
        refine lv_iadd hx hb dX5_laysTies_162 ?_
        replace h := nm_o h
        obtain ⟨x31, e32, h⟩ := h
        refine va_mmax hx hb (hml.trans hl.1.symm) hown (hts _ q2681) (hts _ q295) (hts _ q127) (hts _ q296) (Nat.le_of_ble_eq_true rfl) (Nat.le_of_ble_eq_true rfl) (Nat.zero_le _) (Nat.zero_le _) dX5_laysTies_163 ?_
        refine W.eq (g2 := F0 m 166 ls [.int x31, .int v3, .ref (o + 10)]) (by rw [e32]; rfl) ?_
        replace h := bo_o h
        obtain ⟨T33, e34, h⟩ := h
        refine tw_iast (q := 10) hx hb hK hR (fun _ h9 => h9) hS rfl (fun _ => rfl) e34 dX5_laysTies_166 (fun H locs hR hS => ?_)
        refine lv_aload_n hx hb dX5_laysTies_167 rfl (lv_at hl 0 rfl) ?_
        refine tw_get (k := 24) (v := .ref (o + 11)) hx hb hts hown hK hR (by decide) q2457 rfl (fun _ h9 => h9) dX5_laysTies_168 ?_
        refine lv_iload_n hx hb dX5_laysTies_171 rfl (lv_at hl 3 rfl) ?_
        refine lv_aload_n hx hb dX5_laysTies_172 rfl (lv_at hl 0 rfl) ?_
        refine tw_get (k := 24) (v := .ref (o + 11)) hx hb hts hown hK hR (by decide) q2457 rfl (fun _ h9 => h9) dX5_laysTies_173 ?_
        refine lv_iload_n hx hb dX5_laysTies_176 rfl (lv_at hl 3 rfl) ?_
        replace h := bo_o h
        obtain ⟨x35, e36, h⟩ := h
        refine tw_iald (q := 11) hx hb hK hR rfl e36 dX5_laysTies_177 ?_
        refine lv_aload_n hx hb dX5_laysTies_178 rfl (lv_at hl 0 rfl) ?_
        refine tw_get (k := 24) (v := .ref (o + 11)) hx hb hts hown hK hR (by decide) q2457 rfl (fun _ h9 => h9) dX5_laysTies_179 ?_
        refine lv_aload_n hx hb dX5_laysTies_182 rfl (lv_at hl 0 rfl) ?_
        refine lv_iload hx hb dX5_laysTies_183 (lv_at hl 4 rfl) ?_
        refine lv_iconst (v := 1) hx hb dX5_laysTies_185 (by decide) ?_
        replace h := b2_o h
        obtain ⟨x39, T38, e37, h⟩ := h
        refine tw_callV 2 (As := [.int v4, .int 1]) (rest := [.ref (o + 11), .int x35, .int v3, .ref (o + 11)]) (v := (some (.int x39))) (T' := T38) (st1 := [.int x39, .ref (o + 11), .int x35, .int v3, .ref (o + 11)]) hx hb hml hown hts hK hR (fun _ h9 => h9) (tw_A2 hR) hS (mX5_arc e37) (lw_V q2637 q2639 qs69 q137 q2640) (by decide +kernel) (Nat.le_of_ble_eq_true rfl) (Nat.le_of_ble_eq_true rfl) (Nat.zero_le _) (Nat.zero_le _) rfl hl.1 (Nat.le_of_ble_eq_true rfl) dX5_laysTies_186 rfl rfl (fun H locs hR hS => ?_)
        replace h := bo_o h
        obtain ⟨x40, e41, h⟩ := h
        refine tw_iald (q := 11) hx hb hK hR rfl e41 dX5_laysTies_189 ?_
        refine lv_aload_n hx hb dX5_laysTies_190 rfl (lv_at hl 0 rfl) ?_
        refine lv_iload hx hb dX5_laysTies_191 (lv_at hl 4 rfl) ?_
        refine lv_iconst (v := 4) hx hb dX5_laysTies_193 (by decide) ?_
        replace h := b2_o h
        obtain ⟨x44, T43, e42, h⟩ := h
        refine tw_callV 2 (As := [.int v4, .int 4]) (rest := [.int x40, .int x35, .int v3, .ref (o + 11)]) (v := (some (.int x44))) (T' := T43) (st1 := [.int x44, .int x40, .int x35, .int v3, .ref (o + 11)]) hx hb hml hown hts hK hR (fun _ h9 => h9) (tw_A2 hR) hS (mX5_arc e42) (lw_V q2637 q2639 qs69 q137 q2640) (by decide +kernel) (Nat.le_of_ble_eq_true rfl) (Nat.le_of_ble_eq_true rfl) (Nat.zero_le _) (Nat.zero_le _) rfl hl.1 (Nat.le_of_ble_eq_true rfl) dX5_laysTies_194 rfl rfl (fun H locs hR hS => ?_)
        refine lv_iadd hx hb dX5_laysTies_197 ?_
        replace h := nm_o h
        obtain ⟨x45, e46, h⟩ := h
        refine va_mmin hx hb (hml.trans hl.1.symm) hown (hts _ q2591) (hts _ q313) (hts _ q127) (hts _ q314) (Nat.le_of_ble_eq_true rfl) (Nat.le_of_ble_eq_true rfl) (Nat.zero_le _) (Nat.zero_le _) dX5_laysTies_198 ?_
        refine W.eq (g2 := F0 m 201 ls [.int x45, .int v3, .ref (o + 11)]) (by rw [e46]; rfl) ?_
        replace h := bo_o h
        obtain ⟨T47, e48, h⟩ := h
        refine tw_iast (q := 11) hx hb hK hR (fun _ h9 => h9) hS rfl (fun _ => rfl) e48 dX5_laysTies_201 (fun H locs hR hS => ?_)
        exact bX5_laysTies_202 B h k79 k19 kR hR hS (lv_sub hl [0, 1, 2, 3, 4] rfl)
noncomputable def fX5_laysTies_l79 (v1 : Int32) (v2 : Int32) (v3 : Int32) (v4 : Int32) (T : TW) : Option (Sum (Int32 × TW) (TW)) := whileO (fun q => fX5_laysTies_b79 v1 v2 v3 q.1 q.2) (v4, T)
theorem lX5_laysTies_79 {p : Program} {l : Launch} {e : Env} {s : State} {m : MethodId} {args : Array Value} {below : List Frame} {meth : Method} {c : Code} {G : gE} {o : Nat} (B : gB G RX5 cX5_laysTies 5 none p s m args meth c) {v1 : Int32} {v2 : Int32} {v3 : Int32} {x : Sum (Int32 × TW) (TW)} {r : TW}  (k19 : ∀ (v3' : Int32) (T' : TW), x = (.inl (v3', T')) → ∀ (H : Heap) (locs : List Loc) (ls : Array Slot), RepT G o (T') H → va_S (tFr o) s.heap H locs → lv_has ls 5 [(0, .ref o), (1, .int v1), (2, .int v2), (3, .int v3')] → W p l e (gRm 6 134) s m args below meth c H locs 0 0 (twZ below args s G o none r) (F0 m 19 ls [])) (kR : ∀ q, x = (.inr q) → q = r) : ∀ (v4 : Int32) (T : TW), fX5_laysTies_l79 v1 v2 v3 v4 T = some x → ∀ (H : Heap) (locs : List Loc) (ls : Array Slot), RepT G o (T) H → va_S (tFr o) s.heap H locs → lv_has ls 5 [(0, .ref o), (1, .int v1), (2, .int v2), (3, .int v3), (4, .int v4)] → W p l e (gRm 6 134) s m args below meth c H locs 0 0 (twZ below args s G o none r) (F0 m 79 ls []) := by
  intro v4 T h
  refine wh_walk (body := (fun q => fX5_laysTies_b79 v1 v2 v3 q.1 q.2)) (P := (fun q : (Int32 × TW) => ∀ (H : Heap) (locs : List Loc) (ls : Array Slot), RepT G o (q.2) H → va_S (tFr o) s.heap H locs → lv_has ls 5 [(0, .ref o), (1, .int v1), (2, .int v2), (3, .int v3), (4, .int (q.1))] → W p l e (gRm 6 134) s m args below meth c H locs 0 0 (twZ below args s G o none r) (F0 m 79 ls []))) (r := x) ?_ (v4, T) h
  intro q y hy hL hr H locs ls hR hS hl
  exact bX5_laysTies_79 (r := r) B hy (fun a0 a1 e => hL (a0, a1) e) (fun a0 a1 e H locs ls hR hS hl => k19 _ _ ((hr _ e).symm) H locs ls hR hS hl) (fun q e => kR q ((hr _ e).symm)) hR hS hl
noncomputable def fX5_laysTies_b75 (v1 : Int32) (v2 : Int32) (v3 : Int32) (s1 : Int32) (s2 : Int32) (T : TW) : Option (Sum (Int32 × TW) (TW)) :=
  (wrA T 11 10 s1 s2).bind fun T1 =>
  fX5_laysTies_l79 v1 v2 v3 0 T1
theorem bX5_laysTies_75 {p : Program} {l : Launch} {e : Env} {s : State} {m : MethodId} {args : Array Value} {below : List Frame} {meth : Method} {c : Code} {H : Heap} {locs : List Loc} {ls : Array Slot} {G : gE} {o : Nat} (B : gB G RX5 cX5_laysTies 5 none p s m args meth c) {v1 : Int32} {v2 : Int32} {v3 : Int32} {s1 : Int32} {s2 : Int32} {T : TW} {x : Sum (Int32 × TW) (TW)} {r : TW} (h : fX5_laysTies_b75 v1 v2 v3 s1 s2 T = some x)  (k19 : ∀ (v3' : Int32) (T' : TW), x = (.inl (v3', T')) → ∀ (H : Heap) (locs : List Loc) (ls : Array Slot), RepT G o (T') H → va_S (tFr o) s.heap H locs → lv_has ls 5 [(0, .ref o), (1, .int v1), (2, .int v2), (3, .int v3')] → W p l e (gRm 6 134) s m args below meth c H locs 0 0 (twZ below args s G o none r) (F0 m 19 ls [])) (kR : ∀ q, x = (.inr q) → q = r) (hR : RepT G o T H) (hS : va_S (tFr o) s.heap H locs) (hl : lv_has ls 5 [(0, .ref o), (1, .int v1), (2, .int v2), (3, .int v3)]) : W p l e (gRm 6 134) s m args below meth c H locs 0 0 (twZ below args s G o none r) (F0 m 75 ls [.int s2, .int s1, .ref (o + 11)]) := by
  have B0 := B
  obtain ⟨hx, hb, hml, hown, hts, hr, hlk, hK⟩ := B0
  unfold fX5_laysTies_b75 at h
  replace h := bo_o h
  obtain ⟨T1, e2, h⟩ := h
  refine tw_iast (q := 11) hx hb hK hR (fun _ h9 => h9) hS rfl (fun _ => rfl) e2 dX5_laysTies_75 (fun H locs hR hS => ?_)
  refine lv_iconst (v := 0) hx hb dX5_laysTies_76 (by decide) ?_
  refine lv_istore (lv' := [(4, .int 0), (0, .ref o), (1, .int v1), (2, .int v2), (3, .int v3)]) hx hb dX5_laysTies_77 hl (by decide) rfl (fun ls hl => ?_)
  exact lX5_laysTies_79 (x := x) (r := r) B k19 kR _ _ h H locs ls hR hS (lv_sub hl [1, 2, 3, 4, 0] rfl)
noncomputable def fX5_laysTies_b57 (v1 : Int32) (v2 : Int32) (v3 : Int32) (s1 : Int32) (s2 : Int32) (T : TW) : Option (Sum (Int32 × TW) (TW)) :=
  (wrA T 10 10 s1 s2).bind fun T1 =>
  if v3 = v2 then (
    fX5_laysTies_b75 v1 v2 v3 v3 0 T1
  ) else (
    fX5_laysTies_b75 v1 v2 v3 v3 2147483647 T1
  )
theorem bX5_laysTies_57 {p : Program} {l : Launch} {e : Env} {s : State} {m : MethodId} {args : Array Value} {below : List Frame} {meth : Method} {c : Code} {H : Heap} {locs : List Loc} {ls : Array Slot} {G : gE} {o : Nat} (B : gB G RX5 cX5_laysTies 5 none p s m args meth c) {v1 : Int32} {v2 : Int32} {v3 : Int32} {s1 : Int32} {s2 : Int32} {T : TW} {x : Sum (Int32 × TW) (TW)} {r : TW} (h : fX5_laysTies_b57 v1 v2 v3 s1 s2 T = some x)  (k19 : ∀ (v3' : Int32) (T' : TW), x = (.inl (v3', T')) → ∀ (H : Heap) (locs : List Loc) (ls : Array Slot), RepT G o (T') H → va_S (tFr o) s.heap H locs → lv_has ls 5 [(0, .ref o), (1, .int v1), (2, .int v2), (3, .int v3')] → W p l e (gRm 6 134) s m args below meth c H locs 0 0 (twZ below args s G o none r) (F0 m 19 ls [])) (kR : ∀ q, x = (.inr q) → q = r) (hR : RepT G o T H) (hS : va_S (tFr o) s.heap H locs) (hl : lv_has ls 5 [(0, .ref o), (1, .int v1), (2, .int v2), (3, .int v3)]) : W p l e (gRm 6 134) s m args below meth c H locs 0 0 (twZ below args s G o none r) (F0 m 57 ls [.int s2, .int s1, .ref (o + 10)]) := by
  have B0 := B
  obtain ⟨hx, hb, hml, hown, hts, hr, hlk, hK⟩ := B0
  unfold fX5_laysTies_b57 at h
  replace h := bo_o h
  obtain ⟨T1, e2, h⟩ := h
  refine tw_iast (q := 10) hx hb hK hR (fun _ h9 => h9) hS rfl (fun _ => rfl) e2 dX5_laysTies_57 (fun H locs hR hS => ?_)
  refine lv_aload_n hx hb dX5_laysTies_58 rfl (lv_at hl 0 rfl) ?_
  refine tw_get (k := 24) (v := .ref (o + 11)) hx hb hts hown hK hR (by decide) q2457 rfl (fun _ h9 => h9) dX5_laysTies_59 ?_
  refine lv_iload_n hx hb dX5_laysTies_62 rfl (lv_at hl 3 rfl) ?_
  refine lv_iload_n hx hb dX5_laysTies_63 rfl (lv_at hl 3 rfl) ?_
  refine lv_iload_n hx hb dX5_laysTies_64 rfl (lv_at hl 2 rfl) ?_
  refine lv_icmp_ne (tgt := 72) hx hb dX5_laysTies_65 (by decide) (fun c3 => ?_) (fun c3 => ?_)
  · replace h := if_o c3 h
    refine lv_ldcw (v := 2147483647) hx hb hown (hts _ q2843) dX5_laysTies_72 ?_
    exact bX5_laysTies_75 B h k19 kR hR hS (lv_sub hl [0, 1, 2, 3] rfl)
  · replace h := it_o c3 h
    refine lv_iconst (v := 0) hx hb dX5_laysTies_68 (by decide) ?_
    refine lv_goto (tgt := 75) hx hb dX5_laysTies_69 (by decide) ?_
    exact bX5_laysTies_75 B h k19 kR hR hS (lv_sub hl [0, 1, 2, 3] rfl)
noncomputable def fX5_laysTies_b39 (v1 : Int32) (v2 : Int32) (v3 : Int32) (s1 : Int32) (s2 : Int64) (T : TW) : Option (Sum (Int32 × TW) (TW)) :=
  (wrB T 12 10 s1 s2).bind fun T1 =>
  if v3 = v2 then (
    fX5_laysTies_b57 v1 v2 v3 v3 0 T1
  ) else (
    fX5_laysTies_b57 v1 v2 v3 v3 (-2147483648) T1
  )
theorem bX5_laysTies_39 {p : Program} {l : Launch} {e : Env} {s : State} {m : MethodId} {args : Array Value} {below : List Frame} {meth : Method} {c : Code} {H : Heap} {locs : List Loc} {ls : Array Slot} {G : gE} {o : Nat} (B : gB G RX5 cX5_laysTies 5 none p s m args meth c) {v1 : Int32} {v2 : Int32} {v3 : Int32} {s1 : Int32} {s2 : Int64} {T : TW} {x : Sum (Int32 × TW) (TW)} {r : TW} (h : fX5_laysTies_b39 v1 v2 v3 s1 s2 T = some x)  (k19 : ∀ (v3' : Int32) (T' : TW), x = (.inl (v3', T')) → ∀ (H : Heap) (locs : List Loc) (ls : Array Slot), RepT G o (T') H → va_S (tFr o) s.heap H locs → lv_has ls 5 [(0, .ref o), (1, .int v1), (2, .int v2), (3, .int v3')] → W p l e (gRm 6 134) s m args below meth c H locs 0 0 (twZ below args s G o none r) (F0 m 19 ls [])) (kR : ∀ q, x = (.inr q) → q = r) (hR : RepT G o T H) (hS : va_S (tFr o) s.heap H locs) (hl : lv_has ls 5 [(0, .ref o), (1, .int v1), (2, .int v2), (3, .int v3)]) : W p l e (gRm 6 134) s m args below meth c H locs 0 0 (twZ below args s G o none r) (F0 m 39 ls [.long s2, .int s1, .ref (o + 12)]) := by
  have B0 := B
  obtain ⟨hx, hb, hml, hown, hts, hr, hlk, hK⟩ := B0
  unfold fX5_laysTies_b39 at h
  replace h := bo_o h
  obtain ⟨T1, e2, h⟩ := h
  refine tw_last (q := 12) hx hb hK hR (fun _ h9 => h9) hS rfl (fun _ => rfl) e2 dX5_laysTies_39 (fun H locs hR hS => ?_)
  refine lv_aload_n hx hb dX5_laysTies_40 rfl (lv_at hl 0 rfl) ?_
  refine tw_get (k := 23) (v := .ref (o + 10)) hx hb hts hown hK hR (by decide) q2456 rfl (fun _ h9 => h9) dX5_laysTies_41 ?_
  refine lv_iload_n hx hb dX5_laysTies_44 rfl (lv_at hl 3 rfl) ?_
  refine lv_iload_n hx hb dX5_laysTies_45 rfl (lv_at hl 3 rfl) ?_
  refine lv_iload_n hx hb dX5_laysTies_46 rfl (lv_at hl 2 rfl) ?_
  refine lv_icmp_ne (tgt := 54) hx hb dX5_laysTies_47 (by decide) (fun c3 => ?_) (fun c3 => ?_)
  · replace h := if_o c3 h
    refine lv_ldcw (v := (-2147483648)) hx hb hown (hts _ q2842) dX5_laysTies_54 ?_
    exact bX5_laysTies_57 B h k19 kR hR hS (lv_sub hl [0, 1, 2, 3] rfl)
  · replace h := it_o c3 h
    refine lv_iconst (v := 0) hx hb dX5_laysTies_50 (by decide) ?_
    refine lv_goto (tgt := 57) hx hb dX5_laysTies_51 (by decide) ?_
    exact bX5_laysTies_57 B h k19 kR hR hS (lv_sub hl [0, 1, 2, 3] rfl)
noncomputable def fX5_laysTies_b19 (v1 : Int32) (v2 : Int32) (v3 : Int32) (T : TW) : Option (Sum (Int32 × TW) (TW)) :=
  if v3 = (-1) then (
    some (.inr T)
  ) else (
    if v3 = v2 then (
      fX5_laysTies_b39 v1 v2 v3 v3 1 T
    ) else (
      fX5_laysTies_b39 v1 v2 v3 v3 0 T
    )
  )
theorem bX5_laysTies_19 {p : Program} {l : Launch} {e : Env} {s : State} {m : MethodId} {args : Array Value} {below : List Frame} {meth : Method} {c : Code} {H : Heap} {locs : List Loc} {ls : Array Slot} {G : gE} {o : Nat} (B : gB G RX5 cX5_laysTies 5 none p s m args meth c) {v1 : Int32} {v2 : Int32} {v3 : Int32} {T : TW} {x : Sum (Int32 × TW) (TW)} {r : TW} (h : fX5_laysTies_b19 v1 v2 v3 T = some x)  (k19 : ∀ (v3' : Int32) (T' : TW), x = (.inl (v3', T')) → ∀ (H : Heap) (locs : List Loc) (ls : Array Slot), RepT G o (T') H → va_S (tFr o) s.heap H locs → lv_has ls 5 [(0, .ref o), (1, .int v1), (2, .int v2), (3, .int v3')] → W p l e (gRm 6 134) s m args below meth c H locs 0 0 (twZ below args s G o none r) (F0 m 19 ls [])) (kR : ∀ q, x = (.inr q) → q = r) (hR : RepT G o T H) (hS : va_S (tFr o) s.heap H locs) (hl : lv_has ls 5 [(0, .ref o), (1, .int v1), (2, .int v2), (3, .int v3)]) : W p l e (gRm 6 134) s m args below meth c H locs 0 0 (twZ below args s G o none r) (F0 m 19 ls []) := by
  have B0 := B
  obtain ⟨hx, hb, hml, hown, hts, hr, hlk, hK⟩ := B0
  unfold fX5_laysTies_b19 at h
  refine lv_iload_n hx hb dX5_laysTies_19 rfl (lv_at hl 3 rfl) ?_
  refine lv_iconst (v := (-1)) hx hb dX5_laysTies_20 (by decide) ?_
  refine lv_icmp_eq (tgt := 223) hx hb dX5_laysTies_21 (by decide) (fun c1 => ?_) (fun c1 => ?_)
  · replace h := it_o c1 h
    have eR := kR _ (Option.some.inj h).symm
    subst eR
    exact W.vret hx hb hr (fun t ht _ => tw_fin hR hS ht) hS.2.2 dX5_laysTies_223
  · replace h := if_o c1 h
    refine lv_aload_n hx hb dX5_laysTies_24 rfl (lv_at hl 0 rfl) ?_
    refine tw_get (k := 25) (v := .ref (o + 12)) hx hb hts hown hK hR (by decide) q2458 rfl (fun _ h9 => h9) dX5_laysTies_25 ?_
    refine lv_iload_n hx hb dX5_laysTies_28 rfl (lv_at hl 3 rfl) ?_
    refine lv_iload_n hx hb dX5_laysTies_29 rfl (lv_at hl 3 rfl) ?_
    refine lv_iload_n hx hb dX5_laysTies_30 rfl (lv_at hl 2 rfl) ?_
    refine lv_icmp_ne (tgt := 38) hx hb dX5_laysTies_31 (by decide) (fun c2 => ?_) (fun c2 => ?_)
    · replace h := if_o c2 h
      refine lv_lconst (v := 0) hx hb dX5_laysTies_38 (by decide) ?_
      exact bX5_laysTies_39 B h k19 kR hR hS (lv_sub hl [0, 1, 2, 3] rfl)
    · replace h := it_o c2 h
      refine lv_lconst (v := 1) hx hb dX5_laysTies_34 (by decide) ?_
      refine lv_goto (tgt := 39) hx hb dX5_laysTies_35 (by decide) ?_
      exact bX5_laysTies_39 B h k19 kR hR hS (lv_sub hl [0, 1, 2, 3] rfl)
noncomputable def fX5_laysTies_l19 (v1 : Int32) (v2 : Int32) (v3 : Int32) (T : TW) : Option (TW) := whileO (fun q => fX5_laysTies_b19 v1 v2 q.1 q.2) (v3, T)
theorem lX5_laysTies_19 {p : Program} {l : Launch} {e : Env} {s : State} {m : MethodId} {args : Array Value} {below : List Frame} {meth : Method} {c : Code} {G : gE} {o : Nat} (B : gB G RX5 cX5_laysTies 5 none p s m args meth c) {v1 : Int32} {v2 : Int32} {r : TW}   : ∀ (v3 : Int32) (T : TW), fX5_laysTies_l19 v1 v2 v3 T = some r → ∀ (H : Heap) (locs : List Loc) (ls : Array Slot), RepT G o (T) H → va_S (tFr o) s.heap H locs → lv_has ls 5 [(0, .ref o), (1, .int v1), (2, .int v2), (3, .int v3)] → W p l e (gRm 6 134) s m args below meth c H locs 0 0 (twZ below args s G o none r) (F0 m 19 ls []) := by
  intro v3 T h
  refine wh_walk (body := (fun q => fX5_laysTies_b19 v1 v2 q.1 q.2)) (P := (fun q : (Int32 × TW) => ∀ (H : Heap) (locs : List Loc) (ls : Array Slot), RepT G o (q.2) H → va_S (tFr o) s.heap H locs → lv_has ls 5 [(0, .ref o), (1, .int v1), (2, .int v2), (3, .int (q.1))] → W p l e (gRm 6 134) s m args below meth c H locs 0 0 (twZ below args s G o none r) (F0 m 19 ls []))) (r := r) ?_ (v3, T) h
  intro q y hy hL hr H locs ls hR hS hl
  exact bX5_laysTies_19 (r := r) B hy (fun a0 a1 e => hL (a0, a1) e) (fun q e => hr q e) hR hS hl
noncomputable def fX5_laysTies (v1 : Int32) (T : TW) : Option (TW) :=
  (fX5_laysLeast v1 T).bind fun T2 =>
  b2_ (fX5_trip v1 1 T2) fun x5 T4 =>
  b2_ (fX5_nextNode (-1) (-1) T4) fun x8 T7 =>
  fX5_laysTies_l19 v1 x5 x8 T7
theorem bX5_laysTies_0 {p : Program} {l : Launch} {e : Env} {s : State} {m : MethodId} {args : Array Value} {below : List Frame} {meth : Method} {c : Code} {H : Heap} {locs : List Loc} {ls : Array Slot} {G : gE} {o : Nat} (B : gB G RX5 cX5_laysTies 5 none p s m args meth c) {v1 : Int32} {T : TW} {r : TW} (h : fX5_laysTies v1 T = some r)   (hR : RepT G o T H) (hS : va_S (tFr o) s.heap H locs) (hl : lv_has ls 5 [(0, .ref o), (1, .int v1)]) : W p l e (gRm 6 134) s m args below meth c H locs 0 0 (twZ below args s G o none r) (F0 m 0 ls []) := by
  have B0 := B
  obtain ⟨hx, hb, hml, hown, hts, hr, hlk, hK⟩ := B0
  unfold fX5_laysTies at h
  refine lv_aload_n hx hb dX5_laysTies_0 rfl (lv_at hl 0 rfl) ?_
  refine lv_iload_n hx hb dX5_laysTies_1 rfl (lv_at hl 1 rfl) ?_
  replace h := bo_o h
  obtain ⟨T2, e1, h⟩ := h
  refine tw_callV 1 (As := [.int v1]) (rest := []) (v := none) (T' := T2) (st1 := []) hx hb hml hown hts hK hR (fun _ h9 => h9) (tw_A2 hR) hS (mX5_laysLeast e1) (lw_V q2833 q2835 qs91 q137 q2836) (by decide +kernel) (Nat.le_of_ble_eq_true rfl) (Nat.le_of_ble_eq_true rfl) (Nat.zero_le _) (Nat.zero_le _) rfl hl.1 (Nat.le_of_ble_eq_true rfl) dX5_laysTies_2 rfl rfl (fun H locs hR hS => ?_)
  refine lv_aload_n hx hb dX5_laysTies_5 rfl (lv_at hl 0 rfl) ?_
  refine lv_iload_n hx hb dX5_laysTies_6 rfl (lv_at hl 1 rfl) ?_
  refine lv_iconst (v := 1) hx hb dX5_laysTies_7 (by decide) ?_
  replace h := b2_o h
  obtain ⟨x5, T4, e3, h⟩ := h
  refine tw_callV 2 (As := [.int v1, .int 1]) (rest := []) (v := (some (.int x5))) (T' := T4) (st1 := [.int x5]) hx hb hml hown hts hK hR (fun _ h9 => h9) (tw_A2 hR) hS (mX5_trip e3) (lw_V q2657 q2659 qs72 q137 q2660) (by decide +kernel) (Nat.le_of_ble_eq_true rfl) (Nat.le_of_ble_eq_true rfl) (Nat.zero_le _) (Nat.zero_le _) rfl hl.1 (Nat.le_of_ble_eq_true rfl) dX5_laysTies_8 rfl rfl (fun H locs hR hS => ?_)
  refine lv_istore_n (lv' := [(2, .int x5), (0, .ref o), (1, .int v1)]) hx hb dX5_laysTies_11 rfl hl (by decide) rfl (fun ls hl => ?_)
  refine lv_aload_n hx hb dX5_laysTies_12 rfl (lv_at hl 1 rfl) ?_
  refine lv_iconst (v := (-1)) hx hb dX5_laysTies_13 (by decide) ?_
  refine lv_iconst (v := (-1)) hx hb dX5_laysTies_14 (by decide) ?_
  replace h := b2_o h
  obtain ⟨x8, T7, e6, h⟩ := h
  refine tw_callV 2 (As := [.int (-1), .int (-1)]) (rest := []) (v := (some (.int x8))) (T' := T7) (st1 := [.int x8]) hx hb hml hown hts hK hR (fun _ h9 => h9) (tw_A2 hR) hS (mX5_nextNode e6) (lw_V q2838 q2840 qs92 q137 q2841) (by decide +kernel) (Nat.le_of_ble_eq_true rfl) (Nat.le_of_ble_eq_true rfl) (Nat.zero_le _) (Nat.zero_le _) rfl hl.1 (Nat.le_of_ble_eq_true rfl) dX5_laysTies_15 rfl rfl (fun H locs hR hS => ?_)
  refine lv_istore_n (lv' := [(3, .int x8), (2, .int x5), (0, .ref o), (1, .int v1)]) hx hb dX5_laysTies_18 rfl hl (by decide) rfl (fun ls hl => ?_)
  exact lX5_laysTies_19 B _ _ h H locs ls hR hS (lv_sub hl [2, 3, 1, 0] rfl)
theorem mX5_laysTies {l : Launch} {G : gE} {o : Nat} {v1 : Int32} {T : TW} {r : TW}  (h : fX5_laysTies v1 T = some r) : twM l G o yX5_laysTies cX5_laysTies 5 none 6 134 [.ref o, .int v1] T none r :=
  tw_of (by decide +kernel) (Nat.le_of_ble_eq_true rfl) (fun p e s m args below meth c ls B hR hl => bX5_laysTies_0 B h hR va_S.rf hl)
noncomputable def fX5_ties (v1 : Int32) (T : TW) : Option ((Int64 × TW)) :=
  b2_ (fX5_isTrip v1 T) fun x3 T2 =>
  b2_ (fX5_isThrown x3 1 T2) fun x6 T5 =>
  if x6 = 0 then (
    (fX5_laysTies v1 T5).bind fun T9 =>
    b2_ (fX5_trip v1 0 T9) fun x12 T11 =>
    (rd_ (tA T11 9) 10 x12).bind fun x13 =>
    if x13 = (-1) then (
      some (0, T11)
    ) else (
      b2_ (fX5_trip v1 0 T11) fun x18 T17 =>
      (rd_ (tB T17 12) 10 x18).bind fun x19 =>
      some (x19, T17)
    )
  ) else (
    some (0, T5)
  )
theorem bX5_ties_0 {p : Program} {l : Launch} {e : Env} {s : State} {m : MethodId} {args : Array Value} {below : List Frame} {meth : Method} {c : Code} {H : Heap} {locs : List Loc} {ls : Array Slot} {G : gE} {o : Nat} (B : gB G RX5 cX5_ties 2 (some .long) p s m args meth c) {v1 : Int32} {T : TW} {r : (Int64 × TW)} (h : fX5_ties v1 T = some r)   (hR : RepT G o T H) (hS : va_S (tFr o) s.heap H locs) (hl : lv_has ls 2 [(0, .ref o), (1, .int v1)]) : W p l e (gRm 7 158) s m args below meth c H locs 0 0 (twZ below args s G o (some (.long r.1)) r.2) (F0 m 0 ls []) := by
  have B0 := B
  obtain ⟨hx, hb, hml, hown, hts, hr, hlk, hK⟩ := B0
  unfold fX5_ties at h
  refine lv_aload_n hx hb dX5_ties_0 rfl (lv_at hl 0 rfl) ?_
  refine lv_aload_n hx hb dX5_ties_1 rfl (lv_at hl 0 rfl) ?_
  refine lv_iload_n hx hb dX5_ties_2 rfl (lv_at hl 1 rfl) ?_
  replace h := b2_o h
  obtain ⟨x3, T2, e1, h⟩ := h
  refine tw_callV 1 (As := [.int v1]) (rest := [.ref o]) (v := (some (.int x3))) (T' := T2) (st1 := [.int x3, .ref o]) hx hb hml hown hts hK hR (fun _ h9 => h9) (tw_A2 hR) hS (mX5_isTrip e1) (lw_V q2653 q2655 qs71 q137 q2656) (by decide +kernel) (Nat.le_of_ble_eq_true rfl) (Nat.le_of_ble_eq_true rfl) (Nat.zero_le _) (Nat.zero_le _) rfl hl.1 (Nat.le_of_ble_eq_true rfl) dX5_ties_3 rfl rfl (fun H locs hR hS => ?_)
  refine lv_iconst (v := 1) hx hb dX5_ties_6 (by decide) ?_
  replace h := b2_o h
  obtain ⟨x6, T5, e4, h⟩ := h
  refine tw_callV 2 (As := [.int x3, .int 1]) (rest := []) (v := (some (.int x6))) (T' := T5) (st1 := [.int x6]) hx hb hml hown hts hK hR (fun _ h9 => h9) (tw_A2 hR) hS (mX5_isThrown e4) (lw_V q2633 q2635 qs68 q137 q2636) (by decide +kernel) (Nat.le_of_ble_eq_true rfl) (Nat.le_of_ble_eq_true rfl) (Nat.zero_le _) (Nat.zero_le _) rfl hl.1 (Nat.le_of_ble_eq_true rfl) dX5_ties_7 rfl rfl (fun H locs hR hS => ?_)
  refine lv_if_eq (tgt := 15) hx hb dX5_ties_10 (by decide) (fun c7 => ?_) (fun c7 => ?_)
  · replace h := it_o c7 h
    refine lv_aload_n hx hb dX5_ties_15 rfl (lv_at hl 0 rfl) ?_
    refine lv_iload_n hx hb dX5_ties_16 rfl (lv_at hl 1 rfl) ?_
    replace h := bo_o h
    obtain ⟨T9, e8, h⟩ := h
    refine tw_callV 1 (As := [.int v1]) (rest := []) (v := none) (T' := T9) (st1 := []) hx hb hml hown hts hK hR (fun _ h9 => h9) (tw_A2 hR) hS (mX5_laysTies e8) (lw_V q2829 q2831 qs90 q137 q2832) (by decide +kernel) (Nat.le_of_ble_eq_true rfl) (Nat.le_of_ble_eq_true rfl) (Nat.zero_le _) (Nat.zero_le _) rfl hl.1 (Nat.le_of_ble_eq_true rfl) dX5_ties_17 rfl rfl (fun H locs hR hS => ?_)
    refine lv_aload_n hx hb dX5_ties_20 rfl (lv_at hl 0 rfl) ?_
    refine tw_get (k := 22) (v := .ref (o + 9)) hx hb hts hown hK hR (by decide) q2455 rfl (fun _ h9 => h9) dX5_ties_21 ?_
    refine lv_aload_n hx hb dX5_ties_24 rfl (lv_at hl 0 rfl) ?_
    refine lv_iload_n hx hb dX5_ties_25 rfl (lv_at hl 1 rfl) ?_
    refine lv_iconst (v := 0) hx hb dX5_ties_26 (by decide) ?_
    replace h := b2_o h
    obtain ⟨x12, T11, e10, h⟩ := h
    refine tw_callV 2 (As := [.int v1, .int 0]) (rest := [.ref (o + 9)]) (v := (some (.int x12))) (T' := T11) (st1 := [.int x12, .ref (o + 9)]) hx hb hml hown hts hK hR (fun _ h9 => h9) (tw_A2 hR) hS (mX5_trip e10) (lw_V q2657 q2659 qs72 q137 q2660) (by decide +kernel) (Nat.le_of_ble_eq_true rfl) (Nat.le_of_ble_eq_true rfl) (Nat.zero_le _) (Nat.zero_le _) rfl hl.1 (Nat.le_of_ble_eq_true rfl) dX5_ties_27 rfl rfl (fun H locs hR hS => ?_)
    replace h := bo_o h
    obtain ⟨x13, e14, h⟩ := h
    refine tw_iald (q := 9) hx hb hK hR rfl e14 dX5_ties_30 ?_
    refine lv_iconst (v := (-1)) hx hb dX5_ties_31 (by decide) ?_
    refine lv_icmp_ne (tgt := 39) hx hb dX5_ties_32 (by decide) (fun c15 => ?_) (fun c15 => ?_)
    · replace h := if_o c15 h
      refine lv_aload_n hx hb dX5_ties_39 rfl (lv_at hl 0 rfl) ?_
      refine tw_get (k := 25) (v := .ref (o + 12)) hx hb hts hown hK hR (by decide) q2458 rfl (fun _ h9 => h9) dX5_ties_40 ?_
      refine lv_aload_n hx hb dX5_ties_43 rfl (lv_at hl 0 rfl) ?_
      refine lv_iload_n hx hb dX5_ties_44 rfl (lv_at hl 1 rfl) ?_
      refine lv_iconst (v := 0) hx hb dX5_ties_45 (by decide) ?_
      replace h := b2_o h
      obtain ⟨x18, T17, e16, h⟩ := h
      refine tw_callV 2 (As := [.int v1, .int 0]) (rest := [.ref (o + 12)]) (v := (some (.int x18))) (T' := T17) (st1 := [.int x18, .ref (o + 12)]) hx hb hml hown hts hK hR (fun _ h9 => h9) (tw_A2 hR) hS (mX5_trip e16) (lw_V q2657 q2659 qs72 q137 q2660) (by decide +kernel) (Nat.le_of_ble_eq_true rfl) (Nat.le_of_ble_eq_true rfl) (Nat.zero_le _) (Nat.zero_le _) rfl hl.1 (Nat.le_of_ble_eq_true rfl) dX5_ties_46 rfl rfl (fun H locs hR hS => ?_)
      replace h := bo_o h
      obtain ⟨x19, e20, h⟩ := h
      refine tw_lald (q := 12) hx hb hK hR rfl e20 dX5_ties_49 ?_
      have eR := Option.some.inj h
      subst eR
      exact W.lret (v := x19) hx hb hr (fun t ht _ => tw_fin hR hS ht) hS.2.2 dX5_ties_50
    · replace h := it_o c15 h
      refine lv_lconst (v := 0) hx hb dX5_ties_35 (by decide) ?_
      refine lv_goto (tgt := 50) hx hb dX5_ties_36 (by decide) ?_
      have eR := Option.some.inj h
      subst eR
      exact W.lret (v := 0) hx hb hr (fun t ht _ => tw_fin hR hS ht) hS.2.2 dX5_ties_50
  · replace h := if_o c7 h
    refine lv_lconst (v := 0) hx hb dX5_ties_13 (by decide) ?_
    have eR := Option.some.inj h
    subst eR
    exact W.lret (v := 0) hx hb hr (fun t ht _ => tw_fin hR hS ht) hS.2.2 dX5_ties_14
theorem mX5_ties {l : Launch} {G : gE} {o : Nat} {v1 : Int32} {T : TW} {r : (Int64 × TW)}  (h : fX5_ties v1 T = some r) : twM l G o yX5_ties cX5_ties 2 (some .long) 7 158 [.ref o, .int v1] T (some (.long r.1)) r.2 :=
  tw_of (by decide +kernel) (Nat.le_of_ble_eq_true rfl) (fun p e s m args below meth c ls B hR hl => bX5_ties_0 B h hR va_S.rf hl)
noncomputable def fX5_tieSpan (v1 : Int32) (T : TW) : Option ((Int32 × TW)) :=
  b2_ (fX5_isTrip v1 T) fun x3 T2 =>
  b2_ (fX5_isThrown x3 1 T2) fun x6 T5 =>
  if x6 = 0 then (
    (fX5_laysTies v1 T5).bind fun T9 =>
    b2_ (fX5_trip v1 0 T9) fun x12 T11 =>
    (rd_ (tA T11 9) 10 x12).bind fun x13 =>
    if x13 = (-1) then (
      some ((-1), T11)
    ) else (
      (rd_ (tA T11 10) 10 x12).bind fun x16 =>
      (rd_ (tA T11 11) 10 x12).bind fun x18 =>
      some (x16 - x18, T11)
    )
  ) else (
    some (0, T5)
  )
theorem bX5_tieSpan_0 {p : Program} {l : Launch} {e : Env} {s : State} {m : MethodId} {args : Array Value} {below : List Frame} {meth : Method} {c : Code} {H : Heap} {locs : List Loc} {ls : Array Slot} {G : gE} {o : Nat} (B : gB G RX5 cX5_tieSpan 3 (some .int) p s m args meth c) {v1 : Int32} {T : TW} {r : (Int32 × TW)} (h : fX5_tieSpan v1 T = some r)   (hR : RepT G o T H) (hS : va_S (tFr o) s.heap H locs) (hl : lv_has ls 3 [(0, .ref o), (1, .int v1)]) : W p l e (gRm 7 158) s m args below meth c H locs 0 0 (twZ below args s G o (some (.int r.1)) r.2) (F0 m 0 ls []) := by
  have B0 := B
  obtain ⟨hx, hb, hml, hown, hts, hr, hlk, hK⟩ := B0
  unfold fX5_tieSpan at h
  refine lv_aload_n hx hb dX5_tieSpan_0 rfl (lv_at hl 0 rfl) ?_
  refine lv_aload_n hx hb dX5_tieSpan_1 rfl (lv_at hl 0 rfl) ?_
  refine lv_iload_n hx hb dX5_tieSpan_2 rfl (lv_at hl 1 rfl) ?_
  replace h := b2_o h
  obtain ⟨x3, T2, e1, h⟩ := h
  refine tw_callV 1 (As := [.int v1]) (rest := [.ref o]) (v := (some (.int x3))) (T' := T2) (st1 := [.int x3, .ref o]) hx hb hml hown hts hK hR (fun _ h9 => h9) (tw_A2 hR) hS (mX5_isTrip e1) (lw_V q2653 q2655 qs71 q137 q2656) (by decide +kernel) (Nat.le_of_ble_eq_true rfl) (Nat.le_of_ble_eq_true rfl) (Nat.zero_le _) (Nat.zero_le _) rfl hl.1 (Nat.le_of_ble_eq_true rfl) dX5_tieSpan_3 rfl rfl (fun H locs hR hS => ?_)
  refine lv_iconst (v := 1) hx hb dX5_tieSpan_6 (by decide) ?_
  replace h := b2_o h
  obtain ⟨x6, T5, e4, h⟩ := h
  refine tw_callV 2 (As := [.int x3, .int 1]) (rest := []) (v := (some (.int x6))) (T' := T5) (st1 := [.int x6]) hx hb hml hown hts hK hR (fun _ h9 => h9) (tw_A2 hR) hS (mX5_isThrown e4) (lw_V q2633 q2635 qs68 q137 q2636) (by decide +kernel) (Nat.le_of_ble_eq_true rfl) (Nat.le_of_ble_eq_true rfl) (Nat.zero_le _) (Nat.zero_le _) rfl hl.1 (Nat.le_of_ble_eq_true rfl) dX5_tieSpan_7 rfl rfl (fun H locs hR hS => ?_)
  refine lv_if_eq (tgt := 15) hx hb dX5_tieSpan_10 (by decide) (fun c7 => ?_) (fun c7 => ?_)
  · replace h := it_o c7 h
    refine lv_aload_n hx hb dX5_tieSpan_15 rfl (lv_at hl 0 rfl) ?_
    refine lv_iload_n hx hb dX5_tieSpan_16 rfl (lv_at hl 1 rfl) ?_
    replace h := bo_o h
    obtain ⟨T9, e8, h⟩ := h
    refine tw_callV 1 (As := [.int v1]) (rest := []) (v := none) (T' := T9) (st1 := []) hx hb hml hown hts hK hR (fun _ h9 => h9) (tw_A2 hR) hS (mX5_laysTies e8) (lw_V q2829 q2831 qs90 q137 q2832) (by decide +kernel) (Nat.le_of_ble_eq_true rfl) (Nat.le_of_ble_eq_true rfl) (Nat.zero_le _) (Nat.zero_le _) rfl hl.1 (Nat.le_of_ble_eq_true rfl) dX5_tieSpan_17 rfl rfl (fun H locs hR hS => ?_)
    refine lv_aload_n hx hb dX5_tieSpan_20 rfl (lv_at hl 0 rfl) ?_
    refine lv_iload_n hx hb dX5_tieSpan_21 rfl (lv_at hl 1 rfl) ?_
    refine lv_iconst (v := 0) hx hb dX5_tieSpan_22 (by decide) ?_
    replace h := b2_o h
    obtain ⟨x12, T11, e10, h⟩ := h
    refine tw_callV 2 (As := [.int v1, .int 0]) (rest := []) (v := (some (.int x12))) (T' := T11) (st1 := [.int x12]) hx hb hml hown hts hK hR (fun _ h9 => h9) (tw_A2 hR) hS (mX5_trip e10) (lw_V q2657 q2659 qs72 q137 q2660) (by decide +kernel) (Nat.le_of_ble_eq_true rfl) (Nat.le_of_ble_eq_true rfl) (Nat.zero_le _) (Nat.zero_le _) rfl hl.1 (Nat.le_of_ble_eq_true rfl) dX5_tieSpan_23 rfl rfl (fun H locs hR hS => ?_)
    refine lv_istore_n (lv' := [(2, .int x12), (0, .ref o), (1, .int v1)]) hx hb dX5_tieSpan_26 rfl hl (by decide) rfl (fun ls hl => ?_)
    refine lv_aload_n hx hb dX5_tieSpan_27 rfl (lv_at hl 1 rfl) ?_
    refine tw_get (k := 22) (v := .ref (o + 9)) hx hb hts hown hK hR (by decide) q2455 rfl (fun _ h9 => h9) dX5_tieSpan_28 ?_
    refine lv_iload_n hx hb dX5_tieSpan_31 rfl (lv_at hl 0 rfl) ?_
    replace h := bo_o h
    obtain ⟨x13, e14, h⟩ := h
    refine tw_iald (q := 9) hx hb hK hR rfl e14 dX5_tieSpan_32 ?_
    refine lv_iconst (v := (-1)) hx hb dX5_tieSpan_33 (by decide) ?_
    refine lv_icmp_ne (tgt := 41) hx hb dX5_tieSpan_34 (by decide) (fun c15 => ?_) (fun c15 => ?_)
    · replace h := if_o c15 h
      refine lv_aload_n hx hb dX5_tieSpan_41 rfl (lv_at hl 1 rfl) ?_
      refine tw_get (k := 23) (v := .ref (o + 10)) hx hb hts hown hK hR (by decide) q2456 rfl (fun _ h9 => h9) dX5_tieSpan_42 ?_
      refine lv_iload_n hx hb dX5_tieSpan_45 rfl (lv_at hl 0 rfl) ?_
      replace h := bo_o h
      obtain ⟨x16, e17, h⟩ := h
      refine tw_iald (q := 10) hx hb hK hR rfl e17 dX5_tieSpan_46 ?_
      refine lv_aload_n hx hb dX5_tieSpan_47 rfl (lv_at hl 1 rfl) ?_
      refine tw_get (k := 24) (v := .ref (o + 11)) hx hb hts hown hK hR (by decide) q2457 rfl (fun _ h9 => h9) dX5_tieSpan_48 ?_
      refine lv_iload_n hx hb dX5_tieSpan_51 rfl (lv_at hl 0 rfl) ?_
      replace h := bo_o h
      obtain ⟨x18, e19, h⟩ := h
      refine tw_iald (q := 11) hx hb hK hR rfl e19 dX5_tieSpan_52 ?_
      refine lv_isub hx hb dX5_tieSpan_53 ?_
      have eR := Option.some.inj h
      subst eR
      exact W.iret (v := x16 - x18) hx hb hr (fun t ht _ => tw_fin hR hS ht) hS.2.2 dX5_tieSpan_54
    · replace h := it_o c15 h
      refine lv_iconst (v := (-1)) hx hb dX5_tieSpan_37 (by decide) ?_
      refine lv_goto (tgt := 54) hx hb dX5_tieSpan_38 (by decide) ?_
      have eR := Option.some.inj h
      subst eR
      exact W.iret (v := (-1)) hx hb hr (fun t ht _ => tw_fin hR hS ht) hS.2.2 dX5_tieSpan_54
  · replace h := if_o c7 h
    refine lv_iconst (v := 0) hx hb dX5_tieSpan_13 (by decide) ?_
    have eR := Option.some.inj h
    subst eR
    exact W.iret (v := 0) hx hb hr (fun t ht _ => tw_fin hR hS ht) hS.2.2 dX5_tieSpan_14
theorem mX5_tieSpan {l : Launch} {G : gE} {o : Nat} {v1 : Int32} {T : TW} {r : (Int32 × TW)}  (h : fX5_tieSpan v1 T = some r) : twM l G o yX5_tieSpan cX5_tieSpan 3 (some .int) 7 158 [.ref o, .int v1] T (some (.int r.1)) r.2 :=
  tw_of (by decide +kernel) (Nat.le_of_ble_eq_true rfl) (fun p e s m args below meth c ls B hR hl => bX5_tieSpan_0 B h hR va_S.rf hl)
noncomputable def fX5_brings (v1 : Int32) (T : TW) : Option ((Int64 × TW)) :=
  b2_ (fX5_laysPath v1 T) fun x3 T2 =>
  if x3 = 0 then (
    some (0, T2)
  ) else (
    b2_ (fX5_trip v1 2 T2) fun x7 T6 =>
    b2_ (fX5_sumOf 4 T6) fun x10 T9 =>
    some ((x7.toInt64) * (x10.toInt64), T9)
  )
theorem bX5_brings_0 {p : Program} {l : Launch} {e : Env} {s : State} {m : MethodId} {args : Array Value} {below : List Frame} {meth : Method} {c : Code} {H : Heap} {locs : List Loc} {ls : Array Slot} {G : gE} {o : Nat} (B : gB G RX5 cX5_brings 2 (some .long) p s m args meth c) {v1 : Int32} {T : TW} {r : (Int64 × TW)} (h : fX5_brings v1 T = some r)   (hR : RepT G o T H) (hS : va_S (tFr o) s.heap H locs) (hl : lv_has ls 2 [(0, .ref o), (1, .int v1)]) : W p l e (gRm 7 156) s m args below meth c H locs 0 0 (twZ below args s G o (some (.long r.1)) r.2) (F0 m 0 ls []) := by
  have B0 := B
  obtain ⟨hx, hb, hml, hown, hts, hr, hlk, hK⟩ := B0
  unfold fX5_brings at h
  refine lv_aload_n hx hb dX5_brings_0 rfl (lv_at hl 0 rfl) ?_
  refine lv_iload_n hx hb dX5_brings_1 rfl (lv_at hl 1 rfl) ?_
  replace h := b2_o h
  obtain ⟨x3, T2, e1, h⟩ := h
  refine tw_callV 1 (As := [.int v1]) (rest := []) (v := (some (.int x3))) (T' := T2) (st1 := [.int x3]) hx hb hml hown hts hK hR (fun _ h9 => h9) (tw_A2 hR) hS (mX5_laysPath e1) (lw_V q2722 q2724 qs76 q137 q2725) (by decide +kernel) (Nat.le_of_ble_eq_true rfl) (Nat.le_of_ble_eq_true rfl) (Nat.zero_le _) (Nat.zero_le _) rfl hl.1 (Nat.le_of_ble_eq_true rfl) dX5_brings_2 rfl rfl (fun H locs hR hS => ?_)
  refine lv_if_eq (tgt := 25) hx hb dX5_brings_5 (by decide) (fun c4 => ?_) (fun c4 => ?_)
  · replace h := it_o c4 h
    refine lv_lconst (v := 0) hx hb dX5_brings_25 (by decide) ?_
    have eR := Option.some.inj h
    subst eR
    exact W.lret (v := 0) hx hb hr (fun t ht _ => tw_fin hR hS ht) hS.2.2 dX5_brings_26
  · replace h := if_o c4 h
    refine lv_aload_n hx hb dX5_brings_8 rfl (lv_at hl 0 rfl) ?_
    refine lv_iload_n hx hb dX5_brings_9 rfl (lv_at hl 1 rfl) ?_
    refine lv_iconst (v := 2) hx hb dX5_brings_10 (by decide) ?_
    replace h := b2_o h
    obtain ⟨x7, T6, e5, h⟩ := h
    refine tw_callV 2 (As := [.int v1, .int 2]) (rest := []) (v := (some (.int x7))) (T' := T6) (st1 := [.int x7]) hx hb hml hown hts hK hR (fun _ h9 => h9) (tw_A2 hR) hS (mX5_trip e5) (lw_V q2657 q2659 qs72 q137 q2660) (by decide +kernel) (Nat.le_of_ble_eq_true rfl) (Nat.le_of_ble_eq_true rfl) (Nat.zero_le _) (Nat.zero_le _) rfl hl.1 (Nat.le_of_ble_eq_true rfl) dX5_brings_11 rfl rfl (fun H locs hR hS => ?_)
    refine lv_i2l hx hb dX5_brings_14 rfl ?_
    refine lv_aload_n hx hb dX5_brings_15 rfl (lv_at hl 0 rfl) ?_
    refine lv_iconst (v := 4) hx hb dX5_brings_16 (by decide) ?_
    replace h := b2_o h
    obtain ⟨x10, T9, e8, h⟩ := h
    refine tw_callV 1 (As := [.int 4]) (rest := [.long (x7.toInt64)]) (v := (some (.int x10))) (T' := T9) (st1 := [.int x10, .long (x7.toInt64)]) hx hb hml hown hts hK hR (fun _ h9 => h9) (tw_A2 hR) hS (mX5_sumOf e8) (lw_V q2769 q2771 qs83 q137 q2772) (by decide +kernel) (Nat.le_of_ble_eq_true rfl) (Nat.le_of_ble_eq_true rfl) (Nat.zero_le _) (Nat.zero_le _) rfl hl.1 (Nat.le_of_ble_eq_true rfl) dX5_brings_17 rfl rfl (fun H locs hR hS => ?_)
    refine lv_i2l hx hb dX5_brings_20 rfl ?_
    refine lv_lmul hx hb dX5_brings_21 ?_
    refine lv_goto (tgt := 26) hx hb dX5_brings_22 (by decide) ?_
    have eR := Option.some.inj h
    subst eR
    exact W.lret (v := (x7.toInt64) * (x10.toInt64)) hx hb hr (fun t ht _ => tw_fin hR hS ht) hS.2.2 dX5_brings_26
theorem mX5_brings {l : Launch} {G : gE} {o : Nat} {v1 : Int32} {T : TW} {r : (Int64 × TW)}  (h : fX5_brings v1 T = some r) : twM l G o yX5_brings cX5_brings 2 (some .long) 7 156 [.ref o, .int v1] T (some (.long r.1)) r.2 :=
  tw_of (by decide +kernel) (Nat.le_of_ble_eq_true rfl) (fun p e s m args below meth c ls B hR hl => bX5_brings_0 B h hR va_S.rf hl)
noncomputable def fX5_all_b4 (v1 : Int64) (v3 : Int32) (T : TW) : Option (Sum (Int64 × Int32 × TW) ((Int64 × TW))) :=
  (rd_ (tA T 1) 172 2).bind fun x1 =>
  if x1 ≤ v3 then (
    some (.inr (v1, T))
  ) else (
    b2_ (fX5_brings v3 T) fun x6 T5 =>
    nm_ (v1 + x6) fun x7 =>
    some (.inl (x7, v3 + 1, T5))
  )
theorem bX5_all_4 {p : Program} {l : Launch} {e : Env} {s : State} {m : MethodId} {args : Array Value} {below : List Frame} {meth : Method} {c : Code} {H : Heap} {locs : List Loc} {ls : Array Slot} {G : gE} {o : Nat} (B : gB G RX5 cX5_all 4 (some .long) p s m args meth c) {v1 : Int64} {v3 : Int32} {T : TW} {x : Sum (Int64 × Int32 × TW) ((Int64 × TW))} {r : (Int64 × TW)} (h : fX5_all_b4 v1 v3 T = some x)  (k4 : ∀ (v1' : Int64) (v3' : Int32) (T' : TW), x = (.inl (v1', v3', T')) → ∀ (H : Heap) (locs : List Loc) (ls : Array Slot), RepT G o (T') H → va_S (tFr o) s.heap H locs → lv_has ls 4 [(0, .ref o), (1, .long v1'), (3, .int v3')] → W p l e (gRm 8 177) s m args below meth c H locs 0 0 (twZ below args s G o (some (.long r.1)) r.2) (F0 m 4 ls [])) (kR : ∀ q, x = (.inr q) → q = r) (hR : RepT G o T H) (hS : va_S (tFr o) s.heap H locs) (hl : lv_has ls 4 [(0, .ref o), (1, .long v1), (3, .int v3)]) : W p l e (gRm 8 177) s m args below meth c H locs 0 0 (twZ below args s G o (some (.long r.1)) r.2) (F0 m 4 ls []) := by
  have B0 := B
  obtain ⟨hx, hb, hml, hown, hts, hr, hlk, hK⟩ := B0
  unfold fX5_all_b4 at h
  refine lv_iload_n hx hb dX5_all_4 rfl (lv_at hl 2 rfl) ?_
  refine lv_aload_n hx hb dX5_all_5 rfl (lv_at hl 0 rfl) ?_
  refine tw_get (k := 0) (v := .ref (o + 1)) hx hb hts hown hK hR (by decide) q2433 rfl (fun _ h9 => h9) dX5_all_6 ?_
  refine lv_iconst (v := 2) hx hb dX5_all_9 (by decide) ?_
  replace h := bo_o h
  obtain ⟨x1, e2, h⟩ := h
  refine tw_iald (q := 1) hx hb hK hR rfl e2 dX5_all_10 ?_
  refine lv_icmp_ge (tgt := 28) hx hb dX5_all_11 (by decide) (fun c3 => ?_) (fun c3 => ?_)
  · replace h := it_o c3 h
    refine lv_lload_n hx hb dX5_all_28 rfl (lv_at hl 1 rfl) ?_
    have eR := kR _ (Option.some.inj h).symm
    subst eR
    exact W.lret (v := v1) hx hb hr (fun t ht _ => tw_fin hR hS ht) hS.2.2 dX5_all_29
  · replace h := if_o c3 h
    refine lv_lload_n hx hb dX5_all_14 rfl (lv_at hl 1 rfl) ?_
    refine lv_aload_n hx hb dX5_all_15 rfl (lv_at hl 0 rfl) ?_
    refine lv_iload_n hx hb dX5_all_16 rfl (lv_at hl 2 rfl) ?_
    replace h := b2_o h
    obtain ⟨x6, T5, e4, h⟩ := h
    refine tw_callV 1 (As := [.int v3]) (rest := [.long v1]) (v := (some (.long x6))) (T' := T5) (st1 := [.long x6, .long v1]) hx hb hml hown hts hK hR (fun _ h9 => h9) (tw_A2 hR) hS (mX5_brings e4) (lw_V q2860 q2862 qs95 q137 q2863) (by decide +kernel) (Nat.le_of_ble_eq_true rfl) (Nat.le_of_ble_eq_true rfl) (Nat.zero_le _) (Nat.zero_le _) rfl hl.1 (Nat.le_of_ble_eq_true rfl) dX5_all_17 rfl rfl (fun H locs hR hS => ?_)
    refine lv_ladd hx hb dX5_all_20 ?_
    replace h := nm_o h
    obtain ⟨x7, e8, h⟩ := h
    refine lv_lstore_n (lv' := [(1, .long x7), (0, .ref o), (3, .int v3)]) hx hb dX5_all_21 rfl hl (by decide) (by subst e8; rfl) (fun ls hl => ?_)
    refine lv_iinc (v := v3 + 1) (lv' := [(3, .int (v3 + 1)), (1, .long x7), (0, .ref o)]) hx hb dX5_all_22 hl (k := 2) rfl rfl (by decide) rfl (fun ls hl => ?_)
    refine lv_goto (tgt := 4) hx hb dX5_all_25 (by decide) ?_
    exact k4 _ _ _ (Option.some.inj h).symm H locs ls hR hS (lv_sub hl [2, 1, 0] rfl)
noncomputable def fX5_all_l4 (v1 : Int64) (v3 : Int32) (T : TW) : Option ((Int64 × TW)) := whileO (fun q => fX5_all_b4 q.1 q.2.1 q.2.2) (v1, v3, T)
theorem lX5_all_4 {p : Program} {l : Launch} {e : Env} {s : State} {m : MethodId} {args : Array Value} {below : List Frame} {meth : Method} {c : Code} {G : gE} {o : Nat} (B : gB G RX5 cX5_all 4 (some .long) p s m args meth c)  {r : (Int64 × TW)}   : ∀ (v1 : Int64) (v3 : Int32) (T : TW), fX5_all_l4 v1 v3 T = some r → ∀ (H : Heap) (locs : List Loc) (ls : Array Slot), RepT G o (T) H → va_S (tFr o) s.heap H locs → lv_has ls 4 [(0, .ref o), (1, .long v1), (3, .int v3)] → W p l e (gRm 8 177) s m args below meth c H locs 0 0 (twZ below args s G o (some (.long r.1)) r.2) (F0 m 4 ls []) := by
  intro v1 v3 T h
  refine wh_walk (body := (fun q => fX5_all_b4 q.1 q.2.1 q.2.2)) (P := (fun q : (Int64 × Int32 × TW) => ∀ (H : Heap) (locs : List Loc) (ls : Array Slot), RepT G o (q.2.2) H → va_S (tFr o) s.heap H locs → lv_has ls 4 [(0, .ref o), (1, .long (q.1)), (3, .int (q.2.1))] → W p l e (gRm 8 177) s m args below meth c H locs 0 0 (twZ below args s G o (some (.long r.1)) r.2) (F0 m 4 ls []))) (r := r) ?_ (v1, v3, T) h
  intro q y hy hL hr H locs ls hR hS hl
  exact bX5_all_4 (r := r) B hy (fun a0 a1 a2 e => hL (a0, a1, a2) e) (fun q e => hr q e) hR hS hl
noncomputable def fX5_all  (T : TW) : Option ((Int64 × TW)) :=
  fX5_all_l4 0 0 T
theorem bX5_all_0 {p : Program} {l : Launch} {e : Env} {s : State} {m : MethodId} {args : Array Value} {below : List Frame} {meth : Method} {c : Code} {H : Heap} {locs : List Loc} {ls : Array Slot} {G : gE} {o : Nat} (B : gB G RX5 cX5_all 4 (some .long) p s m args meth c)  {T : TW} {r : (Int64 × TW)} (h : fX5_all T = some r)   (hR : RepT G o T H) (hS : va_S (tFr o) s.heap H locs) (hl : lv_has ls 4 [(0, .ref o)]) : W p l e (gRm 8 177) s m args below meth c H locs 0 0 (twZ below args s G o (some (.long r.1)) r.2) (F0 m 0 ls []) := by
  have B0 := B
  obtain ⟨hx, hb, hml, hown, hts, hr, hlk, hK⟩ := B0
  unfold fX5_all at h
  refine lv_lconst (v := 0) hx hb dX5_all_0 (by decide) ?_
  refine lv_lstore_n (lv' := [(1, .long 0), (0, .ref o)]) hx hb dX5_all_1 rfl hl (by decide) rfl (fun ls hl => ?_)
  refine lv_iconst (v := 0) hx hb dX5_all_2 (by decide) ?_
  refine lv_istore_n (lv' := [(3, .int 0), (1, .long 0), (0, .ref o)]) hx hb dX5_all_3 rfl hl (by decide) rfl (fun ls hl => ?_)
  exact lX5_all_4 B _ _ _ h H locs ls hR hS (lv_sub hl [2, 1, 0] rfl)
theorem mX5_all {l : Launch} {G : gE} {o : Nat}  {T : TW} {r : (Int64 × TW)}  (h : fX5_all T = some r) : twM l G o yX5_all cX5_all 4 (some .long) 8 177 [.ref o] T (some (.long r.1)) r.2 :=
  tw_of (by decide +kernel) (Nat.le_of_ble_eq_true rfl) (fun p e s m args below meth c ls B hR hl => bX5_all_0 B h hR va_S.rf hl)
noncomputable def fX5_revenue  (T : TW) : Option ((Int64 × TW)) :=
  nm_ (tsI T 6 0) fun T1 =>
  b2_ (fX5_all T1) fun x5 T4 =>
  some (x5, T4)
theorem bX5_revenue_0 {p : Program} {l : Launch} {e : Env} {s : State} {m : MethodId} {args : Array Value} {below : List Frame} {meth : Method} {c : Code} {H : Heap} {locs : List Loc} {ls : Array Slot} {G : gE} {o : Nat} (B : gB G RX5 cX5_revenue 1 (some .long) p s m args meth c)  {T : TW} {r : (Int64 × TW)} (h : fX5_revenue T = some r)   (hR : RepT G o T H) (hS : va_S (tFr o) s.heap H locs) (hl : lv_has ls 1 [(0, .ref o)]) : W p l e (gRm 9 200) s m args below meth c H locs 0 0 (twZ below args s G o (some (.long r.1)) r.2) (F0 m 0 ls []) := by
  have B0 := B
  obtain ⟨hx, hb, hml, hown, hts, hr, hlk, hK⟩ := B0
  unfold fX5_revenue at h
  refine lv_aload_n hx hb dX5_revenue_0 rfl (lv_at hl 0 rfl) ?_
  refine lv_iconst (v := 0) hx hb dX5_revenue_1 (by decide) ?_
  replace h := nm_o h
  obtain ⟨T1, e2, h⟩ := h
  refine tw_putI (k := 6) (x := 0) (ty := .int) (T' := T1) hx hb hts hown hK hR (fun _ h9 => h9) hS (by decide) rfl e2 q2439 (fun _ h9 => h9) rfl (by decide +kernel) rfl rfl dX5_revenue_2 (fun H locs hR hS => ?_)
  refine lv_aload_n hx hb dX5_revenue_5 rfl (lv_at hl 0 rfl) ?_
  replace h := b2_o h
  obtain ⟨x5, T4, e3, h⟩ := h
  refine tw_callV 0 (As := []) (rest := []) (v := (some (.long x5))) (T' := T4) (st1 := [.long x5]) hx hb hml hown hts hK hR (fun _ h9 => h9) (tw_A2 hR) hS (mX5_all e3) (lw_V q2856 q2858 qs94 q137 q2859) (by decide +kernel) (Nat.le_of_ble_eq_true rfl) (Nat.le_of_ble_eq_true rfl) (Nat.zero_le _) (Nat.zero_le _) rfl hl.1 (Nat.le_of_ble_eq_true rfl) dX5_revenue_6 rfl rfl (fun H locs hR hS => ?_)
  have eR := Option.some.inj h
  subst eR
  exact W.lret (v := x5) hx hb hr (fun t ht _ => tw_fin hR hS ht) hS.2.2 dX5_revenue_9
theorem mX5_revenue {l : Launch} {G : gE} {o : Nat}  {T : TW} {r : (Int64 × TW)}  (h : fX5_revenue T = some r) : twM l G o yX5_revenue cX5_revenue 1 (some .long) 9 200 [.ref o] T (some (.long r.1)) r.2 :=
  tw_of (by decide +kernel) (Nat.le_of_ble_eq_true rfl) (fun p e s m args below meth c ls B hR hl => bX5_revenue_0 B h hR va_S.rf hl)
noncomputable def fX5_revenueOf (v1 : Int32) (T : TW) : Option ((Int64 × TW)) :=
  b2_ (fX5_isTrip v1 T) fun x3 T2 =>
  b2_ (fX5_isThrown x3 1 T2) fun x6 T5 =>
  if x6 = 0 then (
    b2_ (fX5_brings v1 T5) fun x10 T9 =>
    some (x10, T9)
  ) else (
    some (0, T5)
  )
theorem bX5_revenueOf_0 {p : Program} {l : Launch} {e : Env} {s : State} {m : MethodId} {args : Array Value} {below : List Frame} {meth : Method} {c : Code} {H : Heap} {locs : List Loc} {ls : Array Slot} {G : gE} {o : Nat} (B : gB G RX5 cX5_revenueOf 2 (some .long) p s m args meth c) {v1 : Int32} {T : TW} {r : (Int64 × TW)} (h : fX5_revenueOf v1 T = some r)   (hR : RepT G o T H) (hS : va_S (tFr o) s.heap H locs) (hl : lv_has ls 2 [(0, .ref o), (1, .int v1)]) : W p l e (gRm 8 177) s m args below meth c H locs 0 0 (twZ below args s G o (some (.long r.1)) r.2) (F0 m 0 ls []) := by
  have B0 := B
  obtain ⟨hx, hb, hml, hown, hts, hr, hlk, hK⟩ := B0
  unfold fX5_revenueOf at h
  refine lv_aload_n hx hb dX5_revenueOf_0 rfl (lv_at hl 0 rfl) ?_
  refine lv_aload_n hx hb dX5_revenueOf_1 rfl (lv_at hl 0 rfl) ?_
  refine lv_iload_n hx hb dX5_revenueOf_2 rfl (lv_at hl 1 rfl) ?_
  replace h := b2_o h
  obtain ⟨x3, T2, e1, h⟩ := h
  refine tw_callV 1 (As := [.int v1]) (rest := [.ref o]) (v := (some (.int x3))) (T' := T2) (st1 := [.int x3, .ref o]) hx hb hml hown hts hK hR (fun _ h9 => h9) (tw_A2 hR) hS (mX5_isTrip e1) (lw_V q2653 q2655 qs71 q137 q2656) (by decide +kernel) (Nat.le_of_ble_eq_true rfl) (Nat.le_of_ble_eq_true rfl) (Nat.zero_le _) (Nat.zero_le _) rfl hl.1 (Nat.le_of_ble_eq_true rfl) dX5_revenueOf_3 rfl rfl (fun H locs hR hS => ?_)
  refine lv_iconst (v := 1) hx hb dX5_revenueOf_6 (by decide) ?_
  replace h := b2_o h
  obtain ⟨x6, T5, e4, h⟩ := h
  refine tw_callV 2 (As := [.int x3, .int 1]) (rest := []) (v := (some (.int x6))) (T' := T5) (st1 := [.int x6]) hx hb hml hown hts hK hR (fun _ h9 => h9) (tw_A2 hR) hS (mX5_isThrown e4) (lw_V q2633 q2635 qs68 q137 q2636) (by decide +kernel) (Nat.le_of_ble_eq_true rfl) (Nat.le_of_ble_eq_true rfl) (Nat.zero_le _) (Nat.zero_le _) rfl hl.1 (Nat.le_of_ble_eq_true rfl) dX5_revenueOf_7 rfl rfl (fun H locs hR hS => ?_)
  refine lv_if_eq (tgt := 17) hx hb dX5_revenueOf_10 (by decide) (fun c7 => ?_) (fun c7 => ?_)
  · replace h := it_o c7 h
    refine lv_aload_n hx hb dX5_revenueOf_17 rfl (lv_at hl 0 rfl) ?_
    refine lv_iload_n hx hb dX5_revenueOf_18 rfl (lv_at hl 1 rfl) ?_
    replace h := b2_o h
    obtain ⟨x10, T9, e8, h⟩ := h
    refine tw_callV 1 (As := [.int v1]) (rest := []) (v := (some (.long x10))) (T' := T9) (st1 := [.long x10]) hx hb hml hown hts hK hR (fun _ h9 => h9) (tw_A2 hR) hS (mX5_brings e8) (lw_V q2860 q2862 qs95 q137 q2863) (by decide +kernel) (Nat.le_of_ble_eq_true rfl) (Nat.le_of_ble_eq_true rfl) (Nat.zero_le _) (Nat.zero_le _) rfl hl.1 (Nat.le_of_ble_eq_true rfl) dX5_revenueOf_19 rfl rfl (fun H locs hR hS => ?_)
    have eR := Option.some.inj h
    subst eR
    exact W.lret (v := x10) hx hb hr (fun t ht _ => tw_fin hR hS ht) hS.2.2 dX5_revenueOf_22
  · replace h := if_o c7 h
    refine lv_lconst (v := 0) hx hb dX5_revenueOf_13 (by decide) ?_
    refine lv_goto (tgt := 22) hx hb dX5_revenueOf_14 (by decide) ?_
    have eR := Option.some.inj h
    subst eR
    exact W.lret (v := 0) hx hb hr (fun t ht _ => tw_fin hR hS ht) hS.2.2 dX5_revenueOf_22
theorem mX5_revenueOf {l : Launch} {G : gE} {o : Nat} {v1 : Int32} {T : TW} {r : (Int64 × TW)}  (h : fX5_revenueOf v1 T = some r) : twM l G o yX5_revenueOf cX5_revenueOf 2 (some .long) 8 177 [.ref o, .int v1] T (some (.long r.1)) r.2 :=
  tw_of (by decide +kernel) (Nat.le_of_ble_eq_true rfl) (fun p e s m args below meth c ls B hR hl => bX5_revenueOf_0 B h hR va_S.rf hl)
noncomputable def fX5_arcRevenue (v1 : Int32) (T : TW) : Option ((Int64 × TW)) :=
  b2_ (fX5_isArc v1 T) fun x3 T2 =>
  b2_ (fX5_isThrown x3 1 T2) fun x6 T5 =>
  if x6 = 0 then (
    b2_ (fX5_flowOn v1 T5) fun x10 T9 =>
    b2_ (fX5_arc v1 4 T9) fun x13 T12 =>
    some ((x10.toInt64) * (x13.toInt64), T12)
  ) else (
    some (0, T5)
  )
theorem bX5_arcRevenue_0 {p : Program} {l : Launch} {e : Env} {s : State} {m : MethodId} {args : Array Value} {below : List Frame} {meth : Method} {c : Code} {H : Heap} {locs : List Loc} {ls : Array Slot} {G : gE} {o : Nat} (B : gB G RX5 cX5_arcRevenue 2 (some .long) p s m args meth c) {v1 : Int32} {T : TW} {r : (Int64 × TW)} (h : fX5_arcRevenue v1 T = some r)   (hR : RepT G o T H) (hS : va_S (tFr o) s.heap H locs) (hl : lv_has ls 2 [(0, .ref o), (1, .int v1)]) : W p l e (gRm 10 225) s m args below meth c H locs 0 0 (twZ below args s G o (some (.long r.1)) r.2) (F0 m 0 ls []) := by
  have B0 := B
  obtain ⟨hx, hb, hml, hown, hts, hr, hlk, hK⟩ := B0
  unfold fX5_arcRevenue at h
  refine lv_aload_n hx hb dX5_arcRevenue_0 rfl (lv_at hl 0 rfl) ?_
  refine lv_aload_n hx hb dX5_arcRevenue_1 rfl (lv_at hl 0 rfl) ?_
  refine lv_iload_n hx hb dX5_arcRevenue_2 rfl (lv_at hl 1 rfl) ?_
  replace h := b2_o h
  obtain ⟨x3, T2, e1, h⟩ := h
  refine tw_callV 1 (As := [.int v1]) (rest := [.ref o]) (v := (some (.int x3))) (T' := T2) (st1 := [.int x3, .ref o]) hx hb hml hown hts hK hR (fun _ h9 => h9) (tw_A2 hR) hS (mX5_isArc e1) (lw_V q2645 q2647 qs70 q137 q2648) (by decide +kernel) (Nat.le_of_ble_eq_true rfl) (Nat.le_of_ble_eq_true rfl) (Nat.zero_le _) (Nat.zero_le _) rfl hl.1 (Nat.le_of_ble_eq_true rfl) dX5_arcRevenue_3 rfl rfl (fun H locs hR hS => ?_)
  refine lv_iconst (v := 1) hx hb dX5_arcRevenue_6 (by decide) ?_
  replace h := b2_o h
  obtain ⟨x6, T5, e4, h⟩ := h
  refine tw_callV 2 (As := [.int x3, .int 1]) (rest := []) (v := (some (.int x6))) (T' := T5) (st1 := [.int x6]) hx hb hml hown hts hK hR (fun _ h9 => h9) (tw_A2 hR) hS (mX5_isThrown e4) (lw_V q2633 q2635 qs68 q137 q2636) (by decide +kernel) (Nat.le_of_ble_eq_true rfl) (Nat.le_of_ble_eq_true rfl) (Nat.zero_le _) (Nat.zero_le _) rfl hl.1 (Nat.le_of_ble_eq_true rfl) dX5_arcRevenue_7 rfl rfl (fun H locs hR hS => ?_)
  refine lv_if_eq (tgt := 17) hx hb dX5_arcRevenue_10 (by decide) (fun c7 => ?_) (fun c7 => ?_)
  · replace h := it_o c7 h
    refine lv_aload_n hx hb dX5_arcRevenue_17 rfl (lv_at hl 0 rfl) ?_
    refine lv_iload_n hx hb dX5_arcRevenue_18 rfl (lv_at hl 1 rfl) ?_
    replace h := b2_o h
    obtain ⟨x10, T9, e8, h⟩ := h
    refine tw_callV 1 (As := [.int v1]) (rest := []) (v := (some (.int x10))) (T' := T9) (st1 := [.int x10]) hx hb hml hown hts hK hR (fun _ h9 => h9) (tw_A2 hR) hS (mX5_flowOn e8) (lw_V q2813 q2815 qs89 q137 q2816) (by decide +kernel) (Nat.le_of_ble_eq_true rfl) (Nat.le_of_ble_eq_true rfl) (Nat.zero_le _) (Nat.zero_le _) rfl hl.1 (Nat.le_of_ble_eq_true rfl) dX5_arcRevenue_19 rfl rfl (fun H locs hR hS => ?_)
    refine lv_i2l hx hb dX5_arcRevenue_22 rfl ?_
    refine lv_aload_n hx hb dX5_arcRevenue_23 rfl (lv_at hl 0 rfl) ?_
    refine lv_iload_n hx hb dX5_arcRevenue_24 rfl (lv_at hl 1 rfl) ?_
    refine lv_iconst (v := 4) hx hb dX5_arcRevenue_25 (by decide) ?_
    replace h := b2_o h
    obtain ⟨x13, T12, e11, h⟩ := h
    refine tw_callV 2 (As := [.int v1, .int 4]) (rest := [.long (x10.toInt64)]) (v := (some (.int x13))) (T' := T12) (st1 := [.int x13, .long (x10.toInt64)]) hx hb hml hown hts hK hR (fun _ h9 => h9) (tw_A2 hR) hS (mX5_arc e11) (lw_V q2637 q2639 qs69 q137 q2640) (by decide +kernel) (Nat.le_of_ble_eq_true rfl) (Nat.le_of_ble_eq_true rfl) (Nat.zero_le _) (Nat.zero_le _) rfl hl.1 (Nat.le_of_ble_eq_true rfl) dX5_arcRevenue_26 rfl rfl (fun H locs hR hS => ?_)
    refine lv_i2l hx hb dX5_arcRevenue_29 rfl ?_
    refine lv_lmul hx hb dX5_arcRevenue_30 ?_
    have eR := Option.some.inj h
    subst eR
    exact W.lret (v := (x10.toInt64) * (x13.toInt64)) hx hb hr (fun t ht _ => tw_fin hR hS ht) hS.2.2 dX5_arcRevenue_31
  · replace h := if_o c7 h
    refine lv_lconst (v := 0) hx hb dX5_arcRevenue_13 (by decide) ?_
    refine lv_goto (tgt := 31) hx hb dX5_arcRevenue_14 (by decide) ?_
    have eR := Option.some.inj h
    subst eR
    exact W.lret (v := 0) hx hb hr (fun t ht _ => tw_fin hR hS ht) hS.2.2 dX5_arcRevenue_31
theorem mX5_arcRevenue {l : Launch} {G : gE} {o : Nat} {v1 : Int32} {T : TW} {r : (Int64 × TW)}  (h : fX5_arcRevenue v1 T = some r) : twM l G o yX5_arcRevenue cX5_arcRevenue 2 (some .long) 10 225 [.ref o, .int v1] T (some (.long r.1)) r.2 :=
  tw_of (by decide +kernel) (Nat.le_of_ble_eq_true rfl) (fun p e s m args below meth c ls B hR hl => bX5_arcRevenue_0 B h hR va_S.rf hl)
noncomputable def fX5_dropsTolls_b2 (v1 : Int32) (T : TW) : Option (Sum (Int32 × TW) (TW)) :=
  if 24 ≤ v1 then (
    some (.inr T)
  ) else (
    b2_ (fX5_arc v1 4 T) fun x4 T3 =>
    (wrA T3 13 24 v1 x4).bind fun T5 =>
    b2_ (fX5_atArc v1 4 T5) fun x9 T8 =>
    (wrA T8 1 172 x9 0).bind fun T10 =>
    some (.inl (v1 + 1, T10))
  )
theorem bX5_dropsTolls_2 {p : Program} {l : Launch} {e : Env} {s : State} {m : MethodId} {args : Array Value} {below : List Frame} {meth : Method} {c : Code} {H : Heap} {locs : List Loc} {ls : Array Slot} {G : gE} {o : Nat} (B : gB G RX5 cX5_dropsTolls 2 none p s m args meth c) {v1 : Int32} {T : TW} {x : Sum (Int32 × TW) (TW)} {r : TW} (h : fX5_dropsTolls_b2 v1 T = some x)  (k2 : ∀ (v1' : Int32) (T' : TW), x = (.inl (v1', T')) → ∀ (H : Heap) (locs : List Loc) (ls : Array Slot), RepT G o (T') H → va_S (tFr o) s.heap H locs → lv_has ls 2 [(0, .ref o), (1, .int v1')] → W p l e (gRm 2 43) s m args below meth c H locs 0 0 (twZ below args s G o none r) (F0 m 2 ls [])) (kR : ∀ q, x = (.inr q) → q = r) (hR : RepT G o T H) (hS : va_S (tFr o) s.heap H locs) (hl : lv_has ls 2 [(0, .ref o), (1, .int v1)]) : W p l e (gRm 2 43) s m args below meth c H locs 0 0 (twZ below args s G o none r) (F0 m 2 ls []) := by
  have B0 := B
  obtain ⟨hx, hb, hml, hown, hts, hr, hlk, hK⟩ := B0
  unfold fX5_dropsTolls_b2 at h
  refine lv_iload_n hx hb dX5_dropsTolls_2 rfl (lv_at hl 1 rfl) ?_
  refine lv_bipush (v := 24) hx hb dX5_dropsTolls_3 (by decide) ?_
  refine lv_icmp_ge (tgt := 37) hx hb dX5_dropsTolls_5 (by decide) (fun c1 => ?_) (fun c1 => ?_)
  · replace h := it_o c1 h
    have eR := kR _ (Option.some.inj h).symm
    subst eR
    exact W.vret hx hb hr (fun t ht _ => tw_fin hR hS ht) hS.2.2 dX5_dropsTolls_37
  · replace h := if_o c1 h
    refine lv_aload_n hx hb dX5_dropsTolls_8 rfl (lv_at hl 0 rfl) ?_
    refine tw_get (k := 26) (v := .ref (o + 13)) hx hb hts hown hK hR (by decide) q2459 rfl (fun _ h9 => h9) dX5_dropsTolls_9 ?_
    refine lv_iload_n hx hb dX5_dropsTolls_12 rfl (lv_at hl 1 rfl) ?_
    refine lv_aload_n hx hb dX5_dropsTolls_13 rfl (lv_at hl 0 rfl) ?_
    refine lv_iload_n hx hb dX5_dropsTolls_14 rfl (lv_at hl 1 rfl) ?_
    refine lv_iconst (v := 4) hx hb dX5_dropsTolls_15 (by decide) ?_
    replace h := b2_o h
    obtain ⟨x4, T3, e2, h⟩ := h
    refine tw_callV 2 (As := [.int v1, .int 4]) (rest := [.int v1, .ref (o + 13)]) (v := (some (.int x4))) (T' := T3) (st1 := [.int x4, .int v1, .ref (o + 13)]) hx hb hml hown hts hK hR (fun _ h9 => h9) (tw_A2 hR) hS (mX5_arc e2) (lw_V q2637 q2639 qs69 q137 q2640) (by decide +kernel) (Nat.le_of_ble_eq_true rfl) (Nat.le_of_ble_eq_true rfl) (Nat.zero_le _) (Nat.zero_le _) rfl hl.1 (Nat.le_of_ble_eq_true rfl) dX5_dropsTolls_16 rfl rfl (fun H locs hR hS => ?_)
    replace h := bo_o h
    obtain ⟨T5, e6, h⟩ := h
    refine tw_iast (q := 13) hx hb hK hR (fun _ h9 => h9) hS rfl (fun _ => rfl) e6 dX5_dropsTolls_19 (fun H locs hR hS => ?_)
    refine lv_aload_n hx hb dX5_dropsTolls_20 rfl (lv_at hl 0 rfl) ?_
    refine tw_get (k := 0) (v := .ref (o + 1)) hx hb hts hown hK hR (by decide) q2433 rfl (fun _ h9 => h9) dX5_dropsTolls_21 ?_
    refine lv_iload_n hx hb dX5_dropsTolls_24 rfl (lv_at hl 1 rfl) ?_
    refine lv_iconst (v := 4) hx hb dX5_dropsTolls_25 (by decide) ?_
    replace h := b2_o h
    obtain ⟨x9, T8, e7, h⟩ := h
    refine tw_callS 2 (As := [.int v1, .int 4]) (rest := [.ref (o + 1)]) (v := (some (.int x9))) (T' := T8) (st1 := [.int x9, .ref (o + 1)]) hx hb hml hown hts hK hR (fun _ h9 => h9) (tw_A2 hR) hS (mX5_atArc e7) (lw_S q2605 q2606 q137 q2607) (by decide +kernel) (Nat.le_of_ble_eq_true rfl) (Nat.le_of_ble_eq_true rfl) (Nat.zero_le _) (Nat.zero_le _) rfl hl.1 (Nat.le_of_ble_eq_true rfl) dX5_dropsTolls_26 rfl rfl (fun H locs hR hS => ?_)
    refine lv_iconst (v := 0) hx hb dX5_dropsTolls_29 (by decide) ?_
    replace h := bo_o h
    obtain ⟨T10, e11, h⟩ := h
    refine tw_iast (q := 1) hx hb hK hR (fun _ h9 => h9) hS rfl (fun _ => rfl) e11 dX5_dropsTolls_30 (fun H locs hR hS => ?_)
    refine lv_iinc (v := v1 + 1) (lv' := [(1, .int (v1 + 1)), (0, .ref o)]) hx hb dX5_dropsTolls_31 hl (k := 1) rfl rfl (by decide) rfl (fun ls hl => ?_)
    refine lv_goto (tgt := 2) hx hb dX5_dropsTolls_34 (by decide) ?_
    exact k2 _ _ (Option.some.inj h).symm H locs ls hR hS (lv_sub hl [1, 0] rfl)
noncomputable def fX5_dropsTolls_l2 (v1 : Int32) (T : TW) : Option (TW) := whileO (fun q => fX5_dropsTolls_b2 q.1 q.2) (v1, T)
theorem lX5_dropsTolls_2 {p : Program} {l : Launch} {e : Env} {s : State} {m : MethodId} {args : Array Value} {below : List Frame} {meth : Method} {c : Code} {G : gE} {o : Nat} (B : gB G RX5 cX5_dropsTolls 2 none p s m args meth c)  {r : TW}   : ∀ (v1 : Int32) (T : TW), fX5_dropsTolls_l2 v1 T = some r → ∀ (H : Heap) (locs : List Loc) (ls : Array Slot), RepT G o (T) H → va_S (tFr o) s.heap H locs → lv_has ls 2 [(0, .ref o), (1, .int v1)] → W p l e (gRm 2 43) s m args below meth c H locs 0 0 (twZ below args s G o none r) (F0 m 2 ls []) := by
  intro v1 T h
  refine wh_walk (body := (fun q => fX5_dropsTolls_b2 q.1 q.2)) (P := (fun q : (Int32 × TW) => ∀ (H : Heap) (locs : List Loc) (ls : Array Slot), RepT G o (q.2) H → va_S (tFr o) s.heap H locs → lv_has ls 2 [(0, .ref o), (1, .int (q.1))] → W p l e (gRm 2 43) s m args below meth c H locs 0 0 (twZ below args s G o none r) (F0 m 2 ls []))) (r := r) ?_ (v1, T) h
  intro q y hy hL hr H locs ls hR hS hl
  exact bX5_dropsTolls_2 (r := r) B hy (fun a0 a1 e => hL (a0, a1) e) (fun q e => hr q e) hR hS hl
noncomputable def fX5_dropsTolls  (T : TW) : Option (TW) :=
  fX5_dropsTolls_l2 0 T
theorem bX5_dropsTolls_0 {p : Program} {l : Launch} {e : Env} {s : State} {m : MethodId} {args : Array Value} {below : List Frame} {meth : Method} {c : Code} {H : Heap} {locs : List Loc} {ls : Array Slot} {G : gE} {o : Nat} (B : gB G RX5 cX5_dropsTolls 2 none p s m args meth c)  {T : TW} {r : TW} (h : fX5_dropsTolls T = some r)   (hR : RepT G o T H) (hS : va_S (tFr o) s.heap H locs) (hl : lv_has ls 2 [(0, .ref o)]) : W p l e (gRm 2 43) s m args below meth c H locs 0 0 (twZ below args s G o none r) (F0 m 0 ls []) := by
  have B0 := B
  obtain ⟨hx, hb, hml, hown, hts, hr, hlk, hK⟩ := B0
  unfold fX5_dropsTolls at h
  refine lv_iconst (v := 0) hx hb dX5_dropsTolls_0 (by decide) ?_
  refine lv_istore_n (lv' := [(1, .int 0), (0, .ref o)]) hx hb dX5_dropsTolls_1 rfl hl (by decide) rfl (fun ls hl => ?_)
  exact lX5_dropsTolls_2 B _ _ h H locs ls hR hS (lv_sub hl [1, 0] rfl)
theorem mX5_dropsTolls {l : Launch} {G : gE} {o : Nat}  {T : TW} {r : TW}  (h : fX5_dropsTolls T = some r) : twM l G o yX5_dropsTolls cX5_dropsTolls 2 none 2 43 [.ref o] T none r :=
  tw_of (by decide +kernel) (Nat.le_of_ble_eq_true rfl) (fun p e s m args below meth c ls B hR hl => bX5_dropsTolls_0 B h hR va_S.rf hl)
noncomputable def fX5_takesTolls_b2 (v1 : Int32) (T : TW) : Option (Sum (Int32 × TW) (TW)) :=
  if 24 ≤ v1 then (
    some (.inr T)
  ) else (
    b2_ (fX5_atArc v1 4 T) fun x4 T3 =>
    (rd_ (tA T3 13) 24 v1).bind fun x5 =>
    (wrA T3 1 172 x4 x5).bind fun T7 =>
    some (.inl (v1 + 1, T7))
  )
theorem bX5_takesTolls_2 {p : Program} {l : Launch} {e : Env} {s : State} {m : MethodId} {args : Array Value} {below : List Frame} {meth : Method} {c : Code} {H : Heap} {locs : List Loc} {ls : Array Slot} {G : gE} {o : Nat} (B : gB G RX5 cX5_takesTolls 2 none p s m args meth c) {v1 : Int32} {T : TW} {x : Sum (Int32 × TW) (TW)} {r : TW} (h : fX5_takesTolls_b2 v1 T = some x)  (k2 : ∀ (v1' : Int32) (T' : TW), x = (.inl (v1', T')) → ∀ (H : Heap) (locs : List Loc) (ls : Array Slot), RepT G o (T') H → va_S (tFr o) s.heap H locs → lv_has ls 2 [(0, .ref o), (1, .int v1')] → W p l e (gRm 1 21) s m args below meth c H locs 0 0 (twZ below args s G o none r) (F0 m 2 ls [])) (kR : ∀ q, x = (.inr q) → q = r) (hR : RepT G o T H) (hS : va_S (tFr o) s.heap H locs) (hl : lv_has ls 2 [(0, .ref o), (1, .int v1)]) : W p l e (gRm 1 21) s m args below meth c H locs 0 0 (twZ below args s G o none r) (F0 m 2 ls []) := by
  have B0 := B
  obtain ⟨hx, hb, hml, hown, hts, hr, hlk, hK⟩ := B0
  unfold fX5_takesTolls_b2 at h
  refine lv_iload_n hx hb dX5_takesTolls_2 rfl (lv_at hl 1 rfl) ?_
  refine lv_bipush (v := 24) hx hb dX5_takesTolls_3 (by decide) ?_
  refine lv_icmp_ge (tgt := 30) hx hb dX5_takesTolls_5 (by decide) (fun c1 => ?_) (fun c1 => ?_)
  · replace h := it_o c1 h
    have eR := kR _ (Option.some.inj h).symm
    subst eR
    exact W.vret hx hb hr (fun t ht _ => tw_fin hR hS ht) hS.2.2 dX5_takesTolls_30
  · replace h := if_o c1 h
    refine lv_aload_n hx hb dX5_takesTolls_8 rfl (lv_at hl 0 rfl) ?_
    refine tw_get (k := 0) (v := .ref (o + 1)) hx hb hts hown hK hR (by decide) q2433 rfl (fun _ h9 => h9) dX5_takesTolls_9 ?_
    refine lv_iload_n hx hb dX5_takesTolls_12 rfl (lv_at hl 1 rfl) ?_
    refine lv_iconst (v := 4) hx hb dX5_takesTolls_13 (by decide) ?_
    replace h := b2_o h
    obtain ⟨x4, T3, e2, h⟩ := h
    refine tw_callS 2 (As := [.int v1, .int 4]) (rest := [.ref (o + 1)]) (v := (some (.int x4))) (T' := T3) (st1 := [.int x4, .ref (o + 1)]) hx hb hml hown hts hK hR (fun _ h9 => h9) (tw_A2 hR) hS (mX5_atArc e2) (lw_S q2605 q2606 q137 q2607) (by decide +kernel) (Nat.le_of_ble_eq_true rfl) (Nat.le_of_ble_eq_true rfl) (Nat.zero_le _) (Nat.zero_le _) rfl hl.1 (Nat.le_of_ble_eq_true rfl) dX5_takesTolls_14 rfl rfl (fun H locs hR hS => ?_)
    refine lv_aload_n hx hb dX5_takesTolls_17 rfl (lv_at hl 0 rfl) ?_
    refine tw_get (k := 26) (v := .ref (o + 13)) hx hb hts hown hK hR (by decide) q2459 rfl (fun _ h9 => h9) dX5_takesTolls_18 ?_
    refine lv_iload_n hx hb dX5_takesTolls_21 rfl (lv_at hl 1 rfl) ?_
    replace h := bo_o h
    obtain ⟨x5, e6, h⟩ := h
    refine tw_iald (q := 13) hx hb hK hR rfl e6 dX5_takesTolls_22 ?_
    replace h := bo_o h
    obtain ⟨T7, e8, h⟩ := h
    refine tw_iast (q := 1) hx hb hK hR (fun _ h9 => h9) hS rfl (fun _ => rfl) e8 dX5_takesTolls_23 (fun H locs hR hS => ?_)
    refine lv_iinc (v := v1 + 1) (lv' := [(1, .int (v1 + 1)), (0, .ref o)]) hx hb dX5_takesTolls_24 hl (k := 1) rfl rfl (by decide) rfl (fun ls hl => ?_)
    refine lv_goto (tgt := 2) hx hb dX5_takesTolls_27 (by decide) ?_
    exact k2 _ _ (Option.some.inj h).symm H locs ls hR hS (lv_sub hl [1, 0] rfl)
noncomputable def fX5_takesTolls_l2 (v1 : Int32) (T : TW) : Option (TW) := whileO (fun q => fX5_takesTolls_b2 q.1 q.2) (v1, T)
theorem lX5_takesTolls_2 {p : Program} {l : Launch} {e : Env} {s : State} {m : MethodId} {args : Array Value} {below : List Frame} {meth : Method} {c : Code} {G : gE} {o : Nat} (B : gB G RX5 cX5_takesTolls 2 none p s m args meth c)  {r : TW}   : ∀ (v1 : Int32) (T : TW), fX5_takesTolls_l2 v1 T = some r → ∀ (H : Heap) (locs : List Loc) (ls : Array Slot), RepT G o (T) H → va_S (tFr o) s.heap H locs → lv_has ls 2 [(0, .ref o), (1, .int v1)] → W p l e (gRm 1 21) s m args below meth c H locs 0 0 (twZ below args s G o none r) (F0 m 2 ls []) := by
  intro v1 T h
  refine wh_walk (body := (fun q => fX5_takesTolls_b2 q.1 q.2)) (P := (fun q : (Int32 × TW) => ∀ (H : Heap) (locs : List Loc) (ls : Array Slot), RepT G o (q.2) H → va_S (tFr o) s.heap H locs → lv_has ls 2 [(0, .ref o), (1, .int (q.1))] → W p l e (gRm 1 21) s m args below meth c H locs 0 0 (twZ below args s G o none r) (F0 m 2 ls []))) (r := r) ?_ (v1, T) h
  intro q y hy hL hr H locs ls hR hS hl
  exact bX5_takesTolls_2 (r := r) B hy (fun a0 a1 e => hL (a0, a1) e) (fun q e => hr q e) hR hS hl
noncomputable def fX5_takesTolls  (T : TW) : Option (TW) :=
  fX5_takesTolls_l2 0 T
theorem bX5_takesTolls_0 {p : Program} {l : Launch} {e : Env} {s : State} {m : MethodId} {args : Array Value} {below : List Frame} {meth : Method} {c : Code} {H : Heap} {locs : List Loc} {ls : Array Slot} {G : gE} {o : Nat} (B : gB G RX5 cX5_takesTolls 2 none p s m args meth c)  {T : TW} {r : TW} (h : fX5_takesTolls T = some r)   (hR : RepT G o T H) (hS : va_S (tFr o) s.heap H locs) (hl : lv_has ls 2 [(0, .ref o)]) : W p l e (gRm 1 21) s m args below meth c H locs 0 0 (twZ below args s G o none r) (F0 m 0 ls []) := by
  have B0 := B
  obtain ⟨hx, hb, hml, hown, hts, hr, hlk, hK⟩ := B0
  unfold fX5_takesTolls at h
  refine lv_iconst (v := 0) hx hb dX5_takesTolls_0 (by decide) ?_
  refine lv_istore_n (lv' := [(1, .int 0), (0, .ref o)]) hx hb dX5_takesTolls_1 rfl hl (by decide) rfl (fun ls hl => ?_)
  exact lX5_takesTolls_2 B _ _ h H locs ls hR hS (lv_sub hl [1, 0] rfl)
theorem mX5_takesTolls {l : Launch} {G : gE} {o : Nat}  {T : TW} {r : TW}  (h : fX5_takesTolls T = some r) : twM l G o yX5_takesTolls cX5_takesTolls 2 none 1 21 [.ref o] T none r :=
  tw_of (by decide +kernel) (Nat.le_of_ble_eq_true rfl) (fun p e s m args below meth c ls B hR hl => bX5_takesTolls_0 B h hR va_S.rf hl)
noncomputable def fX5_pledged (v1 : Int32) (T : TW) : Option ((Int64 × TW)) :=
  nm_ (tsI T 19 1) fun T1 =>
  b2_ (fX5_felts v1 T1) fun x5 T4 =>
  nm_ (tsI T4 19 0) fun T6 =>
  (fX5_dropsTolls T6).bind fun T9 =>
  b2_ (fX5_felts v1 T9) fun x12 T11 =>
  (fX5_takesTolls T11).bind fun T14 =>
  if x5 = (-1) then (
    some ((-1), T14)
  ) else (
    b2_ (fX5_trip v1 2 T14) fun x18 T17 =>
    some ((x18.toInt64) * ((x5 - x12).toInt64), T17)
  )
theorem bX5_pledged_0 {p : Program} {l : Launch} {e : Env} {s : State} {m : MethodId} {args : Array Value} {below : List Frame} {meth : Method} {c : Code} {H : Heap} {locs : List Loc} {ls : Array Slot} {G : gE} {o : Nat} (B : gB G RX5 cX5_pledged 4 (some .long) p s m args meth c) {v1 : Int32} {T : TW} {r : (Int64 × TW)} (h : fX5_pledged v1 T = some r)   (hR : RepT G o T H) (hS : va_S (tFr o) s.heap H locs) (hl : lv_has ls 4 [(0, .ref o), (1, .int v1)]) : W p l e (gRm 8 177) s m args below meth c H locs 0 0 (twZ below args s G o (some (.long r.1)) r.2) (F0 m 0 ls []) := by
  have B0 := B
  obtain ⟨hx, hb, hml, hown, hts, hr, hlk, hK⟩ := B0
  unfold fX5_pledged at h
  refine lv_aload_n hx hb dX5_pledged_0 rfl (lv_at hl 0 rfl) ?_
  refine lv_iconst (v := 1) hx hb dX5_pledged_1 (by decide) ?_
  replace h := nm_o h
  obtain ⟨T1, e2, h⟩ := h
  refine tw_putI (k := 19) (x := 1) (ty := .boolean) (T' := T1) hx hb hts hown hK hR (fun _ h9 => h9) hS (by decide) rfl e2 q2452 (fun _ h9 => h9) rfl (by decide +kernel) rfl rfl dX5_pledged_2 (fun H locs hR hS => ?_)
  refine lv_aload_n hx hb dX5_pledged_5 rfl (lv_at hl 0 rfl) ?_
  refine lv_iload_n hx hb dX5_pledged_6 rfl (lv_at hl 1 rfl) ?_
  replace h := b2_o h
  obtain ⟨x5, T4, e3, h⟩ := h
  refine tw_callV 1 (As := [.int v1]) (rest := []) (v := (some (.int x5))) (T' := T4) (st1 := [.int x5]) hx hb hml hown hts hK hR (fun _ h9 => h9) (tw_A2 hR) hS (mX5_felts e3) (lw_V q2781 q2783 qs84 q137 q2784) (by decide +kernel) (Nat.le_of_ble_eq_true rfl) (Nat.le_of_ble_eq_true rfl) (Nat.zero_le _) (Nat.zero_le _) rfl hl.1 (Nat.le_of_ble_eq_true rfl) dX5_pledged_7 rfl rfl (fun H locs hR hS => ?_)
  refine lv_istore_n (lv' := [(2, .int x5), (0, .ref o), (1, .int v1)]) hx hb dX5_pledged_10 rfl hl (by decide) rfl (fun ls hl => ?_)
  refine lv_aload_n hx hb dX5_pledged_11 rfl (lv_at hl 1 rfl) ?_
  refine lv_iconst (v := 0) hx hb dX5_pledged_12 (by decide) ?_
  replace h := nm_o h
  obtain ⟨T6, e7, h⟩ := h
  refine tw_putI (k := 19) (x := 0) (ty := .boolean) (T' := T6) hx hb hts hown hK hR (fun _ h9 => h9) hS (by decide) rfl e7 q2452 (fun _ h9 => h9) rfl (by decide +kernel) rfl rfl dX5_pledged_13 (fun H locs hR hS => ?_)
  refine lv_aload_n hx hb dX5_pledged_16 rfl (lv_at hl 1 rfl) ?_
  replace h := bo_o h
  obtain ⟨T9, e8, h⟩ := h
  refine tw_callV 0 (As := []) (rest := []) (v := none) (T' := T9) (st1 := []) hx hb hml hown hts hK hR (fun _ h9 => h9) (tw_A2 hR) hS (mX5_dropsTolls e8) (lw_V q2880 q2882 qs97 q137 q2883) (by decide +kernel) (Nat.le_of_ble_eq_true rfl) (Nat.le_of_ble_eq_true rfl) (Nat.zero_le _) (Nat.zero_le _) rfl hl.1 (Nat.le_of_ble_eq_true rfl) dX5_pledged_17 rfl rfl (fun H locs hR hS => ?_)
  refine lv_aload_n hx hb dX5_pledged_20 rfl (lv_at hl 1 rfl) ?_
  refine lv_iload_n hx hb dX5_pledged_21 rfl (lv_at hl 2 rfl) ?_
  replace h := b2_o h
  obtain ⟨x12, T11, e10, h⟩ := h
  refine tw_callV 1 (As := [.int v1]) (rest := []) (v := (some (.int x12))) (T' := T11) (st1 := [.int x12]) hx hb hml hown hts hK hR (fun _ h9 => h9) (tw_A2 hR) hS (mX5_felts e10) (lw_V q2781 q2783 qs84 q137 q2784) (by decide +kernel) (Nat.le_of_ble_eq_true rfl) (Nat.le_of_ble_eq_true rfl) (Nat.zero_le _) (Nat.zero_le _) rfl hl.1 (Nat.le_of_ble_eq_true rfl) dX5_pledged_22 rfl rfl (fun H locs hR hS => ?_)
  refine lv_istore_n (lv' := [(3, .int x12), (2, .int x5), (0, .ref o), (1, .int v1)]) hx hb dX5_pledged_25 rfl hl (by decide) rfl (fun ls hl => ?_)
  refine lv_aload_n hx hb dX5_pledged_26 rfl (lv_at hl 2 rfl) ?_
  replace h := bo_o h
  obtain ⟨T14, e13, h⟩ := h
  refine tw_callV 0 (As := []) (rest := []) (v := none) (T' := T14) (st1 := []) hx hb hml hown hts hK hR (fun _ h9 => h9) (tw_A2 hR) hS (mX5_takesTolls e13) (lw_V q2884 q2886 qs98 q137 q2887) (by decide +kernel) (Nat.le_of_ble_eq_true rfl) (Nat.le_of_ble_eq_true rfl) (Nat.zero_le _) (Nat.zero_le _) rfl hl.1 (Nat.le_of_ble_eq_true rfl) dX5_pledged_27 rfl rfl (fun H locs hR hS => ?_)
  refine lv_iload_n hx hb dX5_pledged_30 rfl (lv_at hl 1 rfl) ?_
  refine lv_iconst (v := (-1)) hx hb dX5_pledged_31 (by decide) ?_
  refine lv_icmp_ne (tgt := 41) hx hb dX5_pledged_32 (by decide) (fun c15 => ?_) (fun c15 => ?_)
  · replace h := if_o c15 h
    refine lv_aload_n hx hb dX5_pledged_41 rfl (lv_at hl 2 rfl) ?_
    refine lv_iload_n hx hb dX5_pledged_42 rfl (lv_at hl 3 rfl) ?_
    refine lv_iconst (v := 2) hx hb dX5_pledged_43 (by decide) ?_
    replace h := b2_o h
    obtain ⟨x18, T17, e16, h⟩ := h
    refine tw_callV 2 (As := [.int v1, .int 2]) (rest := []) (v := (some (.int x18))) (T' := T17) (st1 := [.int x18]) hx hb hml hown hts hK hR (fun _ h9 => h9) (tw_A2 hR) hS (mX5_trip e16) (lw_V q2657 q2659 qs72 q137 q2660) (by decide +kernel) (Nat.le_of_ble_eq_true rfl) (Nat.le_of_ble_eq_true rfl) (Nat.zero_le _) (Nat.zero_le _) rfl hl.1 (Nat.le_of_ble_eq_true rfl) dX5_pledged_44 rfl rfl (fun H locs hR hS => ?_)
    refine lv_i2l hx hb dX5_pledged_47 rfl ?_
    refine lv_iload_n hx hb dX5_pledged_48 rfl (lv_at hl 1 rfl) ?_
    refine lv_iload_n hx hb dX5_pledged_49 rfl (lv_at hl 0 rfl) ?_
    refine lv_isub hx hb dX5_pledged_50 ?_
    refine lv_i2l hx hb dX5_pledged_51 rfl ?_
    refine lv_lmul hx hb dX5_pledged_52 ?_
    have eR := Option.some.inj h
    subst eR
    exact W.lret (v := (x18.toInt64) * ((x5 - x12).toInt64)) hx hb hr (fun t ht _ => tw_fin hR hS ht) hS.2.2 dX5_pledged_53
  · replace h := it_o c15 h
    refine lv_ldc2 (v := (-1)) hx hb hown (hts _ q2888) dX5_pledged_35 ?_
    refine lv_goto (tgt := 53) hx hb dX5_pledged_38 (by decide) ?_
    have eR := Option.some.inj h
    subst eR
    exact W.lret (v := (-1)) hx hb hr (fun t ht _ => tw_fin hR hS ht) hS.2.2 dX5_pledged_53
theorem mX5_pledged {l : Launch} {G : gE} {o : Nat} {v1 : Int32} {T : TW} {r : (Int64 × TW)}  (h : fX5_pledged v1 T = some r) : twM l G o yX5_pledged cX5_pledged 4 (some .long) 8 177 [.ref o, .int v1] T (some (.long r.1)) r.2 :=
  tw_of (by decide +kernel) (Nat.le_of_ble_eq_true rfl) (fun p e s m args below meth c ls B hR hl => bX5_pledged_0 B h hR va_S.rf hl)
noncomputable def fX5_pledge (v1 : Int32) (T : TW) : Option ((Int64 × TW)) :=
  b2_ (fX5_isTrip v1 T) fun x3 T2 =>
  b2_ (fX5_isThrown x3 1 T2) fun x6 T5 =>
  if x6 = 0 then (
    b2_ (fX5_pledged v1 T5) fun x10 T9 =>
    some (x10, T9)
  ) else (
    some (0, T5)
  )
theorem bX5_pledge_0 {p : Program} {l : Launch} {e : Env} {s : State} {m : MethodId} {args : Array Value} {below : List Frame} {meth : Method} {c : Code} {H : Heap} {locs : List Loc} {ls : Array Slot} {G : gE} {o : Nat} (B : gB G RX5 cX5_pledge 2 (some .long) p s m args meth c) {v1 : Int32} {T : TW} {r : (Int64 × TW)} (h : fX5_pledge v1 T = some r)   (hR : RepT G o T H) (hS : va_S (tFr o) s.heap H locs) (hl : lv_has ls 2 [(0, .ref o), (1, .int v1)]) : W p l e (gRm 9 200) s m args below meth c H locs 0 0 (twZ below args s G o (some (.long r.1)) r.2) (F0 m 0 ls []) := by
  have B0 := B
  obtain ⟨hx, hb, hml, hown, hts, hr, hlk, hK⟩ := B0
  unfold fX5_pledge at h
  refine lv_aload_n hx hb dX5_pledge_0 rfl (lv_at hl 0 rfl) ?_
  refine lv_aload_n hx hb dX5_pledge_1 rfl (lv_at hl 0 rfl) ?_
  refine lv_iload_n hx hb dX5_pledge_2 rfl (lv_at hl 1 rfl) ?_
  replace h := b2_o h
  obtain ⟨x3, T2, e1, h⟩ := h
  refine tw_callV 1 (As := [.int v1]) (rest := [.ref o]) (v := (some (.int x3))) (T' := T2) (st1 := [.int x3, .ref o]) hx hb hml hown hts hK hR (fun _ h9 => h9) (tw_A2 hR) hS (mX5_isTrip e1) (lw_V q2653 q2655 qs71 q137 q2656) (by decide +kernel) (Nat.le_of_ble_eq_true rfl) (Nat.le_of_ble_eq_true rfl) (Nat.zero_le _) (Nat.zero_le _) rfl hl.1 (Nat.le_of_ble_eq_true rfl) dX5_pledge_3 rfl rfl (fun H locs hR hS => ?_)
  refine lv_iconst (v := 1) hx hb dX5_pledge_6 (by decide) ?_
  replace h := b2_o h
  obtain ⟨x6, T5, e4, h⟩ := h
  refine tw_callV 2 (As := [.int x3, .int 1]) (rest := []) (v := (some (.int x6))) (T' := T5) (st1 := [.int x6]) hx hb hml hown hts hK hR (fun _ h9 => h9) (tw_A2 hR) hS (mX5_isThrown e4) (lw_V q2633 q2635 qs68 q137 q2636) (by decide +kernel) (Nat.le_of_ble_eq_true rfl) (Nat.le_of_ble_eq_true rfl) (Nat.zero_le _) (Nat.zero_le _) rfl hl.1 (Nat.le_of_ble_eq_true rfl) dX5_pledge_7 rfl rfl (fun H locs hR hS => ?_)
  refine lv_if_eq (tgt := 17) hx hb dX5_pledge_10 (by decide) (fun c7 => ?_) (fun c7 => ?_)
  · replace h := it_o c7 h
    refine lv_aload_n hx hb dX5_pledge_17 rfl (lv_at hl 0 rfl) ?_
    refine lv_iload_n hx hb dX5_pledge_18 rfl (lv_at hl 1 rfl) ?_
    replace h := b2_o h
    obtain ⟨x10, T9, e8, h⟩ := h
    refine tw_callV 1 (As := [.int v1]) (rest := []) (v := (some (.long x10))) (T' := T9) (st1 := [.long x10]) hx hb hml hown hts hK hR (fun _ h9 => h9) (tw_A2 hR) hS (mX5_pledged e8) (lw_V q2876 q2878 qs96 q137 q2879) (by decide +kernel) (Nat.le_of_ble_eq_true rfl) (Nat.le_of_ble_eq_true rfl) (Nat.zero_le _) (Nat.zero_le _) rfl hl.1 (Nat.le_of_ble_eq_true rfl) dX5_pledge_19 rfl rfl (fun H locs hR hS => ?_)
    have eR := Option.some.inj h
    subst eR
    exact W.lret (v := x10) hx hb hr (fun t ht _ => tw_fin hR hS ht) hS.2.2 dX5_pledge_22
  · replace h := if_o c7 h
    refine lv_lconst (v := 0) hx hb dX5_pledge_13 (by decide) ?_
    refine lv_goto (tgt := 22) hx hb dX5_pledge_14 (by decide) ?_
    have eR := Option.some.inj h
    subst eR
    exact W.lret (v := 0) hx hb hr (fun t ht _ => tw_fin hR hS ht) hS.2.2 dX5_pledge_22
theorem mX5_pledge {l : Launch} {G : gE} {o : Nat} {v1 : Int32} {T : TW} {r : (Int64 × TW)}  (h : fX5_pledge v1 T = some r) : twM l G o yX5_pledge cX5_pledge 2 (some .long) 9 200 [.ref o, .int v1] T (some (.long r.1)) r.2 :=
  tw_of (by decide +kernel) (Nat.le_of_ble_eq_true rfl) (fun p e s m args below meth c ls B hR hl => bX5_pledge_0 B h hR va_S.rf hl)
noncomputable def fX5_bound_b55 (v1 : Int64) (v3 : Int32) (T : TW) : Option (Sum (Int64 × Int32 × TW) ((Int64 × TW))) :=
  some (.inl (v1, v3 + 1, T))
theorem bX5_bound_55 {p : Program} {l : Launch} {e : Env} {s : State} {m : MethodId} {args : Array Value} {below : List Frame} {meth : Method} {c : Code} {H : Heap} {locs : List Loc} {ls : Array Slot} {G : gE} {o : Nat} (B : gB G RX5 cX5_bound 6 (some .long) p s m args meth c) {v1 : Int64} {v3 : Int32} {T : TW} {x : Sum (Int64 × Int32 × TW) ((Int64 × TW))} {r : (Int64 × TW)} (h : fX5_bound_b55 v1 v3 T = some x)  (k9 : ∀ (v1' : Int64) (v3' : Int32) (T' : TW), x = (.inl (v1', v3', T')) → ∀ (H : Heap) (locs : List Loc) (ls : Array Slot), RepT G o (T') H → va_S (tFr o) s.heap H locs → lv_has ls 6 [(0, .ref o), (1, .long v1'), (3, .int v3')] → W p l e (gRm 9 200) s m args below meth c H locs 0 0 (twZ below args s G o (some (.long r.1)) r.2) (F0 m 9 ls [])) (kR : ∀ q, x = (.inr q) → q = r) (hR : RepT G o T H) (hS : va_S (tFr o) s.heap H locs) (hl : lv_has ls 6 [(0, .ref o), (1, .long v1), (3, .int v3)]) : W p l e (gRm 9 200) s m args below meth c H locs 0 0 (twZ below args s G o (some (.long r.1)) r.2) (F0 m 55 ls []) := by
  have B0 := B
  obtain ⟨hx, hb, hml, hown, hts, hr, hlk, hK⟩ := B0
  unfold fX5_bound_b55 at h
  refine lv_iinc (v := v3 + 1) (lv' := [(3, .int (v3 + 1)), (0, .ref o), (1, .long v1)]) hx hb dX5_bound_55 hl (k := 2) rfl rfl (by decide) rfl (fun ls hl => ?_)
  refine lv_goto (tgt := 9) hx hb dX5_bound_58 (by decide) ?_
  exact k9 _ _ _ (Option.some.inj h).symm H locs ls hR hS (lv_sub hl [1, 2, 0] rfl)
noncomputable def fX5_bound_b46  (T : TW) : Option ((Int64 × TW)) :=
  some ((-1), T)
theorem bX5_bound_46 {p : Program} {l : Launch} {e : Env} {s : State} {m : MethodId} {args : Array Value} {below : List Frame} {meth : Method} {c : Code} {H : Heap} {locs : List Loc} {ls : Array Slot} {G : gE} {o : Nat} (B : gB G RX5 cX5_bound 6 (some .long) p s m args meth c)  {T : TW} {r : (Int64 × TW)} (h : fX5_bound_b46 T = some r)   (hR : RepT G o T H) (hS : va_S (tFr o) s.heap H locs) (hl : lv_has ls 6 []) : W p l e (gRm 9 200) s m args below meth c H locs 0 0 (twZ below args s G o (some (.long r.1)) r.2) (F0 m 46 ls []) := by
  have B0 := B
  obtain ⟨hx, hb, hml, hown, hts, hr, hlk, hK⟩ := B0
  unfold fX5_bound_b46 at h
  refine lv_ldc2 (v := (-1)) hx hb hown (hts _ q2888) dX5_bound_46 ?_
  have eR := Option.some.inj h
  subst eR
  exact W.lret (v := (-1)) hx hb hr (fun t ht _ => tw_fin hR hS ht) hS.2.2 dX5_bound_49
noncomputable def fX5_bound_b9 (v1 : Int64) (v3 : Int32) (T : TW) : Option (Sum (Int64 × Int32 × TW) ((Int64 × TW))) :=
  (rd_ (tA T 1) 172 2).bind fun x1 =>
  if x1 ≤ v3 then (
    some (.inr (v1, T))
  ) else (
    b2_ (fX5_laysPath v3 T) fun x6 T5 =>
    if x6 = 0 then (
      fX5_bound_b55 v1 v3 T5
    ) else (
      b2_ (fX5_pledged v3 T5) fun x10 T9 =>
      if lg_cmp x10 (-1) = 0 then (
        (fX5_bound_b46 T9).map (fun y => (.inr y))
      ) else (
        nm_ (v1 + x10) fun x12 =>
        fX5_bound_b55 x12 v3 T9
      )
    )
  )
theorem bX5_bound_9 {p : Program} {l : Launch} {e : Env} {s : State} {m : MethodId} {args : Array Value} {below : List Frame} {meth : Method} {c : Code} {H : Heap} {locs : List Loc} {ls : Array Slot} {G : gE} {o : Nat} (B : gB G RX5 cX5_bound 6 (some .long) p s m args meth c) {v1 : Int64} {v3 : Int32} {T : TW} {x : Sum (Int64 × Int32 × TW) ((Int64 × TW))} {r : (Int64 × TW)} (h : fX5_bound_b9 v1 v3 T = some x)  (k9 : ∀ (v1' : Int64) (v3' : Int32) (T' : TW), x = (.inl (v1', v3', T')) → ∀ (H : Heap) (locs : List Loc) (ls : Array Slot), RepT G o (T') H → va_S (tFr o) s.heap H locs → lv_has ls 6 [(0, .ref o), (1, .long v1'), (3, .int v3')] → W p l e (gRm 9 200) s m args below meth c H locs 0 0 (twZ below args s G o (some (.long r.1)) r.2) (F0 m 9 ls [])) (kR : ∀ q, x = (.inr q) → q = r) (hR : RepT G o T H) (hS : va_S (tFr o) s.heap H locs) (hl : lv_has ls 6 [(0, .ref o), (1, .long v1), (3, .int v3)]) : W p l e (gRm 9 200) s m args below meth c H locs 0 0 (twZ below args s G o (some (.long r.1)) r.2) (F0 m 9 ls []) := by
  have B0 := B
  obtain ⟨hx, hb, hml, hown, hts, hr, hlk, hK⟩ := B0
  unfold fX5_bound_b9 at h
  refine lv_iload_n hx hb dX5_bound_9 rfl (lv_at hl 2 rfl) ?_
  refine lv_aload_n hx hb dX5_bound_10 rfl (lv_at hl 0 rfl) ?_
  refine tw_get (k := 0) (v := .ref (o + 1)) hx hb hts hown hK hR (by decide) q2433 rfl (fun _ h9 => h9) dX5_bound_11 ?_
  refine lv_iconst (v := 2) hx hb dX5_bound_14 (by decide) ?_
  replace h := bo_o h
  obtain ⟨x1, e2, h⟩ := h
  refine tw_iald (q := 1) hx hb hK hR rfl e2 dX5_bound_15 ?_
  refine lv_icmp_ge (tgt := 61) hx hb dX5_bound_16 (by decide) (fun c3 => ?_) (fun c3 => ?_)
  · replace h := it_o c3 h
    refine lv_lload_n hx hb dX5_bound_61 rfl (lv_at hl 1 rfl) ?_
    have eR := kR _ (Option.some.inj h).symm
    subst eR
    exact W.lret (v := v1) hx hb hr (fun t ht _ => tw_fin hR hS ht) hS.2.2 dX5_bound_62
  · replace h := if_o c3 h
    refine lv_aload_n hx hb dX5_bound_19 rfl (lv_at hl 0 rfl) ?_
    refine lv_iload_n hx hb dX5_bound_20 rfl (lv_at hl 2 rfl) ?_
    replace h := b2_o h
    obtain ⟨x6, T5, e4, h⟩ := h
    refine tw_callV 1 (As := [.int v3]) (rest := []) (v := (some (.int x6))) (T' := T5) (st1 := [.int x6]) hx hb hml hown hts hK hR (fun _ h9 => h9) (tw_A2 hR) hS (mX5_laysPath e4) (lw_V q2722 q2724 qs76 q137 q2725) (by decide +kernel) (Nat.le_of_ble_eq_true rfl) (Nat.le_of_ble_eq_true rfl) (Nat.zero_le _) (Nat.zero_le _) rfl hl.1 (Nat.le_of_ble_eq_true rfl) dX5_bound_21 rfl rfl (fun H locs hR hS => ?_)
    refine lv_if_ne (tgt := 30) hx hb dX5_bound_24 (by decide) (fun c7 => ?_) (fun c7 => ?_)
    · replace h := if_o c7 h
      refine lv_aload_n hx hb dX5_bound_30 rfl (lv_at hl 0 rfl) ?_
      refine lv_iload_n hx hb dX5_bound_31 rfl (lv_at hl 2 rfl) ?_
      replace h := b2_o h
      obtain ⟨x10, T9, e8, h⟩ := h
      refine tw_callV 1 (As := [.int v3]) (rest := []) (v := (some (.long x10))) (T' := T9) (st1 := [.long x10]) hx hb hml hown hts hK hR (fun _ h9 => h9) (tw_A2 hR) hS (mX5_pledged e8) (lw_V q2876 q2878 qs96 q137 q2879) (by decide +kernel) (Nat.le_of_ble_eq_true rfl) (Nat.le_of_ble_eq_true rfl) (Nat.zero_le _) (Nat.zero_le _) rfl hl.1 (Nat.le_of_ble_eq_true rfl) dX5_bound_32 rfl rfl (fun H locs hR hS => ?_)
      refine lv_lstore (lv' := [(4, .long x10), (0, .ref o), (1, .long v1), (3, .int v3)]) hx hb dX5_bound_35 hl (by decide) rfl (fun ls hl => ?_)
      refine lv_lload hx hb dX5_bound_37 (lv_at hl 0 rfl) ?_
      refine lv_ldc2 (v := (-1)) hx hb hown (hts _ q2888) dX5_bound_39 ?_
      refine W.lcmp hx hb dX5_bound_42 ?_
      refine lv_if_ne (tgt := 50) hx hb dX5_bound_43 (by decide) (fun c11 => ?_) (fun c11 => ?_)
      · replace h := if_o c11 h
        refine lv_lload_n hx hb dX5_bound_50 rfl (lv_at hl 2 rfl) ?_
        refine lv_lload hx hb dX5_bound_51 (lv_at hl 0 rfl) ?_
        refine lv_ladd hx hb dX5_bound_53 ?_
        replace h := nm_o h
        obtain ⟨x12, e13, h⟩ := h
        refine lv_lstore_n (lv' := [(1, .long x12), (4, .long x10), (0, .ref o), (3, .int v3)]) hx hb dX5_bound_54 rfl hl (by decide) (by subst e13; rfl) (fun ls hl => ?_)
        exact bX5_bound_55 B h k9 kR hR hS (lv_sub hl [2, 0, 3] rfl)
      · replace h := it_o c11 h
        obtain ⟨y, h, ey⟩ := mp_o h
        have ey := kR _ ey.symm
        subst ey
        exact bX5_bound_46 B h  hR hS (lv_sub hl [] rfl)
    · replace h := it_o c7 h
      refine lv_goto (tgt := 55) hx hb dX5_bound_27 (by decide) ?_
      exact bX5_bound_55 B h k9 kR hR hS (lv_sub hl [0, 1, 2] rfl)
noncomputable def fX5_bound_l9 (v1 : Int64) (v3 : Int32) (T : TW) : Option ((Int64 × TW)) := whileO (fun q => fX5_bound_b9 q.1 q.2.1 q.2.2) (v1, v3, T)
theorem lX5_bound_9 {p : Program} {l : Launch} {e : Env} {s : State} {m : MethodId} {args : Array Value} {below : List Frame} {meth : Method} {c : Code} {G : gE} {o : Nat} (B : gB G RX5 cX5_bound 6 (some .long) p s m args meth c)  {r : (Int64 × TW)}   : ∀ (v1 : Int64) (v3 : Int32) (T : TW), fX5_bound_l9 v1 v3 T = some r → ∀ (H : Heap) (locs : List Loc) (ls : Array Slot), RepT G o (T) H → va_S (tFr o) s.heap H locs → lv_has ls 6 [(0, .ref o), (1, .long v1), (3, .int v3)] → W p l e (gRm 9 200) s m args below meth c H locs 0 0 (twZ below args s G o (some (.long r.1)) r.2) (F0 m 9 ls []) := by
  intro v1 v3 T h
  refine wh_walk (body := (fun q => fX5_bound_b9 q.1 q.2.1 q.2.2)) (P := (fun q : (Int64 × Int32 × TW) => ∀ (H : Heap) (locs : List Loc) (ls : Array Slot), RepT G o (q.2.2) H → va_S (tFr o) s.heap H locs → lv_has ls 6 [(0, .ref o), (1, .long (q.1)), (3, .int (q.2.1))] → W p l e (gRm 9 200) s m args below meth c H locs 0 0 (twZ below args s G o (some (.long r.1)) r.2) (F0 m 9 ls []))) (r := r) ?_ (v1, v3, T) h
  intro q y hy hL hr H locs ls hR hS hl
  exact bX5_bound_9 (r := r) B hy (fun a0 a1 a2 e => hL (a0, a1, a2) e) (fun q e => hr q e) hR hS hl
noncomputable def fX5_bound  (T : TW) : Option ((Int64 × TW)) :=
  nm_ (tsI T 6 0) fun T1 =>
  fX5_bound_l9 0 0 T1
theorem bX5_bound_0 {p : Program} {l : Launch} {e : Env} {s : State} {m : MethodId} {args : Array Value} {below : List Frame} {meth : Method} {c : Code} {H : Heap} {locs : List Loc} {ls : Array Slot} {G : gE} {o : Nat} (B : gB G RX5 cX5_bound 6 (some .long) p s m args meth c)  {T : TW} {r : (Int64 × TW)} (h : fX5_bound T = some r)   (hR : RepT G o T H) (hS : va_S (tFr o) s.heap H locs) (hl : lv_has ls 6 [(0, .ref o)]) : W p l e (gRm 9 200) s m args below meth c H locs 0 0 (twZ below args s G o (some (.long r.1)) r.2) (F0 m 0 ls []) := by
  have B0 := B
  obtain ⟨hx, hb, hml, hown, hts, hr, hlk, hK⟩ := B0
  unfold fX5_bound at h
  refine lv_aload_n hx hb dX5_bound_0 rfl (lv_at hl 0 rfl) ?_
  refine lv_iconst (v := 0) hx hb dX5_bound_1 (by decide) ?_
  replace h := nm_o h
  obtain ⟨T1, e2, h⟩ := h
  refine tw_putI (k := 6) (x := 0) (ty := .int) (T' := T1) hx hb hts hown hK hR (fun _ h9 => h9) hS (by decide) rfl e2 q2439 (fun _ h9 => h9) rfl (by decide +kernel) rfl rfl dX5_bound_2 (fun H locs hR hS => ?_)
  refine lv_lconst (v := 0) hx hb dX5_bound_5 (by decide) ?_
  refine lv_lstore_n (lv' := [(1, .long 0), (0, .ref o)]) hx hb dX5_bound_6 rfl hl (by decide) rfl (fun ls hl => ?_)
  refine lv_iconst (v := 0) hx hb dX5_bound_7 (by decide) ?_
  refine lv_istore_n (lv' := [(3, .int 0), (1, .long 0), (0, .ref o)]) hx hb dX5_bound_8 rfl hl (by decide) rfl (fun ls hl => ?_)
  exact lX5_bound_9 B _ _ _ h H locs ls hR hS (lv_sub hl [2, 1, 0] rfl)
theorem mX5_bound {l : Launch} {G : gE} {o : Nat}  {T : TW} {r : (Int64 × TW)}  (h : fX5_bound T = some r) : twM l G o yX5_bound cX5_bound 6 (some .long) 9 200 [.ref o] T (some (.long r.1)) r.2 :=
  tw_of (by decide +kernel) (Nat.le_of_ble_eq_true rfl) (fun p e s m args below meth c ls B hR hl => bX5_bound_0 B h hR va_S.rf hl)
noncomputable def fX5_burden_b46 (v3 : Int32) (s0 : Int64) (s1 : Int64) (T : TW) : Option (Sum (Int64 × Int32 × TW) ((Int64 × TW))) :=
  nm_ (s0 + s1) fun x1 =>
  some (.inl (x1, v3 + 1, T))
theorem bX5_burden_46 {p : Program} {l : Launch} {e : Env} {s : State} {m : MethodId} {args : Array Value} {below : List Frame} {meth : Method} {c : Code} {H : Heap} {locs : List Loc} {ls : Array Slot} {G : gE} {o : Nat} (B : gB G RX5 cX5_burden 4 (some .long) p s m args meth c) {v3 : Int32} {s0 : Int64} {s1 : Int64} {T : TW} {x : Sum (Int64 × Int32 × TW) ((Int64 × TW))} {r : (Int64 × TW)} (h : fX5_burden_b46 v3 s0 s1 T = some x)  (k9 : ∀ (v1' : Int64) (v3' : Int32) (T' : TW), x = (.inl (v1', v3', T')) → ∀ (H : Heap) (locs : List Loc) (ls : Array Slot), RepT G o (T') H → va_S (tFr o) s.heap H locs → lv_has ls 4 [(0, .ref o), (1, .long v1'), (3, .int v3')] → W p l e (gRm 7 156) s m args below meth c H locs 0 0 (twZ below args s G o (some (.long r.1)) r.2) (F0 m 9 ls [])) (kR : ∀ q, x = (.inr q) → q = r) (hR : RepT G o T H) (hS : va_S (tFr o) s.heap H locs) (hl : lv_has ls 4 [(0, .ref o), (3, .int v3)]) : W p l e (gRm 7 156) s m args below meth c H locs 0 0 (twZ below args s G o (some (.long r.1)) r.2) (F0 m 46 ls [.long s1, .long s0]) := by
  have B0 := B
  obtain ⟨hx, hb, hml, hown, hts, hr, hlk, hK⟩ := B0
  unfold fX5_burden_b46 at h
  refine lv_ladd hx hb dX5_burden_46 ?_
  replace h := nm_o h
  obtain ⟨x1, e2, h⟩ := h
  refine lv_lstore_n (lv' := [(1, .long x1), (0, .ref o), (3, .int v3)]) hx hb dX5_burden_47 rfl hl (by decide) (by subst e2; rfl) (fun ls hl => ?_)
  refine lv_iinc (v := v3 + 1) (lv' := [(3, .int (v3 + 1)), (1, .long x1), (0, .ref o)]) hx hb dX5_burden_48 hl (k := 2) rfl rfl (by decide) rfl (fun ls hl => ?_)
  refine lv_goto (tgt := 9) hx hb dX5_burden_51 (by decide) ?_
  exact k9 _ _ _ (Option.some.inj h).symm H locs ls hR hS (lv_sub hl [2, 1, 0] rfl)
noncomputable def fX5_burden_b9 (v1 : Int64) (v3 : Int32) (T : TW) : Option (Sum (Int64 × Int32 × TW) ((Int64 × TW))) :=
  (rd_ (tA T 1) 172 2).bind fun x1 =>
  if x1 ≤ v3 then (
    some (.inr (v1, T))
  ) else (
    b2_ (fX5_laysPath v3 T) fun x6 T5 =>
    if x6 = 0 then (
      fX5_burden_b46 v3 v1 0 T5
    ) else (
      b2_ (fX5_trip v3 2 T5) fun x10 T9 =>
      b2_ (fX5_feltNow v3 T9) fun x13 T12 =>
      fX5_burden_b46 v3 v1 ((x10.toInt64) * (x13.toInt64)) T12
    )
  )
theorem bX5_burden_9 {p : Program} {l : Launch} {e : Env} {s : State} {m : MethodId} {args : Array Value} {below : List Frame} {meth : Method} {c : Code} {H : Heap} {locs : List Loc} {ls : Array Slot} {G : gE} {o : Nat} (B : gB G RX5 cX5_burden 4 (some .long) p s m args meth c) {v1 : Int64} {v3 : Int32} {T : TW} {x : Sum (Int64 × Int32 × TW) ((Int64 × TW))} {r : (Int64 × TW)} (h : fX5_burden_b9 v1 v3 T = some x)  (k9 : ∀ (v1' : Int64) (v3' : Int32) (T' : TW), x = (.inl (v1', v3', T')) → ∀ (H : Heap) (locs : List Loc) (ls : Array Slot), RepT G o (T') H → va_S (tFr o) s.heap H locs → lv_has ls 4 [(0, .ref o), (1, .long v1'), (3, .int v3')] → W p l e (gRm 7 156) s m args below meth c H locs 0 0 (twZ below args s G o (some (.long r.1)) r.2) (F0 m 9 ls [])) (kR : ∀ q, x = (.inr q) → q = r) (hR : RepT G o T H) (hS : va_S (tFr o) s.heap H locs) (hl : lv_has ls 4 [(0, .ref o), (1, .long v1), (3, .int v3)]) : W p l e (gRm 7 156) s m args below meth c H locs 0 0 (twZ below args s G o (some (.long r.1)) r.2) (F0 m 9 ls []) := by
  have B0 := B
  obtain ⟨hx, hb, hml, hown, hts, hr, hlk, hK⟩ := B0
  unfold fX5_burden_b9 at h
  refine lv_iload_n hx hb dX5_burden_9 rfl (lv_at hl 2 rfl) ?_
  refine lv_aload_n hx hb dX5_burden_10 rfl (lv_at hl 0 rfl) ?_
  refine tw_get (k := 0) (v := .ref (o + 1)) hx hb hts hown hK hR (by decide) q2433 rfl (fun _ h9 => h9) dX5_burden_11 ?_
  refine lv_iconst (v := 2) hx hb dX5_burden_14 (by decide) ?_
  replace h := bo_o h
  obtain ⟨x1, e2, h⟩ := h
  refine tw_iald (q := 1) hx hb hK hR rfl e2 dX5_burden_15 ?_
  refine lv_icmp_ge (tgt := 54) hx hb dX5_burden_16 (by decide) (fun c3 => ?_) (fun c3 => ?_)
  · replace h := it_o c3 h
    refine lv_lload_n hx hb dX5_burden_54 rfl (lv_at hl 1 rfl) ?_
    have eR := kR _ (Option.some.inj h).symm
    subst eR
    exact W.lret (v := v1) hx hb hr (fun t ht _ => tw_fin hR hS ht) hS.2.2 dX5_burden_55
  · replace h := if_o c3 h
    refine lv_lload_n hx hb dX5_burden_19 rfl (lv_at hl 1 rfl) ?_
    refine lv_aload_n hx hb dX5_burden_20 rfl (lv_at hl 0 rfl) ?_
    refine lv_iload_n hx hb dX5_burden_21 rfl (lv_at hl 2 rfl) ?_
    replace h := b2_o h
    obtain ⟨x6, T5, e4, h⟩ := h
    refine tw_callV 1 (As := [.int v3]) (rest := [.long v1]) (v := (some (.int x6))) (T' := T5) (st1 := [.int x6, .long v1]) hx hb hml hown hts hK hR (fun _ h9 => h9) (tw_A2 hR) hS (mX5_laysPath e4) (lw_V q2722 q2724 qs76 q137 q2725) (by decide +kernel) (Nat.le_of_ble_eq_true rfl) (Nat.le_of_ble_eq_true rfl) (Nat.zero_le _) (Nat.zero_le _) rfl hl.1 (Nat.le_of_ble_eq_true rfl) dX5_burden_22 rfl rfl (fun H locs hR hS => ?_)
    refine lv_if_eq (tgt := 45) hx hb dX5_burden_25 (by decide) (fun c7 => ?_) (fun c7 => ?_)
    · replace h := it_o c7 h
      refine lv_lconst (v := 0) hx hb dX5_burden_45 (by decide) ?_
      exact bX5_burden_46 B h k9 kR hR hS (lv_sub hl [0, 2] rfl)
    · replace h := if_o c7 h
      refine lv_aload_n hx hb dX5_burden_28 rfl (lv_at hl 0 rfl) ?_
      refine lv_iload_n hx hb dX5_burden_29 rfl (lv_at hl 2 rfl) ?_
      refine lv_iconst (v := 2) hx hb dX5_burden_30 (by decide) ?_
      replace h := b2_o h
      obtain ⟨x10, T9, e8, h⟩ := h
      refine tw_callV 2 (As := [.int v3, .int 2]) (rest := [.long v1]) (v := (some (.int x10))) (T' := T9) (st1 := [.int x10, .long v1]) hx hb hml hown hts hK hR (fun _ h9 => h9) (tw_A2 hR) hS (mX5_trip e8) (lw_V q2657 q2659 qs72 q137 q2660) (by decide +kernel) (Nat.le_of_ble_eq_true rfl) (Nat.le_of_ble_eq_true rfl) (Nat.zero_le _) (Nat.zero_le _) rfl hl.1 (Nat.le_of_ble_eq_true rfl) dX5_burden_31 rfl rfl (fun H locs hR hS => ?_)
      refine lv_i2l hx hb dX5_burden_34 rfl ?_
      refine lv_aload_n hx hb dX5_burden_35 rfl (lv_at hl 0 rfl) ?_
      refine lv_iload_n hx hb dX5_burden_36 rfl (lv_at hl 2 rfl) ?_
      replace h := b2_o h
      obtain ⟨x13, T12, e11, h⟩ := h
      refine tw_callV 1 (As := [.int v3]) (rest := [.long (x10.toInt64), .long v1]) (v := (some (.int x13))) (T' := T12) (st1 := [.int x13, .long (x10.toInt64), .long v1]) hx hb hml hown hts hK hR (fun _ h9 => h9) (tw_A2 hR) hS (mX5_feltNow e11) (lw_V q2785 q2787 qs85 q137 q2788) (by decide +kernel) (Nat.le_of_ble_eq_true rfl) (Nat.le_of_ble_eq_true rfl) (Nat.zero_le _) (Nat.zero_le _) rfl hl.1 (Nat.le_of_ble_eq_true rfl) dX5_burden_37 rfl rfl (fun H locs hR hS => ?_)
      refine lv_i2l hx hb dX5_burden_40 rfl ?_
      refine lv_lmul hx hb dX5_burden_41 ?_
      refine lv_goto (tgt := 46) hx hb dX5_burden_42 (by decide) ?_
      exact bX5_burden_46 B h k9 kR hR hS (lv_sub hl [0, 2] rfl)
noncomputable def fX5_burden_l9 (v1 : Int64) (v3 : Int32) (T : TW) : Option ((Int64 × TW)) := whileO (fun q => fX5_burden_b9 q.1 q.2.1 q.2.2) (v1, v3, T)
theorem lX5_burden_9 {p : Program} {l : Launch} {e : Env} {s : State} {m : MethodId} {args : Array Value} {below : List Frame} {meth : Method} {c : Code} {G : gE} {o : Nat} (B : gB G RX5 cX5_burden 4 (some .long) p s m args meth c)  {r : (Int64 × TW)}   : ∀ (v1 : Int64) (v3 : Int32) (T : TW), fX5_burden_l9 v1 v3 T = some r → ∀ (H : Heap) (locs : List Loc) (ls : Array Slot), RepT G o (T) H → va_S (tFr o) s.heap H locs → lv_has ls 4 [(0, .ref o), (1, .long v1), (3, .int v3)] → W p l e (gRm 7 156) s m args below meth c H locs 0 0 (twZ below args s G o (some (.long r.1)) r.2) (F0 m 9 ls []) := by
  intro v1 v3 T h
  refine wh_walk (body := (fun q => fX5_burden_b9 q.1 q.2.1 q.2.2)) (P := (fun q : (Int64 × Int32 × TW) => ∀ (H : Heap) (locs : List Loc) (ls : Array Slot), RepT G o (q.2.2) H → va_S (tFr o) s.heap H locs → lv_has ls 4 [(0, .ref o), (1, .long (q.1)), (3, .int (q.2.1))] → W p l e (gRm 7 156) s m args below meth c H locs 0 0 (twZ below args s G o (some (.long r.1)) r.2) (F0 m 9 ls []))) (r := r) ?_ (v1, v3, T) h
  intro q y hy hL hr H locs ls hR hS hl
  exact bX5_burden_9 (r := r) B hy (fun a0 a1 a2 e => hL (a0, a1, a2) e) (fun q e => hr q e) hR hS hl
noncomputable def fX5_burden  (T : TW) : Option ((Int64 × TW)) :=
  nm_ (tsI T 6 0) fun T1 =>
  fX5_burden_l9 0 0 T1
theorem bX5_burden_0 {p : Program} {l : Launch} {e : Env} {s : State} {m : MethodId} {args : Array Value} {below : List Frame} {meth : Method} {c : Code} {H : Heap} {locs : List Loc} {ls : Array Slot} {G : gE} {o : Nat} (B : gB G RX5 cX5_burden 4 (some .long) p s m args meth c)  {T : TW} {r : (Int64 × TW)} (h : fX5_burden T = some r)   (hR : RepT G o T H) (hS : va_S (tFr o) s.heap H locs) (hl : lv_has ls 4 [(0, .ref o)]) : W p l e (gRm 7 156) s m args below meth c H locs 0 0 (twZ below args s G o (some (.long r.1)) r.2) (F0 m 0 ls []) := by
  have B0 := B
  obtain ⟨hx, hb, hml, hown, hts, hr, hlk, hK⟩ := B0
  unfold fX5_burden at h
  refine lv_aload_n hx hb dX5_burden_0 rfl (lv_at hl 0 rfl) ?_
  refine lv_iconst (v := 0) hx hb dX5_burden_1 (by decide) ?_
  replace h := nm_o h
  obtain ⟨T1, e2, h⟩ := h
  refine tw_putI (k := 6) (x := 0) (ty := .int) (T' := T1) hx hb hts hown hK hR (fun _ h9 => h9) hS (by decide) rfl e2 q2439 (fun _ h9 => h9) rfl (by decide +kernel) rfl rfl dX5_burden_2 (fun H locs hR hS => ?_)
  refine lv_lconst (v := 0) hx hb dX5_burden_5 (by decide) ?_
  refine lv_lstore_n (lv' := [(1, .long 0), (0, .ref o)]) hx hb dX5_burden_6 rfl hl (by decide) rfl (fun ls hl => ?_)
  refine lv_iconst (v := 0) hx hb dX5_burden_7 (by decide) ?_
  refine lv_istore_n (lv' := [(3, .int 0), (1, .long 0), (0, .ref o)]) hx hb dX5_burden_8 rfl hl (by decide) rfl (fun ls hl => ?_)
  exact lX5_burden_9 B _ _ _ h H locs ls hR hS (lv_sub hl [2, 1, 0] rfl)
theorem mX5_burden {l : Launch} {G : gE} {o : Nat}  {T : TW} {r : (Int64 × TW)}  (h : fX5_burden T = some r) : twM l G o yX5_burden cX5_burden 4 (some .long) 7 156 [.ref o] T (some (.long r.1)) r.2 :=
  tw_of (by decide +kernel) (Nat.le_of_ble_eq_true rfl) (fun p e s m args below meth c ls B hR hl => bX5_burden_0 B h hR va_S.rf hl)
noncomputable def fX5_dearest_b81 (v1 : Int32) (v2 : Int64) (v4 : Int64) (v6 : Int32) (T : TW) : Option (Sum (Int32 × Int64 × Int64 × Int32 × TW) ((Int32 × TW))) :=
  some (.inl (v1, v2, v4, v6 + 1, T))
theorem bX5_dearest_81 {p : Program} {l : Launch} {e : Env} {s : State} {m : MethodId} {args : Array Value} {below : List Frame} {meth : Method} {c : Code} {H : Heap} {locs : List Loc} {ls : Array Slot} {G : gE} {o : Nat} (B : gB G RX5 cX5_dearest 7 (some .int) p s m args meth c) {v1 : Int32} {v2 : Int64} {v4 : Int64} {v6 : Int32} {T : TW} {x : Sum (Int32 × Int64 × Int64 × Int32 × TW) ((Int32 × TW))} {r : (Int32 × TW)} (h : fX5_dearest_b81 v1 v2 v4 v6 T = some x)  (k15 : ∀ (v1' : Int32) (v2' : Int64) (v4' : Int64) (v6' : Int32) (T' : TW), x = (.inl (v1', v2', v4', v6', T')) → ∀ (H : Heap) (locs : List Loc) (ls : Array Slot), RepT G o (T') H → va_S (tFr o) s.heap H locs → lv_has ls 7 [(0, .ref o), (1, .int v1'), (2, .long v2'), (4, .long v4'), (6, .int v6')] → W p l e (gRm 7 156) s m args below meth c H locs 0 0 (twZ below args s G o (some (.int r.1)) r.2) (F0 m 15 ls [])) (kR : ∀ q, x = (.inr q) → q = r) (hR : RepT G o T H) (hS : va_S (tFr o) s.heap H locs) (hl : lv_has ls 7 [(0, .ref o), (1, .int v1), (2, .long v2), (4, .long v4), (6, .int v6)]) : W p l e (gRm 7 156) s m args below meth c H locs 0 0 (twZ below args s G o (some (.int r.1)) r.2) (F0 m 81 ls []) := by
  have B0 := B
  obtain ⟨hx, hb, hml, hown, hts, hr, hlk, hK⟩ := B0
  unfold fX5_dearest_b81 at h
  refine lv_iinc (v := v6 + 1) (lv' := [(6, .int (v6 + 1)), (0, .ref o), (1, .int v1), (2, .long v2), (4, .long v4)]) hx hb dX5_dearest_81 hl (k := 4) rfl rfl (by decide) rfl (fun ls hl => ?_)
  refine lv_goto (tgt := 15) hx hb dX5_dearest_84 (by decide) ?_
  exact k15 _ _ _ _ _ (Option.some.inj h).symm H locs ls hR hS (lv_sub hl [1, 2, 3, 4, 0] rfl)
noncomputable def fX5_dearest_b62 (v6 : Int32) (T : TW) : Option (Sum (Int32 × Int64 × Int64 × Int32 × TW) ((Int32 × TW))) :=
  b2_ (fX5_sumOf 4 T) fun x3 T2 =>
  nm_ (x3.toInt64) fun x4 =>
  b2_ (fX5_feltNow v6 T2) fun x8 T7 =>
  nm_ (x8.toInt64) fun x9 =>
  fX5_dearest_b81 v6 x4 x9 v6 T7
theorem bX5_dearest_62 {p : Program} {l : Launch} {e : Env} {s : State} {m : MethodId} {args : Array Value} {below : List Frame} {meth : Method} {c : Code} {H : Heap} {locs : List Loc} {ls : Array Slot} {G : gE} {o : Nat} (B : gB G RX5 cX5_dearest 7 (some .int) p s m args meth c) {v6 : Int32} {T : TW} {x : Sum (Int32 × Int64 × Int64 × Int32 × TW) ((Int32 × TW))} {r : (Int32 × TW)} (h : fX5_dearest_b62 v6 T = some x)  (k15 : ∀ (v1' : Int32) (v2' : Int64) (v4' : Int64) (v6' : Int32) (T' : TW), x = (.inl (v1', v2', v4', v6', T')) → ∀ (H : Heap) (locs : List Loc) (ls : Array Slot), RepT G o (T') H → va_S (tFr o) s.heap H locs → lv_has ls 7 [(0, .ref o), (1, .int v1'), (2, .long v2'), (4, .long v4'), (6, .int v6')] → W p l e (gRm 7 156) s m args below meth c H locs 0 0 (twZ below args s G o (some (.int r.1)) r.2) (F0 m 15 ls [])) (kR : ∀ q, x = (.inr q) → q = r) (hR : RepT G o T H) (hS : va_S (tFr o) s.heap H locs) (hl : lv_has ls 7 [(0, .ref o), (6, .int v6)]) : W p l e (gRm 7 156) s m args below meth c H locs 0 0 (twZ below args s G o (some (.int r.1)) r.2) (F0 m 62 ls []) := by
  have B0 := B
  obtain ⟨hx, hb, hml, hown, hts, hr, hlk, hK⟩ := B0
  unfold fX5_dearest_b62 at h
  refine lv_iload hx hb dX5_dearest_62 (lv_at hl 1 rfl) ?_
  refine lv_istore_n (lv' := [(1, .int v6), (0, .ref o), (6, .int v6)]) hx hb dX5_dearest_64 rfl hl (by decide) rfl (fun ls hl => ?_)
  refine lv_aload_n hx hb dX5_dearest_65 rfl (lv_at hl 1 rfl) ?_
  refine lv_iconst (v := 4) hx hb dX5_dearest_66 (by decide) ?_
  replace h := b2_o h
  obtain ⟨x3, T2, e1, h⟩ := h
  refine tw_callV 1 (As := [.int 4]) (rest := []) (v := (some (.int x3))) (T' := T2) (st1 := [.int x3]) hx hb hml hown hts hK hR (fun _ h9 => h9) (tw_A2 hR) hS (mX5_sumOf e1) (lw_V q2769 q2771 qs83 q137 q2772) (by decide +kernel) (Nat.le_of_ble_eq_true rfl) (Nat.le_of_ble_eq_true rfl) (Nat.zero_le _) (Nat.zero_le _) rfl hl.1 (Nat.le_of_ble_eq_true rfl) dX5_dearest_67 rfl rfl (fun H locs hR hS => ?_)
  refine lv_i2l hx hb dX5_dearest_70 rfl ?_
  replace h := nm_o h
  obtain ⟨x4, e5, h⟩ := h
  refine lv_lstore_n (lv' := [(2, .long x4), (1, .int v6), (0, .ref o), (6, .int v6)]) hx hb dX5_dearest_71 rfl hl (by decide) (by subst e5; rfl) (fun ls hl => ?_)
  refine lv_aload_n hx hb dX5_dearest_72 rfl (lv_at hl 2 rfl) ?_
  refine lv_iload hx hb dX5_dearest_73 (lv_at hl 3 rfl) ?_
  replace h := b2_o h
  obtain ⟨x8, T7, e6, h⟩ := h
  refine tw_callV 1 (As := [.int v6]) (rest := []) (v := (some (.int x8))) (T' := T7) (st1 := [.int x8]) hx hb hml hown hts hK hR (fun _ h9 => h9) (tw_A2 hR) hS (mX5_feltNow e6) (lw_V q2785 q2787 qs85 q137 q2788) (by decide +kernel) (Nat.le_of_ble_eq_true rfl) (Nat.le_of_ble_eq_true rfl) (Nat.zero_le _) (Nat.zero_le _) rfl hl.1 (Nat.le_of_ble_eq_true rfl) dX5_dearest_75 rfl rfl (fun H locs hR hS => ?_)
  refine lv_i2l hx hb dX5_dearest_78 rfl ?_
  replace h := nm_o h
  obtain ⟨x9, e10, h⟩ := h
  refine lv_lstore (lv' := [(4, .long x9), (2, .long x4), (1, .int v6), (0, .ref o), (6, .int v6)]) hx hb dX5_dearest_79 hl (by decide) (by subst e10; rfl) (fun ls hl => ?_)
  exact bX5_dearest_81 B h k15 kR hR hS (lv_sub hl [3, 2, 1, 0, 4] rfl)
noncomputable def fX5_dearest_b15 (v1 : Int32) (v2 : Int64) (v4 : Int64) (v6 : Int32) (T : TW) : Option (Sum (Int32 × Int64 × Int64 × Int32 × TW) ((Int32 × TW))) :=
  (rd_ (tA T 1) 172 2).bind fun x1 =>
  if x1 ≤ v6 then (
    some (.inr (v1, T))
  ) else (
    b2_ (fX5_laysPath v6 T) fun x6 T5 =>
    if x6 = 0 then (
      fX5_dearest_b81 v1 v2 v4 v6 T5
    ) else (
      if v1 = (-1) then (
        fX5_dearest_b62 v6 T5
      ) else (
        b2_ (fX5_sumOf 4 T5) fun x11 T10 =>
        b2_ (fX5_feltNow v6 T10) fun x14 T13 =>
        if lg_cmp ((x11.toInt64) * v4) (v2 * (x14.toInt64)) ≤ 0 then (
          fX5_dearest_b81 v1 v2 v4 v6 T13
        ) else (
          fX5_dearest_b62 v6 T13
        )
      )
    )
  )
theorem bX5_dearest_15 {p : Program} {l : Launch} {e : Env} {s : State} {m : MethodId} {args : Array Value} {below : List Frame} {meth : Method} {c : Code} {H : Heap} {locs : List Loc} {ls : Array Slot} {G : gE} {o : Nat} (B : gB G RX5 cX5_dearest 7 (some .int) p s m args meth c) {v1 : Int32} {v2 : Int64} {v4 : Int64} {v6 : Int32} {T : TW} {x : Sum (Int32 × Int64 × Int64 × Int32 × TW) ((Int32 × TW))} {r : (Int32 × TW)} (h : fX5_dearest_b15 v1 v2 v4 v6 T = some x)  (k15 : ∀ (v1' : Int32) (v2' : Int64) (v4' : Int64) (v6' : Int32) (T' : TW), x = (.inl (v1', v2', v4', v6', T')) → ∀ (H : Heap) (locs : List Loc) (ls : Array Slot), RepT G o (T') H → va_S (tFr o) s.heap H locs → lv_has ls 7 [(0, .ref o), (1, .int v1'), (2, .long v2'), (4, .long v4'), (6, .int v6')] → W p l e (gRm 7 156) s m args below meth c H locs 0 0 (twZ below args s G o (some (.int r.1)) r.2) (F0 m 15 ls [])) (kR : ∀ q, x = (.inr q) → q = r) (hR : RepT G o T H) (hS : va_S (tFr o) s.heap H locs) (hl : lv_has ls 7 [(0, .ref o), (1, .int v1), (2, .long v2), (4, .long v4), (6, .int v6)]) : W p l e (gRm 7 156) s m args below meth c H locs 0 0 (twZ below args s G o (some (.int r.1)) r.2) (F0 m 15 ls []) := by
  have B0 := B
  obtain ⟨hx, hb, hml, hown, hts, hr, hlk, hK⟩ := B0
  unfold fX5_dearest_b15 at h
  refine lv_iload hx hb dX5_dearest_15 (lv_at hl 4 rfl) ?_
  refine lv_aload_n hx hb dX5_dearest_17 rfl (lv_at hl 0 rfl) ?_
  refine tw_get (k := 0) (v := .ref (o + 1)) hx hb hts hown hK hR (by decide) q2433 rfl (fun _ h9 => h9) dX5_dearest_18 ?_
  refine lv_iconst (v := 2) hx hb dX5_dearest_21 (by decide) ?_
  replace h := bo_o h
  obtain ⟨x1, e2, h⟩ := h
  refine tw_iald (q := 1) hx hb hK hR rfl e2 dX5_dearest_22 ?_
  refine lv_icmp_ge (tgt := 87) hx hb dX5_dearest_23 (by decide) (fun c3 => ?_) (fun c3 => ?_)
  · replace h := it_o c3 h
    refine lv_iload_n hx hb dX5_dearest_87 rfl (lv_at hl 1 rfl) ?_
    have eR := kR _ (Option.some.inj h).symm
    subst eR
    exact W.iret (v := v1) hx hb hr (fun t ht _ => tw_fin hR hS ht) hS.2.2 dX5_dearest_88
  · replace h := if_o c3 h
    refine lv_aload_n hx hb dX5_dearest_26 rfl (lv_at hl 0 rfl) ?_
    refine lv_iload hx hb dX5_dearest_27 (lv_at hl 4 rfl) ?_
    replace h := b2_o h
    obtain ⟨x6, T5, e4, h⟩ := h
    refine tw_callV 1 (As := [.int v6]) (rest := []) (v := (some (.int x6))) (T' := T5) (st1 := [.int x6]) hx hb hml hown hts hK hR (fun _ h9 => h9) (tw_A2 hR) hS (mX5_laysPath e4) (lw_V q2722 q2724 qs76 q137 q2725) (by decide +kernel) (Nat.le_of_ble_eq_true rfl) (Nat.le_of_ble_eq_true rfl) (Nat.zero_le _) (Nat.zero_le _) rfl hl.1 (Nat.le_of_ble_eq_true rfl) dX5_dearest_29 rfl rfl (fun H locs hR hS => ?_)
    refine lv_if_eq (tgt := 81) hx hb dX5_dearest_32 (by decide) (fun c7 => ?_) (fun c7 => ?_)
    · replace h := it_o c7 h
      exact bX5_dearest_81 B h k15 kR hR hS (lv_sub hl [0, 1, 2, 3, 4] rfl)
    · replace h := if_o c7 h
      refine lv_iload_n hx hb dX5_dearest_35 rfl (lv_at hl 1 rfl) ?_
      refine lv_iconst (v := (-1)) hx hb dX5_dearest_36 (by decide) ?_
      refine lv_icmp_eq (tgt := 62) hx hb dX5_dearest_37 (by decide) (fun c8 => ?_) (fun c8 => ?_)
      · replace h := it_o c8 h
        exact bX5_dearest_62 B h k15 kR hR hS (lv_sub hl [0, 4] rfl)
      · replace h := if_o c8 h
        refine lv_aload_n hx hb dX5_dearest_40 rfl (lv_at hl 0 rfl) ?_
        refine lv_iconst (v := 4) hx hb dX5_dearest_41 (by decide) ?_
        replace h := b2_o h
        obtain ⟨x11, T10, e9, h⟩ := h
        refine tw_callV 1 (As := [.int 4]) (rest := []) (v := (some (.int x11))) (T' := T10) (st1 := [.int x11]) hx hb hml hown hts hK hR (fun _ h9 => h9) (tw_A2 hR) hS (mX5_sumOf e9) (lw_V q2769 q2771 qs83 q137 q2772) (by decide +kernel) (Nat.le_of_ble_eq_true rfl) (Nat.le_of_ble_eq_true rfl) (Nat.zero_le _) (Nat.zero_le _) rfl hl.1 (Nat.le_of_ble_eq_true rfl) dX5_dearest_42 rfl rfl (fun H locs hR hS => ?_)
        refine lv_i2l hx hb dX5_dearest_45 rfl ?_
        refine lv_lload hx hb dX5_dearest_46 (lv_at hl 3 rfl) ?_
        refine lv_lmul hx hb dX5_dearest_48 ?_
        refine lv_lload_n hx hb dX5_dearest_49 rfl (lv_at hl 2 rfl) ?_
        refine lv_aload_n hx hb dX5_dearest_50 rfl (lv_at hl 0 rfl) ?_
        refine lv_iload hx hb dX5_dearest_51 (lv_at hl 4 rfl) ?_
        replace h := b2_o h
        obtain ⟨x14, T13, e12, h⟩ := h
        refine tw_callV 1 (As := [.int v6]) (rest := [.long v2, .long ((x11.toInt64) * v4)]) (v := (some (.int x14))) (T' := T13) (st1 := [.int x14, .long v2, .long ((x11.toInt64) * v4)]) hx hb hml hown hts hK hR (fun _ h9 => h9) (tw_A2 hR) hS (mX5_feltNow e12) (lw_V q2785 q2787 qs85 q137 q2788) (by decide +kernel) (Nat.le_of_ble_eq_true rfl) (Nat.le_of_ble_eq_true rfl) (Nat.zero_le _) (Nat.zero_le _) rfl hl.1 (Nat.le_of_ble_eq_true rfl) dX5_dearest_53 rfl rfl (fun H locs hR hS => ?_)
        refine lv_i2l hx hb dX5_dearest_56 rfl ?_
        refine lv_lmul hx hb dX5_dearest_57 ?_
        refine W.lcmp hx hb dX5_dearest_58 ?_
        refine lv_if_le (tgt := 81) hx hb dX5_dearest_59 (by decide) (fun c15 => ?_) (fun c15 => ?_)
        · replace h := it_o c15 h
          exact bX5_dearest_81 B h k15 kR hR hS (lv_sub hl [0, 1, 2, 3, 4] rfl)
        · replace h := if_o c15 h
          exact bX5_dearest_62 B h k15 kR hR hS (lv_sub hl [0, 4] rfl)
noncomputable def fX5_dearest_l15 (v1 : Int32) (v2 : Int64) (v4 : Int64) (v6 : Int32) (T : TW) : Option ((Int32 × TW)) := whileO (fun q => fX5_dearest_b15 q.1 q.2.1 q.2.2.1 q.2.2.2.1 q.2.2.2.2) (v1, v2, v4, v6, T)
theorem lX5_dearest_15 {p : Program} {l : Launch} {e : Env} {s : State} {m : MethodId} {args : Array Value} {below : List Frame} {meth : Method} {c : Code} {G : gE} {o : Nat} (B : gB G RX5 cX5_dearest 7 (some .int) p s m args meth c)  {r : (Int32 × TW)}   : ∀ (v1 : Int32) (v2 : Int64) (v4 : Int64) (v6 : Int32) (T : TW), fX5_dearest_l15 v1 v2 v4 v6 T = some r → ∀ (H : Heap) (locs : List Loc) (ls : Array Slot), RepT G o (T) H → va_S (tFr o) s.heap H locs → lv_has ls 7 [(0, .ref o), (1, .int v1), (2, .long v2), (4, .long v4), (6, .int v6)] → W p l e (gRm 7 156) s m args below meth c H locs 0 0 (twZ below args s G o (some (.int r.1)) r.2) (F0 m 15 ls []) := by
  intro v1 v2 v4 v6 T h
  refine wh_walk (body := (fun q => fX5_dearest_b15 q.1 q.2.1 q.2.2.1 q.2.2.2.1 q.2.2.2.2)) (P := (fun q : (Int32 × Int64 × Int64 × Int32 × TW) => ∀ (H : Heap) (locs : List Loc) (ls : Array Slot), RepT G o (q.2.2.2.2) H → va_S (tFr o) s.heap H locs → lv_has ls 7 [(0, .ref o), (1, .int (q.1)), (2, .long (q.2.1)), (4, .long (q.2.2.1)), (6, .int (q.2.2.2.1))] → W p l e (gRm 7 156) s m args below meth c H locs 0 0 (twZ below args s G o (some (.int r.1)) r.2) (F0 m 15 ls []))) (r := r) ?_ (v1, v2, v4, v6, T) h
  intro q y hy hL hr H locs ls hR hS hl
  exact bX5_dearest_15 (r := r) B hy (fun a0 a1 a2 a3 a4 e => hL (a0, a1, a2, a3, a4) e) (fun q e => hr q e) hR hS hl
noncomputable def fX5_dearest  (T : TW) : Option ((Int32 × TW)) :=
  nm_ (tsI T 6 0) fun T1 =>
  fX5_dearest_l15 (-1) 0 1 0 T1
theorem bX5_dearest_0 {p : Program} {l : Launch} {e : Env} {s : State} {m : MethodId} {args : Array Value} {below : List Frame} {meth : Method} {c : Code} {H : Heap} {locs : List Loc} {ls : Array Slot} {G : gE} {o : Nat} (B : gB G RX5 cX5_dearest 7 (some .int) p s m args meth c)  {T : TW} {r : (Int32 × TW)} (h : fX5_dearest T = some r)   (hR : RepT G o T H) (hS : va_S (tFr o) s.heap H locs) (hl : lv_has ls 7 [(0, .ref o)]) : W p l e (gRm 7 156) s m args below meth c H locs 0 0 (twZ below args s G o (some (.int r.1)) r.2) (F0 m 0 ls []) := by
  have B0 := B
  obtain ⟨hx, hb, hml, hown, hts, hr, hlk, hK⟩ := B0
  unfold fX5_dearest at h
  refine lv_aload_n hx hb dX5_dearest_0 rfl (lv_at hl 0 rfl) ?_
  refine lv_iconst (v := 0) hx hb dX5_dearest_1 (by decide) ?_
  replace h := nm_o h
  obtain ⟨T1, e2, h⟩ := h
  refine tw_putI (k := 6) (x := 0) (ty := .int) (T' := T1) hx hb hts hown hK hR (fun _ h9 => h9) hS (by decide) rfl e2 q2439 (fun _ h9 => h9) rfl (by decide +kernel) rfl rfl dX5_dearest_2 (fun H locs hR hS => ?_)
  refine lv_iconst (v := (-1)) hx hb dX5_dearest_5 (by decide) ?_
  refine lv_istore_n (lv' := [(1, .int (-1)), (0, .ref o)]) hx hb dX5_dearest_6 rfl hl (by decide) rfl (fun ls hl => ?_)
  refine lv_lconst (v := 0) hx hb dX5_dearest_7 (by decide) ?_
  refine lv_lstore_n (lv' := [(2, .long 0), (1, .int (-1)), (0, .ref o)]) hx hb dX5_dearest_8 rfl hl (by decide) rfl (fun ls hl => ?_)
  refine lv_lconst (v := 1) hx hb dX5_dearest_9 (by decide) ?_
  refine lv_lstore (lv' := [(4, .long 1), (2, .long 0), (1, .int (-1)), (0, .ref o)]) hx hb dX5_dearest_10 hl (by decide) rfl (fun ls hl => ?_)
  refine lv_iconst (v := 0) hx hb dX5_dearest_12 (by decide) ?_
  refine lv_istore (lv' := [(6, .int 0), (4, .long 1), (2, .long 0), (1, .int (-1)), (0, .ref o)]) hx hb dX5_dearest_13 hl (by decide) rfl (fun ls hl => ?_)
  exact lX5_dearest_15 B _ _ _ _ _ h H locs ls hR hS (lv_sub hl [4, 3, 2, 1, 0] rfl)
theorem mX5_dearest {l : Launch} {G : gE} {o : Nat}  {T : TW} {r : (Int32 × TW)}  (h : fX5_dearest T = some r) : twM l G o yX5_dearest cX5_dearest 7 (some .int) 7 156 [.ref o] T (some (.int r.1)) r.2 :=
  tw_of (by decide +kernel) (Nat.le_of_ble_eq_true rfl) (fun p e s m args below meth c ls B hR hl => bX5_dearest_0 B h hR va_S.rf hl)
noncomputable def fX5_doesUseWith (v1 : Int32) (v2 : Int32) (v3 : Int32) (T : TW) : Option ((Int32 × TW)) :=
  b2_ (fX5_arc v2 4 T) fun x3 T2 =>
  b2_ (fX5_atArc v2 4 T2) fun x6 T5 =>
  (wrA T5 1 172 x6 v3).bind fun T7 =>
  b2_ (fX5_doesUse v1 v2 T7) fun x11 T10 =>
  b2_ (fX5_atArc v2 4 T10) fun x14 T13 =>
  (wrA T13 1 172 x14 x3).bind fun T15 =>
  (bz_ x11).bind fun _ =>
  some (x11, T15)
theorem bX5_doesUseWith_0 {p : Program} {l : Launch} {e : Env} {s : State} {m : MethodId} {args : Array Value} {below : List Frame} {meth : Method} {c : Code} {H : Heap} {locs : List Loc} {ls : Array Slot} {G : gE} {o : Nat} (B : gB G RX5 cX5_doesUseWith 6 (some .boolean) p s m args meth c) {v1 : Int32} {v2 : Int32} {v3 : Int32} {T : TW} {r : (Int32 × TW)} (h : fX5_doesUseWith v1 v2 v3 T = some r)   (hR : RepT G o T H) (hS : va_S (tFr o) s.heap H locs) (hl : lv_has ls 6 [(0, .ref o), (1, .int v1), (2, .int v2), (3, .int v3)]) : W p l e (gRm 8 178) s m args below meth c H locs 0 0 (twZ below args s G o (some (.int r.1)) r.2) (F0 m 0 ls []) := by
  have B0 := B
  obtain ⟨hx, hb, hml, hown, hts, hr, hlk, hK⟩ := B0
  unfold fX5_doesUseWith at h
  refine lv_aload_n hx hb dX5_doesUseWith_0 rfl (lv_at hl 0 rfl) ?_
  refine lv_iload_n hx hb dX5_doesUseWith_1 rfl (lv_at hl 2 rfl) ?_
  refine lv_iconst (v := 4) hx hb dX5_doesUseWith_2 (by decide) ?_
  replace h := b2_o h
  obtain ⟨x3, T2, e1, h⟩ := h
  refine tw_callV 2 (As := [.int v2, .int 4]) (rest := []) (v := (some (.int x3))) (T' := T2) (st1 := [.int x3]) hx hb hml hown hts hK hR (fun _ h9 => h9) (tw_A2 hR) hS (mX5_arc e1) (lw_V q2637 q2639 qs69 q137 q2640) (by decide +kernel) (Nat.le_of_ble_eq_true rfl) (Nat.le_of_ble_eq_true rfl) (Nat.zero_le _) (Nat.zero_le _) rfl hl.1 (Nat.le_of_ble_eq_true rfl) dX5_doesUseWith_3 rfl rfl (fun H locs hR hS => ?_)
  refine lv_istore (lv' := [(4, .int x3), (0, .ref o), (1, .int v1), (2, .int v2), (3, .int v3)]) hx hb dX5_doesUseWith_6 hl (by decide) rfl (fun ls hl => ?_)
  refine lv_aload_n hx hb dX5_doesUseWith_8 rfl (lv_at hl 1 rfl) ?_
  refine tw_get (k := 0) (v := .ref (o + 1)) hx hb hts hown hK hR (by decide) q2433 rfl (fun _ h9 => h9) dX5_doesUseWith_9 ?_
  refine lv_iload_n hx hb dX5_doesUseWith_12 rfl (lv_at hl 3 rfl) ?_
  refine lv_iconst (v := 4) hx hb dX5_doesUseWith_13 (by decide) ?_
  replace h := b2_o h
  obtain ⟨x6, T5, e4, h⟩ := h
  refine tw_callS 2 (As := [.int v2, .int 4]) (rest := [.ref (o + 1)]) (v := (some (.int x6))) (T' := T5) (st1 := [.int x6, .ref (o + 1)]) hx hb hml hown hts hK hR (fun _ h9 => h9) (tw_A2 hR) hS (mX5_atArc e4) (lw_S q2605 q2606 q137 q2607) (by decide +kernel) (Nat.le_of_ble_eq_true rfl) (Nat.le_of_ble_eq_true rfl) (Nat.zero_le _) (Nat.zero_le _) rfl hl.1 (Nat.le_of_ble_eq_true rfl) dX5_doesUseWith_14 rfl rfl (fun H locs hR hS => ?_)
  refine lv_iload_n hx hb dX5_doesUseWith_17 rfl (lv_at hl 4 rfl) ?_
  replace h := bo_o h
  obtain ⟨T7, e8, h⟩ := h
  refine tw_iast (q := 1) hx hb hK hR (fun _ h9 => h9) hS rfl (fun _ => rfl) e8 dX5_doesUseWith_18 (fun H locs hR hS => ?_)
  refine lv_aload_n hx hb dX5_doesUseWith_19 rfl (lv_at hl 1 rfl) ?_
  refine lv_iload_n hx hb dX5_doesUseWith_20 rfl (lv_at hl 2 rfl) ?_
  refine lv_iload_n hx hb dX5_doesUseWith_21 rfl (lv_at hl 3 rfl) ?_
  replace h := b2_o h
  obtain ⟨x11, T10, e9, h⟩ := h
  refine tw_callV 2 (As := [.int v1, .int v2]) (rest := []) (v := (some (.int x11))) (T' := T10) (st1 := [.int x11]) hx hb hml hown hts hK hR (fun _ h9 => h9) (tw_A2 hR) hS (mX5_doesUse e9) (lw_V q2793 q2795 qs86 q137 q2796) (by decide +kernel) (Nat.le_of_ble_eq_true rfl) (Nat.le_of_ble_eq_true rfl) (Nat.zero_le _) (Nat.zero_le _) rfl hl.1 (Nat.le_of_ble_eq_true rfl) dX5_doesUseWith_22 rfl rfl (fun H locs hR hS => ?_)
  refine lv_istore (lv' := [(5, .int x11), (4, .int x3), (0, .ref o), (1, .int v1), (2, .int v2), (3, .int v3)]) hx hb dX5_doesUseWith_25 hl (by decide) rfl (fun ls hl => ?_)
  refine lv_aload_n hx hb dX5_doesUseWith_27 rfl (lv_at hl 2 rfl) ?_
  refine tw_get (k := 0) (v := .ref (o + 1)) hx hb hts hown hK hR (by decide) q2433 rfl (fun _ h9 => h9) dX5_doesUseWith_28 ?_
  refine lv_iload_n hx hb dX5_doesUseWith_31 rfl (lv_at hl 4 rfl) ?_
  refine lv_iconst (v := 4) hx hb dX5_doesUseWith_32 (by decide) ?_
  replace h := b2_o h
  obtain ⟨x14, T13, e12, h⟩ := h
  refine tw_callS 2 (As := [.int v2, .int 4]) (rest := [.ref (o + 1)]) (v := (some (.int x14))) (T' := T13) (st1 := [.int x14, .ref (o + 1)]) hx hb hml hown hts hK hR (fun _ h9 => h9) (tw_A2 hR) hS (mX5_atArc e12) (lw_S q2605 q2606 q137 q2607) (by decide +kernel) (Nat.le_of_ble_eq_true rfl) (Nat.le_of_ble_eq_true rfl) (Nat.zero_le _) (Nat.zero_le _) rfl hl.1 (Nat.le_of_ble_eq_true rfl) dX5_doesUseWith_33 rfl rfl (fun H locs hR hS => ?_)
  refine lv_iload hx hb dX5_doesUseWith_36 (lv_at hl 1 rfl) ?_
  replace h := bo_o h
  obtain ⟨T15, e16, h⟩ := h
  refine tw_iast (q := 1) hx hb hK hR (fun _ h9 => h9) hS rfl (fun _ => rfl) e16 dX5_doesUseWith_38 (fun H locs hR hS => ?_)
  refine lv_iload hx hb dX5_doesUseWith_39 (lv_at hl 0 rfl) ?_
  replace h := bo_o h
  obtain ⟨_, e17, h⟩ := h
  have eR := Option.some.inj h
  subst eR
  exact W.zret (v := x11) hx hb hr (bz_n e17) (fun t ht _ => tw_fin hR hS ht) hS.2.2 dX5_doesUseWith_41
theorem mX5_doesUseWith {l : Launch} {G : gE} {o : Nat} {v1 : Int32} {v2 : Int32} {v3 : Int32} {T : TW} {r : (Int32 × TW)}  (h : fX5_doesUseWith v1 v2 v3 T = some r) : twM l G o yX5_doesUseWith cX5_doesUseWith 6 (some .boolean) 8 178 [.ref o, .int v1, .int v2, .int v3] T (some (.int r.1)) r.2 :=
  tw_of (by decide +kernel) (Nat.le_of_ble_eq_true rfl) (fun p e s m args below meth c ls B hR hl => bX5_doesUseWith_0 B h hR va_S.rf hl)
noncomputable def fX5_keeps0_b118 (v2 : Int32) (T : TW) : Option ((Int32 × TW)) :=
  b2_ (fX5_arc v2 3 T) fun x3 T2 =>
  some (x3, T2)
theorem bX5_keeps0_118 {p : Program} {l : Launch} {e : Env} {s : State} {m : MethodId} {args : Array Value} {below : List Frame} {meth : Method} {c : Code} {H : Heap} {locs : List Loc} {ls : Array Slot} {G : gE} {o : Nat} (B : gB G RX5 cX5_keeps0 11 (some .int) p s m args meth c) {v2 : Int32} {T : TW} {r : (Int32 × TW)} (h : fX5_keeps0_b118 v2 T = some r)   (hR : RepT G o T H) (hS : va_S (tFr o) s.heap H locs) (hl : lv_has ls 11 [(0, .ref o), (2, .int v2)]) : W p l e (gRm 9 203) s m args below meth c H locs 0 0 (twZ below args s G o (some (.int r.1)) r.2) (F0 m 118 ls []) := by
  have B0 := B
  obtain ⟨hx, hb, hml, hown, hts, hr, hlk, hK⟩ := B0
  unfold fX5_keeps0_b118 at h
  refine lv_aload_n hx hb dX5_keeps0_118 rfl (lv_at hl 0 rfl) ?_
  refine lv_iload_n hx hb dX5_keeps0_119 rfl (lv_at hl 1 rfl) ?_
  refine lv_iconst (v := 3) hx hb dX5_keeps0_120 (by decide) ?_
  replace h := b2_o h
  obtain ⟨x3, T2, e1, h⟩ := h
  refine tw_callV 2 (As := [.int v2, .int 3]) (rest := []) (v := (some (.int x3))) (T' := T2) (st1 := [.int x3]) hx hb hml hown hts hK hR (fun _ h9 => h9) (tw_A2 hR) hS (mX5_arc e1) (lw_V q2637 q2639 qs69 q137 q2640) (by decide +kernel) (Nat.le_of_ble_eq_true rfl) (Nat.le_of_ble_eq_true rfl) (Nat.zero_le _) (Nat.zero_le _) rfl hl.1 (Nat.le_of_ble_eq_true rfl) dX5_keeps0_121 rfl rfl (fun H locs hR hS => ?_)
  have eR := Option.some.inj h
  subst eR
  exact W.iret (v := x3) hx hb hr (fun t ht _ => tw_fin hR hS ht) hS.2.2 dX5_keeps0_124
noncomputable def fX5_keeps0_b87 (v1 : Int32) (v2 : Int32) (v4 : Int64) (v6 : Int64) (s0 : Int64) (s1 : Int64) (T : TW) : Option ((Int32 × TW)) :=
  nm_ (s0 + s1) fun x1 =>
  if 0 ≤ lg_cmp v6 2305843009213693951 then (
    fX5_keeps0_b118 v2 T
  ) else (
    (nzL x1).bind fun _ =>
    b2_ (fX5_arc v2 3 T) fun x7 T6 =>
    if lg_cmp ((v6 - v4) / x1) (x7.toInt64) ≤ 0 then (
      (nzL x1).bind fun _ =>
      nm_ (((v6 - v4) / x1).toInt32) fun x10 =>
      b2_ (fX5_doesUseWith v1 v2 x10 T6) fun x14 T13 =>
      if x14 = 0 then (
        some (x10 - 1, T13)
      ) else (
        some (x10, T13)
      )
    ) else (
      fX5_keeps0_b118 v2 T6
    )
  )
theorem bX5_keeps0_87 {p : Program} {l : Launch} {e : Env} {s : State} {m : MethodId} {args : Array Value} {below : List Frame} {meth : Method} {c : Code} {H : Heap} {locs : List Loc} {ls : Array Slot} {G : gE} {o : Nat} (B : gB G RX5 cX5_keeps0 11 (some .int) p s m args meth c) {v1 : Int32} {v2 : Int32} {v4 : Int64} {v6 : Int64} {s0 : Int64} {s1 : Int64} {T : TW} {r : (Int32 × TW)} (h : fX5_keeps0_b87 v1 v2 v4 v6 s0 s1 T = some r)   (hR : RepT G o T H) (hS : va_S (tFr o) s.heap H locs) (hl : lv_has ls 11 [(0, .ref o), (1, .int v1), (2, .int v2), (4, .long v4), (6, .long v6)]) : W p l e (gRm 9 203) s m args below meth c H locs 0 0 (twZ below args s G o (some (.int r.1)) r.2) (F0 m 87 ls [.long s1, .long s0]) := by
  have B0 := B
  obtain ⟨hx, hb, hml, hown, hts, hr, hlk, hK⟩ := B0
  unfold fX5_keeps0_b87 at h
  refine lv_ladd hx hb dX5_keeps0_87 ?_
  replace h := nm_o h
  obtain ⟨x1, e2, h⟩ := h
  refine lv_lstore (lv' := [(8, .long x1), (0, .ref o), (1, .int v1), (2, .int v2), (4, .long v4), (6, .long v6)]) hx hb dX5_keeps0_88 hl (by decide) (by subst e2; rfl) (fun ls hl => ?_)
  refine lv_lload hx hb dX5_keeps0_90 (lv_at hl 5 rfl) ?_
  refine lv_ldc2 (v := 2305843009213693951) hx hb hown (hts _ q2734) dX5_keeps0_92 ?_
  refine W.lcmp hx hb dX5_keeps0_95 ?_
  refine lv_if_ge (tgt := 118) hx hb dX5_keeps0_96 (by decide) (fun c3 => ?_) (fun c3 => ?_)
  · replace h := it_o c3 h
    exact bX5_keeps0_118 B h  hR hS (lv_sub hl [1, 3] rfl)
  · replace h := if_o c3 h
    refine lv_lload hx hb dX5_keeps0_99 (lv_at hl 5 rfl) ?_
    refine lv_lload hx hb dX5_keeps0_101 (lv_at hl 4 rfl) ?_
    refine lv_lsub hx hb dX5_keeps0_103 ?_
    refine lv_lload hx hb dX5_keeps0_104 (lv_at hl 0 rfl) ?_
    replace h := bo_o h
    obtain ⟨_, e4, h⟩ := h
    refine lv_ldiv hx hb dX5_keeps0_106 (nzL_o e4) ?_
    refine lv_aload_n hx hb dX5_keeps0_107 rfl (lv_at hl 1 rfl) ?_
    refine lv_iload_n hx hb dX5_keeps0_108 rfl (lv_at hl 3 rfl) ?_
    refine lv_iconst (v := 3) hx hb dX5_keeps0_109 (by decide) ?_
    replace h := b2_o h
    obtain ⟨x7, T6, e5, h⟩ := h
    refine tw_callV 2 (As := [.int v2, .int 3]) (rest := [.long ((v6 - v4) / x1)]) (v := (some (.int x7))) (T' := T6) (st1 := [.int x7, .long ((v6 - v4) / x1)]) hx hb hml hown hts hK hR (fun _ h9 => h9) (tw_A2 hR) hS (mX5_arc e5) (lw_V q2637 q2639 qs69 q137 q2640) (by decide +kernel) (Nat.le_of_ble_eq_true rfl) (Nat.le_of_ble_eq_true rfl) (Nat.zero_le _) (Nat.zero_le _) rfl hl.1 (Nat.le_of_ble_eq_true rfl) dX5_keeps0_110 rfl rfl (fun H locs hR hS => ?_)
    refine lv_i2l hx hb dX5_keeps0_113 rfl ?_
    refine W.lcmp hx hb dX5_keeps0_114 ?_
    refine lv_if_le (tgt := 125) hx hb dX5_keeps0_115 (by decide) (fun c8 => ?_) (fun c8 => ?_)
    · replace h := it_o c8 h
      refine lv_lload hx hb dX5_keeps0_125 (lv_at hl 5 rfl) ?_
      refine lv_lload hx hb dX5_keeps0_127 (lv_at hl 4 rfl) ?_
      refine lv_lsub hx hb dX5_keeps0_129 ?_
      refine lv_lload hx hb dX5_keeps0_130 (lv_at hl 0 rfl) ?_
      replace h := bo_o h
      obtain ⟨_, e9, h⟩ := h
      refine lv_ldiv hx hb dX5_keeps0_132 (nzL_o e9) ?_
      refine lv_l2i hx hb dX5_keeps0_133 rfl ?_
      replace h := nm_o h
      obtain ⟨x10, e11, h⟩ := h
      refine lv_istore (lv' := [(10, .int x10), (8, .long x1), (0, .ref o), (1, .int v1), (2, .int v2), (4, .long v4), (6, .long v6)]) hx hb dX5_keeps0_134 hl (by decide) (by subst e11; rfl) (fun ls hl => ?_)
      refine lv_aload_n hx hb dX5_keeps0_136 rfl (lv_at hl 2 rfl) ?_
      refine lv_iload_n hx hb dX5_keeps0_137 rfl (lv_at hl 3 rfl) ?_
      refine lv_iload_n hx hb dX5_keeps0_138 rfl (lv_at hl 4 rfl) ?_
      refine lv_iload hx hb dX5_keeps0_139 (lv_at hl 0 rfl) ?_
      replace h := b2_o h
      obtain ⟨x14, T13, e12, h⟩ := h
      refine tw_callV 3 (As := [.int v1, .int v2, .int x10]) (rest := []) (v := (some (.int x14))) (T' := T13) (st1 := [.int x14]) hx hb hml hown hts hK hR (fun _ h9 => h9) (tw_A2 hR) hS (mX5_doesUseWith e12) (lw_V q2909 q2911 qs100 q137 q2912) (by decide +kernel) (Nat.le_of_ble_eq_true rfl) (Nat.le_of_ble_eq_true rfl) (Nat.zero_le _) (Nat.zero_le _) rfl hl.1 (Nat.le_of_ble_eq_true rfl) dX5_keeps0_141 rfl rfl (fun H locs hR hS => ?_)
      refine lv_if_eq (tgt := 152) hx hb dX5_keeps0_144 (by decide) (fun c15 => ?_) (fun c15 => ?_)
      · replace h := it_o c15 h
        refine lv_iload hx hb dX5_keeps0_152 (lv_at hl 0 rfl) ?_
        refine lv_iconst (v := 1) hx hb dX5_keeps0_154 (by decide) ?_
        refine lv_isub hx hb dX5_keeps0_155 ?_
        have eR := Option.some.inj h
        subst eR
        exact W.iret (v := x10 - 1) hx hb hr (fun t ht _ => tw_fin hR hS ht) hS.2.2 dX5_keeps0_156
      · replace h := if_o c15 h
        refine lv_iload hx hb dX5_keeps0_147 (lv_at hl 0 rfl) ?_
        refine lv_goto (tgt := 156) hx hb dX5_keeps0_149 (by decide) ?_
        have eR := Option.some.inj h
        subst eR
        exact W.iret (v := x10) hx hb hr (fun t ht _ => tw_fin hR hS ht) hS.2.2 dX5_keeps0_156
    · replace h := if_o c8 h
      exact bX5_keeps0_118 B h  hR hS (lv_sub hl [1, 3] rfl)
noncomputable def fX5_keeps0 (v1 : Int32) (v2 : Int32) (T : TW) : Option ((Int32 × TW)) :=
  b2_ (fX5_doesUseWith v1 v2 0 T) fun x3 T2 =>
  if x3 = 0 then (
    some ((-1), T2)
  ) else (
    b2_ (fX5_arc v2 4 T2) fun x7 T6 =>
    b2_ (fX5_atArc v2 4 T6) fun x10 T9 =>
    (wrA T9 1 172 x10 0).bind fun T11 =>
    b2_ (fX5_best v1 T11) fun x15 T14 =>
    nm_ (tsI T14 18 v2) fun T16 =>
    b2_ (fX5_best v1 T16) fun x20 T19 =>
    nm_ (tsI T19 18 (-1)) fun T21 =>
    b2_ (fX5_atArc v2 4 T21) fun x25 T24 =>
    (wrA T24 1 172 x25 x7).bind fun T26 =>
    (rd_ (tA T26 1) 172 3).bind fun x28 =>
    if x28 = 1 then (
      fX5_keeps0_b87 v1 v2 x15 x20 1000000000 (-100) T26
    ) else (
      fX5_keeps0_b87 v1 v2 x15 x20 1000000000 100 T26
    )
  )
theorem bX5_keeps0_0 {p : Program} {l : Launch} {e : Env} {s : State} {m : MethodId} {args : Array Value} {below : List Frame} {meth : Method} {c : Code} {H : Heap} {locs : List Loc} {ls : Array Slot} {G : gE} {o : Nat} (B : gB G RX5 cX5_keeps0 11 (some .int) p s m args meth c) {v1 : Int32} {v2 : Int32} {T : TW} {r : (Int32 × TW)} (h : fX5_keeps0 v1 v2 T = some r)   (hR : RepT G o T H) (hS : va_S (tFr o) s.heap H locs) (hl : lv_has ls 11 [(0, .ref o), (1, .int v1), (2, .int v2)]) : W p l e (gRm 9 203) s m args below meth c H locs 0 0 (twZ below args s G o (some (.int r.1)) r.2) (F0 m 0 ls []) := by
  have B0 := B
  obtain ⟨hx, hb, hml, hown, hts, hr, hlk, hK⟩ := B0
  unfold fX5_keeps0 at h
  refine lv_aload_n hx hb dX5_keeps0_0 rfl (lv_at hl 0 rfl) ?_
  refine lv_iload_n hx hb dX5_keeps0_1 rfl (lv_at hl 1 rfl) ?_
  refine lv_iload_n hx hb dX5_keeps0_2 rfl (lv_at hl 2 rfl) ?_
  refine lv_iconst (v := 0) hx hb dX5_keeps0_3 (by decide) ?_
  replace h := b2_o h
  obtain ⟨x3, T2, e1, h⟩ := h
  refine tw_callV 3 (As := [.int v1, .int v2, .int 0]) (rest := []) (v := (some (.int x3))) (T' := T2) (st1 := [.int x3]) hx hb hml hown hts hK hR (fun _ h9 => h9) (tw_A2 hR) hS (mX5_doesUseWith e1) (lw_V q2909 q2911 qs100 q137 q2912) (by decide +kernel) (Nat.le_of_ble_eq_true rfl) (Nat.le_of_ble_eq_true rfl) (Nat.zero_le _) (Nat.zero_le _) rfl hl.1 (Nat.le_of_ble_eq_true rfl) dX5_keeps0_4 rfl rfl (fun H locs hR hS => ?_)
  refine lv_if_ne (tgt := 12) hx hb dX5_keeps0_7 (by decide) (fun c4 => ?_) (fun c4 => ?_)
  · replace h := if_o c4 h
    refine lv_aload_n hx hb dX5_keeps0_12 rfl (lv_at hl 0 rfl) ?_
    refine lv_iload_n hx hb dX5_keeps0_13 rfl (lv_at hl 2 rfl) ?_
    refine lv_iconst (v := 4) hx hb dX5_keeps0_14 (by decide) ?_
    replace h := b2_o h
    obtain ⟨x7, T6, e5, h⟩ := h
    refine tw_callV 2 (As := [.int v2, .int 4]) (rest := []) (v := (some (.int x7))) (T' := T6) (st1 := [.int x7]) hx hb hml hown hts hK hR (fun _ h9 => h9) (tw_A2 hR) hS (mX5_arc e5) (lw_V q2637 q2639 qs69 q137 q2640) (by decide +kernel) (Nat.le_of_ble_eq_true rfl) (Nat.le_of_ble_eq_true rfl) (Nat.zero_le _) (Nat.zero_le _) rfl hl.1 (Nat.le_of_ble_eq_true rfl) dX5_keeps0_15 rfl rfl (fun H locs hR hS => ?_)
    refine lv_istore_n (lv' := [(3, .int x7), (0, .ref o), (1, .int v1), (2, .int v2)]) hx hb dX5_keeps0_18 rfl hl (by decide) rfl (fun ls hl => ?_)
    refine lv_aload_n hx hb dX5_keeps0_19 rfl (lv_at hl 1 rfl) ?_
    refine tw_get (k := 0) (v := .ref (o + 1)) hx hb hts hown hK hR (by decide) q2433 rfl (fun _ h9 => h9) dX5_keeps0_20 ?_
    refine lv_iload_n hx hb dX5_keeps0_23 rfl (lv_at hl 3 rfl) ?_
    refine lv_iconst (v := 4) hx hb dX5_keeps0_24 (by decide) ?_
    replace h := b2_o h
    obtain ⟨x10, T9, e8, h⟩ := h
    refine tw_callS 2 (As := [.int v2, .int 4]) (rest := [.ref (o + 1)]) (v := (some (.int x10))) (T' := T9) (st1 := [.int x10, .ref (o + 1)]) hx hb hml hown hts hK hR (fun _ h9 => h9) (tw_A2 hR) hS (mX5_atArc e8) (lw_S q2605 q2606 q137 q2607) (by decide +kernel) (Nat.le_of_ble_eq_true rfl) (Nat.le_of_ble_eq_true rfl) (Nat.zero_le _) (Nat.zero_le _) rfl hl.1 (Nat.le_of_ble_eq_true rfl) dX5_keeps0_25 rfl rfl (fun H locs hR hS => ?_)
    refine lv_iconst (v := 0) hx hb dX5_keeps0_28 (by decide) ?_
    replace h := bo_o h
    obtain ⟨T11, e12, h⟩ := h
    refine tw_iast (q := 1) hx hb hK hR (fun _ h9 => h9) hS rfl (fun _ => rfl) e12 dX5_keeps0_29 (fun H locs hR hS => ?_)
    refine lv_aload_n hx hb dX5_keeps0_30 rfl (lv_at hl 1 rfl) ?_
    refine lv_iload_n hx hb dX5_keeps0_31 rfl (lv_at hl 2 rfl) ?_
    replace h := b2_o h
    obtain ⟨x15, T14, e13, h⟩ := h
    refine tw_callV 1 (As := [.int v1]) (rest := []) (v := (some (.long x15))) (T' := T14) (st1 := [.long x15]) hx hb hml hown hts hK hR (fun _ h9 => h9) (tw_A2 hR) hS (mX5_best e13) (lw_V q2726 q2728 qs77 q137 q2729) (by decide +kernel) (Nat.le_of_ble_eq_true rfl) (Nat.le_of_ble_eq_true rfl) (Nat.zero_le _) (Nat.zero_le _) rfl hl.1 (Nat.le_of_ble_eq_true rfl) dX5_keeps0_32 rfl rfl (fun H locs hR hS => ?_)
    refine lv_lstore (lv' := [(4, .long x15), (3, .int x7), (0, .ref o), (1, .int v1), (2, .int v2)]) hx hb dX5_keeps0_35 hl (by decide) rfl (fun ls hl => ?_)
    refine lv_aload_n hx hb dX5_keeps0_37 rfl (lv_at hl 2 rfl) ?_
    refine lv_iload_n hx hb dX5_keeps0_38 rfl (lv_at hl 4 rfl) ?_
    replace h := nm_o h
    obtain ⟨T16, e17, h⟩ := h
    refine tw_putI (k := 18) (x := v2) (ty := .int) (T' := T16) hx hb hts hown hK hR (fun _ h9 => h9) hS (by decide) rfl e17 q2451 (fun _ h9 => h9) rfl (by decide +kernel) rfl rfl dX5_keeps0_39 (fun H locs hR hS => ?_)
    refine lv_aload_n hx hb dX5_keeps0_42 rfl (lv_at hl 2 rfl) ?_
    refine lv_iload_n hx hb dX5_keeps0_43 rfl (lv_at hl 3 rfl) ?_
    replace h := b2_o h
    obtain ⟨x20, T19, e18, h⟩ := h
    refine tw_callV 1 (As := [.int v1]) (rest := []) (v := (some (.long x20))) (T' := T19) (st1 := [.long x20]) hx hb hml hown hts hK hR (fun _ h9 => h9) (tw_A2 hR) hS (mX5_best e18) (lw_V q2726 q2728 qs77 q137 q2729) (by decide +kernel) (Nat.le_of_ble_eq_true rfl) (Nat.le_of_ble_eq_true rfl) (Nat.zero_le _) (Nat.zero_le _) rfl hl.1 (Nat.le_of_ble_eq_true rfl) dX5_keeps0_44 rfl rfl (fun H locs hR hS => ?_)
    refine lv_lstore (lv' := [(6, .long x20), (4, .long x15), (3, .int x7), (0, .ref o), (1, .int v1), (2, .int v2)]) hx hb dX5_keeps0_47 hl (by decide) rfl (fun ls hl => ?_)
    refine lv_aload_n hx hb dX5_keeps0_49 rfl (lv_at hl 3 rfl) ?_
    refine lv_iconst (v := (-1)) hx hb dX5_keeps0_50 (by decide) ?_
    replace h := nm_o h
    obtain ⟨T21, e22, h⟩ := h
    refine tw_putI (k := 18) (x := (-1)) (ty := .int) (T' := T21) hx hb hts hown hK hR (fun _ h9 => h9) hS (by decide) rfl e22 q2451 (fun _ h9 => h9) rfl (by decide +kernel) rfl rfl dX5_keeps0_51 (fun H locs hR hS => ?_)
    refine lv_aload_n hx hb dX5_keeps0_54 rfl (lv_at hl 3 rfl) ?_
    refine tw_get (k := 0) (v := .ref (o + 1)) hx hb hts hown hK hR (by decide) q2433 rfl (fun _ h9 => h9) dX5_keeps0_55 ?_
    refine lv_iload_n hx hb dX5_keeps0_58 rfl (lv_at hl 5 rfl) ?_
    refine lv_iconst (v := 4) hx hb dX5_keeps0_59 (by decide) ?_
    replace h := b2_o h
    obtain ⟨x25, T24, e23, h⟩ := h
    refine tw_callS 2 (As := [.int v2, .int 4]) (rest := [.ref (o + 1)]) (v := (some (.int x25))) (T' := T24) (st1 := [.int x25, .ref (o + 1)]) hx hb hml hown hts hK hR (fun _ h9 => h9) (tw_A2 hR) hS (mX5_atArc e23) (lw_S q2605 q2606 q137 q2607) (by decide +kernel) (Nat.le_of_ble_eq_true rfl) (Nat.le_of_ble_eq_true rfl) (Nat.zero_le _) (Nat.zero_le _) rfl hl.1 (Nat.le_of_ble_eq_true rfl) dX5_keeps0_60 rfl rfl (fun H locs hR hS => ?_)
    refine lv_iload_n hx hb dX5_keeps0_63 rfl (lv_at hl 2 rfl) ?_
    replace h := bo_o h
    obtain ⟨T26, e27, h⟩ := h
    refine tw_iast (q := 1) hx hb hK hR (fun _ h9 => h9) hS rfl (fun _ => rfl) e27 dX5_keeps0_64 (fun H locs hR hS => ?_)
    refine lv_ldc2 (v := 1000000000) hx hb hown (hts _ q2746) dX5_keeps0_65 ?_
    refine lv_aload_n hx hb dX5_keeps0_68 rfl (lv_at hl 3 rfl) ?_
    refine tw_get (k := 0) (v := .ref (o + 1)) hx hb hts hown hK hR (by decide) q2433 rfl (fun _ h9 => h9) dX5_keeps0_69 ?_
    refine lv_iconst (v := 3) hx hb dX5_keeps0_72 (by decide) ?_
    replace h := bo_o h
    obtain ⟨x28, e29, h⟩ := h
    refine tw_iald (q := 1) hx hb hK hR rfl e29 dX5_keeps0_73 ?_
    refine lv_iconst (v := 1) hx hb dX5_keeps0_74 (by decide) ?_
    refine lv_icmp_ne (tgt := 84) hx hb dX5_keeps0_75 (by decide) (fun c30 => ?_) (fun c30 => ?_)
    · replace h := if_o c30 h
      refine lv_ldc2 (v := 100) hx hb hown (hts _ q2752) dX5_keeps0_84 ?_
      exact bX5_keeps0_87 B h  hR hS (lv_sub hl [3, 4, 5, 1, 0] rfl)
    · replace h := it_o c30 h
      refine lv_ldc2 (v := (-100)) hx hb hown (hts _ q2751) dX5_keeps0_78 ?_
      refine lv_goto (tgt := 87) hx hb dX5_keeps0_81 (by decide) ?_
      exact bX5_keeps0_87 B h  hR hS (lv_sub hl [3, 4, 5, 1, 0] rfl)
  · replace h := it_o c4 h
    refine lv_iconst (v := (-1)) hx hb dX5_keeps0_10 (by decide) ?_
    have eR := Option.some.inj h
    subst eR
    exact W.iret (v := (-1)) hx hb hr (fun t ht _ => tw_fin hR hS ht) hS.2.2 dX5_keeps0_11
theorem mX5_keeps0 {l : Launch} {G : gE} {o : Nat} {v1 : Int32} {v2 : Int32} {T : TW} {r : (Int32 × TW)}  (h : fX5_keeps0 v1 v2 T = some r) : twM l G o yX5_keeps0 cX5_keeps0 11 (some .int) 9 203 [.ref o, .int v1, .int v2] T (some (.int r.1)) r.2 :=
  tw_of (by decide +kernel) (Nat.le_of_ble_eq_true rfl) (fun p e s m args below meth c ls B hR hl => bX5_keeps0_0 B h hR va_S.rf hl)
noncomputable def fX5_keepToll_b22 (v1 : Int32) (v2 : Int32) (s1 : Int32) (T : TW) : Option ((Int32 × TW)) :=
  b2_ (fX5_isThrown s1 1 T) fun x3 T2 =>
  if x3 = 0 then (
    b2_ (fX5_keeps0 v1 v2 T2) fun x7 T6 =>
    some (x7, T6)
  ) else (
    some (0, T2)
  )
theorem bX5_keepToll_22 {p : Program} {l : Launch} {e : Env} {s : State} {m : MethodId} {args : Array Value} {below : List Frame} {meth : Method} {c : Code} {H : Heap} {locs : List Loc} {ls : Array Slot} {G : gE} {o : Nat} (B : gB G RX5 cX5_keepToll 3 (some .int) p s m args meth c) {v1 : Int32} {v2 : Int32} {s1 : Int32} {T : TW} {r : (Int32 × TW)} (h : fX5_keepToll_b22 v1 v2 s1 T = some r)   (hR : RepT G o T H) (hS : va_S (tFr o) s.heap H locs) (hl : lv_has ls 3 [(0, .ref o), (1, .int v1), (2, .int v2)]) : W p l e (gRm 10 233) s m args below meth c H locs 0 0 (twZ below args s G o (some (.int r.1)) r.2) (F0 m 22 ls [.int s1, .ref o]) := by
  have B0 := B
  obtain ⟨hx, hb, hml, hown, hts, hr, hlk, hK⟩ := B0
  unfold fX5_keepToll_b22 at h
  refine lv_iconst (v := 1) hx hb dX5_keepToll_22 (by decide) ?_
  replace h := b2_o h
  obtain ⟨x3, T2, e1, h⟩ := h
  refine tw_callV 2 (As := [.int s1, .int 1]) (rest := []) (v := (some (.int x3))) (T' := T2) (st1 := [.int x3]) hx hb hml hown hts hK hR (fun _ h9 => h9) (tw_A2 hR) hS (mX5_isThrown e1) (lw_V q2633 q2635 qs68 q137 q2636) (by decide +kernel) (Nat.le_of_ble_eq_true rfl) (Nat.le_of_ble_eq_true rfl) (Nat.zero_le _) (Nat.zero_le _) rfl hl.1 (Nat.le_of_ble_eq_true rfl) dX5_keepToll_23 rfl rfl (fun H locs hR hS => ?_)
  refine lv_if_eq (tgt := 33) hx hb dX5_keepToll_26 (by decide) (fun c4 => ?_) (fun c4 => ?_)
  · replace h := it_o c4 h
    refine lv_aload_n hx hb dX5_keepToll_33 rfl (lv_at hl 0 rfl) ?_
    refine lv_iload_n hx hb dX5_keepToll_34 rfl (lv_at hl 1 rfl) ?_
    refine lv_iload_n hx hb dX5_keepToll_35 rfl (lv_at hl 2 rfl) ?_
    replace h := b2_o h
    obtain ⟨x7, T6, e5, h⟩ := h
    refine tw_callV 2 (As := [.int v1, .int v2]) (rest := []) (v := (some (.int x7))) (T' := T6) (st1 := [.int x7]) hx hb hml hown hts hK hR (fun _ h9 => h9) (tw_A2 hR) hS (mX5_keeps0 e5) (lw_V q2905 q2907 qs99 q137 q2908) (by decide +kernel) (Nat.le_of_ble_eq_true rfl) (Nat.le_of_ble_eq_true rfl) (Nat.zero_le _) (Nat.zero_le _) rfl hl.1 (Nat.le_of_ble_eq_true rfl) dX5_keepToll_36 rfl rfl (fun H locs hR hS => ?_)
    have eR := Option.some.inj h
    subst eR
    exact W.iret (v := x7) hx hb hr (fun t ht _ => tw_fin hR hS ht) hS.2.2 dX5_keepToll_39
  · replace h := if_o c4 h
    refine lv_iconst (v := 0) hx hb dX5_keepToll_29 (by decide) ?_
    refine lv_goto (tgt := 39) hx hb dX5_keepToll_30 (by decide) ?_
    have eR := Option.some.inj h
    subst eR
    exact W.iret (v := 0) hx hb hr (fun t ht _ => tw_fin hR hS ht) hS.2.2 dX5_keepToll_39
noncomputable def fX5_keepToll_b21 (v1 : Int32) (v2 : Int32) (T : TW) : Option ((Int32 × TW)) :=
  fX5_keepToll_b22 v1 v2 0 T
theorem bX5_keepToll_21 {p : Program} {l : Launch} {e : Env} {s : State} {m : MethodId} {args : Array Value} {below : List Frame} {meth : Method} {c : Code} {H : Heap} {locs : List Loc} {ls : Array Slot} {G : gE} {o : Nat} (B : gB G RX5 cX5_keepToll 3 (some .int) p s m args meth c) {v1 : Int32} {v2 : Int32} {T : TW} {r : (Int32 × TW)} (h : fX5_keepToll_b21 v1 v2 T = some r)   (hR : RepT G o T H) (hS : va_S (tFr o) s.heap H locs) (hl : lv_has ls 3 [(0, .ref o), (1, .int v1), (2, .int v2)]) : W p l e (gRm 10 233) s m args below meth c H locs 0 0 (twZ below args s G o (some (.int r.1)) r.2) (F0 m 21 ls [.ref o]) := by
  have B0 := B
  obtain ⟨hx, hb, hml, hown, hts, hr, hlk, hK⟩ := B0
  unfold fX5_keepToll_b21 at h
  refine lv_iconst (v := 0) hx hb dX5_keepToll_21 (by decide) ?_
  exact bX5_keepToll_22 B h  hR hS (lv_sub hl [0, 1, 2] rfl)
noncomputable def fX5_keepToll (v1 : Int32) (v2 : Int32) (T : TW) : Option ((Int32 × TW)) :=
  b2_ (fX5_isTrip v1 T) fun x3 T2 =>
  if x3 = 0 then (
    fX5_keepToll_b21 v1 v2 T2
  ) else (
    b2_ (fX5_isArc v2 T2) fun x7 T6 =>
    if x7 = 0 then (
      fX5_keepToll_b21 v1 v2 T6
    ) else (
      fX5_keepToll_b22 v1 v2 1 T6
    )
  )
theorem bX5_keepToll_0 {p : Program} {l : Launch} {e : Env} {s : State} {m : MethodId} {args : Array Value} {below : List Frame} {meth : Method} {c : Code} {H : Heap} {locs : List Loc} {ls : Array Slot} {G : gE} {o : Nat} (B : gB G RX5 cX5_keepToll 3 (some .int) p s m args meth c) {v1 : Int32} {v2 : Int32} {T : TW} {r : (Int32 × TW)} (h : fX5_keepToll v1 v2 T = some r)   (hR : RepT G o T H) (hS : va_S (tFr o) s.heap H locs) (hl : lv_has ls 3 [(0, .ref o), (1, .int v1), (2, .int v2)]) : W p l e (gRm 10 233) s m args below meth c H locs 0 0 (twZ below args s G o (some (.int r.1)) r.2) (F0 m 0 ls []) := by
  have B0 := B
  obtain ⟨hx, hb, hml, hown, hts, hr, hlk, hK⟩ := B0
  unfold fX5_keepToll at h
  refine lv_aload_n hx hb dX5_keepToll_0 rfl (lv_at hl 0 rfl) ?_
  refine lv_aload_n hx hb dX5_keepToll_1 rfl (lv_at hl 0 rfl) ?_
  refine lv_iload_n hx hb dX5_keepToll_2 rfl (lv_at hl 1 rfl) ?_
  replace h := b2_o h
  obtain ⟨x3, T2, e1, h⟩ := h
  refine tw_callV 1 (As := [.int v1]) (rest := [.ref o]) (v := (some (.int x3))) (T' := T2) (st1 := [.int x3, .ref o]) hx hb hml hown hts hK hR (fun _ h9 => h9) (tw_A2 hR) hS (mX5_isTrip e1) (lw_V q2653 q2655 qs71 q137 q2656) (by decide +kernel) (Nat.le_of_ble_eq_true rfl) (Nat.le_of_ble_eq_true rfl) (Nat.zero_le _) (Nat.zero_le _) rfl hl.1 (Nat.le_of_ble_eq_true rfl) dX5_keepToll_3 rfl rfl (fun H locs hR hS => ?_)
  refine lv_if_eq (tgt := 21) hx hb dX5_keepToll_6 (by decide) (fun c4 => ?_) (fun c4 => ?_)
  · replace h := it_o c4 h
    exact bX5_keepToll_21 B h  hR hS (lv_sub hl [0, 1, 2] rfl)
  · replace h := if_o c4 h
    refine lv_aload_n hx hb dX5_keepToll_9 rfl (lv_at hl 0 rfl) ?_
    refine lv_iload_n hx hb dX5_keepToll_10 rfl (lv_at hl 2 rfl) ?_
    replace h := b2_o h
    obtain ⟨x7, T6, e5, h⟩ := h
    refine tw_callV 1 (As := [.int v2]) (rest := [.ref o]) (v := (some (.int x7))) (T' := T6) (st1 := [.int x7, .ref o]) hx hb hml hown hts hK hR (fun _ h9 => h9) (tw_A2 hR) hS (mX5_isArc e5) (lw_V q2645 q2647 qs70 q137 q2648) (by decide +kernel) (Nat.le_of_ble_eq_true rfl) (Nat.le_of_ble_eq_true rfl) (Nat.zero_le _) (Nat.zero_le _) rfl hl.1 (Nat.le_of_ble_eq_true rfl) dX5_keepToll_11 rfl rfl (fun H locs hR hS => ?_)
    refine lv_if_eq (tgt := 21) hx hb dX5_keepToll_14 (by decide) (fun c8 => ?_) (fun c8 => ?_)
    · replace h := it_o c8 h
      exact bX5_keepToll_21 B h  hR hS (lv_sub hl [0, 1, 2] rfl)
    · replace h := if_o c8 h
      refine lv_iconst (v := 1) hx hb dX5_keepToll_17 (by decide) ?_
      refine lv_goto (tgt := 22) hx hb dX5_keepToll_18 (by decide) ?_
      exact bX5_keepToll_22 B h  hR hS (lv_sub hl [0, 1, 2] rfl)
theorem mX5_keepToll {l : Launch} {G : gE} {o : Nat} {v1 : Int32} {v2 : Int32} {T : TW} {r : (Int32 × TW)}  (h : fX5_keepToll v1 v2 T = some r) : twM l G o yX5_keepToll cX5_keepToll 3 (some .int) 10 233 [.ref o, .int v1, .int v2] T (some (.int r.1)) r.2 :=
  tw_of (by decide +kernel) (Nat.le_of_ble_eq_true rfl) (fun p e s m args below meth c ls B hR hl => bX5_keepToll_0 B h hR va_S.rf hl)
noncomputable def fX5_allWith (v1 : Int32) (v2 : Int32) (T : TW) : Option ((Int64 × TW)) :=
  b2_ (fX5_arc v1 4 T) fun x3 T2 =>
  b2_ (fX5_atArc v1 4 T2) fun x6 T5 =>
  (wrA T5 1 172 x6 v2).bind fun T7 =>
  b2_ (fX5_all T7) fun x11 T10 =>
  b2_ (fX5_atArc v1 4 T10) fun x14 T13 =>
  (wrA T13 1 172 x14 x3).bind fun T15 =>
  some (x11, T15)
theorem bX5_allWith_0 {p : Program} {l : Launch} {e : Env} {s : State} {m : MethodId} {args : Array Value} {below : List Frame} {meth : Method} {c : Code} {H : Heap} {locs : List Loc} {ls : Array Slot} {G : gE} {o : Nat} (B : gB G RX5 cX5_allWith 6 (some .long) p s m args meth c) {v1 : Int32} {v2 : Int32} {T : TW} {r : (Int64 × TW)} (h : fX5_allWith v1 v2 T = some r)   (hR : RepT G o T H) (hS : va_S (tFr o) s.heap H locs) (hl : lv_has ls 6 [(0, .ref o), (1, .int v1), (2, .int v2)]) : W p l e (gRm 9 200) s m args below meth c H locs 0 0 (twZ below args s G o (some (.long r.1)) r.2) (F0 m 0 ls []) := by
  have B0 := B
  obtain ⟨hx, hb, hml, hown, hts, hr, hlk, hK⟩ := B0
  unfold fX5_allWith at h
  refine lv_aload_n hx hb dX5_allWith_0 rfl (lv_at hl 0 rfl) ?_
  refine lv_iload_n hx hb dX5_allWith_1 rfl (lv_at hl 1 rfl) ?_
  refine lv_iconst (v := 4) hx hb dX5_allWith_2 (by decide) ?_
  replace h := b2_o h
  obtain ⟨x3, T2, e1, h⟩ := h
  refine tw_callV 2 (As := [.int v1, .int 4]) (rest := []) (v := (some (.int x3))) (T' := T2) (st1 := [.int x3]) hx hb hml hown hts hK hR (fun _ h9 => h9) (tw_A2 hR) hS (mX5_arc e1) (lw_V q2637 q2639 qs69 q137 q2640) (by decide +kernel) (Nat.le_of_ble_eq_true rfl) (Nat.le_of_ble_eq_true rfl) (Nat.zero_le _) (Nat.zero_le _) rfl hl.1 (Nat.le_of_ble_eq_true rfl) dX5_allWith_3 rfl rfl (fun H locs hR hS => ?_)
  refine lv_istore_n (lv' := [(3, .int x3), (0, .ref o), (1, .int v1), (2, .int v2)]) hx hb dX5_allWith_6 rfl hl (by decide) rfl (fun ls hl => ?_)
  refine lv_aload_n hx hb dX5_allWith_7 rfl (lv_at hl 1 rfl) ?_
  refine tw_get (k := 0) (v := .ref (o + 1)) hx hb hts hown hK hR (by decide) q2433 rfl (fun _ h9 => h9) dX5_allWith_8 ?_
  refine lv_iload_n hx hb dX5_allWith_11 rfl (lv_at hl 2 rfl) ?_
  refine lv_iconst (v := 4) hx hb dX5_allWith_12 (by decide) ?_
  replace h := b2_o h
  obtain ⟨x6, T5, e4, h⟩ := h
  refine tw_callS 2 (As := [.int v1, .int 4]) (rest := [.ref (o + 1)]) (v := (some (.int x6))) (T' := T5) (st1 := [.int x6, .ref (o + 1)]) hx hb hml hown hts hK hR (fun _ h9 => h9) (tw_A2 hR) hS (mX5_atArc e4) (lw_S q2605 q2606 q137 q2607) (by decide +kernel) (Nat.le_of_ble_eq_true rfl) (Nat.le_of_ble_eq_true rfl) (Nat.zero_le _) (Nat.zero_le _) rfl hl.1 (Nat.le_of_ble_eq_true rfl) dX5_allWith_13 rfl rfl (fun H locs hR hS => ?_)
  refine lv_iload_n hx hb dX5_allWith_16 rfl (lv_at hl 3 rfl) ?_
  replace h := bo_o h
  obtain ⟨T7, e8, h⟩ := h
  refine tw_iast (q := 1) hx hb hK hR (fun _ h9 => h9) hS rfl (fun _ => rfl) e8 dX5_allWith_17 (fun H locs hR hS => ?_)
  refine lv_aload_n hx hb dX5_allWith_18 rfl (lv_at hl 1 rfl) ?_
  replace h := b2_o h
  obtain ⟨x11, T10, e9, h⟩ := h
  refine tw_callV 0 (As := []) (rest := []) (v := (some (.long x11))) (T' := T10) (st1 := [.long x11]) hx hb hml hown hts hK hR (fun _ h9 => h9) (tw_A2 hR) hS (mX5_all e9) (lw_V q2856 q2858 qs94 q137 q2859) (by decide +kernel) (Nat.le_of_ble_eq_true rfl) (Nat.le_of_ble_eq_true rfl) (Nat.zero_le _) (Nat.zero_le _) rfl hl.1 (Nat.le_of_ble_eq_true rfl) dX5_allWith_19 rfl rfl (fun H locs hR hS => ?_)
  refine lv_lstore (lv' := [(4, .long x11), (3, .int x3), (0, .ref o), (1, .int v1), (2, .int v2)]) hx hb dX5_allWith_22 hl (by decide) rfl (fun ls hl => ?_)
  refine lv_aload_n hx hb dX5_allWith_24 rfl (lv_at hl 2 rfl) ?_
  refine tw_get (k := 0) (v := .ref (o + 1)) hx hb hts hown hK hR (by decide) q2433 rfl (fun _ h9 => h9) dX5_allWith_25 ?_
  refine lv_iload_n hx hb dX5_allWith_28 rfl (lv_at hl 3 rfl) ?_
  refine lv_iconst (v := 4) hx hb dX5_allWith_29 (by decide) ?_
  replace h := b2_o h
  obtain ⟨x14, T13, e12, h⟩ := h
  refine tw_callS 2 (As := [.int v1, .int 4]) (rest := [.ref (o + 1)]) (v := (some (.int x14))) (T' := T13) (st1 := [.int x14, .ref (o + 1)]) hx hb hml hown hts hK hR (fun _ h9 => h9) (tw_A2 hR) hS (mX5_atArc e12) (lw_S q2605 q2606 q137 q2607) (by decide +kernel) (Nat.le_of_ble_eq_true rfl) (Nat.le_of_ble_eq_true rfl) (Nat.zero_le _) (Nat.zero_le _) rfl hl.1 (Nat.le_of_ble_eq_true rfl) dX5_allWith_30 rfl rfl (fun H locs hR hS => ?_)
  refine lv_iload_n hx hb dX5_allWith_33 rfl (lv_at hl 1 rfl) ?_
  replace h := bo_o h
  obtain ⟨T15, e16, h⟩ := h
  refine tw_iast (q := 1) hx hb hK hR (fun _ h9 => h9) hS rfl (fun _ => rfl) e16 dX5_allWith_34 (fun H locs hR hS => ?_)
  refine lv_lload hx hb dX5_allWith_35 (lv_at hl 0 rfl) ?_
  have eR := Option.some.inj h
  subst eR
  exact W.lret (v := x11) hx hb hr (fun t ht _ => tw_fin hR hS ht) hS.2.2 dX5_allWith_37
theorem mX5_allWith {l : Launch} {G : gE} {o : Nat} {v1 : Int32} {v2 : Int32} {T : TW} {r : (Int64 × TW)}  (h : fX5_allWith v1 v2 T = some r) : twM l G o yX5_allWith cX5_allWith 6 (some .long) 9 200 [.ref o, .int v1, .int v2] T (some (.long r.1)) r.2 :=
  tw_of (by decide +kernel) (Nat.le_of_ble_eq_true rfl) (fun p e s m args below meth c ls B hR hl => bX5_allWith_0 B h hR va_S.rf hl)
noncomputable def fX5_revenueWith (v1 : Int32) (v2 : Int32) (T : TW) : Option ((Int64 × TW)) :=
  b2_ (fX5_isArc v1 T) fun x3 T2 =>
  b2_ (fX5_isThrown x3 1 T2) fun x6 T5 =>
  if x6 = 0 then (
    b2_ (fX5_arc v1 3 T5) fun x10 T9 =>
    b2_ (fX5_in v2 0 x10 T9) fun x13 T12 =>
    b2_ (fX5_isThrown x13 2 T12) fun x16 T15 =>
    if x16 = 0 then (
      b2_ (fX5_allWith v1 v2 T15) fun x20 T19 =>
      some (x20, T19)
    ) else (
      some (0, T15)
    )
  ) else (
    some (0, T5)
  )
theorem bX5_revenueWith_0 {p : Program} {l : Launch} {e : Env} {s : State} {m : MethodId} {args : Array Value} {below : List Frame} {meth : Method} {c : Code} {H : Heap} {locs : List Loc} {ls : Array Slot} {G : gE} {o : Nat} (B : gB G RX5 cX5_revenueWith 3 (some .long) p s m args meth c) {v1 : Int32} {v2 : Int32} {T : TW} {r : (Int64 × TW)} (h : fX5_revenueWith v1 v2 T = some r)   (hR : RepT G o T H) (hS : va_S (tFr o) s.heap H locs) (hl : lv_has ls 3 [(0, .ref o), (1, .int v1), (2, .int v2)]) : W p l e (gRm 10 225) s m args below meth c H locs 0 0 (twZ below args s G o (some (.long r.1)) r.2) (F0 m 0 ls []) := by
  have B0 := B
  obtain ⟨hx, hb, hml, hown, hts, hr, hlk, hK⟩ := B0
  unfold fX5_revenueWith at h
  refine lv_aload_n hx hb dX5_revenueWith_0 rfl (lv_at hl 0 rfl) ?_
  refine lv_aload_n hx hb dX5_revenueWith_1 rfl (lv_at hl 0 rfl) ?_
  refine lv_iload_n hx hb dX5_revenueWith_2 rfl (lv_at hl 1 rfl) ?_
  replace h := b2_o h
  obtain ⟨x3, T2, e1, h⟩ := h
  refine tw_callV 1 (As := [.int v1]) (rest := [.ref o]) (v := (some (.int x3))) (T' := T2) (st1 := [.int x3, .ref o]) hx hb hml hown hts hK hR (fun _ h9 => h9) (tw_A2 hR) hS (mX5_isArc e1) (lw_V q2645 q2647 qs70 q137 q2648) (by decide +kernel) (Nat.le_of_ble_eq_true rfl) (Nat.le_of_ble_eq_true rfl) (Nat.zero_le _) (Nat.zero_le _) rfl hl.1 (Nat.le_of_ble_eq_true rfl) dX5_revenueWith_3 rfl rfl (fun H locs hR hS => ?_)
  refine lv_iconst (v := 1) hx hb dX5_revenueWith_6 (by decide) ?_
  replace h := b2_o h
  obtain ⟨x6, T5, e4, h⟩ := h
  refine tw_callV 2 (As := [.int x3, .int 1]) (rest := []) (v := (some (.int x6))) (T' := T5) (st1 := [.int x6]) hx hb hml hown hts hK hR (fun _ h9 => h9) (tw_A2 hR) hS (mX5_isThrown e4) (lw_V q2633 q2635 qs68 q137 q2636) (by decide +kernel) (Nat.le_of_ble_eq_true rfl) (Nat.le_of_ble_eq_true rfl) (Nat.zero_le _) (Nat.zero_le _) rfl hl.1 (Nat.le_of_ble_eq_true rfl) dX5_revenueWith_7 rfl rfl (fun H locs hR hS => ?_)
  refine lv_if_ne (tgt := 32) hx hb dX5_revenueWith_10 (by decide) (fun c7 => ?_) (fun c7 => ?_)
  · replace h := if_o c7 h
    refine lv_lconst (v := 0) hx hb dX5_revenueWith_32 (by decide) ?_
    have eR := Option.some.inj h
    subst eR
    exact W.lret (v := 0) hx hb hr (fun t ht _ => tw_fin hR hS ht) hS.2.2 dX5_revenueWith_33
  · replace h := it_o c7 h
    refine lv_aload_n hx hb dX5_revenueWith_13 rfl (lv_at hl 0 rfl) ?_
    refine lv_iload_n hx hb dX5_revenueWith_14 rfl (lv_at hl 2 rfl) ?_
    refine lv_iconst (v := 0) hx hb dX5_revenueWith_15 (by decide) ?_
    refine lv_aload_n hx hb dX5_revenueWith_16 rfl (lv_at hl 0 rfl) ?_
    refine lv_iload_n hx hb dX5_revenueWith_17 rfl (lv_at hl 1 rfl) ?_
    refine lv_iconst (v := 3) hx hb dX5_revenueWith_18 (by decide) ?_
    replace h := b2_o h
    obtain ⟨x10, T9, e8, h⟩ := h
    refine tw_callV 2 (As := [.int v1, .int 3]) (rest := [.int 0, .int v2, .ref o]) (v := (some (.int x10))) (T' := T9) (st1 := [.int x10, .int 0, .int v2, .ref o]) hx hb hml hown hts hK hR (fun _ h9 => h9) (tw_A2 hR) hS (mX5_arc e8) (lw_V q2637 q2639 qs69 q137 q2640) (by decide +kernel) (Nat.le_of_ble_eq_true rfl) (Nat.le_of_ble_eq_true rfl) (Nat.zero_le _) (Nat.zero_le _) rfl hl.1 (Nat.le_of_ble_eq_true rfl) dX5_revenueWith_19 rfl rfl (fun H locs hR hS => ?_)
    replace h := b2_o h
    obtain ⟨x13, T12, e11, h⟩ := h
    refine tw_callS 3 (As := [.int v2, .int 0, .int x10]) (rest := [.ref o]) (v := (some (.int x13))) (T' := T12) (st1 := [.int x13, .ref o]) hx hb hml hown hts hK hR (fun _ h9 => h9) (tw_A2 hR) hS (mX5_in e11) (lw_S q2562 q2563 q137 q2564) (by decide +kernel) (Nat.le_of_ble_eq_true rfl) (Nat.le_of_ble_eq_true rfl) (Nat.zero_le _) (Nat.zero_le _) rfl hl.1 (Nat.le_of_ble_eq_true rfl) dX5_revenueWith_22 rfl rfl (fun H locs hR hS => ?_)
    refine lv_iconst (v := 2) hx hb dX5_revenueWith_25 (by decide) ?_
    replace h := b2_o h
    obtain ⟨x16, T15, e14, h⟩ := h
    refine tw_callV 2 (As := [.int x13, .int 2]) (rest := []) (v := (some (.int x16))) (T' := T15) (st1 := [.int x16]) hx hb hml hown hts hK hR (fun _ h9 => h9) (tw_A2 hR) hS (mX5_isThrown e14) (lw_V q2633 q2635 qs68 q137 q2636) (by decide +kernel) (Nat.le_of_ble_eq_true rfl) (Nat.le_of_ble_eq_true rfl) (Nat.zero_le _) (Nat.zero_le _) rfl hl.1 (Nat.le_of_ble_eq_true rfl) dX5_revenueWith_26 rfl rfl (fun H locs hR hS => ?_)
    refine lv_if_eq (tgt := 34) hx hb dX5_revenueWith_29 (by decide) (fun c17 => ?_) (fun c17 => ?_)
    · replace h := it_o c17 h
      refine lv_aload_n hx hb dX5_revenueWith_34 rfl (lv_at hl 0 rfl) ?_
      refine lv_iload_n hx hb dX5_revenueWith_35 rfl (lv_at hl 1 rfl) ?_
      refine lv_iload_n hx hb dX5_revenueWith_36 rfl (lv_at hl 2 rfl) ?_
      replace h := b2_o h
      obtain ⟨x20, T19, e18, h⟩ := h
      refine tw_callV 2 (As := [.int v1, .int v2]) (rest := []) (v := (some (.long x20))) (T' := T19) (st1 := [.long x20]) hx hb hml hown hts hK hR (fun _ h9 => h9) (tw_A2 hR) hS (mX5_allWith e18) (lw_V q2917 q2919 qs101 q137 q2920) (by decide +kernel) (Nat.le_of_ble_eq_true rfl) (Nat.le_of_ble_eq_true rfl) (Nat.zero_le _) (Nat.zero_le _) rfl hl.1 (Nat.le_of_ble_eq_true rfl) dX5_revenueWith_37 rfl rfl (fun H locs hR hS => ?_)
      have eR := Option.some.inj h
      subst eR
      exact W.lret (v := x20) hx hb hr (fun t ht _ => tw_fin hR hS ht) hS.2.2 dX5_revenueWith_40
    · replace h := if_o c17 h
      refine lv_lconst (v := 0) hx hb dX5_revenueWith_32 (by decide) ?_
      have eR := Option.some.inj h
      subst eR
      exact W.lret (v := 0) hx hb hr (fun t ht _ => tw_fin hR hS ht) hS.2.2 dX5_revenueWith_33
theorem mX5_revenueWith {l : Launch} {G : gE} {o : Nat} {v1 : Int32} {v2 : Int32} {T : TW} {r : (Int64 × TW)}  (h : fX5_revenueWith v1 v2 T = some r) : twM l G o yX5_revenueWith cX5_revenueWith 3 (some .long) 10 225 [.ref o, .int v1, .int v2] T (some (.long r.1)) r.2 :=
  tw_of (by decide +kernel) (Nat.le_of_ble_eq_true rfl) (fun p e s m args below meth c ls B hR hl => bX5_revenueWith_0 B h hR va_S.rf hl)
noncomputable def fX5_addsTurn_b74 (v1 : Int32) (v2 : Int32) (T : TW) : Option (TW) :=
  (wrA T 14 14 v2 v1).bind fun T1 =>
  nm_ (tsI T1 28 ((tI T1 28) + 1)) fun T3 =>
  some T3
theorem bX5_addsTurn_74 {p : Program} {l : Launch} {e : Env} {s : State} {m : MethodId} {args : Array Value} {below : List Frame} {meth : Method} {c : Code} {H : Heap} {locs : List Loc} {ls : Array Slot} {G : gE} {o : Nat} (B : gB G RX5 cX5_addsTurn 4 none p s m args meth c) {v1 : Int32} {v2 : Int32} {T : TW} {r : TW} (h : fX5_addsTurn_b74 v1 v2 T = some r)   (hR : RepT G o T H) (hS : va_S (tFr o) s.heap H locs) (hl : lv_has ls 4 [(0, .ref o), (1, .int v1), (2, .int v2)]) : W p l e (gRm 0 0) s m args below meth c H locs 0 0 (twZ below args s G o none r) (F0 m 74 ls []) := by
  have B0 := B
  obtain ⟨hx, hb, hml, hown, hts, hr, hlk, hK⟩ := B0
  unfold fX5_addsTurn_b74 at h
  refine lv_aload_n hx hb dX5_addsTurn_74 rfl (lv_at hl 0 rfl) ?_
  refine tw_get (k := 27) (v := .ref (o + 14)) hx hb hts hown hK hR (by decide) q2460 rfl (fun _ h9 => h9) dX5_addsTurn_75 ?_
  refine lv_iload_n hx hb dX5_addsTurn_78 rfl (lv_at hl 2 rfl) ?_
  refine lv_iload_n hx hb dX5_addsTurn_79 rfl (lv_at hl 1 rfl) ?_
  replace h := bo_o h
  obtain ⟨T1, e2, h⟩ := h
  refine tw_iast (q := 14) hx hb hK hR (fun _ h9 => h9) hS rfl (fun _ => rfl) e2 dX5_addsTurn_80 (fun H locs hR hS => ?_)
  refine lv_aload_n hx hb dX5_addsTurn_81 rfl (lv_at hl 0 rfl) ?_
  refine lv_dup hx hb dX5_addsTurn_82 rfl ?_
  refine tw_get (k := 28) (v := .int (tI T1 28)) hx hb hts hown hK hR (by decide) q2461 rfl (fun _ h9 => h9) dX5_addsTurn_83 ?_
  refine lv_iconst (v := 1) hx hb dX5_addsTurn_86 (by decide) ?_
  refine lv_iadd hx hb dX5_addsTurn_87 ?_
  replace h := nm_o h
  obtain ⟨T3, e4, h⟩ := h
  refine tw_putI (k := 28) (x := (tI T1 28) + 1) (ty := .int) (T' := T3) hx hb hts hown hK hR (fun _ h9 => h9) hS (by decide) rfl e4 q2461 (fun _ h9 => h9) rfl (by decide +kernel) rfl rfl dX5_addsTurn_88 (fun H locs hR hS => ?_)
  have eR := Option.some.inj h
  subst eR
  exact W.vret hx hb hr (fun t ht _ => tw_fin hR hS ht) hS.2.2 dX5_addsTurn_91
noncomputable def fX5_addsTurn_b49 (v1 : Int32) (v2 : Int32) (v3 : Int32) (T : TW) : Option (Sum (Int32 × TW) (TW)) :=
  if v3 ≤ v2 then (
    (fX5_addsTurn_b74 v1 v2 T).map (fun y => (.inr y))
  ) else (
    (rd_ (tA T 14) 14 (v3 - 1)).bind fun x2 =>
    (wrA T 14 14 v3 x2).bind fun T4 =>
    some (.inl (v3 + (-1), T4))
  )
theorem bX5_addsTurn_49 {p : Program} {l : Launch} {e : Env} {s : State} {m : MethodId} {args : Array Value} {below : List Frame} {meth : Method} {c : Code} {H : Heap} {locs : List Loc} {ls : Array Slot} {G : gE} {o : Nat} (B : gB G RX5 cX5_addsTurn 4 none p s m args meth c) {v1 : Int32} {v2 : Int32} {v3 : Int32} {T : TW} {x : Sum (Int32 × TW) (TW)} {r : TW} (h : fX5_addsTurn_b49 v1 v2 v3 T = some x)  (k49 : ∀ (v3' : Int32) (T' : TW), x = (.inl (v3', T')) → ∀ (H : Heap) (locs : List Loc) (ls : Array Slot), RepT G o (T') H → va_S (tFr o) s.heap H locs → lv_has ls 4 [(0, .ref o), (1, .int v1), (2, .int v2), (3, .int v3')] → W p l e (gRm 0 0) s m args below meth c H locs 0 0 (twZ below args s G o none r) (F0 m 49 ls [])) (kR : ∀ q, x = (.inr q) → q = r) (hR : RepT G o T H) (hS : va_S (tFr o) s.heap H locs) (hl : lv_has ls 4 [(0, .ref o), (1, .int v1), (2, .int v2), (3, .int v3)]) : W p l e (gRm 0 0) s m args below meth c H locs 0 0 (twZ below args s G o none r) (F0 m 49 ls []) := by
  have B0 := B
  obtain ⟨hx, hb, hml, hown, hts, hr, hlk, hK⟩ := B0
  unfold fX5_addsTurn_b49 at h
  refine lv_iload_n hx hb dX5_addsTurn_49 rfl (lv_at hl 3 rfl) ?_
  refine lv_iload_n hx hb dX5_addsTurn_50 rfl (lv_at hl 2 rfl) ?_
  refine lv_icmp_le (tgt := 74) hx hb dX5_addsTurn_51 (by decide) (fun c1 => ?_) (fun c1 => ?_)
  · replace h := it_o c1 h
    obtain ⟨y, h, ey⟩ := mp_o h
    have ey := kR _ ey.symm
    subst ey
    exact bX5_addsTurn_74 B h  hR hS (lv_sub hl [0, 1, 2] rfl)
  · replace h := if_o c1 h
    refine lv_aload_n hx hb dX5_addsTurn_54 rfl (lv_at hl 0 rfl) ?_
    refine tw_get (k := 27) (v := .ref (o + 14)) hx hb hts hown hK hR (by decide) q2460 rfl (fun _ h9 => h9) dX5_addsTurn_55 ?_
    refine lv_iload_n hx hb dX5_addsTurn_58 rfl (lv_at hl 3 rfl) ?_
    refine lv_aload_n hx hb dX5_addsTurn_59 rfl (lv_at hl 0 rfl) ?_
    refine tw_get (k := 27) (v := .ref (o + 14)) hx hb hts hown hK hR (by decide) q2460 rfl (fun _ h9 => h9) dX5_addsTurn_60 ?_
    refine lv_iload_n hx hb dX5_addsTurn_63 rfl (lv_at hl 3 rfl) ?_
    refine lv_iconst (v := 1) hx hb dX5_addsTurn_64 (by decide) ?_
    refine lv_isub hx hb dX5_addsTurn_65 ?_
    replace h := bo_o h
    obtain ⟨x2, e3, h⟩ := h
    refine tw_iald (q := 14) hx hb hK hR rfl e3 dX5_addsTurn_66 ?_
    replace h := bo_o h
    obtain ⟨T4, e5, h⟩ := h
    refine tw_iast (q := 14) hx hb hK hR (fun _ h9 => h9) hS rfl (fun _ => rfl) e5 dX5_addsTurn_67 (fun H locs hR hS => ?_)
    refine lv_iinc (v := v3 + (-1)) (lv' := [(3, .int (v3 + (-1))), (0, .ref o), (1, .int v1), (2, .int v2)]) hx hb dX5_addsTurn_68 hl (k := 3) rfl rfl (by decide) rfl (fun ls hl => ?_)
    refine lv_goto (tgt := 49) hx hb dX5_addsTurn_71 (by decide) ?_
    exact k49 _ _ (Option.some.inj h).symm H locs ls hR hS (lv_sub hl [1, 2, 3, 0] rfl)
noncomputable def fX5_addsTurn_l49 (v1 : Int32) (v2 : Int32) (v3 : Int32) (T : TW) : Option (TW) := whileO (fun q => fX5_addsTurn_b49 v1 v2 q.1 q.2) (v3, T)
theorem lX5_addsTurn_49 {p : Program} {l : Launch} {e : Env} {s : State} {m : MethodId} {args : Array Value} {below : List Frame} {meth : Method} {c : Code} {G : gE} {o : Nat} (B : gB G RX5 cX5_addsTurn 4 none p s m args meth c) {v1 : Int32} {v2 : Int32} {r : TW}   : ∀ (v3 : Int32) (T : TW), fX5_addsTurn_l49 v1 v2 v3 T = some r → ∀ (H : Heap) (locs : List Loc) (ls : Array Slot), RepT G o (T) H → va_S (tFr o) s.heap H locs → lv_has ls 4 [(0, .ref o), (1, .int v1), (2, .int v2), (3, .int v3)] → W p l e (gRm 0 0) s m args below meth c H locs 0 0 (twZ below args s G o none r) (F0 m 49 ls []) := by
  intro v3 T h
  refine wh_walk (body := (fun q => fX5_addsTurn_b49 v1 v2 q.1 q.2)) (P := (fun q : (Int32 × TW) => ∀ (H : Heap) (locs : List Loc) (ls : Array Slot), RepT G o (q.2) H → va_S (tFr o) s.heap H locs → lv_has ls 4 [(0, .ref o), (1, .int v1), (2, .int v2), (3, .int (q.1))] → W p l e (gRm 0 0) s m args below meth c H locs 0 0 (twZ below args s G o none r) (F0 m 49 ls []))) (r := r) ?_ (v3, T) h
  intro q y hy hL hr H locs ls hR hS hl
  exact bX5_addsTurn_49 (r := r) B hy (fun a0 a1 e => hL (a0, a1) e) (fun q e => hr q e) hR hS hl
noncomputable def fX5_addsTurn_b44 (v1 : Int32) (v2 : Int32) (T : TW) : Option (TW) :=
  nm_ (tI T 28) fun x1 =>
  fX5_addsTurn_l49 v1 v2 x1 T
theorem bX5_addsTurn_44 {p : Program} {l : Launch} {e : Env} {s : State} {m : MethodId} {args : Array Value} {below : List Frame} {meth : Method} {c : Code} {H : Heap} {locs : List Loc} {ls : Array Slot} {G : gE} {o : Nat} (B : gB G RX5 cX5_addsTurn 4 none p s m args meth c) {v1 : Int32} {v2 : Int32} {T : TW} {r : TW} (h : fX5_addsTurn_b44 v1 v2 T = some r)   (hR : RepT G o T H) (hS : va_S (tFr o) s.heap H locs) (hl : lv_has ls 4 [(0, .ref o), (1, .int v1), (2, .int v2)]) : W p l e (gRm 0 0) s m args below meth c H locs 0 0 (twZ below args s G o none r) (F0 m 44 ls []) := by
  have B0 := B
  obtain ⟨hx, hb, hml, hown, hts, hr, hlk, hK⟩ := B0
  unfold fX5_addsTurn_b44 at h
  refine lv_aload_n hx hb dX5_addsTurn_44 rfl (lv_at hl 0 rfl) ?_
  refine tw_get (k := 28) (v := .int (tI T 28)) hx hb hts hown hK hR (by decide) q2461 rfl (fun _ h9 => h9) dX5_addsTurn_45 ?_
  replace h := nm_o h
  obtain ⟨x1, e2, h⟩ := h
  refine lv_istore_n (lv' := [(3, .int x1), (0, .ref o), (1, .int v1), (2, .int v2)]) hx hb dX5_addsTurn_48 rfl hl (by decide) (by subst e2; rfl) (fun ls hl => ?_)
  exact lX5_addsTurn_49 B _ _ h H locs ls hR hS (lv_sub hl [1, 2, 3, 0] rfl)
noncomputable def fX5_addsTurn_b27 (v1 : Int32) (v2 : Int32) (T : TW) : Option (TW) :=
  if v2 ≤ 0 then (
    fX5_addsTurn_b44 v1 v2 T
  ) else (
    (rd_ (tA T 14) 14 (v2 - 1)).bind fun x2 =>
    if x2 = v1 then (
      some T
    ) else (
      fX5_addsTurn_b44 v1 v2 T
    )
  )
theorem bX5_addsTurn_27 {p : Program} {l : Launch} {e : Env} {s : State} {m : MethodId} {args : Array Value} {below : List Frame} {meth : Method} {c : Code} {H : Heap} {locs : List Loc} {ls : Array Slot} {G : gE} {o : Nat} (B : gB G RX5 cX5_addsTurn 4 none p s m args meth c) {v1 : Int32} {v2 : Int32} {T : TW} {r : TW} (h : fX5_addsTurn_b27 v1 v2 T = some r)   (hR : RepT G o T H) (hS : va_S (tFr o) s.heap H locs) (hl : lv_has ls 4 [(0, .ref o), (1, .int v1), (2, .int v2)]) : W p l e (gRm 0 0) s m args below meth c H locs 0 0 (twZ below args s G o none r) (F0 m 27 ls []) := by
  have B0 := B
  obtain ⟨hx, hb, hml, hown, hts, hr, hlk, hK⟩ := B0
  unfold fX5_addsTurn_b27 at h
  refine lv_iload_n hx hb dX5_addsTurn_27 rfl (lv_at hl 2 rfl) ?_
  refine lv_if_le (tgt := 44) hx hb dX5_addsTurn_28 (by decide) (fun c1 => ?_) (fun c1 => ?_)
  · replace h := it_o c1 h
    exact bX5_addsTurn_44 B h  hR hS (lv_sub hl [0, 1, 2] rfl)
  · replace h := if_o c1 h
    refine lv_aload_n hx hb dX5_addsTurn_31 rfl (lv_at hl 0 rfl) ?_
    refine tw_get (k := 27) (v := .ref (o + 14)) hx hb hts hown hK hR (by decide) q2460 rfl (fun _ h9 => h9) dX5_addsTurn_32 ?_
    refine lv_iload_n hx hb dX5_addsTurn_35 rfl (lv_at hl 2 rfl) ?_
    refine lv_iconst (v := 1) hx hb dX5_addsTurn_36 (by decide) ?_
    refine lv_isub hx hb dX5_addsTurn_37 ?_
    replace h := bo_o h
    obtain ⟨x2, e3, h⟩ := h
    refine tw_iald (q := 14) hx hb hK hR rfl e3 dX5_addsTurn_38 ?_
    refine lv_iload_n hx hb dX5_addsTurn_39 rfl (lv_at hl 1 rfl) ?_
    refine lv_icmp_ne (tgt := 44) hx hb dX5_addsTurn_40 (by decide) (fun c4 => ?_) (fun c4 => ?_)
    · replace h := if_o c4 h
      exact bX5_addsTurn_44 B h  hR hS (lv_sub hl [0, 1, 2] rfl)
    · replace h := it_o c4 h
      have eR := Option.some.inj h
      subst eR
      exact W.vret hx hb hr (fun t ht _ => tw_fin hR hS ht) hS.2.2 dX5_addsTurn_43
noncomputable def fX5_addsTurn_b5 (v1 : Int32) (v2 : Int32) (T : TW) : Option (Sum (Int32 × TW) (TW)) :=
  if v2 ≤ 0 then (
    (fX5_addsTurn_b27 v1 v2 T).map (fun y => (.inr y))
  ) else (
    (rd_ (tA T 14) 14 (v2 - 1)).bind fun x2 =>
    if x2 ≤ v1 then (
      (fX5_addsTurn_b27 v1 v2 T).map (fun y => (.inr y))
    ) else (
      some (.inl (v2 + (-1), T))
    )
  )
theorem bX5_addsTurn_5 {p : Program} {l : Launch} {e : Env} {s : State} {m : MethodId} {args : Array Value} {below : List Frame} {meth : Method} {c : Code} {H : Heap} {locs : List Loc} {ls : Array Slot} {G : gE} {o : Nat} (B : gB G RX5 cX5_addsTurn 4 none p s m args meth c) {v1 : Int32} {v2 : Int32} {T : TW} {x : Sum (Int32 × TW) (TW)} {r : TW} (h : fX5_addsTurn_b5 v1 v2 T = some x)  (k5 : ∀ (v2' : Int32) (T' : TW), x = (.inl (v2', T')) → ∀ (H : Heap) (locs : List Loc) (ls : Array Slot), RepT G o (T') H → va_S (tFr o) s.heap H locs → lv_has ls 4 [(0, .ref o), (1, .int v1), (2, .int v2')] → W p l e (gRm 0 0) s m args below meth c H locs 0 0 (twZ below args s G o none r) (F0 m 5 ls [])) (kR : ∀ q, x = (.inr q) → q = r) (hR : RepT G o T H) (hS : va_S (tFr o) s.heap H locs) (hl : lv_has ls 4 [(0, .ref o), (1, .int v1), (2, .int v2)]) : W p l e (gRm 0 0) s m args below meth c H locs 0 0 (twZ below args s G o none r) (F0 m 5 ls []) := by
  have B0 := B
  obtain ⟨hx, hb, hml, hown, hts, hr, hlk, hK⟩ := B0
  unfold fX5_addsTurn_b5 at h
  refine lv_iload_n hx hb dX5_addsTurn_5 rfl (lv_at hl 2 rfl) ?_
  refine lv_if_le (tgt := 27) hx hb dX5_addsTurn_6 (by decide) (fun c1 => ?_) (fun c1 => ?_)
  · replace h := it_o c1 h
    obtain ⟨y, h, ey⟩ := mp_o h
    have ey := kR _ ey.symm
    subst ey
    exact bX5_addsTurn_27 B h  hR hS (lv_sub hl [0, 1, 2] rfl)
  · replace h := if_o c1 h
    refine lv_aload_n hx hb dX5_addsTurn_9 rfl (lv_at hl 0 rfl) ?_
    refine tw_get (k := 27) (v := .ref (o + 14)) hx hb hts hown hK hR (by decide) q2460 rfl (fun _ h9 => h9) dX5_addsTurn_10 ?_
    refine lv_iload_n hx hb dX5_addsTurn_13 rfl (lv_at hl 2 rfl) ?_
    refine lv_iconst (v := 1) hx hb dX5_addsTurn_14 (by decide) ?_
    refine lv_isub hx hb dX5_addsTurn_15 ?_
    replace h := bo_o h
    obtain ⟨x2, e3, h⟩ := h
    refine tw_iald (q := 14) hx hb hK hR rfl e3 dX5_addsTurn_16 ?_
    refine lv_iload_n hx hb dX5_addsTurn_17 rfl (lv_at hl 1 rfl) ?_
    refine lv_icmp_le (tgt := 27) hx hb dX5_addsTurn_18 (by decide) (fun c4 => ?_) (fun c4 => ?_)
    · replace h := it_o c4 h
      obtain ⟨y, h, ey⟩ := mp_o h
      have ey := kR _ ey.symm
      subst ey
      exact bX5_addsTurn_27 B h  hR hS (lv_sub hl [0, 1, 2] rfl)
    · replace h := if_o c4 h
      refine lv_iinc (v := v2 + (-1)) (lv' := [(2, .int (v2 + (-1))), (0, .ref o), (1, .int v1)]) hx hb dX5_addsTurn_21 hl (k := 2) rfl rfl (by decide) rfl (fun ls hl => ?_)
      refine lv_goto (tgt := 5) hx hb dX5_addsTurn_24 (by decide) ?_
      exact k5 _ _ (Option.some.inj h).symm H locs ls hR hS (lv_sub hl [1, 2, 0] rfl)
noncomputable def fX5_addsTurn_l5 (v1 : Int32) (v2 : Int32) (T : TW) : Option (TW) := whileO (fun q => fX5_addsTurn_b5 v1 q.1 q.2) (v2, T)
theorem lX5_addsTurn_5 {p : Program} {l : Launch} {e : Env} {s : State} {m : MethodId} {args : Array Value} {below : List Frame} {meth : Method} {c : Code} {G : gE} {o : Nat} (B : gB G RX5 cX5_addsTurn 4 none p s m args meth c) {v1 : Int32} {r : TW}   : ∀ (v2 : Int32) (T : TW), fX5_addsTurn_l5 v1 v2 T = some r → ∀ (H : Heap) (locs : List Loc) (ls : Array Slot), RepT G o (T) H → va_S (tFr o) s.heap H locs → lv_has ls 4 [(0, .ref o), (1, .int v1), (2, .int v2)] → W p l e (gRm 0 0) s m args below meth c H locs 0 0 (twZ below args s G o none r) (F0 m 5 ls []) := by
  intro v2 T h
  refine wh_walk (body := (fun q => fX5_addsTurn_b5 v1 q.1 q.2)) (P := (fun q : (Int32 × TW) => ∀ (H : Heap) (locs : List Loc) (ls : Array Slot), RepT G o (q.2) H → va_S (tFr o) s.heap H locs → lv_has ls 4 [(0, .ref o), (1, .int v1), (2, .int (q.1))] → W p l e (gRm 0 0) s m args below meth c H locs 0 0 (twZ below args s G o none r) (F0 m 5 ls []))) (r := r) ?_ (v2, T) h
  intro q y hy hL hr H locs ls hR hS hl
  exact bX5_addsTurn_5 (r := r) B hy (fun a0 a1 e => hL (a0, a1) e) (fun q e => hr q e) hR hS hl
noncomputable def fX5_addsTurn (v1 : Int32) (T : TW) : Option (TW) :=
  nm_ (tI T 28) fun x1 =>
  fX5_addsTurn_l5 v1 x1 T
theorem bX5_addsTurn_0 {p : Program} {l : Launch} {e : Env} {s : State} {m : MethodId} {args : Array Value} {below : List Frame} {meth : Method} {c : Code} {H : Heap} {locs : List Loc} {ls : Array Slot} {G : gE} {o : Nat} (B : gB G RX5 cX5_addsTurn 4 none p s m args meth c) {v1 : Int32} {T : TW} {r : TW} (h : fX5_addsTurn v1 T = some r)   (hR : RepT G o T H) (hS : va_S (tFr o) s.heap H locs) (hl : lv_has ls 4 [(0, .ref o), (1, .int v1)]) : W p l e (gRm 0 0) s m args below meth c H locs 0 0 (twZ below args s G o none r) (F0 m 0 ls []) := by
  have B0 := B
  obtain ⟨hx, hb, hml, hown, hts, hr, hlk, hK⟩ := B0
  unfold fX5_addsTurn at h
  refine lv_aload_n hx hb dX5_addsTurn_0 rfl (lv_at hl 0 rfl) ?_
  refine tw_get (k := 28) (v := .int (tI T 28)) hx hb hts hown hK hR (by decide) q2461 rfl (fun _ h9 => h9) dX5_addsTurn_1 ?_
  replace h := nm_o h
  obtain ⟨x1, e2, h⟩ := h
  refine lv_istore_n (lv' := [(2, .int x1), (0, .ref o), (1, .int v1)]) hx hb dX5_addsTurn_4 rfl hl (by decide) (by subst e2; rfl) (fun ls hl => ?_)
  exact lX5_addsTurn_5 B _ _ h H locs ls hR hS (lv_sub hl [1, 2, 0] rfl)
theorem mX5_addsTurn {l : Launch} {G : gE} {o : Nat} {v1 : Int32} {T : TW} {r : TW}  (h : fX5_addsTurn v1 T = some r) : twM l G o yX5_addsTurn cX5_addsTurn 4 none 0 0 [.ref o, .int v1] T none r :=
  tw_of (by decide +kernel) (Nat.le_of_ble_eq_true rfl) (fun p e s m args below meth c ls B hR hl => bX5_addsTurn_0 B h hR va_S.rf hl)
noncomputable def fX5_bests_b128 (v1 : Int32) (v4 : Int32) (v5 : Int64) (s0 : Int32) (T : TW) : Option (Sum (Int32 × Int32 × TW) ((Int32 × TW))) :=
  nm_ (mxL (tR T) v5) fun x1 =>
  nm_ (tsR T x1) fun T3 =>
  some (.inl (s0, v4 + 1, T3))
theorem bX5_bests_128 {p : Program} {l : Launch} {e : Env} {s : State} {m : MethodId} {args : Array Value} {below : List Frame} {meth : Method} {c : Code} {H : Heap} {locs : List Loc} {ls : Array Slot} {G : gE} {o : Nat} (B : gB G RX5 cX5_bests 7 (some .int) p s m args meth c) {v1 : Int32} {v4 : Int32} {v5 : Int64} {s0 : Int32} {T : TW} {x : Sum (Int32 × Int32 × TW) ((Int32 × TW))} {r : (Int32 × TW)} (h : fX5_bests_b128 v1 v4 v5 s0 T = some x)  (k84 : ∀ (v3' : Int32) (v4' : Int32) (T' : TW), x = (.inl (v3', v4', T')) → ∀ (H : Heap) (locs : List Loc) (ls : Array Slot), RepT G o (T') H → va_S (tFr o) s.heap H locs → lv_has ls 7 [(0, .ref o), (1, .int v1), (3, .int v3'), (4, .int v4')] → W p l e (gRm 10 233) s m args below meth c H locs 0 0 (twZ below args s G o (some (.int r.1)) r.2) (F0 m 84 ls [])) (kR : ∀ q, x = (.inr q) → q = r) (hR : RepT G o T H) (hS : va_S (tFr o) s.heap H locs) (hl : lv_has ls 7 [(0, .ref o), (1, .int v1), (4, .int v4), (5, .long v5)]) : W p l e (gRm 10 233) s m args below meth c H locs 0 0 (twZ below args s G o (some (.int r.1)) r.2) (F0 m 128 ls [.int s0]) := by
  have B0 := B
  obtain ⟨hx, hb, hml, hown, hts, hr, hlk, hK⟩ := B0
  unfold fX5_bests_b128 at h
  refine lv_istore_n (lv' := [(3, .int s0), (0, .ref o), (1, .int v1), (4, .int v4), (5, .long v5)]) hx hb dX5_bests_128 rfl hl (by decide) rfl (fun ls hl => ?_)
  refine lv_aload_n hx hb dX5_bests_129 rfl (lv_at hl 1 rfl) ?_
  refine lv_aload_n hx hb dX5_bests_130 rfl (lv_at hl 1 rfl) ?_
  refine tw_get (k := 29) (v := .long (tR T)) hx hb hts hown hK hR (by decide) q2462 rfl (fun _ h9 => h9) dX5_bests_131 ?_
  refine lv_lload hx hb dX5_bests_134 (lv_at hl 4 rfl) ?_
  replace h := nm_o h
  obtain ⟨x1, e2, h⟩ := h
  refine va_mmax_long hx hb (hml.trans hl.1.symm) hown (hts _ q2933) (hts _ q2934) (hts _ q127) (hts _ q2935) (Nat.le_of_ble_eq_true rfl) (Nat.le_of_ble_eq_true rfl) (Nat.zero_le _) (Nat.zero_le _) dX5_bests_136 ?_
  refine W.eq (g2 := F0 m 139 ls [.long x1, .ref o]) (by rw [e2]; rfl) ?_
  replace h := nm_o h
  obtain ⟨T3, e4, h⟩ := h
  refine tw_putR (x := x1) (T' := T3) hx hb hts hown hK hR (fun _ h9 => h9) hS e4 q2462 dX5_bests_139 (fun H locs hR hS => ?_)
  refine lv_iinc (v := v4 + 1) (lv' := [(4, .int (v4 + 1)), (3, .int s0), (0, .ref o), (1, .int v1), (5, .long v5)]) hx hb dX5_bests_142 hl (k := 3) rfl rfl (by decide) rfl (fun ls hl => ?_)
  refine lv_goto (tgt := 84) hx hb dX5_bests_145 (by decide) ?_
  exact k84 _ _ _ (Option.some.inj h).symm H locs ls hR hS (lv_sub hl [2, 3, 1, 0] rfl)
noncomputable def fX5_bests_b84 (v1 : Int32) (v3 : Int32) (v4 : Int32) (T : TW) : Option (Sum (Int32 × Int32 × TW) ((Int32 × TW))) :=
  if tI T 28 ≤ v4 then (
    some (.inr (v3, T))
  ) else (
    (rd_ (tA T 14) 14 v4).bind fun x2 =>
    b2_ (fX5_allWith v1 x2 T) fun x6 T5 =>
    if lg_cmp x6 (tR T5) ≤ 0 then (
      fX5_bests_b128 v1 v4 x6 v3 T5
    ) else (
      (rd_ (tA T5 14) 14 v4).bind fun x8 =>
      fX5_bests_b128 v1 v4 x6 x8 T5
    )
  )
theorem bX5_bests_84 {p : Program} {l : Launch} {e : Env} {s : State} {m : MethodId} {args : Array Value} {below : List Frame} {meth : Method} {c : Code} {H : Heap} {locs : List Loc} {ls : Array Slot} {G : gE} {o : Nat} (B : gB G RX5 cX5_bests 7 (some .int) p s m args meth c) {v1 : Int32} {v3 : Int32} {v4 : Int32} {T : TW} {x : Sum (Int32 × Int32 × TW) ((Int32 × TW))} {r : (Int32 × TW)} (h : fX5_bests_b84 v1 v3 v4 T = some x)  (k84 : ∀ (v3' : Int32) (v4' : Int32) (T' : TW), x = (.inl (v3', v4', T')) → ∀ (H : Heap) (locs : List Loc) (ls : Array Slot), RepT G o (T') H → va_S (tFr o) s.heap H locs → lv_has ls 7 [(0, .ref o), (1, .int v1), (3, .int v3'), (4, .int v4')] → W p l e (gRm 10 233) s m args below meth c H locs 0 0 (twZ below args s G o (some (.int r.1)) r.2) (F0 m 84 ls [])) (kR : ∀ q, x = (.inr q) → q = r) (hR : RepT G o T H) (hS : va_S (tFr o) s.heap H locs) (hl : lv_has ls 7 [(0, .ref o), (1, .int v1), (3, .int v3), (4, .int v4)]) : W p l e (gRm 10 233) s m args below meth c H locs 0 0 (twZ below args s G o (some (.int r.1)) r.2) (F0 m 84 ls []) := by
  have B0 := B
  obtain ⟨hx, hb, hml, hown, hts, hr, hlk, hK⟩ := B0
  unfold fX5_bests_b84 at h
  refine lv_iload hx hb dX5_bests_84 (lv_at hl 3 rfl) ?_
  refine lv_aload_n hx hb dX5_bests_86 rfl (lv_at hl 0 rfl) ?_
  refine tw_get (k := 28) (v := .int (tI T 28)) hx hb hts hown hK hR (by decide) q2461 rfl (fun _ h9 => h9) dX5_bests_87 ?_
  refine lv_icmp_ge (tgt := 148) hx hb dX5_bests_90 (by decide) (fun c1 => ?_) (fun c1 => ?_)
  · replace h := it_o c1 h
    refine lv_iload_n hx hb dX5_bests_148 rfl (lv_at hl 2 rfl) ?_
    have eR := kR _ (Option.some.inj h).symm
    subst eR
    exact W.iret (v := v3) hx hb hr (fun t ht _ => tw_fin hR hS ht) hS.2.2 dX5_bests_149
  · replace h := if_o c1 h
    refine lv_aload_n hx hb dX5_bests_93 rfl (lv_at hl 0 rfl) ?_
    refine lv_iload_n hx hb dX5_bests_94 rfl (lv_at hl 1 rfl) ?_
    refine lv_aload_n hx hb dX5_bests_95 rfl (lv_at hl 0 rfl) ?_
    refine tw_get (k := 27) (v := .ref (o + 14)) hx hb hts hown hK hR (by decide) q2460 rfl (fun _ h9 => h9) dX5_bests_96 ?_
    refine lv_iload hx hb dX5_bests_99 (lv_at hl 3 rfl) ?_
    replace h := bo_o h
    obtain ⟨x2, e3, h⟩ := h
    refine tw_iald (q := 14) hx hb hK hR rfl e3 dX5_bests_101 ?_
    replace h := b2_o h
    obtain ⟨x6, T5, e4, h⟩ := h
    refine tw_callV 2 (As := [.int v1, .int x2]) (rest := []) (v := (some (.long x6))) (T' := T5) (st1 := [.long x6]) hx hb hml hown hts hK hR (fun _ h9 => h9) (tw_A2 hR) hS (mX5_allWith e4) (lw_V q2917 q2919 qs101 q137 q2920) (by decide +kernel) (Nat.le_of_ble_eq_true rfl) (Nat.le_of_ble_eq_true rfl) (Nat.zero_le _) (Nat.zero_le _) rfl hl.1 (Nat.le_of_ble_eq_true rfl) dX5_bests_102 rfl rfl (fun H locs hR hS => ?_)
    refine lv_lstore (lv' := [(5, .long x6), (0, .ref o), (1, .int v1), (3, .int v3), (4, .int v4)]) hx hb dX5_bests_105 hl (by decide) rfl (fun ls hl => ?_)
    refine lv_lload hx hb dX5_bests_107 (lv_at hl 0 rfl) ?_
    refine lv_aload_n hx hb dX5_bests_109 rfl (lv_at hl 1 rfl) ?_
    refine tw_get (k := 29) (v := .long (tR T5)) hx hb hts hown hK hR (by decide) q2462 rfl (fun _ h9 => h9) dX5_bests_110 ?_
    refine W.lcmp hx hb dX5_bests_113 ?_
    refine lv_if_le (tgt := 127) hx hb dX5_bests_114 (by decide) (fun c7 => ?_) (fun c7 => ?_)
    · replace h := it_o c7 h
      refine lv_iload_n hx hb dX5_bests_127 rfl (lv_at hl 3 rfl) ?_
      exact bX5_bests_128 B h k84 kR hR hS (lv_sub hl [1, 2, 4, 0] rfl)
    · replace h := if_o c7 h
      refine lv_aload_n hx hb dX5_bests_117 rfl (lv_at hl 1 rfl) ?_
      refine tw_get (k := 27) (v := .ref (o + 14)) hx hb hts hown hK hR (by decide) q2460 rfl (fun _ h9 => h9) dX5_bests_118 ?_
      refine lv_iload hx hb dX5_bests_121 (lv_at hl 4 rfl) ?_
      replace h := bo_o h
      obtain ⟨x8, e9, h⟩ := h
      refine tw_iald (q := 14) hx hb hK hR rfl e9 dX5_bests_123 ?_
      refine lv_goto (tgt := 128) hx hb dX5_bests_124 (by decide) ?_
      exact bX5_bests_128 B h k84 kR hR hS (lv_sub hl [1, 2, 4, 0] rfl)
noncomputable def fX5_bests_l84 (v1 : Int32) (v3 : Int32) (v4 : Int32) (T : TW) : Option ((Int32 × TW)) := whileO (fun q => fX5_bests_b84 v1 q.1 q.2.1 q.2.2) (v3, v4, T)
theorem lX5_bests_84 {p : Program} {l : Launch} {e : Env} {s : State} {m : MethodId} {args : Array Value} {below : List Frame} {meth : Method} {c : Code} {G : gE} {o : Nat} (B : gB G RX5 cX5_bests 7 (some .int) p s m args meth c) {v1 : Int32} {r : (Int32 × TW)}   : ∀ (v3 : Int32) (v4 : Int32) (T : TW), fX5_bests_l84 v1 v3 v4 T = some r → ∀ (H : Heap) (locs : List Loc) (ls : Array Slot), RepT G o (T) H → va_S (tFr o) s.heap H locs → lv_has ls 7 [(0, .ref o), (1, .int v1), (3, .int v3), (4, .int v4)] → W p l e (gRm 10 233) s m args below meth c H locs 0 0 (twZ below args s G o (some (.int r.1)) r.2) (F0 m 84 ls []) := by
  intro v3 v4 T h
  refine wh_walk (body := (fun q => fX5_bests_b84 v1 q.1 q.2.1 q.2.2)) (P := (fun q : (Int32 × Int32 × TW) => ∀ (H : Heap) (locs : List Loc) (ls : Array Slot), RepT G o (q.2.2) H → va_S (tFr o) s.heap H locs → lv_has ls 7 [(0, .ref o), (1, .int v1), (3, .int (q.1)), (4, .int (q.2.1))] → W p l e (gRm 10 233) s m args below meth c H locs 0 0 (twZ below args s G o (some (.int r.1)) r.2) (F0 m 84 ls []))) (r := r) ?_ (v3, v4, T) h
  intro q y hy hL hr H locs ls hR hS hl
  exact bX5_bests_84 (r := r) B hy (fun a0 a1 a2 e => hL (a0, a1, a2) e) (fun q e => hr q e) hR hS hl
noncomputable def fX5_bests_b72 (v1 : Int32) (T : TW) : Option ((Int32 × TW)) :=
  nm_ (tsR T (-1)) fun T1 =>
  fX5_bests_l84 v1 0 0 T1
theorem bX5_bests_72 {p : Program} {l : Launch} {e : Env} {s : State} {m : MethodId} {args : Array Value} {below : List Frame} {meth : Method} {c : Code} {H : Heap} {locs : List Loc} {ls : Array Slot} {G : gE} {o : Nat} (B : gB G RX5 cX5_bests 7 (some .int) p s m args meth c) {v1 : Int32} {T : TW} {r : (Int32 × TW)} (h : fX5_bests_b72 v1 T = some r)   (hR : RepT G o T H) (hS : va_S (tFr o) s.heap H locs) (hl : lv_has ls 7 [(0, .ref o), (1, .int v1)]) : W p l e (gRm 10 233) s m args below meth c H locs 0 0 (twZ below args s G o (some (.int r.1)) r.2) (F0 m 72 ls []) := by
  have B0 := B
  obtain ⟨hx, hb, hml, hown, hts, hr, hlk, hK⟩ := B0
  unfold fX5_bests_b72 at h
  refine lv_iconst (v := 0) hx hb dX5_bests_72 (by decide) ?_
  refine lv_istore_n (lv' := [(3, .int 0), (0, .ref o), (1, .int v1)]) hx hb dX5_bests_73 rfl hl (by decide) rfl (fun ls hl => ?_)
  refine lv_aload_n hx hb dX5_bests_74 rfl (lv_at hl 1 rfl) ?_
  refine lv_ldc2 (v := (-1)) hx hb hown (hts _ q2888) dX5_bests_75 ?_
  replace h := nm_o h
  obtain ⟨T1, e2, h⟩ := h
  refine tw_putR (x := (-1)) (T' := T1) hx hb hts hown hK hR (fun _ h9 => h9) hS e2 q2462 dX5_bests_78 (fun H locs hR hS => ?_)
  refine lv_iconst (v := 0) hx hb dX5_bests_81 (by decide) ?_
  refine lv_istore (lv' := [(4, .int 0), (3, .int 0), (0, .ref o), (1, .int v1)]) hx hb dX5_bests_82 hl (by decide) rfl (fun ls hl => ?_)
  exact lX5_bests_84 B _ _ _ h H locs ls hR hS (lv_sub hl [2, 3, 1, 0] rfl)
noncomputable def fX5_bests_b66 (v1 : Int32) (v2 : Int32) (v3 : Int32) (T : TW) : Option (Sum (Int32 × TW) ((Int32 × TW))) :=
  some (.inl (v3 + 1, T))
theorem bX5_bests_66 {p : Program} {l : Launch} {e : Env} {s : State} {m : MethodId} {args : Array Value} {below : List Frame} {meth : Method} {c : Code} {H : Heap} {locs : List Loc} {ls : Array Slot} {G : gE} {o : Nat} (B : gB G RX5 cX5_bests 7 (some .int) p s m args meth c) {v1 : Int32} {v2 : Int32} {v3 : Int32} {T : TW} {x : Sum (Int32 × TW) ((Int32 × TW))} {r : (Int32 × TW)} (h : fX5_bests_b66 v1 v2 v3 T = some x)  (k24 : ∀ (v3' : Int32) (T' : TW), x = (.inl (v3', T')) → ∀ (H : Heap) (locs : List Loc) (ls : Array Slot), RepT G o (T') H → va_S (tFr o) s.heap H locs → lv_has ls 7 [(0, .ref o), (1, .int v1), (2, .int v2), (3, .int v3')] → W p l e (gRm 10 233) s m args below meth c H locs 0 0 (twZ below args s G o (some (.int r.1)) r.2) (F0 m 24 ls [])) (kR : ∀ q, x = (.inr q) → q = r) (hR : RepT G o T H) (hS : va_S (tFr o) s.heap H locs) (hl : lv_has ls 7 [(0, .ref o), (1, .int v1), (2, .int v2), (3, .int v3)]) : W p l e (gRm 10 233) s m args below meth c H locs 0 0 (twZ below args s G o (some (.int r.1)) r.2) (F0 m 66 ls []) := by
  have B0 := B
  obtain ⟨hx, hb, hml, hown, hts, hr, hlk, hK⟩ := B0
  unfold fX5_bests_b66 at h
  refine lv_iinc (v := v3 + 1) (lv' := [(3, .int (v3 + 1)), (0, .ref o), (1, .int v1), (2, .int v2)]) hx hb dX5_bests_66 hl (k := 3) rfl rfl (by decide) rfl (fun ls hl => ?_)
  refine lv_goto (tgt := 24) hx hb dX5_bests_69 (by decide) ?_
  exact k24 _ _ (Option.some.inj h).symm H locs ls hR hS (lv_sub hl [1, 2, 3, 0] rfl)
noncomputable def fX5_bests_b24 (v1 : Int32) (v2 : Int32) (v3 : Int32) (T : TW) : Option (Sum (Int32 × TW) ((Int32 × TW))) :=
  (rd_ (tA T 1) 172 2).bind fun x1 =>
  if x1 ≤ v3 then (
    (fX5_bests_b72 v1 T).map (fun y => (.inr y))
  ) else (
    b2_ (fX5_keeps0 v3 v1 T) fun x6 T5 =>
    if x6 = (-1) then (
      fX5_bests_b66 v1 v2 v3 T5
    ) else (
      (fX5_addsTurn x6 T5).bind fun T9 =>
      nm_ (mnI v2 (x6 + 1)) fun x10 =>
      (fX5_addsTurn x10 T9).bind fun T13 =>
      fX5_bests_b66 v1 v2 v3 T13
    )
  )
theorem bX5_bests_24 {p : Program} {l : Launch} {e : Env} {s : State} {m : MethodId} {args : Array Value} {below : List Frame} {meth : Method} {c : Code} {H : Heap} {locs : List Loc} {ls : Array Slot} {G : gE} {o : Nat} (B : gB G RX5 cX5_bests 7 (some .int) p s m args meth c) {v1 : Int32} {v2 : Int32} {v3 : Int32} {T : TW} {x : Sum (Int32 × TW) ((Int32 × TW))} {r : (Int32 × TW)} (h : fX5_bests_b24 v1 v2 v3 T = some x)  (k24 : ∀ (v3' : Int32) (T' : TW), x = (.inl (v3', T')) → ∀ (H : Heap) (locs : List Loc) (ls : Array Slot), RepT G o (T') H → va_S (tFr o) s.heap H locs → lv_has ls 7 [(0, .ref o), (1, .int v1), (2, .int v2), (3, .int v3')] → W p l e (gRm 10 233) s m args below meth c H locs 0 0 (twZ below args s G o (some (.int r.1)) r.2) (F0 m 24 ls [])) (kR : ∀ q, x = (.inr q) → q = r) (hR : RepT G o T H) (hS : va_S (tFr o) s.heap H locs) (hl : lv_has ls 7 [(0, .ref o), (1, .int v1), (2, .int v2), (3, .int v3)]) : W p l e (gRm 10 233) s m args below meth c H locs 0 0 (twZ below args s G o (some (.int r.1)) r.2) (F0 m 24 ls []) := by
  have B0 := B
  obtain ⟨hx, hb, hml, hown, hts, hr, hlk, hK⟩ := B0
  unfold fX5_bests_b24 at h
  refine lv_iload_n hx hb dX5_bests_24 rfl (lv_at hl 3 rfl) ?_
  refine lv_aload_n hx hb dX5_bests_25 rfl (lv_at hl 0 rfl) ?_
  refine tw_get (k := 0) (v := .ref (o + 1)) hx hb hts hown hK hR (by decide) q2433 rfl (fun _ h9 => h9) dX5_bests_26 ?_
  refine lv_iconst (v := 2) hx hb dX5_bests_29 (by decide) ?_
  replace h := bo_o h
  obtain ⟨x1, e2, h⟩ := h
  refine tw_iald (q := 1) hx hb hK hR rfl e2 dX5_bests_30 ?_
  refine lv_icmp_ge (tgt := 72) hx hb dX5_bests_31 (by decide) (fun c3 => ?_) (fun c3 => ?_)
  · replace h := it_o c3 h
    obtain ⟨y, h, ey⟩ := mp_o h
    have ey := kR _ ey.symm
    subst ey
    exact bX5_bests_72 B h  hR hS (lv_sub hl [0, 1] rfl)
  · replace h := if_o c3 h
    refine lv_aload_n hx hb dX5_bests_34 rfl (lv_at hl 0 rfl) ?_
    refine lv_iload_n hx hb dX5_bests_35 rfl (lv_at hl 3 rfl) ?_
    refine lv_iload_n hx hb dX5_bests_36 rfl (lv_at hl 1 rfl) ?_
    replace h := b2_o h
    obtain ⟨x6, T5, e4, h⟩ := h
    refine tw_callV 2 (As := [.int v3, .int v1]) (rest := []) (v := (some (.int x6))) (T' := T5) (st1 := [.int x6]) hx hb hml hown hts hK hR (fun _ h9 => h9) (tw_A2 hR) hS (mX5_keeps0 e4) (lw_V q2905 q2907 qs99 q137 q2908) (by decide +kernel) (Nat.le_of_ble_eq_true rfl) (Nat.le_of_ble_eq_true rfl) (Nat.zero_le _) (Nat.zero_le _) rfl hl.1 (Nat.le_of_ble_eq_true rfl) dX5_bests_37 rfl rfl (fun H locs hR hS => ?_)
    refine lv_istore (lv' := [(4, .int x6), (0, .ref o), (1, .int v1), (2, .int v2), (3, .int v3)]) hx hb dX5_bests_40 hl (by decide) rfl (fun ls hl => ?_)
    refine lv_iload hx hb dX5_bests_42 (lv_at hl 0 rfl) ?_
    refine lv_iconst (v := (-1)) hx hb dX5_bests_44 (by decide) ?_
    refine lv_icmp_eq (tgt := 66) hx hb dX5_bests_45 (by decide) (fun c7 => ?_) (fun c7 => ?_)
    · replace h := it_o c7 h
      exact bX5_bests_66 B h k24 kR hR hS (lv_sub hl [1, 2, 3, 4] rfl)
    · replace h := if_o c7 h
      refine lv_aload_n hx hb dX5_bests_48 rfl (lv_at hl 1 rfl) ?_
      refine lv_iload hx hb dX5_bests_49 (lv_at hl 0 rfl) ?_
      replace h := bo_o h
      obtain ⟨T9, e8, h⟩ := h
      refine tw_callV 1 (As := [.int x6]) (rest := []) (v := none) (T' := T9) (st1 := []) hx hb hml hown hts hK hR (fun _ h9 => h9) (tw_A2 hR) hS (mX5_addsTurn e8) (lw_V q2929 q2931 qs103 q137 q2932) (by decide +kernel) (Nat.le_of_ble_eq_true rfl) (Nat.le_of_ble_eq_true rfl) (Nat.zero_le _) (Nat.zero_le _) rfl hl.1 (Nat.le_of_ble_eq_true rfl) dX5_bests_51 rfl rfl (fun H locs hR hS => ?_)
      refine lv_aload_n hx hb dX5_bests_54 rfl (lv_at hl 1 rfl) ?_
      refine lv_iload_n hx hb dX5_bests_55 rfl (lv_at hl 3 rfl) ?_
      refine lv_iload hx hb dX5_bests_56 (lv_at hl 0 rfl) ?_
      refine lv_iconst (v := 1) hx hb dX5_bests_58 (by decide) ?_
      refine lv_iadd hx hb dX5_bests_59 ?_
      replace h := nm_o h
      obtain ⟨x10, e11, h⟩ := h
      refine va_mmin hx hb (hml.trans hl.1.symm) hown (hts _ q2591) (hts _ q313) (hts _ q127) (hts _ q314) (Nat.le_of_ble_eq_true rfl) (Nat.le_of_ble_eq_true rfl) (Nat.zero_le _) (Nat.zero_le _) dX5_bests_60 ?_
      refine W.eq (g2 := F0 m 63 ls [.int x10, .ref o]) (by rw [e11]; rfl) ?_
      replace h := bo_o h
      obtain ⟨T13, e12, h⟩ := h
      refine tw_callV 1 (As := [.int x10]) (rest := []) (v := none) (T' := T13) (st1 := []) hx hb hml hown hts hK hR (fun _ h9 => h9) (tw_A2 hR) hS (mX5_addsTurn e12) (lw_V q2929 q2931 qs103 q137 q2932) (by decide +kernel) (Nat.le_of_ble_eq_true rfl) (Nat.le_of_ble_eq_true rfl) (Nat.zero_le _) (Nat.zero_le _) rfl hl.1 (Nat.le_of_ble_eq_true rfl) dX5_bests_63 rfl rfl (fun H locs hR hS => ?_)
      exact bX5_bests_66 B h k24 kR hR hS (lv_sub hl [1, 2, 3, 4] rfl)
noncomputable def fX5_bests_l24 (v1 : Int32) (v2 : Int32) (v3 : Int32) (T : TW) : Option ((Int32 × TW)) := whileO (fun q => fX5_bests_b24 v1 v2 q.1 q.2) (v3, T)
theorem lX5_bests_24 {p : Program} {l : Launch} {e : Env} {s : State} {m : MethodId} {args : Array Value} {below : List Frame} {meth : Method} {c : Code} {G : gE} {o : Nat} (B : gB G RX5 cX5_bests 7 (some .int) p s m args meth c) {v1 : Int32} {v2 : Int32} {r : (Int32 × TW)}   : ∀ (v3 : Int32) (T : TW), fX5_bests_l24 v1 v2 v3 T = some r → ∀ (H : Heap) (locs : List Loc) (ls : Array Slot), RepT G o (T) H → va_S (tFr o) s.heap H locs → lv_has ls 7 [(0, .ref o), (1, .int v1), (2, .int v2), (3, .int v3)] → W p l e (gRm 10 233) s m args below meth c H locs 0 0 (twZ below args s G o (some (.int r.1)) r.2) (F0 m 24 ls []) := by
  intro v3 T h
  refine wh_walk (body := (fun q => fX5_bests_b24 v1 v2 q.1 q.2)) (P := (fun q : (Int32 × TW) => ∀ (H : Heap) (locs : List Loc) (ls : Array Slot), RepT G o (q.2) H → va_S (tFr o) s.heap H locs → lv_has ls 7 [(0, .ref o), (1, .int v1), (2, .int v2), (3, .int (q.1))] → W p l e (gRm 10 233) s m args below meth c H locs 0 0 (twZ below args s G o (some (.int r.1)) r.2) (F0 m 24 ls []))) (r := r) ?_ (v3, T) h
  intro q y hy hL hr H locs ls hR hS hl
  exact bX5_bests_24 (r := r) B hy (fun a0 a1 e => hL (a0, a1) e) (fun q e => hr q e) hR hS hl
noncomputable def fX5_bests (v1 : Int32) (T : TW) : Option ((Int32 × TW)) :=
  b2_ (fX5_arc v1 3 T) fun x3 T2 =>
  nm_ (tsI T2 28 0) fun T4 =>
  (fX5_addsTurn 0 T4).bind fun T7 =>
  (fX5_addsTurn x3 T7).bind fun T9 =>
  fX5_bests_l24 v1 x3 0 T9
theorem bX5_bests_0 {p : Program} {l : Launch} {e : Env} {s : State} {m : MethodId} {args : Array Value} {below : List Frame} {meth : Method} {c : Code} {H : Heap} {locs : List Loc} {ls : Array Slot} {G : gE} {o : Nat} (B : gB G RX5 cX5_bests 7 (some .int) p s m args meth c) {v1 : Int32} {T : TW} {r : (Int32 × TW)} (h : fX5_bests v1 T = some r)   (hR : RepT G o T H) (hS : va_S (tFr o) s.heap H locs) (hl : lv_has ls 7 [(0, .ref o), (1, .int v1)]) : W p l e (gRm 10 233) s m args below meth c H locs 0 0 (twZ below args s G o (some (.int r.1)) r.2) (F0 m 0 ls []) := by
  have B0 := B
  obtain ⟨hx, hb, hml, hown, hts, hr, hlk, hK⟩ := B0
  unfold fX5_bests at h
  refine lv_aload_n hx hb dX5_bests_0 rfl (lv_at hl 0 rfl) ?_
  refine lv_iload_n hx hb dX5_bests_1 rfl (lv_at hl 1 rfl) ?_
  refine lv_iconst (v := 3) hx hb dX5_bests_2 (by decide) ?_
  replace h := b2_o h
  obtain ⟨x3, T2, e1, h⟩ := h
  refine tw_callV 2 (As := [.int v1, .int 3]) (rest := []) (v := (some (.int x3))) (T' := T2) (st1 := [.int x3]) hx hb hml hown hts hK hR (fun _ h9 => h9) (tw_A2 hR) hS (mX5_arc e1) (lw_V q2637 q2639 qs69 q137 q2640) (by decide +kernel) (Nat.le_of_ble_eq_true rfl) (Nat.le_of_ble_eq_true rfl) (Nat.zero_le _) (Nat.zero_le _) rfl hl.1 (Nat.le_of_ble_eq_true rfl) dX5_bests_3 rfl rfl (fun H locs hR hS => ?_)
  refine lv_istore_n (lv' := [(2, .int x3), (0, .ref o), (1, .int v1)]) hx hb dX5_bests_6 rfl hl (by decide) rfl (fun ls hl => ?_)
  refine lv_aload_n hx hb dX5_bests_7 rfl (lv_at hl 1 rfl) ?_
  refine lv_iconst (v := 0) hx hb dX5_bests_8 (by decide) ?_
  replace h := nm_o h
  obtain ⟨T4, e5, h⟩ := h
  refine tw_putI (k := 28) (x := 0) (ty := .int) (T' := T4) hx hb hts hown hK hR (fun _ h9 => h9) hS (by decide) rfl e5 q2461 (fun _ h9 => h9) rfl (by decide +kernel) rfl rfl dX5_bests_9 (fun H locs hR hS => ?_)
  refine lv_aload_n hx hb dX5_bests_12 rfl (lv_at hl 1 rfl) ?_
  refine lv_iconst (v := 0) hx hb dX5_bests_13 (by decide) ?_
  replace h := bo_o h
  obtain ⟨T7, e6, h⟩ := h
  refine tw_callV 1 (As := [.int 0]) (rest := []) (v := none) (T' := T7) (st1 := []) hx hb hml hown hts hK hR (fun _ h9 => h9) (tw_A2 hR) hS (mX5_addsTurn e6) (lw_V q2929 q2931 qs103 q137 q2932) (by decide +kernel) (Nat.le_of_ble_eq_true rfl) (Nat.le_of_ble_eq_true rfl) (Nat.zero_le _) (Nat.zero_le _) rfl hl.1 (Nat.le_of_ble_eq_true rfl) dX5_bests_14 rfl rfl (fun H locs hR hS => ?_)
  refine lv_aload_n hx hb dX5_bests_17 rfl (lv_at hl 1 rfl) ?_
  refine lv_iload_n hx hb dX5_bests_18 rfl (lv_at hl 0 rfl) ?_
  replace h := bo_o h
  obtain ⟨T9, e8, h⟩ := h
  refine tw_callV 1 (As := [.int x3]) (rest := []) (v := none) (T' := T9) (st1 := []) hx hb hml hown hts hK hR (fun _ h9 => h9) (tw_A2 hR) hS (mX5_addsTurn e8) (lw_V q2929 q2931 qs103 q137 q2932) (by decide +kernel) (Nat.le_of_ble_eq_true rfl) (Nat.le_of_ble_eq_true rfl) (Nat.zero_le _) (Nat.zero_le _) rfl hl.1 (Nat.le_of_ble_eq_true rfl) dX5_bests_19 rfl rfl (fun H locs hR hS => ?_)
  refine lv_iconst (v := 0) hx hb dX5_bests_22 (by decide) ?_
  refine lv_istore_n (lv' := [(3, .int 0), (2, .int x3), (0, .ref o), (1, .int v1)]) hx hb dX5_bests_23 rfl hl (by decide) rfl (fun ls hl => ?_)
  exact lX5_bests_24 B _ _ h H locs ls hR hS (lv_sub hl [2, 3, 1, 0] rfl)
theorem mX5_bests {l : Launch} {G : gE} {o : Nat} {v1 : Int32} {T : TW} {r : (Int32 × TW)}  (h : fX5_bests v1 T = some r) : twM l G o yX5_bests cX5_bests 7 (some .int) 10 233 [.ref o, .int v1] T (some (.int r.1)) r.2 :=
  tw_of (by decide +kernel) (Nat.le_of_ble_eq_true rfl) (fun p e s m args below meth c ls B hR hl => bX5_bests_0 B h hR va_S.rf hl)
noncomputable def fX5_bestToll (v1 : Int32) (T : TW) : Option ((Int32 × TW)) :=
  b2_ (fX5_isArc v1 T) fun x3 T2 =>
  b2_ (fX5_isThrown x3 1 T2) fun x6 T5 =>
  if x6 = 0 then (
    b2_ (fX5_bests v1 T5) fun x10 T9 =>
    some (x10, T9)
  ) else (
    some (0, T5)
  )
theorem bX5_bestToll_0 {p : Program} {l : Launch} {e : Env} {s : State} {m : MethodId} {args : Array Value} {below : List Frame} {meth : Method} {c : Code} {H : Heap} {locs : List Loc} {ls : Array Slot} {G : gE} {o : Nat} (B : gB G RX5 cX5_bestToll 2 (some .int) p s m args meth c) {v1 : Int32} {T : TW} {r : (Int32 × TW)} (h : fX5_bestToll v1 T = some r)   (hR : RepT G o T H) (hS : va_S (tFr o) s.heap H locs) (hl : lv_has ls 2 [(0, .ref o), (1, .int v1)]) : W p l e (gRm 11 259) s m args below meth c H locs 0 0 (twZ below args s G o (some (.int r.1)) r.2) (F0 m 0 ls []) := by
  have B0 := B
  obtain ⟨hx, hb, hml, hown, hts, hr, hlk, hK⟩ := B0
  unfold fX5_bestToll at h
  refine lv_aload_n hx hb dX5_bestToll_0 rfl (lv_at hl 0 rfl) ?_
  refine lv_aload_n hx hb dX5_bestToll_1 rfl (lv_at hl 0 rfl) ?_
  refine lv_iload_n hx hb dX5_bestToll_2 rfl (lv_at hl 1 rfl) ?_
  replace h := b2_o h
  obtain ⟨x3, T2, e1, h⟩ := h
  refine tw_callV 1 (As := [.int v1]) (rest := [.ref o]) (v := (some (.int x3))) (T' := T2) (st1 := [.int x3, .ref o]) hx hb hml hown hts hK hR (fun _ h9 => h9) (tw_A2 hR) hS (mX5_isArc e1) (lw_V q2645 q2647 qs70 q137 q2648) (by decide +kernel) (Nat.le_of_ble_eq_true rfl) (Nat.le_of_ble_eq_true rfl) (Nat.zero_le _) (Nat.zero_le _) rfl hl.1 (Nat.le_of_ble_eq_true rfl) dX5_bestToll_3 rfl rfl (fun H locs hR hS => ?_)
  refine lv_iconst (v := 1) hx hb dX5_bestToll_6 (by decide) ?_
  replace h := b2_o h
  obtain ⟨x6, T5, e4, h⟩ := h
  refine tw_callV 2 (As := [.int x3, .int 1]) (rest := []) (v := (some (.int x6))) (T' := T5) (st1 := [.int x6]) hx hb hml hown hts hK hR (fun _ h9 => h9) (tw_A2 hR) hS (mX5_isThrown e4) (lw_V q2633 q2635 qs68 q137 q2636) (by decide +kernel) (Nat.le_of_ble_eq_true rfl) (Nat.le_of_ble_eq_true rfl) (Nat.zero_le _) (Nat.zero_le _) rfl hl.1 (Nat.le_of_ble_eq_true rfl) dX5_bestToll_7 rfl rfl (fun H locs hR hS => ?_)
  refine lv_if_eq (tgt := 17) hx hb dX5_bestToll_10 (by decide) (fun c7 => ?_) (fun c7 => ?_)
  · replace h := it_o c7 h
    refine lv_aload_n hx hb dX5_bestToll_17 rfl (lv_at hl 0 rfl) ?_
    refine lv_iload_n hx hb dX5_bestToll_18 rfl (lv_at hl 1 rfl) ?_
    replace h := b2_o h
    obtain ⟨x10, T9, e8, h⟩ := h
    refine tw_callV 1 (As := [.int v1]) (rest := []) (v := (some (.int x10))) (T' := T9) (st1 := [.int x10]) hx hb hml hown hts hK hR (fun _ h9 => h9) (tw_A2 hR) hS (mX5_bests e8) (lw_V q2925 q2927 qs102 q137 q2928) (by decide +kernel) (Nat.le_of_ble_eq_true rfl) (Nat.le_of_ble_eq_true rfl) (Nat.zero_le _) (Nat.zero_le _) rfl hl.1 (Nat.le_of_ble_eq_true rfl) dX5_bestToll_19 rfl rfl (fun H locs hR hS => ?_)
    have eR := Option.some.inj h
    subst eR
    exact W.iret (v := x10) hx hb hr (fun t ht _ => tw_fin hR hS ht) hS.2.2 dX5_bestToll_22
  · replace h := if_o c7 h
    refine lv_iconst (v := 0) hx hb dX5_bestToll_13 (by decide) ?_
    refine lv_goto (tgt := 22) hx hb dX5_bestToll_14 (by decide) ?_
    have eR := Option.some.inj h
    subst eR
    exact W.iret (v := 0) hx hb hr (fun t ht _ => tw_fin hR hS ht) hS.2.2 dX5_bestToll_22
theorem mX5_bestToll {l : Launch} {G : gE} {o : Nat} {v1 : Int32} {T : TW} {r : (Int32 × TW)}  (h : fX5_bestToll v1 T = some r) : twM l G o yX5_bestToll cX5_bestToll 2 (some .int) 11 259 [.ref o, .int v1] T (some (.int r.1)) r.2 :=
  tw_of (by decide +kernel) (Nat.le_of_ble_eq_true rfl) (fun p e s m args below meth c ls B hR hl => bX5_bestToll_0 B h hR va_S.rf hl)
noncomputable def fX5_improves_b46 (v1 : Int32) (v2 : Int32) (T : TW) : Option (Sum (Int32 × Int32 × TW) ((Int32 × TW))) :=
  some (.inl (v1, v2 + 1, T))
theorem bX5_improves_46 {p : Program} {l : Launch} {e : Env} {s : State} {m : MethodId} {args : Array Value} {below : List Frame} {meth : Method} {c : Code} {H : Heap} {locs : List Loc} {ls : Array Slot} {G : gE} {o : Nat} (B : gB G RX5 cX5_improves 4 (some .int) p s m args meth c) {v1 : Int32} {v2 : Int32} {T : TW} {x : Sum (Int32 × Int32 × TW) ((Int32 × TW))} {r : (Int32 × TW)} (h : fX5_improves_b46 v1 v2 T = some x)  (k4 : ∀ (v1' : Int32) (v2' : Int32) (T' : TW), x = (.inl (v1', v2', T')) → ∀ (H : Heap) (locs : List Loc) (ls : Array Slot), RepT G o (T') H → va_S (tFr o) s.heap H locs → lv_has ls 4 [(0, .ref o), (1, .int v1'), (2, .int v2')] → W p l e (gRm 11 259) s m args below meth c H locs 0 0 (twZ below args s G o (some (.int r.1)) r.2) (F0 m 4 ls [])) (kR : ∀ q, x = (.inr q) → q = r) (hR : RepT G o T H) (hS : va_S (tFr o) s.heap H locs) (hl : lv_has ls 4 [(0, .ref o), (1, .int v1), (2, .int v2)]) : W p l e (gRm 11 259) s m args below meth c H locs 0 0 (twZ below args s G o (some (.int r.1)) r.2) (F0 m 46 ls []) := by
  have B0 := B
  obtain ⟨hx, hb, hml, hown, hts, hr, hlk, hK⟩ := B0
  unfold fX5_improves_b46 at h
  refine lv_iinc (v := v2 + 1) (lv' := [(2, .int (v2 + 1)), (0, .ref o), (1, .int v1)]) hx hb dX5_improves_46 hl (k := 2) rfl rfl (by decide) rfl (fun ls hl => ?_)
  refine lv_goto (tgt := 4) hx hb dX5_improves_49 (by decide) ?_
  exact k4 _ _ _ (Option.some.inj h).symm H locs ls hR hS (lv_sub hl [1, 2, 0] rfl)
noncomputable def fX5_improves_b4 (v1 : Int32) (v2 : Int32) (T : TW) : Option (Sum (Int32 × Int32 × TW) ((Int32 × TW))) :=
  (rd_ (tA T 1) 172 1).bind fun x1 =>
  if x1 ≤ v2 then (
    some (.inr (v1, T))
  ) else (
    b2_ (fX5_bests v2 T) fun x6 T5 =>
    b2_ (fX5_all T5) fun x9 T8 =>
    if lg_cmp (tR T5) x9 ≤ 0 then (
      fX5_improves_b46 v1 v2 T8
    ) else (
      b2_ (fX5_atArc v2 4 T8) fun x13 T12 =>
      (wrA T12 1 172 x13 x6).bind fun T14 =>
      fX5_improves_b46 (v1 + 1) v2 T14
    )
  )
theorem bX5_improves_4 {p : Program} {l : Launch} {e : Env} {s : State} {m : MethodId} {args : Array Value} {below : List Frame} {meth : Method} {c : Code} {H : Heap} {locs : List Loc} {ls : Array Slot} {G : gE} {o : Nat} (B : gB G RX5 cX5_improves 4 (some .int) p s m args meth c) {v1 : Int32} {v2 : Int32} {T : TW} {x : Sum (Int32 × Int32 × TW) ((Int32 × TW))} {r : (Int32 × TW)} (h : fX5_improves_b4 v1 v2 T = some x)  (k4 : ∀ (v1' : Int32) (v2' : Int32) (T' : TW), x = (.inl (v1', v2', T')) → ∀ (H : Heap) (locs : List Loc) (ls : Array Slot), RepT G o (T') H → va_S (tFr o) s.heap H locs → lv_has ls 4 [(0, .ref o), (1, .int v1'), (2, .int v2')] → W p l e (gRm 11 259) s m args below meth c H locs 0 0 (twZ below args s G o (some (.int r.1)) r.2) (F0 m 4 ls [])) (kR : ∀ q, x = (.inr q) → q = r) (hR : RepT G o T H) (hS : va_S (tFr o) s.heap H locs) (hl : lv_has ls 4 [(0, .ref o), (1, .int v1), (2, .int v2)]) : W p l e (gRm 11 259) s m args below meth c H locs 0 0 (twZ below args s G o (some (.int r.1)) r.2) (F0 m 4 ls []) := by
  have B0 := B
  obtain ⟨hx, hb, hml, hown, hts, hr, hlk, hK⟩ := B0
  unfold fX5_improves_b4 at h
  refine lv_iload_n hx hb dX5_improves_4 rfl (lv_at hl 2 rfl) ?_
  refine lv_aload_n hx hb dX5_improves_5 rfl (lv_at hl 0 rfl) ?_
  refine tw_get (k := 0) (v := .ref (o + 1)) hx hb hts hown hK hR (by decide) q2433 rfl (fun _ h9 => h9) dX5_improves_6 ?_
  refine lv_iconst (v := 1) hx hb dX5_improves_9 (by decide) ?_
  replace h := bo_o h
  obtain ⟨x1, e2, h⟩ := h
  refine tw_iald (q := 1) hx hb hK hR rfl e2 dX5_improves_10 ?_
  refine lv_icmp_ge (tgt := 52) hx hb dX5_improves_11 (by decide) (fun c3 => ?_) (fun c3 => ?_)
  · replace h := it_o c3 h
    refine lv_iload_n hx hb dX5_improves_52 rfl (lv_at hl 1 rfl) ?_
    have eR := kR _ (Option.some.inj h).symm
    subst eR
    exact W.iret (v := v1) hx hb hr (fun t ht _ => tw_fin hR hS ht) hS.2.2 dX5_improves_53
  · replace h := if_o c3 h
    refine lv_aload_n hx hb dX5_improves_14 rfl (lv_at hl 0 rfl) ?_
    refine lv_iload_n hx hb dX5_improves_15 rfl (lv_at hl 2 rfl) ?_
    replace h := b2_o h
    obtain ⟨x6, T5, e4, h⟩ := h
    refine tw_callV 1 (As := [.int v2]) (rest := []) (v := (some (.int x6))) (T' := T5) (st1 := [.int x6]) hx hb hml hown hts hK hR (fun _ h9 => h9) (tw_A2 hR) hS (mX5_bests e4) (lw_V q2925 q2927 qs102 q137 q2928) (by decide +kernel) (Nat.le_of_ble_eq_true rfl) (Nat.le_of_ble_eq_true rfl) (Nat.zero_le _) (Nat.zero_le _) rfl hl.1 (Nat.le_of_ble_eq_true rfl) dX5_improves_16 rfl rfl (fun H locs hR hS => ?_)
    refine lv_istore_n (lv' := [(3, .int x6), (0, .ref o), (1, .int v1), (2, .int v2)]) hx hb dX5_improves_19 rfl hl (by decide) rfl (fun ls hl => ?_)
    refine lv_aload_n hx hb dX5_improves_20 rfl (lv_at hl 1 rfl) ?_
    refine tw_get (k := 29) (v := .long (tR T5)) hx hb hts hown hK hR (by decide) q2462 rfl (fun _ h9 => h9) dX5_improves_21 ?_
    refine lv_aload_n hx hb dX5_improves_24 rfl (lv_at hl 1 rfl) ?_
    replace h := b2_o h
    obtain ⟨x9, T8, e7, h⟩ := h
    refine tw_callV 0 (As := []) (rest := [.long (tR T5)]) (v := (some (.long x9))) (T' := T8) (st1 := [.long x9, .long (tR T5)]) hx hb hml hown hts hK hR (fun _ h9 => h9) (tw_A2 hR) hS (mX5_all e7) (lw_V q2856 q2858 qs94 q137 q2859) (by decide +kernel) (Nat.le_of_ble_eq_true rfl) (Nat.le_of_ble_eq_true rfl) (Nat.zero_le _) (Nat.zero_le _) rfl hl.1 (Nat.le_of_ble_eq_true rfl) dX5_improves_25 rfl rfl (fun H locs hR hS => ?_)
    refine W.lcmp hx hb dX5_improves_28 ?_
    refine lv_if_le (tgt := 46) hx hb dX5_improves_29 (by decide) (fun c10 => ?_) (fun c10 => ?_)
    · replace h := it_o c10 h
      exact bX5_improves_46 B h k4 kR hR hS (lv_sub hl [1, 2, 3] rfl)
    · replace h := if_o c10 h
      refine lv_aload_n hx hb dX5_improves_32 rfl (lv_at hl 1 rfl) ?_
      refine tw_get (k := 0) (v := .ref (o + 1)) hx hb hts hown hK hR (by decide) q2433 rfl (fun _ h9 => h9) dX5_improves_33 ?_
      refine lv_iload_n hx hb dX5_improves_36 rfl (lv_at hl 3 rfl) ?_
      refine lv_iconst (v := 4) hx hb dX5_improves_37 (by decide) ?_
      replace h := b2_o h
      obtain ⟨x13, T12, e11, h⟩ := h
      refine tw_callS 2 (As := [.int v2, .int 4]) (rest := [.ref (o + 1)]) (v := (some (.int x13))) (T' := T12) (st1 := [.int x13, .ref (o + 1)]) hx hb hml hown hts hK hR (fun _ h9 => h9) (tw_A2 hR) hS (mX5_atArc e11) (lw_S q2605 q2606 q137 q2607) (by decide +kernel) (Nat.le_of_ble_eq_true rfl) (Nat.le_of_ble_eq_true rfl) (Nat.zero_le _) (Nat.zero_le _) rfl hl.1 (Nat.le_of_ble_eq_true rfl) dX5_improves_38 rfl rfl (fun H locs hR hS => ?_)
      refine lv_iload_n hx hb dX5_improves_41 rfl (lv_at hl 0 rfl) ?_
      replace h := bo_o h
      obtain ⟨T14, e15, h⟩ := h
      refine tw_iast (q := 1) hx hb hK hR (fun _ h9 => h9) hS rfl (fun _ => rfl) e15 dX5_improves_42 (fun H locs hR hS => ?_)
      refine lv_iinc (v := v1 + 1) (lv' := [(1, .int (v1 + 1)), (3, .int x6), (0, .ref o), (2, .int v2)]) hx hb dX5_improves_43 hl (k := 2) rfl rfl (by decide) rfl (fun ls hl => ?_)
      exact bX5_improves_46 B h k4 kR hR hS (lv_sub hl [2, 0, 3] rfl)
noncomputable def fX5_improves_l4 (v1 : Int32) (v2 : Int32) (T : TW) : Option ((Int32 × TW)) := whileO (fun q => fX5_improves_b4 q.1 q.2.1 q.2.2) (v1, v2, T)
theorem lX5_improves_4 {p : Program} {l : Launch} {e : Env} {s : State} {m : MethodId} {args : Array Value} {below : List Frame} {meth : Method} {c : Code} {G : gE} {o : Nat} (B : gB G RX5 cX5_improves 4 (some .int) p s m args meth c)  {r : (Int32 × TW)}   : ∀ (v1 : Int32) (v2 : Int32) (T : TW), fX5_improves_l4 v1 v2 T = some r → ∀ (H : Heap) (locs : List Loc) (ls : Array Slot), RepT G o (T) H → va_S (tFr o) s.heap H locs → lv_has ls 4 [(0, .ref o), (1, .int v1), (2, .int v2)] → W p l e (gRm 11 259) s m args below meth c H locs 0 0 (twZ below args s G o (some (.int r.1)) r.2) (F0 m 4 ls []) := by
  intro v1 v2 T h
  refine wh_walk (body := (fun q => fX5_improves_b4 q.1 q.2.1 q.2.2)) (P := (fun q : (Int32 × Int32 × TW) => ∀ (H : Heap) (locs : List Loc) (ls : Array Slot), RepT G o (q.2.2) H → va_S (tFr o) s.heap H locs → lv_has ls 4 [(0, .ref o), (1, .int (q.1)), (2, .int (q.2.1))] → W p l e (gRm 11 259) s m args below meth c H locs 0 0 (twZ below args s G o (some (.int r.1)) r.2) (F0 m 4 ls []))) (r := r) ?_ (v1, v2, T) h
  intro q y hy hL hr H locs ls hR hS hl
  exact bX5_improves_4 (r := r) B hy (fun a0 a1 a2 e => hL (a0, a1, a2) e) (fun q e => hr q e) hR hS hl
noncomputable def fX5_improves  (T : TW) : Option ((Int32 × TW)) :=
  fX5_improves_l4 0 0 T
theorem bX5_improves_0 {p : Program} {l : Launch} {e : Env} {s : State} {m : MethodId} {args : Array Value} {below : List Frame} {meth : Method} {c : Code} {H : Heap} {locs : List Loc} {ls : Array Slot} {G : gE} {o : Nat} (B : gB G RX5 cX5_improves 4 (some .int) p s m args meth c)  {T : TW} {r : (Int32 × TW)} (h : fX5_improves T = some r)   (hR : RepT G o T H) (hS : va_S (tFr o) s.heap H locs) (hl : lv_has ls 4 [(0, .ref o)]) : W p l e (gRm 11 259) s m args below meth c H locs 0 0 (twZ below args s G o (some (.int r.1)) r.2) (F0 m 0 ls []) := by
  have B0 := B
  obtain ⟨hx, hb, hml, hown, hts, hr, hlk, hK⟩ := B0
  unfold fX5_improves at h
  refine lv_iconst (v := 0) hx hb dX5_improves_0 (by decide) ?_
  refine lv_istore_n (lv' := [(1, .int 0), (0, .ref o)]) hx hb dX5_improves_1 rfl hl (by decide) rfl (fun ls hl => ?_)
  refine lv_iconst (v := 0) hx hb dX5_improves_2 (by decide) ?_
  refine lv_istore_n (lv' := [(2, .int 0), (1, .int 0), (0, .ref o)]) hx hb dX5_improves_3 rfl hl (by decide) rfl (fun ls hl => ?_)
  exact lX5_improves_4 B _ _ _ h H locs ls hR hS (lv_sub hl [2, 1, 0] rfl)
theorem mX5_improves {l : Launch} {G : gE} {o : Nat}  {T : TW} {r : (Int32 × TW)}  (h : fX5_improves T = some r) : twM l G o yX5_improves cX5_improves 4 (some .int) 11 259 [.ref o] T (some (.int r.1)) r.2 :=
  tw_of (by decide +kernel) (Nat.le_of_ble_eq_true rfl) (fun p e s m args below meth c ls B hR hl => bX5_improves_0 B h hR va_S.rf hl)
