set_option maxRecDepth 100000
set_option maxHeartbeats 4000000

noncomputable def fJ17_recalculateWordsInUse_b31 (v0 : Nat) (v1 : Int32) (w : WH) : Option (WH) :=
  (hPut w v0 0 1 (.int (v1 + 1))).bind fun w1 =>
  some w1
theorem bJ17_recalculateWordsInUse_31 {p : Program} {l : Launch} {e : Env} {s : State} {m : MethodId} {args : Array Value} {below : List Frame} {meth : Method} {c : Code} {H : Heap} {locs : List Loc} {ls : Array Slot} {G : gE} {A : Nat → Prop} {w0 : WH} (B : gB G RJ17 cJ17_recalculateWordsInUse 2 none p s m args meth c) {v0 : Nat} {v1 : Int32} {w : WH} {r : WH} (h : fJ17_recalculateWordsInUse_b31 v0 v1 w = some r)   (hR : RepH G A w H) (hS : Cu A s w0 w H locs) (hl : lv_has ls 2 [(0, .ref v0), (1, .int v1)]) : W p l e (hRm 0 0 w0) s m args below meth c H locs (wC w0 - wC w) (wS w0 - wS w) (hZ below args s G A w0 none r) (F0 m 31 ls []) := by
  have B0 := B
  obtain ⟨hx, hb, hml, hown, hts, hr, hlk, hK⟩ := B0
  unfold fJ17_recalculateWordsInUse_b31 at h
  refine lv_aload_n hx hb dJ17_recalculateWordsInUse_31 rfl (lv_at hl 0 rfl) ?_
  refine lv_iload_n hx hb dJ17_recalculateWordsInUse_32 rfl (lv_at hl 1 rfl) ?_
  refine lv_iconst (v := 1) hx hb dJ17_recalculateWordsInUse_33 (by decide) ?_
  refine lv_iadd hx hb dJ17_recalculateWordsInUse_34 ?_
  replace h := bo_o h
  obtain ⟨w1, e2, h⟩ := h
  refine h_put (ci := 0) (k := 1) (ty := tyJ17 1) hx hb hts hown hK hR hS in_J17 tyJ17 tyJ17_ok nmJ17 rfl (by decide) q575 (fun _ h9 => h9) rfl (tyJ17_ok 1 (by decide)) rfl rfl e2 dJ17_recalculateWordsInUse_35 (fun H locs hR hS => ?_)
  have eR := Option.some.inj h
  subst eR
  exact h_vfin hx hb hr hlk hR hS dJ17_recalculateWordsInUse_38
noncomputable def fJ17_recalculateWordsInUse_b22 (v0 : Nat) (v1 : Int32) (w : WH) : Option (WH) :=
  fJ17_recalculateWordsInUse_b31 v0 v1 w
theorem bJ17_recalculateWordsInUse_22 {p : Program} {l : Launch} {e : Env} {s : State} {m : MethodId} {args : Array Value} {below : List Frame} {meth : Method} {c : Code} {H : Heap} {locs : List Loc} {ls : Array Slot} {G : gE} {A : Nat → Prop} {w0 : WH} (B : gB G RJ17 cJ17_recalculateWordsInUse 2 none p s m args meth c) {v0 : Nat} {v1 : Int32} {w : WH} {r : WH} (h : fJ17_recalculateWordsInUse_b22 v0 v1 w = some r)   (hR : RepH G A w H) (hS : Cu A s w0 w H locs) (hl : lv_has ls 2 [(0, .ref v0), (1, .int v1)]) : W p l e (hRm 0 0 w0) s m args below meth c H locs (wC w0 - wC w) (wS w0 - wS w) (hZ below args s G A w0 none r) (F0 m 22 ls []) := by
  have B0 := B
  obtain ⟨hx, hb, hml, hown, hts, hr, hlk, hK⟩ := B0
  unfold fJ17_recalculateWordsInUse_b22 at h
  refine lv_goto (tgt := 31) hx hb dJ17_recalculateWordsInUse_22 (by decide) ?_
  exact bJ17_recalculateWordsInUse_31 B h  hR hS (lv_sub hl [0, 1] rfl)
noncomputable def fJ17_recalculateWordsInUse_b7 (v0 : Nat) (v1 : Int32) (w : WH) : Option (Sum (Int32 × WH) (WH)) :=
  if v1 < 0 then (
    (fJ17_recalculateWordsInUse_b31 v0 v1 w).map (fun y => (.inr y))
  ) else (
    (gR w v0 0 0).bind fun x2 =>
    x2.bind fun a4 =>
    (ldJ w a4 v1).bind fun x6 =>
    if lg_cmp x6 0 = 0 then (
      some (.inl (v1 + (-1), w))
    ) else (
      (fJ17_recalculateWordsInUse_b22 v0 v1 w).map (fun y => (.inr y))
    )
  )
theorem bJ17_recalculateWordsInUse_7 {p : Program} {l : Launch} {e : Env} {s : State} {m : MethodId} {args : Array Value} {below : List Frame} {meth : Method} {c : Code} {H : Heap} {locs : List Loc} {ls : Array Slot} {G : gE} {A : Nat → Prop} {w0 : WH} (B : gB G RJ17 cJ17_recalculateWordsInUse 2 none p s m args meth c) {v0 : Nat} {v1 : Int32} {w : WH} {x : Sum (Int32 × WH) (WH)} {r : WH} (h : fJ17_recalculateWordsInUse_b7 v0 v1 w = some x)  (k7 : ∀ (v1' : Int32) (w' : WH), x = (.inl (v1', w')) → ∀ (H : Heap) (locs : List Loc) (ls : Array Slot), RepH G A w' H → Cu A s w0 w' H locs → lv_has ls 2 [(0, .ref v0), (1, .int v1')] → W p l e (hRm 0 0 w0) s m args below meth c H locs (wC w0 - wC w') (wS w0 - wS w') (hZ below args s G A w0 none r) (F0 m 7 ls [])) (kR : ∀ q, x = (.inr q) → q = r) (hR : RepH G A w H) (hS : Cu A s w0 w H locs) (hl : lv_has ls 2 [(0, .ref v0), (1, .int v1)]) : W p l e (hRm 0 0 w0) s m args below meth c H locs (wC w0 - wC w) (wS w0 - wS w) (hZ below args s G A w0 none r) (F0 m 7 ls []) := by
  have B0 := B
  obtain ⟨hx, hb, hml, hown, hts, hr, hlk, hK⟩ := B0
  unfold fJ17_recalculateWordsInUse_b7 at h
  refine lv_iload_n hx hb dJ17_recalculateWordsInUse_7 rfl (lv_at hl 1 rfl) ?_
  refine lv_if_lt (tgt := 31) hx hb dJ17_recalculateWordsInUse_8 (by decide) (fun c1 => ?_) (fun c1 => ?_)
  · replace h := it_o c1 h
    obtain ⟨y, h, ey⟩ := mp_o h
    have ey := kR _ ey.symm
    subst ey
    exact bJ17_recalculateWordsInUse_31 B h  hR hS (lv_sub hl [0, 1] rfl)
  · replace h := if_o c1 h
    refine lv_aload_n hx hb dJ17_recalculateWordsInUse_11 rfl (lv_at hl 0 rfl) ?_
    replace h := bo_o h
    obtain ⟨x2, e3, h⟩ := h
    refine h_get (ci := 0) (k := 0) (v := va_rf x2) hx hb hts hown hK hR in_J17 rfl (by decide) (fun _ _ => rfl) q574 (fun _ h9 => h9) (gR_o e3) dJ17_recalculateWordsInUse_12 ?_
    refine lv_iload_n hx hb dJ17_recalculateWordsInUse_15 rfl (lv_at hl 1 rfl) ?_
    replace h := bo_o h
    obtain ⟨a4, e5, h⟩ := h
    subst e5
    replace h := bo_o h
    obtain ⟨x6, e7, h⟩ := h
    refine h_lald hx hb hK hR e7 dJ17_recalculateWordsInUse_16 ?_
    refine lv_lconst (v := 0) hx hb dJ17_recalculateWordsInUse_17 (by decide) ?_
    refine W.lcmp hx hb dJ17_recalculateWordsInUse_18 ?_
    refine lv_if_eq (tgt := 25) hx hb dJ17_recalculateWordsInUse_19 (by decide) (fun c8 => ?_) (fun c8 => ?_)
    · replace h := it_o c8 h
      refine lv_iinc (v := v1 + (-1)) (lv' := [(1, .int (v1 + (-1))), (0, .ref v0)]) hx hb dJ17_recalculateWordsInUse_25 hl (k := 1) rfl rfl (by decide) rfl (fun ls hl => ?_)
      refine lv_goto (tgt := 7) hx hb dJ17_recalculateWordsInUse_28 (by decide) ?_
      exact k7 _ _ (Option.some.inj h).symm H locs ls hR hS (lv_sub hl [1, 0] rfl)
    · replace h := if_o c8 h
      obtain ⟨y, h, ey⟩ := mp_o h
      have ey := kR _ ey.symm
      subst ey
      exact bJ17_recalculateWordsInUse_22 B h  hR hS (lv_sub hl [0, 1] rfl)
noncomputable def fJ17_recalculateWordsInUse_l7 (v0 : Nat) (v1 : Int32) (w : WH) : Option (WH) := whileO (fun q => fJ17_recalculateWordsInUse_b7 v0 q.1 q.2) (v1, w)
theorem lJ17_recalculateWordsInUse_7 {p : Program} {l : Launch} {e : Env} {s : State} {m : MethodId} {args : Array Value} {below : List Frame} {meth : Method} {c : Code} {G : gE} {A : Nat → Prop} {w0 : WH} (B : gB G RJ17 cJ17_recalculateWordsInUse 2 none p s m args meth c) {v0 : Nat} {r : WH}   : ∀ (v1 : Int32) (w : WH), fJ17_recalculateWordsInUse_l7 v0 v1 w = some r → ∀ (H : Heap) (locs : List Loc) (ls : Array Slot), RepH G A w H → Cu A s w0 w H locs → lv_has ls 2 [(0, .ref v0), (1, .int v1)] → W p l e (hRm 0 0 w0) s m args below meth c H locs (wC w0 - wC w) (wS w0 - wS w) (hZ below args s G A w0 none r) (F0 m 7 ls []) := by
  intro v1 w h
  refine wh_walk (body := (fun q => fJ17_recalculateWordsInUse_b7 v0 q.1 q.2)) (P := (fun q : (Int32 × WH) => ∀ (H : Heap) (locs : List Loc) (ls : Array Slot), RepH G A (q.2) H → Cu A s w0 (q.2) H locs → lv_has ls 2 [(0, .ref v0), (1, .int (q.1))] → W p l e (hRm 0 0 w0) s m args below meth c H locs (wC w0 - wC (q.2)) (wS w0 - wS (q.2)) (hZ below args s G A w0 none r) (F0 m 7 ls []))) (r := r) ?_ (v1, w) h
  intro q y hy hL hr H locs ls hR hS hl
  exact bJ17_recalculateWordsInUse_7 (r := r) B hy (fun a0 a1 e => hL (a0, a1) e) (fun q e => hr q e) hR hS hl
noncomputable def fJ17_recalculateWordsInUse (v0 : Nat) (w : WH) : Option (WH) :=
  (gI w v0 0 1).bind fun x1 =>
  nm_ (x1 - 1) fun x3 =>
  fJ17_recalculateWordsInUse_l7 v0 x3 w
theorem bJ17_recalculateWordsInUse_0 {p : Program} {l : Launch} {e : Env} {s : State} {m : MethodId} {args : Array Value} {below : List Frame} {meth : Method} {c : Code} {H : Heap} {locs : List Loc} {ls : Array Slot} {G : gE} {A : Nat → Prop} {w0 : WH} (B : gB G RJ17 cJ17_recalculateWordsInUse 2 none p s m args meth c) {v0 : Nat} {w : WH} {r : WH} (h : fJ17_recalculateWordsInUse v0 w = some r)   (hR : RepH G A w H) (hS : Cu A s w0 w H locs) (hl : lv_has ls 2 [(0, .ref v0)]) : W p l e (hRm 0 0 w0) s m args below meth c H locs (wC w0 - wC w) (wS w0 - wS w) (hZ below args s G A w0 none r) (F0 m 0 ls []) := by
  have B0 := B
  obtain ⟨hx, hb, hml, hown, hts, hr, hlk, hK⟩ := B0
  unfold fJ17_recalculateWordsInUse at h
  refine lv_aload_n hx hb dJ17_recalculateWordsInUse_0 rfl (lv_at hl 0 rfl) ?_
  replace h := bo_o h
  obtain ⟨x1, e2, h⟩ := h
  refine h_get (ci := 0) (k := 1) (v := .int x1) hx hb hts hown hK hR in_J17 rfl (by decide) (fun _ _ => rfl) q575 (fun _ h9 => h9) (gI_o e2) dJ17_recalculateWordsInUse_1 ?_
  refine lv_iconst (v := 1) hx hb dJ17_recalculateWordsInUse_4 (by decide) ?_
  refine lv_isub hx hb dJ17_recalculateWordsInUse_5 ?_
  replace h := nm_o h
  obtain ⟨x3, e4, h⟩ := h
  refine lv_istore_n (lv' := [(1, .int x3), (0, .ref v0)]) hx hb dJ17_recalculateWordsInUse_6 rfl hl (by decide) (by subst e4; rfl) (fun ls hl => ?_)
  exact lJ17_recalculateWordsInUse_7 B _ _ h H locs ls hR hS (lv_sub hl [1, 0] rfl)
theorem mJ17_recalculateWordsInUse {l : Launch} {G : gE} {A : Nat → Prop} {v0 : Nat} {w : WH} {r : WH} (h : fJ17_recalculateWordsInUse v0 w = some r) : hM l G A yJ17_recalculateWordsInUse cJ17_recalculateWordsInUse 2 none 0 0 [.ref v0] w none r :=
  h_of (by decide +kernel) (Nat.le_of_ble_eq_true rfl) (fun p e s m args below meth c ls B hnm hR hS hl => bJ17_recalculateWordsInUse_0 B h hR hS hl)
noncomputable def fJ17_clear_b65 (v0 : Nat) (w : WH) : Option (WH) :=
  (hIs w v0 0).bind fun _ =>
  (fJ17_checkInvariants v0 w).bind fun w1 =>
  some w1
theorem bJ17_clear_65 {p : Program} {l : Launch} {e : Env} {s : State} {m : MethodId} {args : Array Value} {below : List Frame} {meth : Method} {c : Code} {H : Heap} {locs : List Loc} {ls : Array Slot} {G : gE} {A : Nat → Prop} {w0 : WH} (B : gB G RJ17 cJ17_clear 3 none p s m args meth c) {v0 : Nat} {w : WH} {r : WH} (h : fJ17_clear_b65 v0 w = some r)   (hR : RepH G A w H) (hS : Cu A s w0 w H locs) (hl : lv_has ls 3 [(0, .ref v0)]) : W p l e (hRm 12 269 w0) s m args below meth c H locs (wC w0 - wC w) (wS w0 - wS w) (hZ below args s G A w0 none r) (F0 m 65 ls []) := by
  have B0 := B
  obtain ⟨hx, hb, hml, hown, hts, hr, hlk, hK⟩ := B0
  unfold fJ17_clear_b65 at h
  refine lv_aload_n hx hb dJ17_clear_65 rfl (lv_at hl 0 rfl) ?_
  replace h := bo_o h
  obtain ⟨_, e2, h⟩ := h
  replace h := bo_o h
  obtain ⟨w1, e3, h⟩ := h
  refine h_callV 0 (ci := 0) (As := []) (rest := []) (v := none) (w' := w1) (st1 := []) hx hb hml hown hts hK hR hS (Nat.le_refl _) (Nat.le_refl _) rfl e2 (mJ17_checkInvariants e3) (lw_V q1136 q1138 qs18 q134 q1139) (by decide +kernel) (Nat.le_of_ble_eq_true rfl) (Nat.le_of_ble_eq_true rfl) rfl hl.1 (Nat.le_of_ble_eq_true rfl) dJ17_clear_66 rfl rfl (fun H locs hR hS => ?_)
  have eR := Option.some.inj h
  subst eR
  exact h_vfin hx hb hr hlk hR hS dJ17_clear_69
noncomputable def fJ17_clear_b44  (w : WH) : Option (WH) :=
  some w
theorem bJ17_clear_44 {p : Program} {l : Launch} {e : Env} {s : State} {m : MethodId} {args : Array Value} {below : List Frame} {meth : Method} {c : Code} {H : Heap} {locs : List Loc} {ls : Array Slot} {G : gE} {A : Nat → Prop} {w0 : WH} (B : gB G RJ17 cJ17_clear 3 none p s m args meth c)  {w : WH} {r : WH} (h : fJ17_clear_b44 w = some r)   (hR : RepH G A w H) (hS : Cu A s w0 w H locs) (hl : lv_has ls 3 []) : W p l e (hRm 12 269 w0) s m args below meth c H locs (wC w0 - wC w) (wS w0 - wS w) (hZ below args s G A w0 none r) (F0 m 44 ls []) := by
  have B0 := B
  obtain ⟨hx, hb, hml, hown, hts, hr, hlk, hK⟩ := B0
  unfold fJ17_clear_b44 at h
  have eR := Option.some.inj h
  subst eR
  exact h_vfin hx hb hr hlk hR hS dJ17_clear_44
noncomputable def fJ17_clear_b4 (v1 : Int32) (w : WH) : Option (WH) :=
  none
theorem bJ17_clear_4 {p : Program} {l : Launch} {e : Env} {s : State} {m : MethodId} {args : Array Value} {below : List Frame} {meth : Method} {c : Code} {H : Heap} {locs : List Loc} {ls : Array Slot} {G : gE} {A : Nat → Prop} {w0 : WH} (B : gB G RJ17 cJ17_clear 3 none p s m args meth c) {v1 : Int32} {w : WH} {r : WH} (h : fJ17_clear_b4 v1 w = some r)   (hR : RepH G A w H) (hS : Cu A s w0 w H locs) (hl : lv_has ls 3 [(1, .int v1)]) : W p l e (hRm 12 269 w0) s m args below meth c H locs (wC w0 - wC w) (wS w0 - wS w) (hZ below args s G A w0 none r) (F0 m 4 ls []) := by
  have B0 := B
  obtain ⟨hx, hb, hml, hown, hts, hr, hlk, hK⟩ := B0
  unfold fJ17_clear_b4 at h
  exact (nomatch h)
noncomputable def fJ17_clear (v0 : Nat) (v1 : Int32) (w : WH) : Option (WH) :=
  if 0 ≤ v1 then (
    b2_ (fJ17_wordIndex v1 w) fun x4 w2 =>
    (gI w2 v0 0 1).bind fun x5 =>
    if x4 < x5 then (
      (gR w2 v0 0 0).bind fun x8 =>
      x8.bind fun a10 =>
      (ldJ w2 a10 x4).bind fun x12 =>
      (stJ w2 a10 x4 (x12 &&& (((1 : Int64) <<< (v1.toInt64 &&& 63)) ^^^ (-1)))).bind fun w14 =>
      (hIs w14 v0 0).bind fun _ =>
      (fJ17_recalculateWordsInUse v0 w14).bind fun w16 =>
      fJ17_clear_b65 v0 w16
    ) else (
      fJ17_clear_b44 w2
    )
  ) else (
    fJ17_clear_b4 v1 w
  )
theorem bJ17_clear_0 {p : Program} {l : Launch} {e : Env} {s : State} {m : MethodId} {args : Array Value} {below : List Frame} {meth : Method} {c : Code} {H : Heap} {locs : List Loc} {ls : Array Slot} {G : gE} {A : Nat → Prop} {w0 : WH} (B : gB G RJ17 cJ17_clear 3 none p s m args meth c) {v0 : Nat} {v1 : Int32} {w : WH} {r : WH} (h : fJ17_clear v0 v1 w = some r)   (hR : RepH G A w H) (hS : Cu A s w0 w H locs) (hl : lv_has ls 3 [(0, .ref v0), (1, .int v1)]) : W p l e (hRm 12 269 w0) s m args below meth c H locs (wC w0 - wC w) (wS w0 - wS w) (hZ below args s G A w0 none r) (F0 m 0 ls []) := by
  have B0 := B
  obtain ⟨hx, hb, hml, hown, hts, hr, hlk, hK⟩ := B0
  unfold fJ17_clear at h
  refine lv_iload_n hx hb dJ17_clear_0 rfl (lv_at hl 1 rfl) ?_
  refine lv_if_ge (tgt := 31) hx hb dJ17_clear_1 (by decide) (fun c1 => ?_) (fun c1 => ?_)
  · replace h := it_o c1 h
    refine lv_iload_n hx hb dJ17_clear_31 rfl (lv_at hl 1 rfl) ?_
    replace h := b2_o h
    obtain ⟨x4, w2, e3, h⟩ := h
    refine h_callS 1  (As := [.int v1]) (rest := []) (v := (some (.int x4))) (w' := w2) (st1 := [.int x4]) hx hb hml hown hts hK hR hS (Nat.le_refl _) (Nat.le_refl _) (mJ17_wordIndex e3) (lw_S q571 q572 q134 q573) (by decide +kernel) (Nat.le_of_ble_eq_true rfl) (Nat.le_of_ble_eq_true rfl) rfl hl.1 (Nat.le_of_ble_eq_true rfl) dJ17_clear_32 rfl rfl (fun H locs hR hS => ?_)
    refine lv_istore_n (lv' := [(2, .int x4), (0, .ref v0), (1, .int v1)]) hx hb dJ17_clear_35 rfl hl (by decide) rfl (fun ls hl => ?_)
    refine lv_iload_n hx hb dJ17_clear_36 rfl (lv_at hl 0 rfl) ?_
    refine lv_aload_n hx hb dJ17_clear_37 rfl (lv_at hl 1 rfl) ?_
    replace h := bo_o h
    obtain ⟨x5, e6, h⟩ := h
    refine h_get (ci := 0) (k := 1) (v := .int x5) hx hb hts hown hK hR in_J17 rfl (by decide) (fun _ _ => rfl) q575 (fun _ h9 => h9) (gI_o e6) dJ17_clear_38 ?_
    refine lv_icmp_lt (tgt := 45) hx hb dJ17_clear_41 (by decide) (fun c7 => ?_) (fun c7 => ?_)
    · replace h := it_o c7 h
      refine lv_aload_n hx hb dJ17_clear_45 rfl (lv_at hl 1 rfl) ?_
      replace h := bo_o h
      obtain ⟨x8, e9, h⟩ := h
      refine h_get (ci := 0) (k := 0) (v := va_rf x8) hx hb hts hown hK hR in_J17 rfl (by decide) (fun _ _ => rfl) q574 (fun _ h9 => h9) (gR_o e9) dJ17_clear_46 ?_
      refine lv_iload_n hx hb dJ17_clear_49 rfl (lv_at hl 0 rfl) ?_
      refine lv_dup2_11 hx hb dJ17_clear_50 (by first | rfl | exact rf_cat _) (by first | rfl | exact rf_cat _) ?_
      replace h := bo_o h
      obtain ⟨a10, e11, h⟩ := h
      subst e11
      replace h := bo_o h
      obtain ⟨x12, e13, h⟩ := h
      refine h_lald hx hb hK hR e13 dJ17_clear_51 ?_
      refine lv_lconst (v := 1) hx hb dJ17_clear_52 (by decide) ?_
      refine lv_iload_n hx hb dJ17_clear_53 rfl (lv_at hl 2 rfl) ?_
      refine lv_lshl hx hb dJ17_clear_54 rfl ?_
      refine lv_ldc2 (v := (-1)) hx hb hown (hts _ q1430) dJ17_clear_55 ?_
      refine lv_lxor hx hb dJ17_clear_58 ?_
      refine lv_land hx hb dJ17_clear_59 ?_
      replace h := bo_o h
      obtain ⟨w14, e15, h⟩ := h
      refine h_last hx hb hK hR hS e15 dJ17_clear_60 (fun H locs hR hS => ?_)
      refine lv_aload_n hx hb dJ17_clear_61 rfl (lv_at hl 1 rfl) ?_
      replace h := bo_o h
      obtain ⟨_, e17, h⟩ := h
      replace h := bo_o h
      obtain ⟨w16, e18, h⟩ := h
      refine h_callV 0 (ci := 0) (As := []) (rest := []) (v := none) (w' := w16) (st1 := []) hx hb hml hown hts hK hR hS (Nat.le_refl _) (Nat.le_refl _) rfl e17 (mJ17_recalculateWordsInUse e18) (lw_V q1708 q1710 qs36 q134 q1711) (by decide +kernel) (Nat.le_of_ble_eq_true rfl) (Nat.le_of_ble_eq_true rfl) rfl hl.1 (Nat.le_of_ble_eq_true rfl) dJ17_clear_62 rfl rfl (fun H locs hR hS => ?_)
      exact bJ17_clear_65 B h  hR hS (lv_sub hl [1] rfl)
    · replace h := if_o c7 h
      exact bJ17_clear_44 B h  hR hS (lv_sub hl [] rfl)
  · replace h := if_o c1 h
    exact bJ17_clear_4 B h  hR hS (lv_sub hl [1] rfl)
theorem mJ17_clear {l : Launch} {G : gE} {A : Nat → Prop} {v0 : Nat} {v1 : Int32} {w : WH} {r : WH} (h : fJ17_clear v0 v1 w = some r) : hM l G A yJ17_clear cJ17_clear 3 none 12 269 [.ref v0, .int v1] w none r :=
  h_of (by decide +kernel) (Nat.le_of_ble_eq_true rfl) (fun p e s m args below meth c ls B hnm hR hS hl => bJ17_clear_0 B h hR hS hl)
noncomputable def fX1_unused_b129 (v1 : Nat) (v2 : Int32) (v3 : Int32) (w : WH) : Option (Sum (Int32 × Int32 × WH) ((Int32 × WH))) :=
  if v3 < 0 then (
    some (.inr (v2, w))
  ) else (
    nm_ (v2 ||| ((1 : Int32) <<< (v3 &&& 31))) fun x2 =>
    (hIs w v1 0).bind fun _ =>
    b2_ (fJ17_nextSetBit v1 (v3 + 1) w) fun x7 w4 =>
    some (.inl (x2, x7, w4))
  )
theorem bX1_unused_129 {p : Program} {l : Launch} {e : Env} {s : State} {m : MethodId} {args : Array Value} {below : List Frame} {meth : Method} {c : Code} {H : Heap} {locs : List Loc} {ls : Array Slot} {G : gE} {A : Nat → Prop} {w0 : WH} (B : gB G RX1 cX1_unused 5 (some .int) p s m args meth c) {v1 : Nat} {v2 : Int32} {v3 : Int32} {w : WH} {x : Sum (Int32 × Int32 × WH) ((Int32 × WH))} {r : (Int32 × WH)} (h : fX1_unused_b129 v1 v2 v3 w = some x)  (k129 : ∀ (v2' : Int32) (v3' : Int32) (w' : WH), x = (.inl (v2', v3', w')) → ∀ (H : Heap) (locs : List Loc) (ls : Array Slot), RepH G A w' H → Cu A s w0 w' H locs → lv_has ls 5 [(1, .ref v1), (2, .int v2'), (3, .int v3')] → W p l e (hRm 18 410 w0) s m args below meth c H locs (wC w0 - wC w') (wS w0 - wS w') (hZ below args s G A w0 (some (.int r.1)) r.2) (F0 m 129 ls [])) (kR : ∀ q, x = (.inr q) → q = r) (hR : RepH G A w H) (hS : Cu A s w0 w H locs) (hl : lv_has ls 5 [(1, .ref v1), (2, .int v2), (3, .int v3)]) : W p l e (hRm 18 410 w0) s m args below meth c H locs (wC w0 - wC w) (wS w0 - wS w) (hZ below args s G A w0 (some (.int r.1)) r.2) (F0 m 129 ls []) := by
  have B0 := B
  obtain ⟨hx, hb, hml, hown, hts, hr, hlk, hK⟩ := B0
  unfold fX1_unused_b129 at h
  refine lv_iload_n hx hb dX1_unused_129 rfl (lv_at hl 2 rfl) ?_
  refine lv_if_lt (tgt := 150) hx hb dX1_unused_130 (by decide) (fun c1 => ?_) (fun c1 => ?_)
  · replace h := it_o c1 h
    refine lv_iload_n hx hb dX1_unused_150 rfl (lv_at hl 1 rfl) ?_
    have eR := kR _ (Option.some.inj h).symm
    subst eR
    exact h_ifin hx hb hr hlk hR hS dX1_unused_151
  · replace h := if_o c1 h
    refine lv_iload_n hx hb dX1_unused_133 rfl (lv_at hl 1 rfl) ?_
    refine lv_iconst (v := 1) hx hb dX1_unused_134 (by decide) ?_
    refine lv_iload_n hx hb dX1_unused_135 rfl (lv_at hl 2 rfl) ?_
    refine lv_ishl hx hb dX1_unused_136 ?_
    refine lv_ior hx hb dX1_unused_137 ?_
    replace h := nm_o h
    obtain ⟨x2, e3, h⟩ := h
    refine lv_istore_n (lv' := [(2, .int x2), (1, .ref v1), (3, .int v3)]) hx hb dX1_unused_138 rfl hl (by decide) (by subst e3; rfl) (fun ls hl => ?_)
    refine lv_aload_n hx hb dX1_unused_139 rfl (lv_at hl 1 rfl) ?_
    refine lv_iload_n hx hb dX1_unused_140 rfl (lv_at hl 2 rfl) ?_
    refine lv_iconst (v := 1) hx hb dX1_unused_141 (by decide) ?_
    refine lv_iadd hx hb dX1_unused_142 ?_
    replace h := bo_o h
    obtain ⟨_, e5, h⟩ := h
    replace h := b2_o h
    obtain ⟨x7, w4, e6, h⟩ := h
    refine h_callV 1 (ci := 0) (As := [.int (v3 + 1)]) (rest := []) (v := (some (.int x7))) (w' := w4) (st1 := [.int x7]) hx hb hml hown hts hK hR hS (Nat.le_refl _) (Nat.le_refl _) rfl e5 (mJ17_nextSetBit e6) (lw_V q1712 q1713 q1714 q134 q1715) (by decide +kernel) (Nat.le_of_ble_eq_true rfl) (Nat.le_of_ble_eq_true rfl) rfl hl.1 (Nat.le_of_ble_eq_true rfl) dX1_unused_143 rfl rfl (fun H locs hR hS => ?_)
    refine lv_istore_n (lv' := [(3, .int x7), (2, .int x2), (1, .ref v1)]) hx hb dX1_unused_146 rfl hl (by decide) rfl (fun ls hl => ?_)
    refine lv_goto (tgt := 129) hx hb dX1_unused_147 (by decide) ?_
    exact k129 _ _ _ (Option.some.inj h).symm H locs ls hR hS (lv_sub hl [2, 1, 0] rfl)
noncomputable def fX1_unused_l129 (v1 : Nat) (v2 : Int32) (v3 : Int32) (w : WH) : Option ((Int32 × WH)) := whileO (fun q => fX1_unused_b129 v1 q.1 q.2.1 q.2.2) (v2, v3, w)
theorem lX1_unused_129 {p : Program} {l : Launch} {e : Env} {s : State} {m : MethodId} {args : Array Value} {below : List Frame} {meth : Method} {c : Code} {G : gE} {A : Nat → Prop} {w0 : WH} (B : gB G RX1 cX1_unused 5 (some .int) p s m args meth c) {v1 : Nat} {r : (Int32 × WH)}   : ∀ (v2 : Int32) (v3 : Int32) (w : WH), fX1_unused_l129 v1 v2 v3 w = some r → ∀ (H : Heap) (locs : List Loc) (ls : Array Slot), RepH G A w H → Cu A s w0 w H locs → lv_has ls 5 [(1, .ref v1), (2, .int v2), (3, .int v3)] → W p l e (hRm 18 410 w0) s m args below meth c H locs (wC w0 - wC w) (wS w0 - wS w) (hZ below args s G A w0 (some (.int r.1)) r.2) (F0 m 129 ls []) := by
  intro v2 v3 w h
  refine wh_walk (body := (fun q => fX1_unused_b129 v1 q.1 q.2.1 q.2.2)) (P := (fun q : (Int32 × Int32 × WH) => ∀ (H : Heap) (locs : List Loc) (ls : Array Slot), RepH G A (q.2.2) H → Cu A s w0 (q.2.2) H locs → lv_has ls 5 [(1, .ref v1), (2, .int (q.1)), (3, .int (q.2.1))] → W p l e (hRm 18 410 w0) s m args below meth c H locs (wC w0 - wC (q.2.2)) (wS w0 - wS (q.2.2)) (hZ below args s G A w0 (some (.int r.1)) r.2) (F0 m 129 ls []))) (r := r) ?_ (v2, v3, w) h
  intro q y hy hL hr H locs ls hR hS hl
  exact bX1_unused_129 (r := r) B hy (fun a0 a1 a2 e => hL (a0, a1, a2) e) (fun q e => hr q e) hR hS hl
noncomputable def fX1_unused_b121 (v1 : Nat) (w : WH) : Option ((Int32 × WH)) :=
  (hIs w v1 0).bind fun _ =>
  b2_ (fJ17_nextSetBit v1 0 w) fun x4 w1 =>
  fX1_unused_l129 v1 0 x4 w1
theorem bX1_unused_121 {p : Program} {l : Launch} {e : Env} {s : State} {m : MethodId} {args : Array Value} {below : List Frame} {meth : Method} {c : Code} {H : Heap} {locs : List Loc} {ls : Array Slot} {G : gE} {A : Nat → Prop} {w0 : WH} (B : gB G RX1 cX1_unused 5 (some .int) p s m args meth c) {v1 : Nat} {w : WH} {r : (Int32 × WH)} (h : fX1_unused_b121 v1 w = some r)   (hR : RepH G A w H) (hS : Cu A s w0 w H locs) (hl : lv_has ls 5 [(1, .ref v1)]) : W p l e (hRm 18 410 w0) s m args below meth c H locs (wC w0 - wC w) (wS w0 - wS w) (hZ below args s G A w0 (some (.int r.1)) r.2) (F0 m 121 ls []) := by
  have B0 := B
  obtain ⟨hx, hb, hml, hown, hts, hr, hlk, hK⟩ := B0
  unfold fX1_unused_b121 at h
  refine lv_iconst (v := 0) hx hb dX1_unused_121 (by decide) ?_
  refine lv_istore_n (lv' := [(2, .int 0), (1, .ref v1)]) hx hb dX1_unused_122 rfl hl (by decide) rfl (fun ls hl => ?_)
  refine lv_aload_n hx hb dX1_unused_123 rfl (lv_at hl 1 rfl) ?_
  refine lv_iconst (v := 0) hx hb dX1_unused_124 (by decide) ?_
  replace h := bo_o h
  obtain ⟨_, e2, h⟩ := h
  replace h := b2_o h
  obtain ⟨x4, w1, e3, h⟩ := h
  refine h_callV 1 (ci := 0) (As := [.int 0]) (rest := []) (v := (some (.int x4))) (w' := w1) (st1 := [.int x4]) hx hb hml hown hts hK hR hS (Nat.le_refl _) (Nat.le_refl _) rfl e2 (mJ17_nextSetBit e3) (lw_V q1712 q1713 q1714 q134 q1715) (by decide +kernel) (Nat.le_of_ble_eq_true rfl) (Nat.le_of_ble_eq_true rfl) rfl hl.1 (Nat.le_of_ble_eq_true rfl) dX1_unused_125 rfl rfl (fun H locs hR hS => ?_)
  refine lv_istore_n (lv' := [(3, .int x4), (2, .int 0), (1, .ref v1)]) hx hb dX1_unused_128 rfl hl (by decide) rfl (fun ls hl => ?_)
  exact lX1_unused_129 B _ _ _ h H locs ls hR hS (lv_sub hl [2, 1, 0] rfl)
noncomputable def fX1_unused_b118 (v0 : Nat) (v1 : Nat) (v2 : Nat) (w : WH) : Option (Sum (WH) ((Int32 × WH))) :=
  some (.inl w)
theorem bX1_unused_118 {p : Program} {l : Launch} {e : Env} {s : State} {m : MethodId} {args : Array Value} {below : List Frame} {meth : Method} {c : Code} {H : Heap} {locs : List Loc} {ls : Array Slot} {G : gE} {A : Nat → Prop} {w0 : WH} (B : gB G RX1 cX1_unused 5 (some .int) p s m args meth c) {v0 : Nat} {v1 : Nat} {v2 : Nat} {w : WH} {x : Sum (WH) ((Int32 × WH))} {r : (Int32 × WH)} (h : fX1_unused_b118 v0 v1 v2 w = some x)  (k46 : ∀  (w' : WH), x = (.inl w') → ∀ (H : Heap) (locs : List Loc) (ls : Array Slot), RepH G A w' H → Cu A s w0 w' H locs → lv_has ls 5 [(0, .ref v0), (1, .ref v1), (2, va_rf v2)] → W p l e (hRm 18 410 w0) s m args below meth c H locs (wC w0 - wC w') (wS w0 - wS w') (hZ below args s G A w0 (some (.int r.1)) r.2) (F0 m 46 ls [])) (kR : ∀ q, x = (.inr q) → q = r) (hR : RepH G A w H) (hS : Cu A s w0 w H locs) (hl : lv_has ls 5 [(0, .ref v0), (1, .ref v1), (2, .ref v2)]) : W p l e (hRm 18 410 w0) s m args below meth c H locs (wC w0 - wC w) (wS w0 - wS w) (hZ below args s G A w0 (some (.int r.1)) r.2) (F0 m 118 ls []) := by
  have B0 := B
  obtain ⟨hx, hb, hml, hown, hts, hr, hlk, hK⟩ := B0
  unfold fX1_unused_b118 at h
  refine lv_goto (tgt := 46) hx hb dX1_unused_118 (by decide) ?_
  exact k46 _ (Option.some.inj h).symm H locs ls hR hS (lv_sub hl [0, 1, 2] rfl)
noncomputable def fX1_unused_b86 (v0 : Nat) (v1 : Nat) (v2 : Nat) (v4 : Int32) (w : WH) : Option (Sum (Int32 × WH) (Sum (WH) ((Int32 × WH)))) :=
  (gR w v0 17 1).bind fun x1 =>
  x1.bind fun a3 =>
  (gI w a3 23 5).bind fun x5 =>
  if x5 ≤ v4 then (
    (fX1_unused_b118 v0 v1 v2 w).map (fun y => (.inr y))
  ) else (
    (gR w v0 17 1).bind fun x8 =>
    x8.bind fun a10 =>
    (gR w a10 23 2).bind fun x12 =>
    x12.bind fun a14 =>
    (ldI w a14 0 v4).bind fun x16 =>
    (hIs w v1 0).bind fun _ =>
    (fJ17_clear v1 x16 w).bind fun w18 =>
    some (.inl (v4 + 1, w18))
  )
theorem bX1_unused_86 {p : Program} {l : Launch} {e : Env} {s : State} {m : MethodId} {args : Array Value} {below : List Frame} {meth : Method} {c : Code} {H : Heap} {locs : List Loc} {ls : Array Slot} {G : gE} {A : Nat → Prop} {w0 : WH} (B : gB G RX1 cX1_unused 5 (some .int) p s m args meth c) {v0 : Nat} {v1 : Nat} {v2 : Nat} {v4 : Int32} {w : WH} {x : Sum (Int32 × WH) (Sum (WH) ((Int32 × WH)))} {r : (Int32 × WH)} (h : fX1_unused_b86 v0 v1 v2 v4 w = some x)  (k86 : ∀ (v4' : Int32) (w' : WH), x = (.inl (v4', w')) → ∀ (H : Heap) (locs : List Loc) (ls : Array Slot), RepH G A w' H → Cu A s w0 w' H locs → lv_has ls 5 [(0, .ref v0), (1, .ref v1), (2, .ref v2), (4, .int v4')] → W p l e (hRm 18 410 w0) s m args below meth c H locs (wC w0 - wC w') (wS w0 - wS w') (hZ below args s G A w0 (some (.int r.1)) r.2) (F0 m 86 ls [])) (k46 : ∀  (w' : WH), x = (.inr (.inl w')) → ∀ (H : Heap) (locs : List Loc) (ls : Array Slot), RepH G A w' H → Cu A s w0 w' H locs → lv_has ls 5 [(0, .ref v0), (1, .ref v1), (2, va_rf v2)] → W p l e (hRm 18 410 w0) s m args below meth c H locs (wC w0 - wC w') (wS w0 - wS w') (hZ below args s G A w0 (some (.int r.1)) r.2) (F0 m 46 ls [])) (kR : ∀ q, x = (.inr (.inr q)) → q = r) (hR : RepH G A w H) (hS : Cu A s w0 w H locs) (hl : lv_has ls 5 [(0, .ref v0), (1, .ref v1), (2, .ref v2), (4, .int v4)]) : W p l e (hRm 18 410 w0) s m args below meth c H locs (wC w0 - wC w) (wS w0 - wS w) (hZ below args s G A w0 (some (.int r.1)) r.2) (F0 m 86 ls []) := by
  have B0 := B
  obtain ⟨hx, hb, hml, hown, hts, hr, hlk, hK⟩ := B0
  unfold fX1_unused_b86 at h
  refine lv_iload hx hb dX1_unused_86 (lv_at hl 3 rfl) ?_
  refine lv_aload_n hx hb dX1_unused_88 rfl (lv_at hl 0 rfl) ?_
  replace h := bo_o h
  obtain ⟨x1, e2, h⟩ := h
  refine h_get (ci := 17) (k := 1) (v := va_rf x1) hx hb hts hown hK hR in_X1 rfl (by decide) (fun _ _ => rfl) q664 (fun _ h9 => h9) (gR_o e2) dX1_unused_89 ?_
  replace h := bo_o h
  obtain ⟨a3, e4, h⟩ := h
  subst e4
  replace h := bo_o h
  obtain ⟨x5, e6, h⟩ := h
  refine h_getN (ci := 23) (k := 5) (v := .int x5) hx hb hts hown hK hR in_X4 rfl (by decide) (fun _ _ => rfl) (hK.fn 24 rfl) (fun _ h9 => h9) (gI_o e6) dX1_unused_92 ?_
  refine lv_icmp_ge (tgt := 118) hx hb dX1_unused_95 (by decide) (fun c7 => ?_) (fun c7 => ?_)
  · replace h := it_o c7 h
    obtain ⟨y, h, ey⟩ := mp_o h
    exact bX1_unused_118 B h (fun _ e => k46 _ (by rw [← ey, e])) (fun q e => kR q (by rw [← ey, e])) hR hS (lv_sub hl [0, 1, 2] rfl)
  · replace h := if_o c7 h
    refine lv_aload_n hx hb dX1_unused_98 rfl (lv_at hl 1 rfl) ?_
    refine lv_aload_n hx hb dX1_unused_99 rfl (lv_at hl 0 rfl) ?_
    replace h := bo_o h
    obtain ⟨x8, e9, h⟩ := h
    refine h_get (ci := 17) (k := 1) (v := va_rf x8) hx hb hts hown hK hR in_X1 rfl (by decide) (fun _ _ => rfl) q664 (fun _ h9 => h9) (gR_o e9) dX1_unused_100 ?_
    replace h := bo_o h
    obtain ⟨a10, e11, h⟩ := h
    subst e11
    replace h := bo_o h
    obtain ⟨x12, e13, h⟩ := h
    refine h_getN (ci := 23) (k := 2) (v := va_rf x12) hx hb hts hown hK hR in_X4 rfl (by decide) (fun _ _ => rfl) (hK.fn 23 rfl) (fun _ h9 => h9) (gR_o e13) dX1_unused_103 ?_
    refine lv_iload hx hb dX1_unused_106 (lv_at hl 3 rfl) ?_
    replace h := bo_o h
    obtain ⟨a14, e15, h⟩ := h
    subst e15
    replace h := bo_o h
    obtain ⟨x16, e17, h⟩ := h
    refine h_iald hx hb hK hR e17 dX1_unused_108 ?_
    replace h := bo_o h
    obtain ⟨_, e19, h⟩ := h
    replace h := bo_o h
    obtain ⟨w18, e20, h⟩ := h
    refine h_callV 1 (ci := 0) (As := [.int x16]) (rest := []) (v := none) (w' := w18) (st1 := []) hx hb hml hown hts hK hR hS (Nat.le_refl _) (Nat.le_refl _) rfl e19 (mJ17_clear e20) (lw_V q1704 q1705 q1706 q134 q1707) (by decide +kernel) (Nat.le_of_ble_eq_true rfl) (Nat.le_of_ble_eq_true rfl) rfl hl.1 (Nat.le_of_ble_eq_true rfl) dX1_unused_109 rfl rfl (fun H locs hR hS => ?_)
    refine lv_iinc (v := v4 + 1) (lv' := [(4, .int (v4 + 1)), (0, .ref v0), (1, .ref v1), (2, .ref v2)]) hx hb dX1_unused_112 hl (k := 3) rfl rfl (by decide) rfl (fun ls hl => ?_)
    refine lv_goto (tgt := 86) hx hb dX1_unused_115 (by decide) ?_
    exact k86 _ _ (Option.some.inj h).symm H locs ls hR hS (lv_sub hl [1, 2, 3, 0] rfl)
noncomputable def fX1_unused_l86 (v0 : Nat) (v1 : Nat) (v2 : Nat) (v4 : Int32) (w : WH) : Option (Sum (WH) ((Int32 × WH))) := whileO (fun q => fX1_unused_b86 v0 v1 v2 q.1 q.2) (v4, w)
theorem lX1_unused_86 {p : Program} {l : Launch} {e : Env} {s : State} {m : MethodId} {args : Array Value} {below : List Frame} {meth : Method} {c : Code} {G : gE} {A : Nat → Prop} {w0 : WH} (B : gB G RX1 cX1_unused 5 (some .int) p s m args meth c) {v0 : Nat} {v1 : Nat} {v2 : Nat} {x : Sum (WH) ((Int32 × WH))} {r : (Int32 × WH)}  (k46 : ∀  (w' : WH), x = (.inl w') → ∀ (H : Heap) (locs : List Loc) (ls : Array Slot), RepH G A w' H → Cu A s w0 w' H locs → lv_has ls 5 [(0, .ref v0), (1, .ref v1), (2, va_rf v2)] → W p l e (hRm 18 410 w0) s m args below meth c H locs (wC w0 - wC w') (wS w0 - wS w') (hZ below args s G A w0 (some (.int r.1)) r.2) (F0 m 46 ls [])) (kR : ∀ q, x = (.inr q) → q = r) : ∀ (v4 : Int32) (w : WH), fX1_unused_l86 v0 v1 v2 v4 w = some x → ∀ (H : Heap) (locs : List Loc) (ls : Array Slot), RepH G A w H → Cu A s w0 w H locs → lv_has ls 5 [(0, .ref v0), (1, .ref v1), (2, .ref v2), (4, .int v4)] → W p l e (hRm 18 410 w0) s m args below meth c H locs (wC w0 - wC w) (wS w0 - wS w) (hZ below args s G A w0 (some (.int r.1)) r.2) (F0 m 86 ls []) := by
  intro v4 w h
  refine wh_walk (body := (fun q => fX1_unused_b86 v0 v1 v2 q.1 q.2)) (P := (fun q : (Int32 × WH) => ∀ (H : Heap) (locs : List Loc) (ls : Array Slot), RepH G A (q.2) H → Cu A s w0 (q.2) H locs → lv_has ls 5 [(0, .ref v0), (1, .ref v1), (2, .ref v2), (4, .int (q.1))] → W p l e (hRm 18 410 w0) s m args below meth c H locs (wC w0 - wC (q.2)) (wS w0 - wS (q.2)) (hZ below args s G A w0 (some (.int r.1)) r.2) (F0 m 86 ls []))) (r := x) ?_ (v4, w) h
  intro q y hy hL hr H locs ls hR hS hl
  exact bX1_unused_86 (r := r) B hy (fun a0 a1 e => hL (a0, a1) e) (fun a0 e H locs ls hR hS hl => k46 _ ((hr _ e).symm) H locs ls hR hS hl) (fun q e => kR q ((hr _ e).symm)) hR hS hl
noncomputable def fX1_unused_b46 (v0 : Nat) (v1 : Nat) (v2 : Option Nat) (w : WH) : Option (Sum (WH) ((Int32 × WH))) :=
  v2.bind fun a1 =>
  (hIs w a1 4).bind fun _ =>
  b2_ (fJ21_hasNext a1 w) fun x6 w3 =>
  if x6 = 0 then (
    (fX1_unused_b121 v1 w3).map (fun y => (.inr y))
  ) else (
    (hIs w3 a1 4).bind fun _ =>
    b2_ (fJ21_next a1 w3) fun x11 w8 =>
    x11.bind fun a12 =>
    (hIs w8 a12 28).bind fun _ =>
    (gR w8 v0 17 1).bind fun x15 =>
    (gR w8 v0 17 0).bind fun x17 =>
    x15.bind fun a19 =>
    x17.bind fun a21 =>
    (hIs w8 a19 23).bind fun _ =>
    b2_ (fX4_walk a19 a21 a12 w8) fun x26 w23 =>
    if x26 = 0 then (
      some (.inl w23)
    ) else (
      fX1_unused_l86 v0 v1 a1 0 w23
    )
  )
theorem bX1_unused_46 {p : Program} {l : Launch} {e : Env} {s : State} {m : MethodId} {args : Array Value} {below : List Frame} {meth : Method} {c : Code} {H : Heap} {locs : List Loc} {ls : Array Slot} {G : gE} {A : Nat → Prop} {w0 : WH} (B : gB G RX1 cX1_unused 5 (some .int) p s m args meth c) {v0 : Nat} {v1 : Nat} {v2 : Option Nat} {w : WH} {x : Sum (WH) ((Int32 × WH))} {r : (Int32 × WH)} (h : fX1_unused_b46 v0 v1 v2 w = some x)  (k46 : ∀  (w' : WH), x = (.inl w') → ∀ (H : Heap) (locs : List Loc) (ls : Array Slot), RepH G A w' H → Cu A s w0 w' H locs → lv_has ls 5 [(0, .ref v0), (1, .ref v1), (2, va_rf v2)] → W p l e (hRm 18 410 w0) s m args below meth c H locs (wC w0 - wC w') (wS w0 - wS w') (hZ below args s G A w0 (some (.int r.1)) r.2) (F0 m 46 ls [])) (kR : ∀ q, x = (.inr q) → q = r) (hR : RepH G A w H) (hS : Cu A s w0 w H locs) (hl : lv_has ls 5 [(0, .ref v0), (1, .ref v1), (2, va_rf v2)]) : W p l e (hRm 18 410 w0) s m args below meth c H locs (wC w0 - wC w) (wS w0 - wS w) (hZ below args s G A w0 (some (.int r.1)) r.2) (F0 m 46 ls []) := by
  have B0 := B
  obtain ⟨hx, hb, hml, hown, hts, hr, hlk, hK⟩ := B0
  unfold fX1_unused_b46 at h
  refine lv_aload_nq hx hb dX1_unused_46 rfl (lv_at hl 2 rfl) ?_
  replace h := bo_o h
  obtain ⟨a1, e2, h⟩ := h
  subst e2
  replace h := bo_o h
  obtain ⟨_, e4, h⟩ := h
  replace h := b2_o h
  obtain ⟨x6, w3, e5, h⟩ := h
  refine h_callF 0  (As := []) (rest := []) (v := (some (.int x6))) (w' := w3) (st1 := [.int x6]) hx hb hml hown hts hK hR hS (Nat.le_refl _) (Nat.le_refl _) (h_recv (ci := 4) hK hR hS rfl e4) (mJ21_hasNext e5) (lw_app (a := [.methodLink _ _ _, .selects _ _ _, .instanceMethod _, .initialized _]) (lw_4 q1540 q1569 q1571 q144) (lw_meth q1573)) (hK.fw 4 rfl) (by decide +kernel) (Nat.le_of_ble_eq_true rfl) (Nat.le_of_ble_eq_true rfl) rfl hl.1 (Nat.le_of_ble_eq_true rfl) dX1_unused_47 rfl rfl (fun H locs hR hS => ?_)
  refine lv_if_eq (tgt := 121) hx hb dX1_unused_52 (by decide) (fun c7 => ?_) (fun c7 => ?_)
  · replace h := it_o c7 h
    obtain ⟨y, h, ey⟩ := mp_o h
    have ey := kR _ ey.symm
    subst ey
    exact bX1_unused_121 B h  hR hS (lv_sub hl [1] rfl)
  · replace h := if_o c7 h
    refine lv_aload_n hx hb dX1_unused_55 rfl (lv_at hl 2 rfl) ?_
    replace h := bo_o h
    obtain ⟨_, e9, h⟩ := h
    replace h := b2_o h
    obtain ⟨x11, w8, e10, h⟩ := h
    refine h_callF 0  (As := []) (rest := []) (v := (some (va_rf x11))) (w' := w8) (st1 := [va_rf x11]) hx hb hml hown hts hK hR hS (Nat.le_refl _) (Nat.le_refl _) (h_recv (ci := 4) hK hR hS rfl e9) (mJ21_next e10) (lw_app (a := [.methodLink _ _ _, .selects _ _ _, .instanceMethod _, .initialized _]) (lw_4 q1584 q1681 q1683 q144) (lw_meth q1685)) (hK.fw 5 rfl) (by decide +kernel) (Nat.le_of_ble_eq_true rfl) (Nat.le_of_ble_eq_true rfl) rfl hl.1 (Nat.le_of_ble_eq_true rfl) dX1_unused_56 rfl rfl (fun H locs hR hS => ?_)
    replace h := bo_o h
    obtain ⟨a12, e13, h⟩ := h
    subst e13
    replace h := bo_o h
    obtain ⟨_, e14, h⟩ := h
    refine h_castS (ci := 28) hx hb hts hown hK hR hS rfl e14 q1265 dX1_unused_61 ?_
    refine lv_astore_n (lv' := [(3, .ref a12), (0, .ref v0), (1, .ref v1), (2, .ref a1)]) hx hb dX1_unused_64 rfl hl (by decide) rfl (fun ls hl => ?_)
    refine lv_aload_n hx hb dX1_unused_65 rfl (lv_at hl 1 rfl) ?_
    replace h := bo_o h
    obtain ⟨x15, e16, h⟩ := h
    refine h_get (ci := 17) (k := 1) (v := va_rf x15) hx hb hts hown hK hR in_X1 rfl (by decide) (fun _ _ => rfl) q664 (fun _ h9 => h9) (gR_o e16) dX1_unused_66 ?_
    refine lv_aload_n hx hb dX1_unused_69 rfl (lv_at hl 1 rfl) ?_
    replace h := bo_o h
    obtain ⟨x17, e18, h⟩ := h
    refine h_get (ci := 17) (k := 0) (v := va_rf x17) hx hb hts hown hK hR in_X1 rfl (by decide) (fun _ _ => rfl) q662 (fun _ h9 => h9) (gR_o e18) dX1_unused_70 ?_
    refine lv_aload_n hx hb dX1_unused_73 rfl (lv_at hl 0 rfl) ?_
    replace h := bo_o h
    obtain ⟨a19, e20, h⟩ := h
    subst e20
    replace h := bo_o h
    obtain ⟨a21, e22, h⟩ := h
    subst e22
    replace h := bo_o h
    obtain ⟨_, e24, h⟩ := h
    replace h := b2_o h
    obtain ⟨x26, w23, e25, h⟩ := h
    refine h_callV 2 (ci := 23) (As := [.ref a21, .ref a12]) (rest := []) (v := (some (.int x26))) (w' := w23) (st1 := [.int x26]) hx hb hml hown hts hK hR hS (Nat.le_refl _) (Nat.le_refl _) rfl e24 (mX4_walk e25) (lw_V q1266 q1267 q1268 q135 q1269) (by decide +kernel) (Nat.le_of_ble_eq_true rfl) (Nat.le_of_ble_eq_true rfl) rfl hl.1 (Nat.le_of_ble_eq_true rfl) dX1_unused_74 rfl rfl (fun H locs hR hS => ?_)
    refine lv_if_ne (tgt := 83) hx hb dX1_unused_77 (by decide) (fun c27 => ?_) (fun c27 => ?_)
    · replace h := if_o c27 h
      refine lv_iconst (v := 0) hx hb dX1_unused_83 (by decide) ?_
      refine lv_istore (lv' := [(4, .int 0), (3, .ref a12), (0, .ref v0), (1, .ref v1), (2, .ref a1)]) hx hb dX1_unused_84 hl (by decide) rfl (fun ls hl => ?_)
      exact lX1_unused_86 (x := x) (r := r) B k46 kR _ _ h H locs ls hR hS (lv_sub hl [2, 3, 4, 0] rfl)
    · replace h := it_o c27 h
      refine lv_goto (tgt := 46) hx hb dX1_unused_80 (by decide) ?_
      exact k46 _ (Option.some.inj h).symm H locs ls hR hS (lv_sub hl [1, 2, 3] rfl)
noncomputable def fX1_unused_l46 (v0 : Nat) (v1 : Nat) (v2 : Option Nat) (w : WH) : Option ((Int32 × WH)) := whileO (fun q => fX1_unused_b46 v0 v1 v2 q) w
theorem lX1_unused_46 {p : Program} {l : Launch} {e : Env} {s : State} {m : MethodId} {args : Array Value} {below : List Frame} {meth : Method} {c : Code} {G : gE} {A : Nat → Prop} {w0 : WH} (B : gB G RX1 cX1_unused 5 (some .int) p s m args meth c) {v0 : Nat} {v1 : Nat} {v2 : Option Nat} {r : (Int32 × WH)}   : ∀ (w : WH), fX1_unused_l46 v0 v1 v2 w = some r → ∀ (H : Heap) (locs : List Loc) (ls : Array Slot), RepH G A w H → Cu A s w0 w H locs → lv_has ls 5 [(0, .ref v0), (1, .ref v1), (2, va_rf v2)] → W p l e (hRm 18 410 w0) s m args below meth c H locs (wC w0 - wC w) (wS w0 - wS w) (hZ below args s G A w0 (some (.int r.1)) r.2) (F0 m 46 ls []) := by
  intro  w h
  refine wh_walk (body := (fun q => fX1_unused_b46 v0 v1 v2 q)) (P := (fun q : (WH) => ∀ (H : Heap) (locs : List Loc) (ls : Array Slot), RepH G A q H → Cu A s w0 q H locs → lv_has ls 5 [(0, .ref v0), (1, .ref v1), (2, va_rf v2)] → W p l e (hRm 18 410 w0) s m args below meth c H locs (wC w0 - wC q) (wS w0 - wS q) (hZ below args s G A w0 (some (.int r.1)) r.2) (F0 m 46 ls []))) (r := r) ?_ w h
  intro q y hy hL hr H locs ls hR hS hl
  exact bX1_unused_46 (r := r) B hy (fun a0 e => hL a0 e) (fun q e => hr q e) hR hS hl
noncomputable def fX1_unused (v0 : Nat) (w : WH) : Option ((Int32 × WH)) :=
  b2_ (hNw w 3 0 [.null, .int 0, .int 0]) fun a1 w2 =>
  (fJ17_init a1 24 w2).bind fun w4 =>
  (gR w4 v0 17 0).bind fun x6 =>
  x6.bind fun a8 =>
  (gR w4 a8 21 0).bind fun x10 =>
  x10.bind fun a12 =>
  (gR w4 a12 22 1).bind fun x14 =>
  x14.bind fun a16 =>
  (hIs w4 a16 2).bind fun _ =>
  b2_ (fJ2_size a16 w4) fun x21 w18 =>
  (hIs w18 a1 0).bind fun _ =>
  (fJ17_set a1 0 x21 w18).bind fun w22 =>
  (gR w22 v0 17 0).bind fun x25 =>
  x25.bind fun a27 =>
  (gR w22 a27 21 0).bind fun x29 =>
  x29.bind fun a31 =>
  (gR w22 a31 22 2).bind fun x33 =>
  x33.bind fun a35 =>
  (hIs w22 a35 2).bind fun _ =>
  b2_ (fJ2_iterator a35 w22) fun x40 w37 =>
  fX1_unused_l46 v0 a1 x40 w37
theorem bX1_unused_0 {p : Program} {l : Launch} {e : Env} {s : State} {m : MethodId} {args : Array Value} {below : List Frame} {meth : Method} {c : Code} {H : Heap} {locs : List Loc} {ls : Array Slot} {G : gE} {A : Nat → Prop} {w0 : WH} (B : gB G RX1 cX1_unused 5 (some .int) p s m args meth c) {v0 : Nat} {w : WH} {r : (Int32 × WH)} (h : fX1_unused v0 w = some r)   (hR : RepH G A w H) (hS : Cu A s w0 w H locs) (hl : lv_has ls 5 [(0, .ref v0)]) : W p l e (hRm 18 410 w0) s m args below meth c H locs (wC w0 - wC w) (wS w0 - wS w) (hZ below args s G A w0 (some (.int r.1)) r.2) (F0 m 0 ls []) := by
  have B0 := B
  obtain ⟨hx, hb, hml, hown, hts, hr, hlk, hK⟩ := B0
  unfold fX1_unused at h
  replace h := b2_o h
  obtain ⟨a1, w2, e3, h⟩ := h
  refine h_new (ci := 0) (fs := [.null, .int 0, .int 0]) hx hb hts hown hK hR hS (Nat.le_refl _) (Nat.le_refl _) in_J17 tyJ17 tyJ17_ok rfl (by decide +kernel) q1413 q562 q134 e3 dX1_unused_0 (fun H locs hR hS => ?_)
  refine lv_dup hx hb dX1_unused_3 rfl ?_
  refine lv_bipush (v := 24) hx hb dX1_unused_4 (by decide) ?_
  replace h := bo_o h
  obtain ⟨w4, e5, h⟩ := h
  refine h_callI 1  (As := [.int 24]) (rest := [.ref a1]) (w' := w4) hx hb hml hown hts hK hR hS (Nat.le_refl _) (Nat.le_refl _) (mJ17_init e5) (lw_meth q565) q134 q1414 q564 rfl (by decide +kernel) (Nat.le_of_ble_eq_true rfl) (Nat.le_of_ble_eq_true rfl) rfl hl.1 (Nat.le_of_ble_eq_true rfl) dX1_unused_6 rfl (fun H locs hR hS => ?_)
  refine lv_astore_n (lv' := [(1, .ref a1), (0, .ref v0)]) hx hb dX1_unused_9 rfl hl (by decide) rfl (fun ls hl => ?_)
  refine lv_aload_n hx hb dX1_unused_10 rfl (lv_at hl 0 rfl) ?_
  refine lv_iconst (v := 0) hx hb dX1_unused_11 (by decide) ?_
  refine lv_aload_n hx hb dX1_unused_12 rfl (lv_at hl 1 rfl) ?_
  replace h := bo_o h
  obtain ⟨x6, e7, h⟩ := h
  refine h_get (ci := 17) (k := 0) (v := va_rf x6) hx hb hts hown hK hR in_X1 rfl (by decide) (fun _ _ => rfl) q662 (fun _ h9 => h9) (gR_o e7) dX1_unused_13 ?_
  replace h := bo_o h
  obtain ⟨a8, e9, h⟩ := h
  subst e9
  replace h := bo_o h
  obtain ⟨x10, e11, h⟩ := h
  refine h_getN (ci := 21) (k := 0) (v := va_rf x10) hx hb hts hown hK hR in_X2 rfl (by decide) (fun _ _ => rfl) (hK.fn 15 rfl) (fun _ h9 => h9) (gR_o e11) dX1_unused_16 ?_
  replace h := bo_o h
  obtain ⟨a12, e13, h⟩ := h
  subst e13
  replace h := bo_o h
  obtain ⟨x14, e15, h⟩ := h
  refine h_getN (ci := 22) (k := 1) (v := va_rf x14) hx hb hts hown hK hR in_X3 rfl (by decide) (fun _ _ => rfl) (hK.fn 6 rfl) (fun _ h9 => h9) (gR_o e15) dX1_unused_19 ?_
  replace h := bo_o h
  obtain ⟨a16, e17, h⟩ := h
  subst e17
  replace h := bo_o h
  obtain ⟨_, e19, h⟩ := h
  replace h := b2_o h
  obtain ⟨x21, w18, e20, h⟩ := h
  refine h_callF 0  (As := []) (rest := [.int 0, .ref a1]) (v := (some (.int x21))) (w' := w18) (st1 := [.int x21, .int 0, .ref a1]) hx hb hml hown hts hK hR hS (Nat.le_refl _) (Nat.le_refl _) (h_recv (ci := 2) hK hR hS rfl e19) (mJ2_size e20) (lw_app (a := [.methodLink _ _ _, .selects _ _ _, .instanceMethod _, .initialized _]) (lw_4 q1076 q903 q905 q117) (lw_meth q907)) (hK.fw 0 rfl) (by decide +kernel) (Nat.le_of_ble_eq_true rfl) (Nat.le_of_ble_eq_true rfl) rfl hl.1 (Nat.le_of_ble_eq_true rfl) dX1_unused_22 rfl rfl (fun H locs hR hS => ?_)
  replace h := bo_o h
  obtain ⟨_, e23, h⟩ := h
  replace h := bo_o h
  obtain ⟨w22, e24, h⟩ := h
  refine h_callV 2 (ci := 0) (As := [.int 0, .int x21]) (rest := []) (v := none) (w' := w22) (st1 := []) hx hb hml hown hts hK hR hS (Nat.le_refl _) (Nat.le_refl _) rfl e23 (mJ17_set e24) (lw_V q1415 q1416 q1417 q134 q1418) (by decide +kernel) (Nat.le_of_ble_eq_true rfl) (Nat.le_of_ble_eq_true rfl) rfl hl.1 (Nat.le_of_ble_eq_true rfl) dX1_unused_27 rfl rfl (fun H locs hR hS => ?_)
  refine lv_aload_n hx hb dX1_unused_30 rfl (lv_at hl 1 rfl) ?_
  replace h := bo_o h
  obtain ⟨x25, e26, h⟩ := h
  refine h_get (ci := 17) (k := 0) (v := va_rf x25) hx hb hts hown hK hR in_X1 rfl (by decide) (fun _ _ => rfl) q662 (fun _ h9 => h9) (gR_o e26) dX1_unused_31 ?_
  replace h := bo_o h
  obtain ⟨a27, e28, h⟩ := h
  subst e28
  replace h := bo_o h
  obtain ⟨x29, e30, h⟩ := h
  refine h_getN (ci := 21) (k := 0) (v := va_rf x29) hx hb hts hown hK hR in_X2 rfl (by decide) (fun _ _ => rfl) (hK.fn 15 rfl) (fun _ h9 => h9) (gR_o e30) dX1_unused_34 ?_
  replace h := bo_o h
  obtain ⟨a31, e32, h⟩ := h
  subst e32
  replace h := bo_o h
  obtain ⟨x33, e34, h⟩ := h
  refine h_getN (ci := 22) (k := 2) (v := va_rf x33) hx hb hts hown hK hR in_X3 rfl (by decide) (fun _ _ => rfl) (hK.fn 10 rfl) (fun _ h9 => h9) (gR_o e34) dX1_unused_37 ?_
  replace h := bo_o h
  obtain ⟨a35, e36, h⟩ := h
  subst e36
  replace h := bo_o h
  obtain ⟨_, e38, h⟩ := h
  replace h := b2_o h
  obtain ⟨x40, w37, e39, h⟩ := h
  refine h_callF 0  (As := []) (rest := []) (v := (some (va_rf x40))) (w' := w37) (st1 := [va_rf x40]) hx hb hml hown hts hK hR hS (Nat.le_refl _) (Nat.le_refl _) (h_recv (ci := 2) hK hR hS rfl e38) (mJ2_iterator e39) (lw_app (a := [.methodLink _ _ _, .selects _ _ _, .instanceMethod _, .initialized _]) (lw_4 q1432 q1435 q1437 q117) (lw_meth q1439)) (hK.fw 3 rfl) (by decide +kernel) (Nat.le_of_ble_eq_true rfl) (Nat.le_of_ble_eq_true rfl) rfl hl.1 (Nat.le_of_ble_eq_true rfl) dX1_unused_40 rfl rfl (fun H locs hR hS => ?_)
  refine lv_astore_nq (lv' := [(2, va_rf x40), (1, .ref a1), (0, .ref v0)]) hx hb dX1_unused_45 rfl hl (by decide) rfl (fun ls hl => ?_)
  exact lX1_unused_46 B _ h H locs ls hR hS (lv_sub hl [2, 1, 0] rfl)
theorem mX1_unused {l : Launch} {G : gE} {A : Nat → Prop} {v0 : Nat} {w : WH} {r : (Int32 × WH)} (h : fX1_unused v0 w = some r) : hM l G A yX1_unused cX1_unused 5 (some .int) 18 410 [.ref v0] w (some (.int r.1)) r.2 :=
  h_of (by decide +kernel) (Nat.le_of_ble_eq_true rfl) (fun p e s m args below meth c ls B hnm hR hS hl => bX1_unused_0 B h hR hS hl)
noncomputable def fX4_tolls_b4 (v0 : Nat) (v1 : Nat) (v2 : Int32) (v3 : Int32) (w : WH) : Option (Sum (Int32 × Int32 × WH) ((Int32 × WH))) :=
  (gI w v0 23 5).bind fun x1 =>
  if x1 ≤ v3 then (
    some (.inr (v2, w))
  ) else (
    (gR w v1 21 1).bind fun x4 =>
    (gR w v0 23 2).bind fun x6 =>
    x6.bind fun a8 =>
    (ldI w a8 0 v3).bind fun x10 =>
    x4.bind fun a12 =>
    (ldI w a12 0 x10).bind fun x14 =>
    nm_ (v2 + x14) fun x16 =>
    some (.inl (x16, v3 + 1, w))
  )
theorem bX4_tolls_4 {p : Program} {l : Launch} {e : Env} {s : State} {m : MethodId} {args : Array Value} {below : List Frame} {meth : Method} {c : Code} {H : Heap} {locs : List Loc} {ls : Array Slot} {G : gE} {A : Nat → Prop} {w0 : WH} (B : gB G RX4 cX4_tolls 4 (some .int) p s m args meth c) {v0 : Nat} {v1 : Nat} {v2 : Int32} {v3 : Int32} {w : WH} {x : Sum (Int32 × Int32 × WH) ((Int32 × WH))} {r : (Int32 × WH)} (h : fX4_tolls_b4 v0 v1 v2 v3 w = some x)  (k4 : ∀ (v2' : Int32) (v3' : Int32) (w' : WH), x = (.inl (v2', v3', w')) → ∀ (H : Heap) (locs : List Loc) (ls : Array Slot), RepH G A w' H → Cu A s w0 w' H locs → lv_has ls 4 [(0, .ref v0), (1, .ref v1), (2, .int v2'), (3, .int v3')] → W p l e (hRm 0 0 w0) s m args below meth c H locs (wC w0 - wC w') (wS w0 - wS w') (hZ below args s G A w0 (some (.int r.1)) r.2) (F0 m 4 ls [])) (kR : ∀ q, x = (.inr q) → q = r) (hR : RepH G A w H) (hS : Cu A s w0 w H locs) (hl : lv_has ls 4 [(0, .ref v0), (1, .ref v1), (2, .int v2), (3, .int v3)]) : W p l e (hRm 0 0 w0) s m args below meth c H locs (wC w0 - wC w) (wS w0 - wS w) (hZ below args s G A w0 (some (.int r.1)) r.2) (F0 m 4 ls []) := by
  have B0 := B
  obtain ⟨hx, hb, hml, hown, hts, hr, hlk, hK⟩ := B0
  unfold fX4_tolls_b4 at h
  refine lv_iload_n hx hb dX4_tolls_4 rfl (lv_at hl 3 rfl) ?_
  refine lv_aload_n hx hb dX4_tolls_5 rfl (lv_at hl 0 rfl) ?_
  replace h := bo_o h
  obtain ⟨x1, e2, h⟩ := h
  refine h_get (ci := 23) (k := 5) (v := .int x1) hx hb hts hown hK hR in_X4 rfl (by decide) (fun _ _ => rfl) q624 (fun _ h9 => h9) (gI_o e2) dX4_tolls_6 ?_
  refine lv_icmp_ge (tgt := 32) hx hb dX4_tolls_9 (by decide) (fun c3 => ?_) (fun c3 => ?_)
  · replace h := it_o c3 h
    refine lv_iload_n hx hb dX4_tolls_32 rfl (lv_at hl 2 rfl) ?_
    have eR := kR _ (Option.some.inj h).symm
    subst eR
    exact h_ifin hx hb hr hlk hR hS dX4_tolls_33
  · replace h := if_o c3 h
    refine lv_iload_n hx hb dX4_tolls_12 rfl (lv_at hl 2 rfl) ?_
    refine lv_aload_n hx hb dX4_tolls_13 rfl (lv_at hl 1 rfl) ?_
    replace h := bo_o h
    obtain ⟨x4, e5, h⟩ := h
    refine h_getN (ci := 21) (k := 1) (v := va_rf x4) hx hb hts hown hK hR in_X2 rfl (by decide) (fun _ _ => rfl) (hK.fn 17 rfl) (fun _ h9 => h9) (gR_o e5) dX4_tolls_14 ?_
    refine lv_aload_n hx hb dX4_tolls_17 rfl (lv_at hl 0 rfl) ?_
    replace h := bo_o h
    obtain ⟨x6, e7, h⟩ := h
    refine h_get (ci := 23) (k := 2) (v := va_rf x6) hx hb hts hown hK hR in_X4 rfl (by decide) (fun _ _ => rfl) q620 (fun _ h9 => h9) (gR_o e7) dX4_tolls_18 ?_
    refine lv_iload_n hx hb dX4_tolls_21 rfl (lv_at hl 3 rfl) ?_
    replace h := bo_o h
    obtain ⟨a8, e9, h⟩ := h
    subst e9
    replace h := bo_o h
    obtain ⟨x10, e11, h⟩ := h
    refine h_iald hx hb hK hR e11 dX4_tolls_22 ?_
    replace h := bo_o h
    obtain ⟨a12, e13, h⟩ := h
    subst e13
    replace h := bo_o h
    obtain ⟨x14, e15, h⟩ := h
    refine h_iald hx hb hK hR e15 dX4_tolls_23 ?_
    refine lv_iadd hx hb dX4_tolls_24 ?_
    replace h := nm_o h
    obtain ⟨x16, e17, h⟩ := h
    refine lv_istore_n (lv' := [(2, .int x16), (0, .ref v0), (1, .ref v1), (3, .int v3)]) hx hb dX4_tolls_25 rfl hl (by decide) (by subst e17; rfl) (fun ls hl => ?_)
    refine lv_iinc (v := v3 + 1) (lv' := [(3, .int (v3 + 1)), (2, .int x16), (0, .ref v0), (1, .ref v1)]) hx hb dX4_tolls_26 hl (k := 3) rfl rfl (by decide) rfl (fun ls hl => ?_)
    refine lv_goto (tgt := 4) hx hb dX4_tolls_29 (by decide) ?_
    exact k4 _ _ _ (Option.some.inj h).symm H locs ls hR hS (lv_sub hl [2, 3, 1, 0] rfl)
noncomputable def fX4_tolls_l4 (v0 : Nat) (v1 : Nat) (v2 : Int32) (v3 : Int32) (w : WH) : Option ((Int32 × WH)) := whileO (fun q => fX4_tolls_b4 v0 v1 q.1 q.2.1 q.2.2) (v2, v3, w)
theorem lX4_tolls_4 {p : Program} {l : Launch} {e : Env} {s : State} {m : MethodId} {args : Array Value} {below : List Frame} {meth : Method} {c : Code} {G : gE} {A : Nat → Prop} {w0 : WH} (B : gB G RX4 cX4_tolls 4 (some .int) p s m args meth c) {v0 : Nat} {v1 : Nat} {r : (Int32 × WH)}   : ∀ (v2 : Int32) (v3 : Int32) (w : WH), fX4_tolls_l4 v0 v1 v2 v3 w = some r → ∀ (H : Heap) (locs : List Loc) (ls : Array Slot), RepH G A w H → Cu A s w0 w H locs → lv_has ls 4 [(0, .ref v0), (1, .ref v1), (2, .int v2), (3, .int v3)] → W p l e (hRm 0 0 w0) s m args below meth c H locs (wC w0 - wC w) (wS w0 - wS w) (hZ below args s G A w0 (some (.int r.1)) r.2) (F0 m 4 ls []) := by
  intro v2 v3 w h
  refine wh_walk (body := (fun q => fX4_tolls_b4 v0 v1 q.1 q.2.1 q.2.2)) (P := (fun q : (Int32 × Int32 × WH) => ∀ (H : Heap) (locs : List Loc) (ls : Array Slot), RepH G A (q.2.2) H → Cu A s w0 (q.2.2) H locs → lv_has ls 4 [(0, .ref v0), (1, .ref v1), (2, .int (q.1)), (3, .int (q.2.1))] → W p l e (hRm 0 0 w0) s m args below meth c H locs (wC w0 - wC (q.2.2)) (wS w0 - wS (q.2.2)) (hZ below args s G A w0 (some (.int r.1)) r.2) (F0 m 4 ls []))) (r := r) ?_ (v2, v3, w) h
  intro q y hy hL hr H locs ls hR hS hl
  exact bX4_tolls_4 (r := r) B hy (fun a0 a1 a2 e => hL (a0, a1, a2) e) (fun q e => hr q e) hR hS hl
noncomputable def fX4_tolls (v0 : Nat) (v1 : Nat) (w : WH) : Option ((Int32 × WH)) :=
  fX4_tolls_l4 v0 v1 0 0 w
theorem bX4_tolls_0 {p : Program} {l : Launch} {e : Env} {s : State} {m : MethodId} {args : Array Value} {below : List Frame} {meth : Method} {c : Code} {H : Heap} {locs : List Loc} {ls : Array Slot} {G : gE} {A : Nat → Prop} {w0 : WH} (B : gB G RX4 cX4_tolls 4 (some .int) p s m args meth c) {v0 : Nat} {v1 : Nat} {w : WH} {r : (Int32 × WH)} (h : fX4_tolls v0 v1 w = some r)   (hR : RepH G A w H) (hS : Cu A s w0 w H locs) (hl : lv_has ls 4 [(0, .ref v0), (1, .ref v1)]) : W p l e (hRm 0 0 w0) s m args below meth c H locs (wC w0 - wC w) (wS w0 - wS w) (hZ below args s G A w0 (some (.int r.1)) r.2) (F0 m 0 ls []) := by
  have B0 := B
  obtain ⟨hx, hb, hml, hown, hts, hr, hlk, hK⟩ := B0
  unfold fX4_tolls at h
  refine lv_iconst (v := 0) hx hb dX4_tolls_0 (by decide) ?_
  refine lv_istore_n (lv' := [(2, .int 0), (0, .ref v0), (1, .ref v1)]) hx hb dX4_tolls_1 rfl hl (by decide) rfl (fun ls hl => ?_)
  refine lv_iconst (v := 0) hx hb dX4_tolls_2 (by decide) ?_
  refine lv_istore_n (lv' := [(3, .int 0), (2, .int 0), (0, .ref v0), (1, .ref v1)]) hx hb dX4_tolls_3 rfl hl (by decide) rfl (fun ls hl => ?_)
  exact lX4_tolls_4 B _ _ _ h H locs ls hR hS (lv_sub hl [2, 3, 1, 0] rfl)
theorem mX4_tolls {l : Launch} {G : gE} {A : Nat → Prop} {v0 : Nat} {v1 : Nat} {w : WH} {r : (Int32 × WH)} (h : fX4_tolls v0 v1 w = some r) : hM l G A yX4_tolls cX4_tolls 4 (some .int) 0 0 [.ref v0, .ref v1] w (some (.int r.1)) r.2 :=
  h_of (by decide +kernel) (Nat.le_of_ble_eq_true rfl) (fun p e s m args below meth c ls B hnm hR hS hl => bX4_tolls_0 B h hR hS hl)
noncomputable def fX1_brings (v0 : Nat) (v1 : Int32) (w : WH) : Option ((Int64 × WH)) :=
  (gR w v0 17 1).bind fun x1 =>
  (gR w v0 17 0).bind fun x3 =>
  (gR w v0 17 0).bind fun x5 =>
  x5.bind fun a7 =>
  (gR w a7 21 0).bind fun x9 =>
  x9.bind fun a11 =>
  (gR w a11 22 2).bind fun x13 =>
  x13.bind fun a15 =>
  (hIs w a15 2).bind fun _ =>
  b2_ (fJ2_get a15 v1 w) fun x20 w17 =>
  x20.bind fun a21 =>
  (hIs w17 a21 28).bind fun _ =>
  x1.bind fun a24 =>
  x3.bind fun a26 =>
  (hIs w17 a24 23).bind fun _ =>
  b2_ (fX4_walk a24 a26 a21 w17) fun x31 w28 =>
  if x31 = 0 then (
    some (0, w28)
  ) else (
    (gR w28 v0 17 0).bind fun x33 =>
    x33.bind fun a35 =>
    (gR w28 a35 21 2).bind fun x37 =>
    x37.bind fun a39 =>
    (ldI w28 a39 0 v1).bind fun x41 =>
    (gR w28 v0 17 1).bind fun x43 =>
    (gR w28 v0 17 0).bind fun x45 =>
    x43.bind fun a47 =>
    x45.bind fun a49 =>
    (hIs w28 a47 23).bind fun _ =>
    b2_ (fX4_tolls a47 a49 w28) fun x54 w51 =>
    some ((x41.toInt64) * (x54.toInt64), w51)
  )
theorem bX1_brings_0 {p : Program} {l : Launch} {e : Env} {s : State} {m : MethodId} {args : Array Value} {below : List Frame} {meth : Method} {c : Code} {H : Heap} {locs : List Loc} {ls : Array Slot} {G : gE} {A : Nat → Prop} {w0 : WH} (B : gB G RX1 cX1_brings 2 (some .long) p s m args meth c) {v0 : Nat} {v1 : Int32} {w : WH} {r : (Int64 × WH)} (h : fX1_brings v0 v1 w = some r)   (hR : RepH G A w H) (hS : Cu A s w0 w H locs) (hl : lv_has ls 2 [(0, .ref v0), (1, .int v1)]) : W p l e (hRm 18 410 w0) s m args below meth c H locs (wC w0 - wC w) (wS w0 - wS w) (hZ below args s G A w0 (some (.long r.1)) r.2) (F0 m 0 ls []) := by
  have B0 := B
  obtain ⟨hx, hb, hml, hown, hts, hr, hlk, hK⟩ := B0
  unfold fX1_brings at h
  refine lv_aload_n hx hb dX1_brings_0 rfl (lv_at hl 0 rfl) ?_
  replace h := bo_o h
  obtain ⟨x1, e2, h⟩ := h
  refine h_get (ci := 17) (k := 1) (v := va_rf x1) hx hb hts hown hK hR in_X1 rfl (by decide) (fun _ _ => rfl) q664 (fun _ h9 => h9) (gR_o e2) dX1_brings_1 ?_
  refine lv_aload_n hx hb dX1_brings_4 rfl (lv_at hl 0 rfl) ?_
  replace h := bo_o h
  obtain ⟨x3, e4, h⟩ := h
  refine h_get (ci := 17) (k := 0) (v := va_rf x3) hx hb hts hown hK hR in_X1 rfl (by decide) (fun _ _ => rfl) q662 (fun _ h9 => h9) (gR_o e4) dX1_brings_5 ?_
  refine lv_aload_n hx hb dX1_brings_8 rfl (lv_at hl 0 rfl) ?_
  replace h := bo_o h
  obtain ⟨x5, e6, h⟩ := h
  refine h_get (ci := 17) (k := 0) (v := va_rf x5) hx hb hts hown hK hR in_X1 rfl (by decide) (fun _ _ => rfl) q662 (fun _ h9 => h9) (gR_o e6) dX1_brings_9 ?_
  replace h := bo_o h
  obtain ⟨a7, e8, h⟩ := h
  subst e8
  replace h := bo_o h
  obtain ⟨x9, e10, h⟩ := h
  refine h_getN (ci := 21) (k := 0) (v := va_rf x9) hx hb hts hown hK hR in_X2 rfl (by decide) (fun _ _ => rfl) (hK.fn 15 rfl) (fun _ h9 => h9) (gR_o e10) dX1_brings_12 ?_
  replace h := bo_o h
  obtain ⟨a11, e12, h⟩ := h
  subst e12
  replace h := bo_o h
  obtain ⟨x13, e14, h⟩ := h
  refine h_getN (ci := 22) (k := 2) (v := va_rf x13) hx hb hts hown hK hR in_X3 rfl (by decide) (fun _ _ => rfl) (hK.fn 10 rfl) (fun _ h9 => h9) (gR_o e14) dX1_brings_15 ?_
  refine lv_iload_n hx hb dX1_brings_18 rfl (lv_at hl 1 rfl) ?_
  replace h := bo_o h
  obtain ⟨a15, e16, h⟩ := h
  subst e16
  replace h := bo_o h
  obtain ⟨_, e18, h⟩ := h
  replace h := b2_o h
  obtain ⟨x20, w17, e19, h⟩ := h
  refine h_callF 1  (As := [.int v1]) (rest := [va_rf x3, va_rf x1]) (v := (some (va_rf x20))) (w' := w17) (st1 := [va_rf x20, va_rf x3, va_rf x1]) hx hb hml hown hts hK hR hS (Nat.le_refl _) (Nat.le_refl _) (h_recv (ci := 2) hK hR hS rfl e18) (mJ2_get e19) (lw_app (a := [.methodLink _ _ _, .selects _ _ _, .instanceMethod _, .initialized _]) (lw_4 q1205 q1208 q1210 q117) (lw_meth q1212)) (hK.fw 1 rfl) (by decide +kernel) (Nat.le_of_ble_eq_true rfl) (Nat.le_of_ble_eq_true rfl) rfl hl.1 (cat_le (Nat.le_of_ble_eq_true rfl)) dX1_brings_19 rfl rfl (fun H locs hR hS => ?_)
  replace h := bo_o h
  obtain ⟨a21, e22, h⟩ := h
  subst e22
  replace h := bo_o h
  obtain ⟨_, e23, h⟩ := h
  refine h_castS (ci := 28) hx hb hts hown hK hR hS rfl e23 q1265 dX1_brings_24 ?_
  replace h := bo_o h
  obtain ⟨a24, e25, h⟩ := h
  subst e25
  replace h := bo_o h
  obtain ⟨a26, e27, h⟩ := h
  subst e27
  replace h := bo_o h
  obtain ⟨_, e29, h⟩ := h
  replace h := b2_o h
  obtain ⟨x31, w28, e30, h⟩ := h
  refine h_callV 2 (ci := 23) (As := [.ref a26, .ref a21]) (rest := []) (v := (some (.int x31))) (w' := w28) (st1 := [.int x31]) hx hb hml hown hts hK hR hS (Nat.le_refl _) (Nat.le_refl _) rfl e29 (mX4_walk e30) (lw_V q1266 q1267 q1268 q135 q1269) (by decide +kernel) (Nat.le_of_ble_eq_true rfl) (Nat.le_of_ble_eq_true rfl) rfl hl.1 (Nat.le_of_ble_eq_true rfl) dX1_brings_27 rfl rfl (fun H locs hR hS => ?_)
  refine lv_if_eq (tgt := 59) hx hb dX1_brings_30 (by decide) (fun c32 => ?_) (fun c32 => ?_)
  · replace h := it_o c32 h
    refine lv_lconst (v := 0) hx hb dX1_brings_59 (by decide) ?_
    have eR := Option.some.inj h
    subst eR
    exact h_lfin hx hb hr hlk hR hS dX1_brings_60
  · replace h := if_o c32 h
    refine lv_aload_n hx hb dX1_brings_33 rfl (lv_at hl 0 rfl) ?_
    replace h := bo_o h
    obtain ⟨x33, e34, h⟩ := h
    refine h_get (ci := 17) (k := 0) (v := va_rf x33) hx hb hts hown hK hR in_X1 rfl (by decide) (fun _ _ => rfl) q662 (fun _ h9 => h9) (gR_o e34) dX1_brings_34 ?_
    replace h := bo_o h
    obtain ⟨a35, e36, h⟩ := h
    subst e36
    replace h := bo_o h
    obtain ⟨x37, e38, h⟩ := h
    refine h_getN (ci := 21) (k := 2) (v := va_rf x37) hx hb hts hown hK hR in_X2 rfl (by decide) (fun _ _ => rfl) (hK.fn 19 rfl) (fun _ h9 => h9) (gR_o e38) dX1_brings_37 ?_
    refine lv_iload_n hx hb dX1_brings_40 rfl (lv_at hl 1 rfl) ?_
    replace h := bo_o h
    obtain ⟨a39, e40, h⟩ := h
    subst e40
    replace h := bo_o h
    obtain ⟨x41, e42, h⟩ := h
    refine h_iald hx hb hK hR e42 dX1_brings_41 ?_
    refine lv_i2l hx hb dX1_brings_42 rfl ?_
    refine lv_aload_n hx hb dX1_brings_43 rfl (lv_at hl 0 rfl) ?_
    replace h := bo_o h
    obtain ⟨x43, e44, h⟩ := h
    refine h_get (ci := 17) (k := 1) (v := va_rf x43) hx hb hts hown hK hR in_X1 rfl (by decide) (fun _ _ => rfl) q664 (fun _ h9 => h9) (gR_o e44) dX1_brings_44 ?_
    refine lv_aload_n hx hb dX1_brings_47 rfl (lv_at hl 0 rfl) ?_
    replace h := bo_o h
    obtain ⟨x45, e46, h⟩ := h
    refine h_get (ci := 17) (k := 0) (v := va_rf x45) hx hb hts hown hK hR in_X1 rfl (by decide) (fun _ _ => rfl) q662 (fun _ h9 => h9) (gR_o e46) dX1_brings_48 ?_
    replace h := bo_o h
    obtain ⟨a47, e48, h⟩ := h
    subst e48
    replace h := bo_o h
    obtain ⟨a49, e50, h⟩ := h
    subst e50
    replace h := bo_o h
    obtain ⟨_, e52, h⟩ := h
    replace h := b2_o h
    obtain ⟨x54, w51, e53, h⟩ := h
    refine h_callV 1 (ci := 23) (As := [.ref a49]) (rest := [.long (x41.toInt64)]) (v := (some (.int x54))) (w' := w51) (st1 := [.int x54, .long (x41.toInt64)]) hx hb hml hown hts hK hR hS (Nat.le_refl _) (Nat.le_refl _) rfl e52 (mX4_tolls e53) (lw_V q1735 q1736 q1737 q135 q1738) (by decide +kernel) (Nat.le_of_ble_eq_true rfl) (Nat.le_of_ble_eq_true rfl) rfl hl.1 (Nat.le_of_ble_eq_true rfl) dX1_brings_51 rfl rfl (fun H locs hR hS => ?_)
    refine lv_i2l hx hb dX1_brings_54 rfl ?_
    refine lv_lmul hx hb dX1_brings_55 ?_
    refine lv_goto (tgt := 60) hx hb dX1_brings_56 (by decide) ?_
    have eR := Option.some.inj h
    subst eR
    exact h_lfin hx hb hr hlk hR hS dX1_brings_60
theorem mX1_brings {l : Launch} {G : gE} {A : Nat → Prop} {v0 : Nat} {v1 : Int32} {w : WH} {r : (Int64 × WH)} (h : fX1_brings v0 v1 w = some r) : hM l G A yX1_brings cX1_brings 2 (some .long) 18 410 [.ref v0, .int v1] w (some (.long r.1)) r.2 :=
  h_of (by decide +kernel) (Nat.le_of_ble_eq_true rfl) (fun p e s m args below meth c ls B hnm hR hS hl => bX1_brings_0 B h hR hS hl)
noncomputable def fX1_brought_b4 (v0 : Nat) (v1 : Int64) (v3 : Int32) (w : WH) : Option (Sum (Int64 × Int32 × WH) ((Int64 × WH))) :=
  (gR w v0 17 0).bind fun x1 =>
  x1.bind fun a3 =>
  (gR w a3 21 0).bind fun x5 =>
  x5.bind fun a7 =>
  (gR w a7 22 2).bind fun x9 =>
  x9.bind fun a11 =>
  (hIs w a11 2).bind fun _ =>
  b2_ (fJ2_size a11 w) fun x16 w13 =>
  if x16 ≤ v3 then (
    some (.inr (v1, w13))
  ) else (
    (hIs w13 v0 17).bind fun _ =>
    b2_ (fX1_brings v0 v3 w13) fun x21 w18 =>
    nm_ (v1 + x21) fun x22 =>
    some (.inl (x22, v3 + 1, w18))
  )
theorem bX1_brought_4 {p : Program} {l : Launch} {e : Env} {s : State} {m : MethodId} {args : Array Value} {below : List Frame} {meth : Method} {c : Code} {H : Heap} {locs : List Loc} {ls : Array Slot} {G : gE} {A : Nat → Prop} {w0 : WH} (B : gB G RX1 cX1_brought 4 (some .long) p s m args meth c) {v0 : Nat} {v1 : Int64} {v3 : Int32} {w : WH} {x : Sum (Int64 × Int32 × WH) ((Int64 × WH))} {r : (Int64 × WH)} (h : fX1_brought_b4 v0 v1 v3 w = some x)  (k4 : ∀ (v1' : Int64) (v3' : Int32) (w' : WH), x = (.inl (v1', v3', w')) → ∀ (H : Heap) (locs : List Loc) (ls : Array Slot), RepH G A w' H → Cu A s w0 w' H locs → lv_has ls 4 [(0, .ref v0), (1, .long v1'), (3, .int v3')] → W p l e (hRm 19 431 w0) s m args below meth c H locs (wC w0 - wC w') (wS w0 - wS w') (hZ below args s G A w0 (some (.long r.1)) r.2) (F0 m 4 ls [])) (kR : ∀ q, x = (.inr q) → q = r) (hR : RepH G A w H) (hS : Cu A s w0 w H locs) (hl : lv_has ls 4 [(0, .ref v0), (1, .long v1), (3, .int v3)]) : W p l e (hRm 19 431 w0) s m args below meth c H locs (wC w0 - wC w) (wS w0 - wS w) (hZ below args s G A w0 (some (.long r.1)) r.2) (F0 m 4 ls []) := by
  have B0 := B
  obtain ⟨hx, hb, hml, hown, hts, hr, hlk, hK⟩ := B0
  unfold fX1_brought_b4 at h
  refine lv_iload_n hx hb dX1_brought_4 rfl (lv_at hl 2 rfl) ?_
  refine lv_aload_n hx hb dX1_brought_5 rfl (lv_at hl 0 rfl) ?_
  replace h := bo_o h
  obtain ⟨x1, e2, h⟩ := h
  refine h_get (ci := 17) (k := 0) (v := va_rf x1) hx hb hts hown hK hR in_X1 rfl (by decide) (fun _ _ => rfl) q662 (fun _ h9 => h9) (gR_o e2) dX1_brought_6 ?_
  replace h := bo_o h
  obtain ⟨a3, e4, h⟩ := h
  subst e4
  replace h := bo_o h
  obtain ⟨x5, e6, h⟩ := h
  refine h_getN (ci := 21) (k := 0) (v := va_rf x5) hx hb hts hown hK hR in_X2 rfl (by decide) (fun _ _ => rfl) (hK.fn 15 rfl) (fun _ h9 => h9) (gR_o e6) dX1_brought_9 ?_
  replace h := bo_o h
  obtain ⟨a7, e8, h⟩ := h
  subst e8
  replace h := bo_o h
  obtain ⟨x9, e10, h⟩ := h
  refine h_getN (ci := 22) (k := 2) (v := va_rf x9) hx hb hts hown hK hR in_X3 rfl (by decide) (fun _ _ => rfl) (hK.fn 10 rfl) (fun _ h9 => h9) (gR_o e10) dX1_brought_12 ?_
  replace h := bo_o h
  obtain ⟨a11, e12, h⟩ := h
  subst e12
  replace h := bo_o h
  obtain ⟨_, e14, h⟩ := h
  replace h := b2_o h
  obtain ⟨x16, w13, e15, h⟩ := h
  refine h_callF 0  (As := []) (rest := [.int v3]) (v := (some (.int x16))) (w' := w13) (st1 := [.int x16, .int v3]) hx hb hml hown hts hK hR hS (Nat.le_refl _) (Nat.le_refl _) (h_recv (ci := 2) hK hR hS rfl e14) (mJ2_size e15) (lw_app (a := [.methodLink _ _ _, .selects _ _ _, .instanceMethod _, .initialized _]) (lw_4 q1076 q903 q905 q117) (lw_meth q907)) (hK.fw 0 rfl) (by decide +kernel) (Nat.le_of_ble_eq_true rfl) (Nat.le_of_ble_eq_true rfl) rfl hl.1 (Nat.le_of_ble_eq_true rfl) dX1_brought_15 rfl rfl (fun H locs hR hS => ?_)
  refine lv_icmp_ge (tgt := 37) hx hb dX1_brought_20 (by decide) (fun c17 => ?_) (fun c17 => ?_)
  · replace h := it_o c17 h
    refine lv_lload_n hx hb dX1_brought_37 rfl (lv_at hl 1 rfl) ?_
    have eR := kR _ (Option.some.inj h).symm
    subst eR
    exact h_lfin hx hb hr hlk hR hS dX1_brought_38
  · replace h := if_o c17 h
    refine lv_lload_n hx hb dX1_brought_23 rfl (lv_at hl 1 rfl) ?_
    refine lv_aload_n hx hb dX1_brought_24 rfl (lv_at hl 0 rfl) ?_
    refine lv_iload_n hx hb dX1_brought_25 rfl (lv_at hl 2 rfl) ?_
    replace h := bo_o h
    obtain ⟨_, e19, h⟩ := h
    replace h := b2_o h
    obtain ⟨x21, w18, e20, h⟩ := h
    refine h_callV 1 (ci := 17) (As := [.int v3]) (rest := [.long v1]) (v := (some (.long x21))) (w' := w18) (st1 := [.long x21, .long v1]) hx hb hml hown hts hK hR hS (Nat.le_refl _) (Nat.le_refl _) rfl e19 (mX1_brings e20) (lw_V q1731 q1733 qs38 q112 q1734) (by decide +kernel) (Nat.le_of_ble_eq_true rfl) (Nat.le_of_ble_eq_true rfl) rfl hl.1 (Nat.le_of_ble_eq_true rfl) dX1_brought_26 rfl rfl (fun H locs hR hS => ?_)
    refine lv_ladd hx hb dX1_brought_29 ?_
    replace h := nm_o h
    obtain ⟨x22, e23, h⟩ := h
    refine lv_lstore_n (lv' := [(1, .long x22), (0, .ref v0), (3, .int v3)]) hx hb dX1_brought_30 rfl hl (by decide) (by subst e23; rfl) (fun ls hl => ?_)
    refine lv_iinc (v := v3 + 1) (lv' := [(3, .int (v3 + 1)), (1, .long x22), (0, .ref v0)]) hx hb dX1_brought_31 hl (k := 2) rfl rfl (by decide) rfl (fun ls hl => ?_)
    refine lv_goto (tgt := 4) hx hb dX1_brought_34 (by decide) ?_
    exact k4 _ _ _ (Option.some.inj h).symm H locs ls hR hS (lv_sub hl [2, 1, 0] rfl)
noncomputable def fX1_brought_l4 (v0 : Nat) (v1 : Int64) (v3 : Int32) (w : WH) : Option ((Int64 × WH)) := whileO (fun q => fX1_brought_b4 v0 q.1 q.2.1 q.2.2) (v1, v3, w)
theorem lX1_brought_4 {p : Program} {l : Launch} {e : Env} {s : State} {m : MethodId} {args : Array Value} {below : List Frame} {meth : Method} {c : Code} {G : gE} {A : Nat → Prop} {w0 : WH} (B : gB G RX1 cX1_brought 4 (some .long) p s m args meth c) {v0 : Nat} {r : (Int64 × WH)}   : ∀ (v1 : Int64) (v3 : Int32) (w : WH), fX1_brought_l4 v0 v1 v3 w = some r → ∀ (H : Heap) (locs : List Loc) (ls : Array Slot), RepH G A w H → Cu A s w0 w H locs → lv_has ls 4 [(0, .ref v0), (1, .long v1), (3, .int v3)] → W p l e (hRm 19 431 w0) s m args below meth c H locs (wC w0 - wC w) (wS w0 - wS w) (hZ below args s G A w0 (some (.long r.1)) r.2) (F0 m 4 ls []) := by
  intro v1 v3 w h
  refine wh_walk (body := (fun q => fX1_brought_b4 v0 q.1 q.2.1 q.2.2)) (P := (fun q : (Int64 × Int32 × WH) => ∀ (H : Heap) (locs : List Loc) (ls : Array Slot), RepH G A (q.2.2) H → Cu A s w0 (q.2.2) H locs → lv_has ls 4 [(0, .ref v0), (1, .long (q.1)), (3, .int (q.2.1))] → W p l e (hRm 19 431 w0) s m args below meth c H locs (wC w0 - wC (q.2.2)) (wS w0 - wS (q.2.2)) (hZ below args s G A w0 (some (.long r.1)) r.2) (F0 m 4 ls []))) (r := r) ?_ (v1, v3, w) h
  intro q y hy hL hr H locs ls hR hS hl
  exact bX1_brought_4 (r := r) B hy (fun a0 a1 a2 e => hL (a0, a1, a2) e) (fun q e => hr q e) hR hS hl
noncomputable def fX1_brought (v0 : Nat) (w : WH) : Option ((Int64 × WH)) :=
  fX1_brought_l4 v0 0 0 w
theorem bX1_brought_0 {p : Program} {l : Launch} {e : Env} {s : State} {m : MethodId} {args : Array Value} {below : List Frame} {meth : Method} {c : Code} {H : Heap} {locs : List Loc} {ls : Array Slot} {G : gE} {A : Nat → Prop} {w0 : WH} (B : gB G RX1 cX1_brought 4 (some .long) p s m args meth c) {v0 : Nat} {w : WH} {r : (Int64 × WH)} (h : fX1_brought v0 w = some r)   (hR : RepH G A w H) (hS : Cu A s w0 w H locs) (hl : lv_has ls 4 [(0, .ref v0)]) : W p l e (hRm 19 431 w0) s m args below meth c H locs (wC w0 - wC w) (wS w0 - wS w) (hZ below args s G A w0 (some (.long r.1)) r.2) (F0 m 0 ls []) := by
  have B0 := B
  obtain ⟨hx, hb, hml, hown, hts, hr, hlk, hK⟩ := B0
  unfold fX1_brought at h
  refine lv_lconst (v := 0) hx hb dX1_brought_0 (by decide) ?_
  refine lv_lstore_n (lv' := [(1, .long 0), (0, .ref v0)]) hx hb dX1_brought_1 rfl hl (by decide) rfl (fun ls hl => ?_)
  refine lv_iconst (v := 0) hx hb dX1_brought_2 (by decide) ?_
  refine lv_istore_n (lv' := [(3, .int 0), (1, .long 0), (0, .ref v0)]) hx hb dX1_brought_3 rfl hl (by decide) rfl (fun ls hl => ?_)
  exact lX1_brought_4 B _ _ _ h H locs ls hR hS (lv_sub hl [2, 1, 0] rfl)
theorem mX1_brought {l : Launch} {G : gE} {A : Nat → Prop} {v0 : Nat} {w : WH} {r : (Int64 × WH)} (h : fX1_brought v0 w = some r) : hM l G A yX1_brought cX1_brought 4 (some .long) 19 431 [.ref v0] w (some (.long r.1)) r.2 :=
  h_of (by decide +kernel) (Nat.le_of_ble_eq_true rfl) (fun p e s m args below meth c ls B hnm hR hS hl => bX1_brought_0 B h hR hS hl)
noncomputable def fX1_revenue (v0 : Nat) (w : WH) : Option ((Int64 × WH)) :=
  (hIs w v0 17).bind fun _ =>
  b2_ (fX1_brought v0 w) fun x4 w1 =>
  some (x4, w1)
theorem bX1_revenue_0 {p : Program} {l : Launch} {e : Env} {s : State} {m : MethodId} {args : Array Value} {below : List Frame} {meth : Method} {c : Code} {H : Heap} {locs : List Loc} {ls : Array Slot} {G : gE} {A : Nat → Prop} {w0 : WH} (B : gB G RX1 cX1_revenue 1 (some .long) p s m args meth c) {v0 : Nat} {w : WH} {r : (Int64 × WH)} (h : fX1_revenue v0 w = some r)   (hR : RepH G A w H) (hS : Cu A s w0 w H locs) (hl : lv_has ls 1 [(0, .ref v0)]) : W p l e (hRm 20 454 w0) s m args below meth c H locs (wC w0 - wC w) (wS w0 - wS w) (hZ below args s G A w0 (some (.long r.1)) r.2) (F0 m 0 ls []) := by
  have B0 := B
  obtain ⟨hx, hb, hml, hown, hts, hr, hlk, hK⟩ := B0
  unfold fX1_revenue at h
  refine lv_aload_n hx hb dX1_revenue_0 rfl (lv_at hl 0 rfl) ?_
  replace h := bo_o h
  obtain ⟨_, e2, h⟩ := h
  replace h := b2_o h
  obtain ⟨x4, w1, e3, h⟩ := h
  refine h_callV 0 (ci := 17) (As := []) (rest := []) (v := (some (.long x4))) (w' := w1) (st1 := [.long x4]) hx hb hml hown hts hK hR hS (Nat.le_refl _) (Nat.le_refl _) rfl e2 (mX1_brought e3) (lw_V q1727 q1729 qs37 q112 q1730) (by decide +kernel) (Nat.le_of_ble_eq_true rfl) (Nat.le_of_ble_eq_true rfl) rfl hl.1 (Nat.le_of_ble_eq_true rfl) dX1_revenue_1 rfl rfl (fun H locs hR hS => ?_)
  have eR := Option.some.inj h
  subst eR
  exact h_lfin hx hb hr hlk hR hS dX1_revenue_4
theorem mX1_revenue {l : Launch} {G : gE} {A : Nat → Prop} {v0 : Nat} {w : WH} {r : (Int64 × WH)} (h : fX1_revenue v0 w = some r) : hM l G A yX1_revenue cX1_revenue 1 (some .long) 20 454 [.ref v0] w (some (.long r.1)) r.2 :=
  h_of (by decide +kernel) (Nat.le_of_ble_eq_true rfl) (fun p e s m args below meth c ls B hnm hR hS hl => bX1_revenue_0 B h hR hS hl)
noncomputable def fX1_feltBy (v0 : Nat) (v1 : Nat) (w : WH) : Option ((Int64 × WH)) :=
  (gR w v0 17 1).bind fun x1 =>
  (gR w v0 17 0).bind fun x3 =>
  x1.bind fun a5 =>
  x3.bind fun a7 =>
  (hIs w a5 23).bind fun _ =>
  b2_ (fX4_measure a5 a7 v1 (wK w 6) w) fun x12 w9 =>
  some (x12, w9)
theorem bX1_feltBy_0 {p : Program} {l : Launch} {e : Env} {s : State} {m : MethodId} {args : Array Value} {below : List Frame} {meth : Method} {c : Code} {H : Heap} {locs : List Loc} {ls : Array Slot} {G : gE} {A : Nat → Prop} {w0 : WH} (B : gB G RX1 cX1_feltBy 2 (some .long) p s m args meth c) {v0 : Nat} {v1 : Nat} {w : WH} {r : (Int64 × WH)} (h : fX1_feltBy v0 v1 w = some r)   (hR : RepH G A w H) (hS : Cu A s w0 w H locs) (hl : lv_has ls 2 [(0, .ref v0), (1, .ref v1)]) : W p l e (hRm 17 386 w0) s m args below meth c H locs (wC w0 - wC w) (wS w0 - wS w) (hZ below args s G A w0 (some (.long r.1)) r.2) (F0 m 0 ls []) := by
  have B0 := B
  obtain ⟨hx, hb, hml, hown, hts, hr, hlk, hK⟩ := B0
  unfold fX1_feltBy at h
  refine lv_aload_n hx hb dX1_feltBy_0 rfl (lv_at hl 0 rfl) ?_
  replace h := bo_o h
  obtain ⟨x1, e2, h⟩ := h
  refine h_get (ci := 17) (k := 1) (v := va_rf x1) hx hb hts hown hK hR in_X1 rfl (by decide) (fun _ _ => rfl) q664 (fun _ h9 => h9) (gR_o e2) dX1_feltBy_1 ?_
  refine lv_aload_n hx hb dX1_feltBy_4 rfl (lv_at hl 0 rfl) ?_
  replace h := bo_o h
  obtain ⟨x3, e4, h⟩ := h
  refine h_get (ci := 17) (k := 0) (v := va_rf x3) hx hb hts hown hK hR in_X1 rfl (by decide) (fun _ _ => rfl) q662 (fun _ h9 => h9) (gR_o e4) dX1_feltBy_5 ?_
  refine lv_aload_n hx hb dX1_feltBy_8 rfl (lv_at hl 1 rfl) ?_
  refine h_getsK (i := 1) hx hb hts hown hK hR hS rfl q1747 (fun _ h9 => h9) dX1_feltBy_9 ?_
  replace h := bo_o h
  obtain ⟨a5, e6, h⟩ := h
  subst e6
  replace h := bo_o h
  obtain ⟨a7, e8, h⟩ := h
  subst e8
  replace h := bo_o h
  obtain ⟨_, e10, h⟩ := h
  replace h := b2_o h
  obtain ⟨x12, w9, e11, h⟩ := h
  refine h_callV 3 (ci := 23) (As := [.ref a7, .ref v1, .ref (wK w 6)]) (rest := []) (v := (some (.long x12))) (w' := w9) (st1 := [.long x12]) hx hb hml hown hts hK hR hS (Nat.le_refl _) (Nat.le_refl _) rfl e10 (mX4_measure e11) (lw_V q1749 q1273 q1274 q135 q1275) (by decide +kernel) (Nat.le_of_ble_eq_true rfl) (Nat.le_of_ble_eq_true rfl) rfl hl.1 (Nat.le_of_ble_eq_true rfl) dX1_feltBy_12 rfl rfl (fun H locs hR hS => ?_)
  have eR := Option.some.inj h
  subst eR
  exact h_lfin hx hb hr hlk hR hS dX1_feltBy_15
theorem mX1_feltBy {l : Launch} {G : gE} {A : Nat → Prop} {v0 : Nat} {v1 : Nat} {w : WH} {r : (Int64 × WH)} (h : fX1_feltBy v0 v1 w = some r) : hM l G A yX1_feltBy cX1_feltBy 2 (some .long) 17 386 [.ref v0, .ref v1] w (some (.long r.1)) r.2 :=
  h_of (by decide +kernel) (Nat.le_of_ble_eq_true rfl) (fun p e s m args below meth c ls B hnm hR hS hl => bX1_feltBy_0 B h hR hS hl)
noncomputable def fX1_pledged_b75 (s0 : Int64) (s1 : Int64) (w : WH) : Option ((Int64 × WH)) :=
  some (s0 * s1, w)
theorem bX1_pledged_75 {p : Program} {l : Launch} {e : Env} {s : State} {m : MethodId} {args : Array Value} {below : List Frame} {meth : Method} {c : Code} {H : Heap} {locs : List Loc} {ls : Array Slot} {G : gE} {A : Nat → Prop} {w0 : WH} (B : gB G RX1 cX1_pledged 5 (some .long) p s m args meth c) {s0 : Int64} {s1 : Int64} {w : WH} {r : (Int64 × WH)} (h : fX1_pledged_b75 s0 s1 w = some r)   (hR : RepH G A w H) (hS : Cu A s w0 w H locs) (hl : lv_has ls 5 []) : W p l e (hRm 17 386 w0) s m args below meth c H locs (wC w0 - wC w) (wS w0 - wS w) (hZ below args s G A w0 (some (.long r.1)) r.2) (F0 m 75 ls [.long s1, .long s0]) := by
  have B0 := B
  obtain ⟨hx, hb, hml, hown, hts, hr, hlk, hK⟩ := B0
  unfold fX1_pledged_b75 at h
  refine lv_lmul hx hb dX1_pledged_75 ?_
  have eR := Option.some.inj h
  subst eR
  exact h_lfin hx hb hr hlk hR hS dX1_pledged_76
noncomputable def fX1_pledged (v0 : Nat) (v1 : Int32) (w : WH) : Option ((Int64 × WH)) :=
  (gR w v0 17 0).bind fun x1 =>
  x1.bind fun a3 =>
  (gR w a3 21 0).bind fun x5 =>
  x5.bind fun a7 =>
  (gR w a7 22 2).bind fun x9 =>
  x9.bind fun a11 =>
  (hIs w a11 2).bind fun _ =>
  b2_ (fJ2_get a11 v1 w) fun x16 w13 =>
  x16.bind fun a17 =>
  (hIs w13 a17 28).bind fun _ =>
  (gR w13 v0 17 1).bind fun x20 =>
  (gR w13 v0 17 0).bind fun x22 =>
  x20.bind fun a24 =>
  x22.bind fun a26 =>
  (hIs w13 a24 23).bind fun _ =>
  b2_ (fX4_measure a24 a26 a17 (wK w13 7) w13) fun x31 w28 =>
  if lg_cmp x31 2305843009213693951 = 0 then (
    some ((-1), w28)
  ) else (
    (gR w28 v0 17 0).bind fun x33 =>
    x33.bind fun a35 =>
    (gR w28 a35 21 2).bind fun x37 =>
    x37.bind fun a39 =>
    (ldI w28 a39 0 v1).bind fun x41 =>
    (gR w28 v0 17 1).bind fun x43 =>
    (gR w28 v0 17 0).bind fun x45 =>
    x43.bind fun a47 =>
    x45.bind fun a49 =>
    (hIs w28 a47 23).bind fun _ =>
    b2_ (fX4_measure a47 a49 a17 (wK w28 8) w28) fun x54 w51 =>
    fX1_pledged_b75 (x41.toInt64) (x31 - x54) w51
  )
theorem bX1_pledged_0 {p : Program} {l : Launch} {e : Env} {s : State} {m : MethodId} {args : Array Value} {below : List Frame} {meth : Method} {c : Code} {H : Heap} {locs : List Loc} {ls : Array Slot} {G : gE} {A : Nat → Prop} {w0 : WH} (B : gB G RX1 cX1_pledged 5 (some .long) p s m args meth c) {v0 : Nat} {v1 : Int32} {w : WH} {r : (Int64 × WH)} (h : fX1_pledged v0 v1 w = some r)   (hR : RepH G A w H) (hS : Cu A s w0 w H locs) (hl : lv_has ls 5 [(0, .ref v0), (1, .int v1)]) : W p l e (hRm 17 386 w0) s m args below meth c H locs (wC w0 - wC w) (wS w0 - wS w) (hZ below args s G A w0 (some (.long r.1)) r.2) (F0 m 0 ls []) := by
  have B0 := B
  obtain ⟨hx, hb, hml, hown, hts, hr, hlk, hK⟩ := B0
  unfold fX1_pledged at h
  refine lv_aload_n hx hb dX1_pledged_0 rfl (lv_at hl 0 rfl) ?_
  replace h := bo_o h
  obtain ⟨x1, e2, h⟩ := h
  refine h_get (ci := 17) (k := 0) (v := va_rf x1) hx hb hts hown hK hR in_X1 rfl (by decide) (fun _ _ => rfl) q662 (fun _ h9 => h9) (gR_o e2) dX1_pledged_1 ?_
  replace h := bo_o h
  obtain ⟨a3, e4, h⟩ := h
  subst e4
  replace h := bo_o h
  obtain ⟨x5, e6, h⟩ := h
  refine h_getN (ci := 21) (k := 0) (v := va_rf x5) hx hb hts hown hK hR in_X2 rfl (by decide) (fun _ _ => rfl) (hK.fn 15 rfl) (fun _ h9 => h9) (gR_o e6) dX1_pledged_4 ?_
  replace h := bo_o h
  obtain ⟨a7, e8, h⟩ := h
  subst e8
  replace h := bo_o h
  obtain ⟨x9, e10, h⟩ := h
  refine h_getN (ci := 22) (k := 2) (v := va_rf x9) hx hb hts hown hK hR in_X3 rfl (by decide) (fun _ _ => rfl) (hK.fn 10 rfl) (fun _ h9 => h9) (gR_o e10) dX1_pledged_7 ?_
  refine lv_iload_n hx hb dX1_pledged_10 rfl (lv_at hl 1 rfl) ?_
  replace h := bo_o h
  obtain ⟨a11, e12, h⟩ := h
  subst e12
  replace h := bo_o h
  obtain ⟨_, e14, h⟩ := h
  replace h := b2_o h
  obtain ⟨x16, w13, e15, h⟩ := h
  refine h_callF 1  (As := [.int v1]) (rest := []) (v := (some (va_rf x16))) (w' := w13) (st1 := [va_rf x16]) hx hb hml hown hts hK hR hS (Nat.le_refl _) (Nat.le_refl _) (h_recv (ci := 2) hK hR hS rfl e14) (mJ2_get e15) (lw_app (a := [.methodLink _ _ _, .selects _ _ _, .instanceMethod _, .initialized _]) (lw_4 q1205 q1208 q1210 q117) (lw_meth q1212)) (hK.fw 1 rfl) (by decide +kernel) (Nat.le_of_ble_eq_true rfl) (Nat.le_of_ble_eq_true rfl) rfl hl.1 (Nat.le_of_ble_eq_true rfl) dX1_pledged_11 rfl rfl (fun H locs hR hS => ?_)
  replace h := bo_o h
  obtain ⟨a17, e18, h⟩ := h
  subst e18
  replace h := bo_o h
  obtain ⟨_, e19, h⟩ := h
  refine h_castS (ci := 28) hx hb hts hown hK hR hS rfl e19 q1265 dX1_pledged_16 ?_
  refine lv_astore_n (lv' := [(2, .ref a17), (0, .ref v0), (1, .int v1)]) hx hb dX1_pledged_19 rfl hl (by decide) rfl (fun ls hl => ?_)
  refine lv_aload_n hx hb dX1_pledged_20 rfl (lv_at hl 1 rfl) ?_
  replace h := bo_o h
  obtain ⟨x20, e21, h⟩ := h
  refine h_get (ci := 17) (k := 1) (v := va_rf x20) hx hb hts hown hK hR in_X1 rfl (by decide) (fun _ _ => rfl) q664 (fun _ h9 => h9) (gR_o e21) dX1_pledged_21 ?_
  refine lv_aload_n hx hb dX1_pledged_24 rfl (lv_at hl 1 rfl) ?_
  replace h := bo_o h
  obtain ⟨x22, e23, h⟩ := h
  refine h_get (ci := 17) (k := 0) (v := va_rf x22) hx hb hts hown hK hR in_X1 rfl (by decide) (fun _ _ => rfl) q662 (fun _ h9 => h9) (gR_o e23) dX1_pledged_25 ?_
  refine lv_aload_n hx hb dX1_pledged_28 rfl (lv_at hl 0 rfl) ?_
  refine h_getsK (i := 2) hx hb hts hown hK hR hS rfl q1755 (fun _ h9 => h9) dX1_pledged_29 ?_
  replace h := bo_o h
  obtain ⟨a24, e25, h⟩ := h
  subst e25
  replace h := bo_o h
  obtain ⟨a26, e27, h⟩ := h
  subst e27
  replace h := bo_o h
  obtain ⟨_, e29, h⟩ := h
  replace h := b2_o h
  obtain ⟨x31, w28, e30, h⟩ := h
  refine h_callV 3 (ci := 23) (As := [.ref a26, .ref a17, .ref (wK w13 7)]) (rest := []) (v := (some (.long x31))) (w' := w28) (st1 := [.long x31]) hx hb hml hown hts hK hR hS (Nat.le_refl _) (Nat.le_refl _) rfl e29 (mX4_measure e30) (lw_V q1749 q1273 q1274 q135 q1275) (by decide +kernel) (Nat.le_of_ble_eq_true rfl) (Nat.le_of_ble_eq_true rfl) rfl hl.1 (Nat.le_of_ble_eq_true rfl) dX1_pledged_32 rfl rfl (fun H locs hR hS => ?_)
  refine lv_lstore_n (lv' := [(3, .long x31), (2, .ref a17), (0, .ref v0), (1, .int v1)]) hx hb dX1_pledged_35 rfl hl (by decide) rfl (fun ls hl => ?_)
  refine lv_lload_n hx hb dX1_pledged_36 rfl (lv_at hl 0 rfl) ?_
  refine lv_ldc2 (v := 2305843009213693951) hx hb hown (hts _ q1750) dX1_pledged_37 ?_
  refine W.lcmp hx hb dX1_pledged_40 ?_
  refine lv_if_ne (tgt := 48) hx hb dX1_pledged_41 (by decide) (fun c32 => ?_) (fun c32 => ?_)
  · replace h := if_o c32 h
    refine lv_aload_n hx hb dX1_pledged_48 rfl (lv_at hl 2 rfl) ?_
    replace h := bo_o h
    obtain ⟨x33, e34, h⟩ := h
    refine h_get (ci := 17) (k := 0) (v := va_rf x33) hx hb hts hown hK hR in_X1 rfl (by decide) (fun _ _ => rfl) q662 (fun _ h9 => h9) (gR_o e34) dX1_pledged_49 ?_
    replace h := bo_o h
    obtain ⟨a35, e36, h⟩ := h
    subst e36
    replace h := bo_o h
    obtain ⟨x37, e38, h⟩ := h
    refine h_getN (ci := 21) (k := 2) (v := va_rf x37) hx hb hts hown hK hR in_X2 rfl (by decide) (fun _ _ => rfl) (hK.fn 19 rfl) (fun _ h9 => h9) (gR_o e38) dX1_pledged_52 ?_
    refine lv_iload_n hx hb dX1_pledged_55 rfl (lv_at hl 3 rfl) ?_
    replace h := bo_o h
    obtain ⟨a39, e40, h⟩ := h
    subst e40
    replace h := bo_o h
    obtain ⟨x41, e42, h⟩ := h
    refine h_iald hx hb hK hR e42 dX1_pledged_56 ?_
    refine lv_i2l hx hb dX1_pledged_57 rfl ?_
    refine lv_lload_n hx hb dX1_pledged_58 rfl (lv_at hl 0 rfl) ?_
    refine lv_aload_n hx hb dX1_pledged_59 rfl (lv_at hl 2 rfl) ?_
    replace h := bo_o h
    obtain ⟨x43, e44, h⟩ := h
    refine h_get (ci := 17) (k := 1) (v := va_rf x43) hx hb hts hown hK hR in_X1 rfl (by decide) (fun _ _ => rfl) q664 (fun _ h9 => h9) (gR_o e44) dX1_pledged_60 ?_
    refine lv_aload_n hx hb dX1_pledged_63 rfl (lv_at hl 2 rfl) ?_
    replace h := bo_o h
    obtain ⟨x45, e46, h⟩ := h
    refine h_get (ci := 17) (k := 0) (v := va_rf x45) hx hb hts hown hK hR in_X1 rfl (by decide) (fun _ _ => rfl) q662 (fun _ h9 => h9) (gR_o e46) dX1_pledged_64 ?_
    refine lv_aload_n hx hb dX1_pledged_67 rfl (lv_at hl 1 rfl) ?_
    refine h_getsK (i := 3) hx hb hts hown hK hR hS rfl q1758 (fun _ h9 => h9) dX1_pledged_68 ?_
    replace h := bo_o h
    obtain ⟨a47, e48, h⟩ := h
    subst e48
    replace h := bo_o h
    obtain ⟨a49, e50, h⟩ := h
    subst e50
    replace h := bo_o h
    obtain ⟨_, e52, h⟩ := h
    replace h := b2_o h
    obtain ⟨x54, w51, e53, h⟩ := h
    refine h_callV 3 (ci := 23) (As := [.ref a49, .ref a17, .ref (wK w28 8)]) (rest := [.long x31, .long (x41.toInt64)]) (v := (some (.long x54))) (w' := w51) (st1 := [.long x54, .long x31, .long (x41.toInt64)]) hx hb hml hown hts hK hR hS (Nat.le_refl _) (Nat.le_refl _) rfl e52 (mX4_measure e53) (lw_V q1749 q1273 q1274 q135 q1275) (by decide +kernel) (Nat.le_of_ble_eq_true rfl) (Nat.le_of_ble_eq_true rfl) rfl hl.1 (Nat.le_of_ble_eq_true rfl) dX1_pledged_71 rfl rfl (fun H locs hR hS => ?_)
    refine lv_lsub hx hb dX1_pledged_74 ?_
    exact bX1_pledged_75 B h  hR hS (lv_sub hl [] rfl)
  · replace h := it_o c32 h
    refine lv_ldc2 (v := (-1)) hx hb hown (hts _ q1757) dX1_pledged_44 ?_
    have eR := Option.some.inj h
    subst eR
    exact h_lfin hx hb hr hlk hR hS dX1_pledged_47
theorem mX1_pledged {l : Launch} {G : gE} {A : Nat → Prop} {v0 : Nat} {v1 : Int32} {w : WH} {r : (Int64 × WH)} (h : fX1_pledged v0 v1 w = some r) : hM l G A yX1_pledged cX1_pledged 5 (some .long) 17 386 [.ref v0, .int v1] w (some (.long r.1)) r.2 :=
  h_of (by decide +kernel) (Nat.le_of_ble_eq_true rfl) (fun p e s m args below meth c ls B hnm hR hS hl => bX1_pledged_0 B h hR hS hl)
noncomputable def fX1_bound_b81 (v0 : Nat) (v1 : Int64) (v3 : Int32) (w : WH) : Option (Sum (Int64 × Int32 × WH) ((Int64 × WH))) :=
  some (.inl (v1, v3 + 1, w))
theorem bX1_bound_81 {p : Program} {l : Launch} {e : Env} {s : State} {m : MethodId} {args : Array Value} {below : List Frame} {meth : Method} {c : Code} {H : Heap} {locs : List Loc} {ls : Array Slot} {G : gE} {A : Nat → Prop} {w0 : WH} (B : gB G RX1 cX1_bound 6 (some .long) p s m args meth c) {v0 : Nat} {v1 : Int64} {v3 : Int32} {w : WH} {x : Sum (Int64 × Int32 × WH) ((Int64 × WH))} {r : (Int64 × WH)} (h : fX1_bound_b81 v0 v1 v3 w = some x)  (k4 : ∀ (v1' : Int64) (v3' : Int32) (w' : WH), x = (.inl (v1', v3', w')) → ∀ (H : Heap) (locs : List Loc) (ls : Array Slot), RepH G A w' H → Cu A s w0 w' H locs → lv_has ls 6 [(0, .ref v0), (1, .long v1'), (3, .int v3')] → W p l e (hRm 18 410 w0) s m args below meth c H locs (wC w0 - wC w') (wS w0 - wS w') (hZ below args s G A w0 (some (.long r.1)) r.2) (F0 m 4 ls [])) (kR : ∀ q, x = (.inr q) → q = r) (hR : RepH G A w H) (hS : Cu A s w0 w H locs) (hl : lv_has ls 6 [(0, .ref v0), (1, .long v1), (3, .int v3)]) : W p l e (hRm 18 410 w0) s m args below meth c H locs (wC w0 - wC w) (wS w0 - wS w) (hZ below args s G A w0 (some (.long r.1)) r.2) (F0 m 81 ls []) := by
  have B0 := B
  obtain ⟨hx, hb, hml, hown, hts, hr, hlk, hK⟩ := B0
  unfold fX1_bound_b81 at h
  refine lv_iinc (v := v3 + 1) (lv' := [(3, .int (v3 + 1)), (0, .ref v0), (1, .long v1)]) hx hb dX1_bound_81 hl (k := 2) rfl rfl (by decide) rfl (fun ls hl => ?_)
  refine lv_goto (tgt := 4) hx hb dX1_bound_84 (by decide) ?_
  exact k4 _ _ _ (Option.some.inj h).symm H locs ls hR hS (lv_sub hl [1, 2, 0] rfl)
noncomputable def fX1_bound_b72  (w : WH) : Option ((Int64 × WH)) :=
  some ((-1), w)
theorem bX1_bound_72 {p : Program} {l : Launch} {e : Env} {s : State} {m : MethodId} {args : Array Value} {below : List Frame} {meth : Method} {c : Code} {H : Heap} {locs : List Loc} {ls : Array Slot} {G : gE} {A : Nat → Prop} {w0 : WH} (B : gB G RX1 cX1_bound 6 (some .long) p s m args meth c)  {w : WH} {r : (Int64 × WH)} (h : fX1_bound_b72 w = some r)   (hR : RepH G A w H) (hS : Cu A s w0 w H locs) (hl : lv_has ls 6 []) : W p l e (hRm 18 410 w0) s m args below meth c H locs (wC w0 - wC w) (wS w0 - wS w) (hZ below args s G A w0 (some (.long r.1)) r.2) (F0 m 72 ls []) := by
  have B0 := B
  obtain ⟨hx, hb, hml, hown, hts, hr, hlk, hK⟩ := B0
  unfold fX1_bound_b72 at h
  refine lv_ldc2 (v := (-1)) hx hb hown (hts _ q1757) dX1_bound_72 ?_
  have eR := Option.some.inj h
  subst eR
  exact h_lfin hx hb hr hlk hR hS dX1_bound_75
noncomputable def fX1_bound_b63 (v0 : Nat) (v1 : Int64) (v3 : Int32) (v4 : Int64) (w : WH) : Option (Sum (Int64 × Int32 × WH) ((Int64 × WH))) :=
  if lg_cmp v4 (-1) = 0 then (
    (fX1_bound_b72 w).map (fun y => (.inr y))
  ) else (
    nm_ (v1 + v4) fun x2 =>
    fX1_bound_b81 v0 x2 v3 w
  )
theorem bX1_bound_63 {p : Program} {l : Launch} {e : Env} {s : State} {m : MethodId} {args : Array Value} {below : List Frame} {meth : Method} {c : Code} {H : Heap} {locs : List Loc} {ls : Array Slot} {G : gE} {A : Nat → Prop} {w0 : WH} (B : gB G RX1 cX1_bound 6 (some .long) p s m args meth c) {v0 : Nat} {v1 : Int64} {v3 : Int32} {v4 : Int64} {w : WH} {x : Sum (Int64 × Int32 × WH) ((Int64 × WH))} {r : (Int64 × WH)} (h : fX1_bound_b63 v0 v1 v3 v4 w = some x)  (k4 : ∀ (v1' : Int64) (v3' : Int32) (w' : WH), x = (.inl (v1', v3', w')) → ∀ (H : Heap) (locs : List Loc) (ls : Array Slot), RepH G A w' H → Cu A s w0 w' H locs → lv_has ls 6 [(0, .ref v0), (1, .long v1'), (3, .int v3')] → W p l e (hRm 18 410 w0) s m args below meth c H locs (wC w0 - wC w') (wS w0 - wS w') (hZ below args s G A w0 (some (.long r.1)) r.2) (F0 m 4 ls [])) (kR : ∀ q, x = (.inr q) → q = r) (hR : RepH G A w H) (hS : Cu A s w0 w H locs) (hl : lv_has ls 6 [(0, .ref v0), (1, .long v1), (3, .int v3), (4, .long v4)]) : W p l e (hRm 18 410 w0) s m args below meth c H locs (wC w0 - wC w) (wS w0 - wS w) (hZ below args s G A w0 (some (.long r.1)) r.2) (F0 m 63 ls []) := by
  have B0 := B
  obtain ⟨hx, hb, hml, hown, hts, hr, hlk, hK⟩ := B0
  unfold fX1_bound_b63 at h
  refine lv_lload hx hb dX1_bound_63 (lv_at hl 3 rfl) ?_
  refine lv_ldc2 (v := (-1)) hx hb hown (hts _ q1757) dX1_bound_65 ?_
  refine W.lcmp hx hb dX1_bound_68 ?_
  refine lv_if_ne (tgt := 76) hx hb dX1_bound_69 (by decide) (fun c1 => ?_) (fun c1 => ?_)
  · replace h := if_o c1 h
    refine lv_lload_n hx hb dX1_bound_76 rfl (lv_at hl 1 rfl) ?_
    refine lv_lload hx hb dX1_bound_77 (lv_at hl 3 rfl) ?_
    refine lv_ladd hx hb dX1_bound_79 ?_
    replace h := nm_o h
    obtain ⟨x2, e3, h⟩ := h
    refine lv_lstore_n (lv' := [(1, .long x2), (0, .ref v0), (3, .int v3), (4, .long v4)]) hx hb dX1_bound_80 rfl hl (by decide) (by subst e3; rfl) (fun ls hl => ?_)
    exact bX1_bound_81 B h k4 kR hR hS (lv_sub hl [1, 0, 2] rfl)
  · replace h := it_o c1 h
    obtain ⟨y, h, ey⟩ := mp_o h
    have ey := kR _ ey.symm
    subst ey
    exact bX1_bound_72 B h  hR hS (lv_sub hl [] rfl)
noncomputable def fX1_bound_b4 (v0 : Nat) (v1 : Int64) (v3 : Int32) (w : WH) : Option (Sum (Int64 × Int32 × WH) ((Int64 × WH))) :=
  (gR w v0 17 0).bind fun x1 =>
  x1.bind fun a3 =>
  (gR w a3 21 0).bind fun x5 =>
  x5.bind fun a7 =>
  (gR w a7 22 2).bind fun x9 =>
  x9.bind fun a11 =>
  (hIs w a11 2).bind fun _ =>
  b2_ (fJ2_size a11 w) fun x16 w13 =>
  if x16 ≤ v3 then (
    some (.inr (v1, w13))
  ) else (
    (gR w13 v0 17 0).bind fun x18 =>
    x18.bind fun a20 =>
    (gR w13 a20 21 0).bind fun x22 =>
    x22.bind fun a24 =>
    (gR w13 a24 22 2).bind fun x26 =>
    x26.bind fun a28 =>
    (hIs w13 a28 2).bind fun _ =>
    b2_ (fJ2_get a28 v3 w13) fun x33 w30 =>
    x33.bind fun a34 =>
    (hIs w30 a34 28).bind fun _ =>
    (hIs w30 v0 17).bind fun _ =>
    b2_ (fX1_feltBy v0 a34 w30) fun x40 w37 =>
    if lg_cmp x40 2305843009213693951 = 0 then (
      fX1_bound_b81 v0 v1 v3 w37
    ) else (
      (hIs w37 v0 17).bind fun _ =>
      b2_ (fX1_pledged v0 v3 w37) fun x45 w42 =>
      fX1_bound_b63 v0 v1 v3 x45 w42
    )
  )
theorem bX1_bound_4 {p : Program} {l : Launch} {e : Env} {s : State} {m : MethodId} {args : Array Value} {below : List Frame} {meth : Method} {c : Code} {H : Heap} {locs : List Loc} {ls : Array Slot} {G : gE} {A : Nat → Prop} {w0 : WH} (B : gB G RX1 cX1_bound 6 (some .long) p s m args meth c) {v0 : Nat} {v1 : Int64} {v3 : Int32} {w : WH} {x : Sum (Int64 × Int32 × WH) ((Int64 × WH))} {r : (Int64 × WH)} (h : fX1_bound_b4 v0 v1 v3 w = some x)  (k4 : ∀ (v1' : Int64) (v3' : Int32) (w' : WH), x = (.inl (v1', v3', w')) → ∀ (H : Heap) (locs : List Loc) (ls : Array Slot), RepH G A w' H → Cu A s w0 w' H locs → lv_has ls 6 [(0, .ref v0), (1, .long v1'), (3, .int v3')] → W p l e (hRm 18 410 w0) s m args below meth c H locs (wC w0 - wC w') (wS w0 - wS w') (hZ below args s G A w0 (some (.long r.1)) r.2) (F0 m 4 ls [])) (kR : ∀ q, x = (.inr q) → q = r) (hR : RepH G A w H) (hS : Cu A s w0 w H locs) (hl : lv_has ls 6 [(0, .ref v0), (1, .long v1), (3, .int v3)]) : W p l e (hRm 18 410 w0) s m args below meth c H locs (wC w0 - wC w) (wS w0 - wS w) (hZ below args s G A w0 (some (.long r.1)) r.2) (F0 m 4 ls []) := by
  have B0 := B
  obtain ⟨hx, hb, hml, hown, hts, hr, hlk, hK⟩ := B0
  unfold fX1_bound_b4 at h
  refine lv_iload_n hx hb dX1_bound_4 rfl (lv_at hl 2 rfl) ?_
  refine lv_aload_n hx hb dX1_bound_5 rfl (lv_at hl 0 rfl) ?_
  replace h := bo_o h
  obtain ⟨x1, e2, h⟩ := h
  refine h_get (ci := 17) (k := 0) (v := va_rf x1) hx hb hts hown hK hR in_X1 rfl (by decide) (fun _ _ => rfl) q662 (fun _ h9 => h9) (gR_o e2) dX1_bound_6 ?_
  replace h := bo_o h
  obtain ⟨a3, e4, h⟩ := h
  subst e4
  replace h := bo_o h
  obtain ⟨x5, e6, h⟩ := h
  refine h_getN (ci := 21) (k := 0) (v := va_rf x5) hx hb hts hown hK hR in_X2 rfl (by decide) (fun _ _ => rfl) (hK.fn 15 rfl) (fun _ h9 => h9) (gR_o e6) dX1_bound_9 ?_
  replace h := bo_o h
  obtain ⟨a7, e8, h⟩ := h
  subst e8
  replace h := bo_o h
  obtain ⟨x9, e10, h⟩ := h
  refine h_getN (ci := 22) (k := 2) (v := va_rf x9) hx hb hts hown hK hR in_X3 rfl (by decide) (fun _ _ => rfl) (hK.fn 10 rfl) (fun _ h9 => h9) (gR_o e10) dX1_bound_12 ?_
  replace h := bo_o h
  obtain ⟨a11, e12, h⟩ := h
  subst e12
  replace h := bo_o h
  obtain ⟨_, e14, h⟩ := h
  replace h := b2_o h
  obtain ⟨x16, w13, e15, h⟩ := h
  refine h_callF 0  (As := []) (rest := [.int v3]) (v := (some (.int x16))) (w' := w13) (st1 := [.int x16, .int v3]) hx hb hml hown hts hK hR hS (Nat.le_refl _) (Nat.le_refl _) (h_recv (ci := 2) hK hR hS rfl e14) (mJ2_size e15) (lw_app (a := [.methodLink _ _ _, .selects _ _ _, .instanceMethod _, .initialized _]) (lw_4 q1076 q903 q905 q117) (lw_meth q907)) (hK.fw 0 rfl) (by decide +kernel) (Nat.le_of_ble_eq_true rfl) (Nat.le_of_ble_eq_true rfl) rfl hl.1 (Nat.le_of_ble_eq_true rfl) dX1_bound_15 rfl rfl (fun H locs hR hS => ?_)
  refine lv_icmp_ge (tgt := 87) hx hb dX1_bound_20 (by decide) (fun c17 => ?_) (fun c17 => ?_)
  · replace h := it_o c17 h
    refine lv_lload_n hx hb dX1_bound_87 rfl (lv_at hl 1 rfl) ?_
    have eR := kR _ (Option.some.inj h).symm
    subst eR
    exact h_lfin hx hb hr hlk hR hS dX1_bound_88
  · replace h := if_o c17 h
    refine lv_aload_n hx hb dX1_bound_23 rfl (lv_at hl 0 rfl) ?_
    refine lv_aload_n hx hb dX1_bound_24 rfl (lv_at hl 0 rfl) ?_
    replace h := bo_o h
    obtain ⟨x18, e19, h⟩ := h
    refine h_get (ci := 17) (k := 0) (v := va_rf x18) hx hb hts hown hK hR in_X1 rfl (by decide) (fun _ _ => rfl) q662 (fun _ h9 => h9) (gR_o e19) dX1_bound_25 ?_
    replace h := bo_o h
    obtain ⟨a20, e21, h⟩ := h
    subst e21
    replace h := bo_o h
    obtain ⟨x22, e23, h⟩ := h
    refine h_getN (ci := 21) (k := 0) (v := va_rf x22) hx hb hts hown hK hR in_X2 rfl (by decide) (fun _ _ => rfl) (hK.fn 15 rfl) (fun _ h9 => h9) (gR_o e23) dX1_bound_28 ?_
    replace h := bo_o h
    obtain ⟨a24, e25, h⟩ := h
    subst e25
    replace h := bo_o h
    obtain ⟨x26, e27, h⟩ := h
    refine h_getN (ci := 22) (k := 2) (v := va_rf x26) hx hb hts hown hK hR in_X3 rfl (by decide) (fun _ _ => rfl) (hK.fn 10 rfl) (fun _ h9 => h9) (gR_o e27) dX1_bound_31 ?_
    refine lv_iload_n hx hb dX1_bound_34 rfl (lv_at hl 2 rfl) ?_
    replace h := bo_o h
    obtain ⟨a28, e29, h⟩ := h
    subst e29
    replace h := bo_o h
    obtain ⟨_, e31, h⟩ := h
    replace h := b2_o h
    obtain ⟨x33, w30, e32, h⟩ := h
    refine h_callF 1  (As := [.int v3]) (rest := [.ref v0]) (v := (some (va_rf x33))) (w' := w30) (st1 := [va_rf x33, .ref v0]) hx hb hml hown hts hK hR hS (Nat.le_refl _) (Nat.le_refl _) (h_recv (ci := 2) hK hR hS rfl e31) (mJ2_get e32) (lw_app (a := [.methodLink _ _ _, .selects _ _ _, .instanceMethod _, .initialized _]) (lw_4 q1205 q1208 q1210 q117) (lw_meth q1212)) (hK.fw 1 rfl) (by decide +kernel) (Nat.le_of_ble_eq_true rfl) (Nat.le_of_ble_eq_true rfl) rfl hl.1 (Nat.le_of_ble_eq_true rfl) dX1_bound_35 rfl rfl (fun H locs hR hS => ?_)
    replace h := bo_o h
    obtain ⟨a34, e35, h⟩ := h
    subst e35
    replace h := bo_o h
    obtain ⟨_, e36, h⟩ := h
    refine h_castS (ci := 28) hx hb hts hown hK hR hS rfl e36 q1265 dX1_bound_40 ?_
    replace h := bo_o h
    obtain ⟨_, e38, h⟩ := h
    replace h := b2_o h
    obtain ⟨x40, w37, e39, h⟩ := h
    refine h_callV 1 (ci := 17) (As := [.ref a34]) (rest := []) (v := (some (.long x40))) (w' := w37) (st1 := [.long x40]) hx hb hml hown hts hK hR hS (Nat.le_refl _) (Nat.le_refl _) rfl e38 (mX1_feltBy e39) (lw_V q1743 q1745 qs39 q112 q1746) (by decide +kernel) (Nat.le_of_ble_eq_true rfl) (Nat.le_of_ble_eq_true rfl) rfl hl.1 (Nat.le_of_ble_eq_true rfl) dX1_bound_43 rfl rfl (fun H locs hR hS => ?_)
    refine lv_ldc2 (v := 2305843009213693951) hx hb hown (hts _ q1750) dX1_bound_46 ?_
    refine W.lcmp hx hb dX1_bound_49 ?_
    refine lv_if_ne (tgt := 56) hx hb dX1_bound_50 (by decide) (fun c41 => ?_) (fun c41 => ?_)
    · replace h := if_o c41 h
      refine lv_aload_n hx hb dX1_bound_56 rfl (lv_at hl 0 rfl) ?_
      refine lv_iload_n hx hb dX1_bound_57 rfl (lv_at hl 2 rfl) ?_
      replace h := bo_o h
      obtain ⟨_, e43, h⟩ := h
      replace h := b2_o h
      obtain ⟨x45, w42, e44, h⟩ := h
      refine h_callV 1 (ci := 17) (As := [.int v3]) (rest := []) (v := (some (.long x45))) (w' := w42) (st1 := [.long x45]) hx hb hml hown hts hK hR hS (Nat.le_refl _) (Nat.le_refl _) rfl e43 (mX1_pledged e44) (lw_V q1751 q1753 qs40 q112 q1754) (by decide +kernel) (Nat.le_of_ble_eq_true rfl) (Nat.le_of_ble_eq_true rfl) rfl hl.1 (Nat.le_of_ble_eq_true rfl) dX1_bound_58 rfl rfl (fun H locs hR hS => ?_)
      refine lv_lstore (lv' := [(4, .long x45), (0, .ref v0), (1, .long v1), (3, .int v3)]) hx hb dX1_bound_61 hl (by decide) rfl (fun ls hl => ?_)
      exact bX1_bound_63 B h k4 kR hR hS (lv_sub hl [1, 2, 3, 0] rfl)
    · replace h := it_o c41 h
      refine lv_goto (tgt := 81) hx hb dX1_bound_53 (by decide) ?_
      exact bX1_bound_81 B h k4 kR hR hS (lv_sub hl [0, 1, 2] rfl)
noncomputable def fX1_bound_l4 (v0 : Nat) (v1 : Int64) (v3 : Int32) (w : WH) : Option ((Int64 × WH)) := whileO (fun q => fX1_bound_b4 v0 q.1 q.2.1 q.2.2) (v1, v3, w)
theorem lX1_bound_4 {p : Program} {l : Launch} {e : Env} {s : State} {m : MethodId} {args : Array Value} {below : List Frame} {meth : Method} {c : Code} {G : gE} {A : Nat → Prop} {w0 : WH} (B : gB G RX1 cX1_bound 6 (some .long) p s m args meth c) {v0 : Nat} {r : (Int64 × WH)}   : ∀ (v1 : Int64) (v3 : Int32) (w : WH), fX1_bound_l4 v0 v1 v3 w = some r → ∀ (H : Heap) (locs : List Loc) (ls : Array Slot), RepH G A w H → Cu A s w0 w H locs → lv_has ls 6 [(0, .ref v0), (1, .long v1), (3, .int v3)] → W p l e (hRm 18 410 w0) s m args below meth c H locs (wC w0 - wC w) (wS w0 - wS w) (hZ below args s G A w0 (some (.long r.1)) r.2) (F0 m 4 ls []) := by
  intro v1 v3 w h
  refine wh_walk (body := (fun q => fX1_bound_b4 v0 q.1 q.2.1 q.2.2)) (P := (fun q : (Int64 × Int32 × WH) => ∀ (H : Heap) (locs : List Loc) (ls : Array Slot), RepH G A (q.2.2) H → Cu A s w0 (q.2.2) H locs → lv_has ls 6 [(0, .ref v0), (1, .long (q.1)), (3, .int (q.2.1))] → W p l e (hRm 18 410 w0) s m args below meth c H locs (wC w0 - wC (q.2.2)) (wS w0 - wS (q.2.2)) (hZ below args s G A w0 (some (.long r.1)) r.2) (F0 m 4 ls []))) (r := r) ?_ (v1, v3, w) h
  intro q y hy hL hr H locs ls hR hS hl
  exact bX1_bound_4 (r := r) B hy (fun a0 a1 a2 e => hL (a0, a1, a2) e) (fun q e => hr q e) hR hS hl
noncomputable def fX1_bound (v0 : Nat) (w : WH) : Option ((Int64 × WH)) :=
  fX1_bound_l4 v0 0 0 w
theorem bX1_bound_0 {p : Program} {l : Launch} {e : Env} {s : State} {m : MethodId} {args : Array Value} {below : List Frame} {meth : Method} {c : Code} {H : Heap} {locs : List Loc} {ls : Array Slot} {G : gE} {A : Nat → Prop} {w0 : WH} (B : gB G RX1 cX1_bound 6 (some .long) p s m args meth c) {v0 : Nat} {w : WH} {r : (Int64 × WH)} (h : fX1_bound v0 w = some r)   (hR : RepH G A w H) (hS : Cu A s w0 w H locs) (hl : lv_has ls 6 [(0, .ref v0)]) : W p l e (hRm 18 410 w0) s m args below meth c H locs (wC w0 - wC w) (wS w0 - wS w) (hZ below args s G A w0 (some (.long r.1)) r.2) (F0 m 0 ls []) := by
  have B0 := B
  obtain ⟨hx, hb, hml, hown, hts, hr, hlk, hK⟩ := B0
  unfold fX1_bound at h
  refine lv_lconst (v := 0) hx hb dX1_bound_0 (by decide) ?_
  refine lv_lstore_n (lv' := [(1, .long 0), (0, .ref v0)]) hx hb dX1_bound_1 rfl hl (by decide) rfl (fun ls hl => ?_)
  refine lv_iconst (v := 0) hx hb dX1_bound_2 (by decide) ?_
  refine lv_istore_n (lv' := [(3, .int 0), (1, .long 0), (0, .ref v0)]) hx hb dX1_bound_3 rfl hl (by decide) rfl (fun ls hl => ?_)
  exact lX1_bound_4 B _ _ _ h H locs ls hR hS (lv_sub hl [2, 1, 0] rfl)
theorem mX1_bound {l : Launch} {G : gE} {A : Nat → Prop} {v0 : Nat} {w : WH} {r : (Int64 × WH)} (h : fX1_bound v0 w = some r) : hM l G A yX1_bound cX1_bound 6 (some .long) 18 410 [.ref v0] w (some (.long r.1)) r.2 :=
  h_of (by decide +kernel) (Nat.le_of_ble_eq_true rfl) (fun p e s m args below meth c ls B hnm hR hS hl => bX1_bound_0 B h hR hS hl)
noncomputable def fX11_offer_b88 (v0 : Nat) (v1 : Int32) (v3 : Int64) (w : WH) : Option (WH) :=
  (hPut w v0 18 1 (.int v1)).bind fun w1 =>
  (hPut w1 v0 18 2 (.long v3)).bind fun w3 =>
  some w3
theorem bX11_offer_88 {p : Program} {l : Launch} {e : Env} {s : State} {m : MethodId} {args : Array Value} {below : List Frame} {meth : Method} {c : Code} {H : Heap} {locs : List Loc} {ls : Array Slot} {G : gE} {A : Nat → Prop} {w0 : WH} (B : gB G RX11 cX11_offer 5 none p s m args meth c) {v0 : Nat} {v1 : Int32} {v3 : Int64} {w : WH} {r : WH} (h : fX11_offer_b88 v0 v1 v3 w = some r)   (hR : RepH G A w H) (hS : Cu A s w0 w H locs) (hl : lv_has ls 5 [(0, .ref v0), (1, .int v1), (3, .long v3)]) : W p l e (hRm 20 454 w0) s m args below meth c H locs (wC w0 - wC w) (wS w0 - wS w) (hZ below args s G A w0 none r) (F0 m 88 ls []) := by
  have B0 := B
  obtain ⟨hx, hb, hml, hown, hts, hr, hlk, hK⟩ := B0
  unfold fX11_offer_b88 at h
  refine lv_aload_n hx hb dX11_offer_88 rfl (lv_at hl 0 rfl) ?_
  refine lv_iload_n hx hb dX11_offer_89 rfl (lv_at hl 1 rfl) ?_
  replace h := bo_o h
  obtain ⟨w1, e2, h⟩ := h
  refine h_put (ci := 18) (k := 1) (ty := tyX11 1) hx hb hts hown hK hR hS in_X11 tyX11 tyX11_ok nmX11 rfl (by decide) q1797 (fun _ h9 => h9) rfl (tyX11_ok 1 (by decide)) rfl rfl e2 dX11_offer_90 (fun H locs hR hS => ?_)
  refine lv_aload_n hx hb dX11_offer_93 rfl (lv_at hl 0 rfl) ?_
  refine lv_lload_n hx hb dX11_offer_94 rfl (lv_at hl 2 rfl) ?_
  replace h := bo_o h
  obtain ⟨w3, e4, h⟩ := h
  refine h_put (ci := 18) (k := 2) (ty := tyX11 2) hx hb hts hown hK hR hS in_X11 tyX11 tyX11_ok nmX11 rfl (by decide) q1799 (fun _ h9 => h9) rfl (tyX11_ok 2 (by decide)) rfl rfl e4 dX11_offer_95 (fun H locs hR hS => ?_)
  have eR := Option.some.inj h
  subst eR
  exact h_vfin hx hb hr hlk hR hS dX11_offer_98
noncomputable def fX11_offer_b61 (v0 : Nat) (v1 : Int32) (v3 : Int64) (w : WH) : Option (WH) :=
  (gJ w v0 18 2).bind fun x1 =>
  if lg_cmp v3 x1 < 0 then (
    some w
  ) else (
    (gJ w v0 18 2).bind fun x4 =>
    if lg_cmp v3 x4 = 0 then (
      (gI w v0 18 1).bind fun x7 =>
      if v1 < x7 then (
        fX11_offer_b88 v0 v1 v3 w
      ) else (
        some w
      )
    ) else (
      fX11_offer_b88 v0 v1 v3 w
    )
  )
theorem bX11_offer_61 {p : Program} {l : Launch} {e : Env} {s : State} {m : MethodId} {args : Array Value} {below : List Frame} {meth : Method} {c : Code} {H : Heap} {locs : List Loc} {ls : Array Slot} {G : gE} {A : Nat → Prop} {w0 : WH} (B : gB G RX11 cX11_offer 5 none p s m args meth c) {v0 : Nat} {v1 : Int32} {v3 : Int64} {w : WH} {r : WH} (h : fX11_offer_b61 v0 v1 v3 w = some r)   (hR : RepH G A w H) (hS : Cu A s w0 w H locs) (hl : lv_has ls 5 [(0, .ref v0), (1, .int v1), (3, .long v3)]) : W p l e (hRm 20 454 w0) s m args below meth c H locs (wC w0 - wC w) (wS w0 - wS w) (hZ below args s G A w0 none r) (F0 m 61 ls []) := by
  have B0 := B
  obtain ⟨hx, hb, hml, hown, hts, hr, hlk, hK⟩ := B0
  unfold fX11_offer_b61 at h
  refine lv_lload_n hx hb dX11_offer_61 rfl (lv_at hl 2 rfl) ?_
  refine lv_aload_n hx hb dX11_offer_62 rfl (lv_at hl 0 rfl) ?_
  replace h := bo_o h
  obtain ⟨x1, e2, h⟩ := h
  refine h_get (ci := 18) (k := 2) (v := .long x1) hx hb hts hown hK hR in_X11 rfl (by decide) (fun _ _ => rfl) q1799 (fun _ h9 => h9) (gJ_o e2) dX11_offer_63 ?_
  refine W.lcmp hx hb dX11_offer_66 ?_
  refine lv_if_lt (tgt := 87) hx hb dX11_offer_67 (by decide) (fun c3 => ?_) (fun c3 => ?_)
  · replace h := it_o c3 h
    have eR := Option.some.inj h
    subst eR
    exact h_vfin hx hb hr hlk hR hS dX11_offer_87
  · replace h := if_o c3 h
    refine lv_lload_n hx hb dX11_offer_70 rfl (lv_at hl 2 rfl) ?_
    refine lv_aload_n hx hb dX11_offer_71 rfl (lv_at hl 0 rfl) ?_
    replace h := bo_o h
    obtain ⟨x4, e5, h⟩ := h
    refine h_get (ci := 18) (k := 2) (v := .long x4) hx hb hts hown hK hR in_X11 rfl (by decide) (fun _ _ => rfl) q1799 (fun _ h9 => h9) (gJ_o e5) dX11_offer_72 ?_
    refine W.lcmp hx hb dX11_offer_75 ?_
    refine lv_if_ne (tgt := 88) hx hb dX11_offer_76 (by decide) (fun c6 => ?_) (fun c6 => ?_)
    · replace h := if_o c6 h
      exact bX11_offer_88 B h  hR hS (lv_sub hl [0, 1, 2] rfl)
    · replace h := it_o c6 h
      refine lv_iload_n hx hb dX11_offer_79 rfl (lv_at hl 1 rfl) ?_
      refine lv_aload_n hx hb dX11_offer_80 rfl (lv_at hl 0 rfl) ?_
      replace h := bo_o h
      obtain ⟨x7, e8, h⟩ := h
      refine h_get (ci := 18) (k := 1) (v := .int x7) hx hb hts hown hK hR in_X11 rfl (by decide) (fun _ _ => rfl) q1797 (fun _ h9 => h9) (gI_o e8) dX11_offer_81 ?_
      refine lv_icmp_lt (tgt := 88) hx hb dX11_offer_84 (by decide) (fun c9 => ?_) (fun c9 => ?_)
      · replace h := it_o c9 h
        exact bX11_offer_88 B h  hR hS (lv_sub hl [0, 1, 2] rfl)
      · replace h := if_o c9 h
        have eR := Option.some.inj h
        subst eR
        exact h_vfin hx hb hr hlk hR hS dX11_offer_87
noncomputable def fX11_offer (v0 : Nat) (v1 : Int32) (w : WH) : Option (WH) :=
  (gR w v0 18 3).bind fun x1 =>
  x1.bind fun a3 =>
  (gR w a3 17 0).bind fun x5 =>
  (gR w v0 18 0).bind fun x7 =>
  x5.bind fun a9 =>
  x7.bind fun a11 =>
  (hIs w a9 21).bind fun _ =>
  b2_ (fX2_toll a9 a11 w) fun x16 w13 =>
  (gR w13 v0 18 3).bind fun x17 =>
  x17.bind fun a19 =>
  (gR w13 a19 17 0).bind fun x21 =>
  x21.bind fun a23 =>
  (gR w13 a23 21 1).bind fun x25 =>
  (gR w13 v0 18 0).bind fun x27 =>
  x27.bind fun a29 =>
  (hIs w13 a29 27).bind fun _ =>
  b2_ (fX8_number a29 w13) fun x34 w31 =>
  x25.bind fun a35 =>
  (stI w31 a35 0 x34 v1).bind fun w37 =>
  (gR w37 v0 18 3).bind fun x39 =>
  x39.bind fun a41 =>
  (hIs w37 a41 17).bind fun _ =>
  b2_ (fX1_brought a41 w37) fun x46 w43 =>
  (gR w43 v0 18 3).bind fun x47 =>
  x47.bind fun a49 =>
  (gR w43 a49 17 0).bind fun x51 =>
  x51.bind fun a53 =>
  (gR w43 a53 21 1).bind fun x55 =>
  (gR w43 v0 18 0).bind fun x57 =>
  x57.bind fun a59 =>
  (hIs w43 a59 27).bind fun _ =>
  b2_ (fX8_number a59 w43) fun x64 w61 =>
  x55.bind fun a65 =>
  (stI w61 a65 0 x64 x16).bind fun w67 =>
  fX11_offer_b61 v0 v1 x46 w67
theorem bX11_offer_0 {p : Program} {l : Launch} {e : Env} {s : State} {m : MethodId} {args : Array Value} {below : List Frame} {meth : Method} {c : Code} {H : Heap} {locs : List Loc} {ls : Array Slot} {G : gE} {A : Nat → Prop} {w0 : WH} (B : gB G RX11 cX11_offer 5 none p s m args meth c) {v0 : Nat} {v1 : Int32} {w : WH} {r : WH} (h : fX11_offer v0 v1 w = some r)   (hR : RepH G A w H) (hS : Cu A s w0 w H locs) (hl : lv_has ls 5 [(0, .ref v0), (1, .int v1)]) : W p l e (hRm 20 454 w0) s m args below meth c H locs (wC w0 - wC w) (wS w0 - wS w) (hZ below args s G A w0 none r) (F0 m 0 ls []) := by
  have B0 := B
  obtain ⟨hx, hb, hml, hown, hts, hr, hlk, hK⟩ := B0
  unfold fX11_offer at h
  refine lv_aload_n hx hb dX11_offer_0 rfl (lv_at hl 0 rfl) ?_
  replace h := bo_o h
  obtain ⟨x1, e2, h⟩ := h
  refine h_get (ci := 18) (k := 3) (v := va_rf x1) hx hb hts hown hK hR in_X11 rfl (by decide) (fun _ _ => rfl) q1801 (fun _ h9 => h9) (gR_o e2) dX11_offer_1 ?_
  replace h := bo_o h
  obtain ⟨a3, e4, h⟩ := h
  subst e4
  replace h := bo_o h
  obtain ⟨x5, e6, h⟩ := h
  refine h_getN (ci := 17) (k := 0) (v := va_rf x5) hx hb hts hown hK hR in_X1 rfl (by decide) (fun _ _ => rfl) (hK.fn 25 rfl) (fun _ h9 => h9) (gR_o e6) dX11_offer_4 ?_
  refine lv_aload_n hx hb dX11_offer_7 rfl (lv_at hl 0 rfl) ?_
  replace h := bo_o h
  obtain ⟨x7, e8, h⟩ := h
  refine h_get (ci := 18) (k := 0) (v := va_rf x7) hx hb hts hown hK hR in_X11 rfl (by decide) (fun _ _ => rfl) q1796 (fun _ h9 => h9) (gR_o e8) dX11_offer_8 ?_
  replace h := bo_o h
  obtain ⟨a9, e10, h⟩ := h
  subst e10
  replace h := bo_o h
  obtain ⟨a11, e12, h⟩ := h
  subst e12
  replace h := bo_o h
  obtain ⟨_, e14, h⟩ := h
  replace h := b2_o h
  obtain ⟨x16, w13, e15, h⟩ := h
  refine h_callV 1 (ci := 21) (As := [.ref a11]) (rest := []) (v := (some (.int x16))) (w' := w13) (st1 := [.int x16]) hx hb hml hown hts hK hR hS (Nat.le_refl _) (Nat.le_refl _) rfl e14 (mX2_toll e15) (lw_V q1781 q1332 q1333 q113 q1334) (by decide +kernel) (Nat.le_of_ble_eq_true rfl) (Nat.le_of_ble_eq_true rfl) rfl hl.1 (Nat.le_of_ble_eq_true rfl) dX11_offer_11 rfl rfl (fun H locs hR hS => ?_)
  refine lv_istore_n (lv' := [(2, .int x16), (0, .ref v0), (1, .int v1)]) hx hb dX11_offer_14 rfl hl (by decide) rfl (fun ls hl => ?_)
  refine lv_aload_n hx hb dX11_offer_15 rfl (lv_at hl 1 rfl) ?_
  replace h := bo_o h
  obtain ⟨x17, e18, h⟩ := h
  refine h_get (ci := 18) (k := 3) (v := va_rf x17) hx hb hts hown hK hR in_X11 rfl (by decide) (fun _ _ => rfl) q1801 (fun _ h9 => h9) (gR_o e18) dX11_offer_16 ?_
  replace h := bo_o h
  obtain ⟨a19, e20, h⟩ := h
  subst e20
  replace h := bo_o h
  obtain ⟨x21, e22, h⟩ := h
  refine h_getN (ci := 17) (k := 0) (v := va_rf x21) hx hb hts hown hK hR in_X1 rfl (by decide) (fun _ _ => rfl) (hK.fn 25 rfl) (fun _ h9 => h9) (gR_o e22) dX11_offer_19 ?_
  replace h := bo_o h
  obtain ⟨a23, e24, h⟩ := h
  subst e24
  replace h := bo_o h
  obtain ⟨x25, e26, h⟩ := h
  refine h_getN (ci := 21) (k := 1) (v := va_rf x25) hx hb hts hown hK hR in_X2 rfl (by decide) (fun _ _ => rfl) (hK.fn 16 rfl) (fun _ h9 => h9) (gR_o e26) dX11_offer_22 ?_
  refine lv_aload_n hx hb dX11_offer_25 rfl (lv_at hl 1 rfl) ?_
  replace h := bo_o h
  obtain ⟨x27, e28, h⟩ := h
  refine h_get (ci := 18) (k := 0) (v := va_rf x27) hx hb hts hown hK hR in_X11 rfl (by decide) (fun _ _ => rfl) q1796 (fun _ h9 => h9) (gR_o e28) dX11_offer_26 ?_
  replace h := bo_o h
  obtain ⟨a29, e30, h⟩ := h
  subst e30
  replace h := bo_o h
  obtain ⟨_, e32, h⟩ := h
  replace h := b2_o h
  obtain ⟨x34, w31, e33, h⟩ := h
  refine h_callV 0 (ci := 27) (As := []) (rest := [va_rf x25]) (v := (some (.int x34))) (w' := w31) (st1 := [.int x34, va_rf x25]) hx hb hml hown hts hK hR hS (Nat.le_refl _) (Nat.le_refl _) rfl e32 (mX8_number e33) (lw_V q1782 q1305 q1306 q141 q1307) (by decide +kernel) (Nat.le_of_ble_eq_true rfl) (Nat.le_of_ble_eq_true rfl) rfl hl.1 (cat_le (Nat.le_of_ble_eq_true rfl)) dX11_offer_29 rfl rfl (fun H locs hR hS => ?_)
  refine lv_iload_n hx hb dX11_offer_32 rfl (lv_at hl 2 rfl) ?_
  replace h := bo_o h
  obtain ⟨a35, e36, h⟩ := h
  subst e36
  replace h := bo_o h
  obtain ⟨w37, e38, h⟩ := h
  refine h_iast hx hb hK hR hS e38 dX11_offer_33 (fun H locs hR hS => ?_)
  refine lv_aload_n hx hb dX11_offer_34 rfl (lv_at hl 1 rfl) ?_
  replace h := bo_o h
  obtain ⟨x39, e40, h⟩ := h
  refine h_get (ci := 18) (k := 3) (v := va_rf x39) hx hb hts hown hK hR in_X11 rfl (by decide) (fun _ _ => rfl) q1801 (fun _ h9 => h9) (gR_o e40) dX11_offer_35 ?_
  replace h := bo_o h
  obtain ⟨a41, e42, h⟩ := h
  subst e42
  replace h := bo_o h
  obtain ⟨_, e44, h⟩ := h
  replace h := b2_o h
  obtain ⟨x46, w43, e45, h⟩ := h
  refine h_callVN 0 (ci := 17) (As := []) (rest := []) (v := (some (.long x46))) (w' := w43) (st1 := [.long x46]) hx hb hml hown hts hK hR hS (Nat.le_refl _) (Nat.le_refl _) rfl e44 (mX1_brought e45) (lw_meth q1730) (hK.mn 5 rfl) q112 q1729 qs37 (by decide +kernel) (Nat.le_of_ble_eq_true rfl) (Nat.le_of_ble_eq_true rfl) rfl hl.1 (Nat.le_of_ble_eq_true rfl) dX11_offer_38 rfl rfl (fun H locs hR hS => ?_)
  refine lv_lstore_n (lv' := [(3, .long x46), (2, .int x16), (0, .ref v0), (1, .int v1)]) hx hb dX11_offer_41 rfl hl (by decide) rfl (fun ls hl => ?_)
  refine lv_aload_n hx hb dX11_offer_42 rfl (lv_at hl 2 rfl) ?_
  replace h := bo_o h
  obtain ⟨x47, e48, h⟩ := h
  refine h_get (ci := 18) (k := 3) (v := va_rf x47) hx hb hts hown hK hR in_X11 rfl (by decide) (fun _ _ => rfl) q1801 (fun _ h9 => h9) (gR_o e48) dX11_offer_43 ?_
  replace h := bo_o h
  obtain ⟨a49, e50, h⟩ := h
  subst e50
  replace h := bo_o h
  obtain ⟨x51, e52, h⟩ := h
  refine h_getN (ci := 17) (k := 0) (v := va_rf x51) hx hb hts hown hK hR in_X1 rfl (by decide) (fun _ _ => rfl) (hK.fn 25 rfl) (fun _ h9 => h9) (gR_o e52) dX11_offer_46 ?_
  replace h := bo_o h
  obtain ⟨a53, e54, h⟩ := h
  subst e54
  replace h := bo_o h
  obtain ⟨x55, e56, h⟩ := h
  refine h_getN (ci := 21) (k := 1) (v := va_rf x55) hx hb hts hown hK hR in_X2 rfl (by decide) (fun _ _ => rfl) (hK.fn 16 rfl) (fun _ h9 => h9) (gR_o e56) dX11_offer_49 ?_
  refine lv_aload_n hx hb dX11_offer_52 rfl (lv_at hl 2 rfl) ?_
  replace h := bo_o h
  obtain ⟨x57, e58, h⟩ := h
  refine h_get (ci := 18) (k := 0) (v := va_rf x57) hx hb hts hown hK hR in_X11 rfl (by decide) (fun _ _ => rfl) q1796 (fun _ h9 => h9) (gR_o e58) dX11_offer_53 ?_
  replace h := bo_o h
  obtain ⟨a59, e60, h⟩ := h
  subst e60
  replace h := bo_o h
  obtain ⟨_, e62, h⟩ := h
  replace h := b2_o h
  obtain ⟨x64, w61, e63, h⟩ := h
  refine h_callV 0 (ci := 27) (As := []) (rest := [va_rf x55]) (v := (some (.int x64))) (w' := w61) (st1 := [.int x64, va_rf x55]) hx hb hml hown hts hK hR hS (Nat.le_refl _) (Nat.le_refl _) rfl e62 (mX8_number e63) (lw_V q1782 q1305 q1306 q141 q1307) (by decide +kernel) (Nat.le_of_ble_eq_true rfl) (Nat.le_of_ble_eq_true rfl) rfl hl.1 (cat_le (Nat.le_of_ble_eq_true rfl)) dX11_offer_56 rfl rfl (fun H locs hR hS => ?_)
  refine lv_iload_n hx hb dX11_offer_59 rfl (lv_at hl 1 rfl) ?_
  replace h := bo_o h
  obtain ⟨a65, e66, h⟩ := h
  subst e66
  replace h := bo_o h
  obtain ⟨w67, e68, h⟩ := h
  refine h_iast hx hb hK hR hS e68 dX11_offer_60 (fun H locs hR hS => ?_)
  exact bX11_offer_61 B h  hR hS (lv_sub hl [2, 3, 0] rfl)
theorem mX11_offer {l : Launch} {G : gE} {A : Nat → Prop} {v0 : Nat} {v1 : Int32} {w : WH} {r : WH} (h : fX11_offer v0 v1 w = some r) : hM l G A yX11_offer cX11_offer 5 none 20 454 [.ref v0, .int v1] w none r :=
  h_of (by decide +kernel) (Nat.le_of_ble_eq_true rfl) (fun p e s m args below meth c ls B hnm hR hS hl => bX11_offer_0 B h hR hS hl)
noncomputable def fX1_usesWith_b40 (v5 : Int32) (w : WH) : Option ((Int32 × WH)) :=
  (fz_ .boolean v5).bind fun _ =>
  some (v5, w)
theorem bX1_usesWith_40 {p : Program} {l : Launch} {e : Env} {s : State} {m : MethodId} {args : Array Value} {below : List Frame} {meth : Method} {c : Code} {H : Heap} {locs : List Loc} {ls : Array Slot} {G : gE} {A : Nat → Prop} {w0 : WH} (B : gB G RX1 cX1_usesWith 6 (some .boolean) p s m args meth c) {v5 : Int32} {w : WH} {r : (Int32 × WH)} (h : fX1_usesWith_b40 v5 w = some r)   (hR : RepH G A w H) (hS : Cu A s w0 w H locs) (hl : lv_has ls 6 [(5, .int v5)]) : W p l e (hRm 19 432 w0) s m args below meth c H locs (wC w0 - wC w) (wS w0 - wS w) (hZ below args s G A w0 (some (.int r.1)) r.2) (F0 m 40 ls []) := by
  have B0 := B
  obtain ⟨hx, hb, hml, hown, hts, hr, hlk, hK⟩ := B0
  unfold fX1_usesWith_b40 at h
  refine lv_iload hx hb dX1_usesWith_40 (lv_at hl 0 rfl) ?_
  replace h := bo_o h
  obtain ⟨_, e1, h⟩ := h
  have eR := Option.some.inj h
  subst eR
  exact h_zfin hx hb hr hlk (fz_n (fun _ => ⟨_, rfl⟩) e1) hR hS dX1_usesWith_42
noncomputable def fX1_usesWith (v0 : Nat) (v1 : Int32) (v2 : Int32) (v3 : Int32) (w : WH) : Option ((Int32 × WH)) :=
  (gR w v0 17 0).bind fun x1 =>
  x1.bind fun a3 =>
  (gR w a3 21 1).bind fun x5 =>
  x5.bind fun a7 =>
  (ldI w a7 0 v2).bind fun x9 =>
  (gR w v0 17 0).bind fun x11 =>
  x11.bind fun a13 =>
  (gR w a13 21 1).bind fun x15 =>
  x15.bind fun a17 =>
  (stI w a17 0 v2 v3).bind fun w19 =>
  (hIs w19 v0 17).bind fun _ =>
  b2_ (fX1_usesIt v0 v1 v2 w19) fun x24 w21 =>
  (gR w21 v0 17 0).bind fun x25 =>
  x25.bind fun a27 =>
  (gR w21 a27 21 1).bind fun x29 =>
  x29.bind fun a31 =>
  (stI w21 a31 0 v2 x9).bind fun w33 =>
  fX1_usesWith_b40 x24 w33
theorem bX1_usesWith_0 {p : Program} {l : Launch} {e : Env} {s : State} {m : MethodId} {args : Array Value} {below : List Frame} {meth : Method} {c : Code} {H : Heap} {locs : List Loc} {ls : Array Slot} {G : gE} {A : Nat → Prop} {w0 : WH} (B : gB G RX1 cX1_usesWith 6 (some .boolean) p s m args meth c) {v0 : Nat} {v1 : Int32} {v2 : Int32} {v3 : Int32} {w : WH} {r : (Int32 × WH)} (h : fX1_usesWith v0 v1 v2 v3 w = some r)   (hR : RepH G A w H) (hS : Cu A s w0 w H locs) (hl : lv_has ls 6 [(0, .ref v0), (1, .int v1), (2, .int v2), (3, .int v3)]) : W p l e (hRm 19 432 w0) s m args below meth c H locs (wC w0 - wC w) (wS w0 - wS w) (hZ below args s G A w0 (some (.int r.1)) r.2) (F0 m 0 ls []) := by
  have B0 := B
  obtain ⟨hx, hb, hml, hown, hts, hr, hlk, hK⟩ := B0
  unfold fX1_usesWith at h
  refine lv_aload_n hx hb dX1_usesWith_0 rfl (lv_at hl 0 rfl) ?_
  replace h := bo_o h
  obtain ⟨x1, e2, h⟩ := h
  refine h_get (ci := 17) (k := 0) (v := va_rf x1) hx hb hts hown hK hR in_X1 rfl (by decide) (fun _ _ => rfl) q662 (fun _ h9 => h9) (gR_o e2) dX1_usesWith_1 ?_
  replace h := bo_o h
  obtain ⟨a3, e4, h⟩ := h
  subst e4
  replace h := bo_o h
  obtain ⟨x5, e6, h⟩ := h
  refine h_getN (ci := 21) (k := 1) (v := va_rf x5) hx hb hts hown hK hR in_X2 rfl (by decide) (fun _ _ => rfl) (hK.fn 18 rfl) (fun _ h9 => h9) (gR_o e6) dX1_usesWith_4 ?_
  refine lv_iload_n hx hb dX1_usesWith_7 rfl (lv_at hl 2 rfl) ?_
  replace h := bo_o h
  obtain ⟨a7, e8, h⟩ := h
  subst e8
  replace h := bo_o h
  obtain ⟨x9, e10, h⟩ := h
  refine h_iald hx hb hK hR e10 dX1_usesWith_8 ?_
  refine lv_istore (lv' := [(4, .int x9), (0, .ref v0), (1, .int v1), (2, .int v2), (3, .int v3)]) hx hb dX1_usesWith_9 hl (by decide) rfl (fun ls hl => ?_)
  refine lv_aload_n hx hb dX1_usesWith_11 rfl (lv_at hl 1 rfl) ?_
  replace h := bo_o h
  obtain ⟨x11, e12, h⟩ := h
  refine h_get (ci := 17) (k := 0) (v := va_rf x11) hx hb hts hown hK hR in_X1 rfl (by decide) (fun _ _ => rfl) q662 (fun _ h9 => h9) (gR_o e12) dX1_usesWith_12 ?_
  replace h := bo_o h
  obtain ⟨a13, e14, h⟩ := h
  subst e14
  replace h := bo_o h
  obtain ⟨x15, e16, h⟩ := h
  refine h_getN (ci := 21) (k := 1) (v := va_rf x15) hx hb hts hown hK hR in_X2 rfl (by decide) (fun _ _ => rfl) (hK.fn 18 rfl) (fun _ h9 => h9) (gR_o e16) dX1_usesWith_15 ?_
  refine lv_iload_n hx hb dX1_usesWith_18 rfl (lv_at hl 3 rfl) ?_
  refine lv_iload_n hx hb dX1_usesWith_19 rfl (lv_at hl 4 rfl) ?_
  replace h := bo_o h
  obtain ⟨a17, e18, h⟩ := h
  subst e18
  replace h := bo_o h
  obtain ⟨w19, e20, h⟩ := h
  refine h_iast hx hb hK hR hS e20 dX1_usesWith_20 (fun H locs hR hS => ?_)
  refine lv_aload_n hx hb dX1_usesWith_21 rfl (lv_at hl 1 rfl) ?_
  refine lv_iload_n hx hb dX1_usesWith_22 rfl (lv_at hl 2 rfl) ?_
  refine lv_iload_n hx hb dX1_usesWith_23 rfl (lv_at hl 3 rfl) ?_
  replace h := bo_o h
  obtain ⟨_, e22, h⟩ := h
  replace h := b2_o h
  obtain ⟨x24, w21, e23, h⟩ := h
  refine h_callV 2 (ci := 17) (As := [.int v1, .int v2]) (rest := []) (v := (some (.int x24))) (w' := w21) (st1 := [.int x24]) hx hb hml hown hts hK hR hS (Nat.le_refl _) (Nat.le_refl _) rfl e22 (mX1_usesIt e23) (lw_V q1200 q1202 qs23 q112 q1203) (by decide +kernel) (Nat.le_of_ble_eq_true rfl) (Nat.le_of_ble_eq_true rfl) rfl hl.1 (Nat.le_of_ble_eq_true rfl) dX1_usesWith_24 rfl rfl (fun H locs hR hS => ?_)
  refine lv_istore (lv' := [(5, .int x24), (4, .int x9), (0, .ref v0), (1, .int v1), (2, .int v2), (3, .int v3)]) hx hb dX1_usesWith_27 hl (by decide) rfl (fun ls hl => ?_)
  refine lv_aload_n hx hb dX1_usesWith_29 rfl (lv_at hl 2 rfl) ?_
  replace h := bo_o h
  obtain ⟨x25, e26, h⟩ := h
  refine h_get (ci := 17) (k := 0) (v := va_rf x25) hx hb hts hown hK hR in_X1 rfl (by decide) (fun _ _ => rfl) q662 (fun _ h9 => h9) (gR_o e26) dX1_usesWith_30 ?_
  replace h := bo_o h
  obtain ⟨a27, e28, h⟩ := h
  subst e28
  replace h := bo_o h
  obtain ⟨x29, e30, h⟩ := h
  refine h_getN (ci := 21) (k := 1) (v := va_rf x29) hx hb hts hown hK hR in_X2 rfl (by decide) (fun _ _ => rfl) (hK.fn 18 rfl) (fun _ h9 => h9) (gR_o e30) dX1_usesWith_33 ?_
  refine lv_iload_n hx hb dX1_usesWith_36 rfl (lv_at hl 4 rfl) ?_
  refine lv_iload hx hb dX1_usesWith_37 (lv_at hl 1 rfl) ?_
  replace h := bo_o h
  obtain ⟨a31, e32, h⟩ := h
  subst e32
  replace h := bo_o h
  obtain ⟨w33, e34, h⟩ := h
  refine h_iast hx hb hK hR hS e34 dX1_usesWith_39 (fun H locs hR hS => ?_)
  exact bX1_usesWith_40 B h  hR hS (lv_sub hl [0] rfl)
theorem mX1_usesWith {l : Launch} {G : gE} {A : Nat → Prop} {v0 : Nat} {v1 : Int32} {v2 : Int32} {v3 : Int32} {w : WH} {r : (Int32 × WH)} (h : fX1_usesWith v0 v1 v2 v3 w = some r) : hM l G A yX1_usesWith cX1_usesWith 6 (some .boolean) 19 432 [.ref v0, .int v1, .int v2, .int v3] w (some (.int r.1)) r.2 :=
  h_of (by decide +kernel) (Nat.le_of_ble_eq_true rfl) (fun p e s m args below meth c ls B hnm hR hS hl => bX1_usesWith_0 B h hR hS hl)
noncomputable def fX1_kept_b65 (v0 : Nat) (v1 : Int32) (v2 : Nat) (v3 : Int32) (v4 : Int32) (w : WH) : Option (Sum (Int32 × Int32 × WH) ((Int32 × WH))) :=
  some (.inl (v3, v4, w))
theorem bX1_kept_65 {p : Program} {l : Launch} {e : Env} {s : State} {m : MethodId} {args : Array Value} {below : List Frame} {meth : Method} {c : Code} {H : Heap} {locs : List Loc} {ls : Array Slot} {G : gE} {A : Nat → Prop} {w0 : WH} (B : gB G RX1 cX1_kept 6 (some .int) p s m args meth c) {v0 : Nat} {v1 : Int32} {v2 : Nat} {v3 : Int32} {v4 : Int32} {w : WH} {x : Sum (Int32 × Int32 × WH) ((Int32 × WH))} {r : (Int32 × WH)} (h : fX1_kept_b65 v0 v1 v2 v3 v4 w = some x)  (k23 : ∀ (v3' : Int32) (v4' : Int32) (w' : WH), x = (.inl (v3', v4', w')) → ∀ (H : Heap) (locs : List Loc) (ls : Array Slot), RepH G A w' H → Cu A s w0 w' H locs → lv_has ls 6 [(0, .ref v0), (1, .int v1), (2, .ref v2), (3, .int v3'), (4, .int v4')] → W p l e (hRm 20 457 w0) s m args below meth c H locs (wC w0 - wC w') (wS w0 - wS w') (hZ below args s G A w0 (some (.int r.1)) r.2) (F0 m 23 ls [])) (kR : ∀ q, x = (.inr q) → q = r) (hR : RepH G A w H) (hS : Cu A s w0 w H locs) (hl : lv_has ls 6 [(0, .ref v0), (1, .int v1), (2, .ref v2), (3, .int v3), (4, .int v4)]) : W p l e (hRm 20 457 w0) s m args below meth c H locs (wC w0 - wC w) (wS w0 - wS w) (hZ below args s G A w0 (some (.int r.1)) r.2) (F0 m 65 ls []) := by
  have B0 := B
  obtain ⟨hx, hb, hml, hown, hts, hr, hlk, hK⟩ := B0
  unfold fX1_kept_b65 at h
  refine lv_goto (tgt := 23) hx hb dX1_kept_65 (by decide) ?_
  exact k23 _ _ _ (Option.some.inj h).symm H locs ls hR hS (lv_sub hl [0, 1, 2, 3, 4] rfl)
noncomputable def fX1_kept_b53 (v0 : Nat) (v1 : Int32) (v2 : Nat) (v4 : Int32) (v5 : Int32) (w : WH) : Option (Sum (Int32 × Int32 × WH) ((Int32 × WH))) :=
  fX1_kept_b65 v0 v1 v2 v5 v4 w
theorem bX1_kept_53 {p : Program} {l : Launch} {e : Env} {s : State} {m : MethodId} {args : Array Value} {below : List Frame} {meth : Method} {c : Code} {H : Heap} {locs : List Loc} {ls : Array Slot} {G : gE} {A : Nat → Prop} {w0 : WH} (B : gB G RX1 cX1_kept 6 (some .int) p s m args meth c) {v0 : Nat} {v1 : Int32} {v2 : Nat} {v4 : Int32} {v5 : Int32} {w : WH} {x : Sum (Int32 × Int32 × WH) ((Int32 × WH))} {r : (Int32 × WH)} (h : fX1_kept_b53 v0 v1 v2 v4 v5 w = some x)  (k23 : ∀ (v3' : Int32) (v4' : Int32) (w' : WH), x = (.inl (v3', v4', w')) → ∀ (H : Heap) (locs : List Loc) (ls : Array Slot), RepH G A w' H → Cu A s w0 w' H locs → lv_has ls 6 [(0, .ref v0), (1, .int v1), (2, .ref v2), (3, .int v3'), (4, .int v4')] → W p l e (hRm 20 457 w0) s m args below meth c H locs (wC w0 - wC w') (wS w0 - wS w') (hZ below args s G A w0 (some (.int r.1)) r.2) (F0 m 23 ls [])) (kR : ∀ q, x = (.inr q) → q = r) (hR : RepH G A w H) (hS : Cu A s w0 w H locs) (hl : lv_has ls 6 [(0, .ref v0), (1, .int v1), (2, .ref v2), (4, .int v4), (5, .int v5)]) : W p l e (hRm 20 457 w0) s m args below meth c H locs (wC w0 - wC w) (wS w0 - wS w) (hZ below args s G A w0 (some (.int r.1)) r.2) (F0 m 53 ls []) := by
  have B0 := B
  obtain ⟨hx, hb, hml, hown, hts, hr, hlk, hK⟩ := B0
  unfold fX1_kept_b53 at h
  refine lv_iload hx hb dX1_kept_53 (lv_at hl 4 rfl) ?_
  refine lv_istore_n (lv' := [(3, .int v5), (0, .ref v0), (1, .int v1), (2, .ref v2), (4, .int v4), (5, .int v5)]) hx hb dX1_kept_55 rfl hl (by decide) rfl (fun ls hl => ?_)
  refine lv_goto (tgt := 65) hx hb dX1_kept_56 (by decide) ?_
  exact bX1_kept_65 B h k23 kR hR hS (lv_sub hl [1, 2, 3, 0, 4] rfl)
noncomputable def fX1_kept_b23 (v0 : Nat) (v1 : Int32) (v2 : Nat) (v3 : Int32) (v4 : Int32) (w : WH) : Option (Sum (Int32 × Int32 × WH) ((Int32 × WH))) :=
  if v4 ≤ v3 then (
    some (.inr (v3, w))
  ) else (
    nm_ (((v3 + v4) + 1) / 2) fun x2 =>
    (hIs w v2 27).bind fun _ =>
    b2_ (fX8_number v2 w) fun x7 w4 =>
    (hIs w4 v0 17).bind fun _ =>
    b2_ (fX1_usesWith v0 v1 x7 x2 w4) fun x11 w8 =>
    if x11 = 0 then (
      nm_ (x2 - 1) fun x13 =>
      fX1_kept_b65 v0 v1 v2 v3 x13 w8
    ) else (
      fX1_kept_b53 v0 v1 v2 v4 x2 w8
    )
  )
theorem bX1_kept_23 {p : Program} {l : Launch} {e : Env} {s : State} {m : MethodId} {args : Array Value} {below : List Frame} {meth : Method} {c : Code} {H : Heap} {locs : List Loc} {ls : Array Slot} {G : gE} {A : Nat → Prop} {w0 : WH} (B : gB G RX1 cX1_kept 6 (some .int) p s m args meth c) {v0 : Nat} {v1 : Int32} {v2 : Nat} {v3 : Int32} {v4 : Int32} {w : WH} {x : Sum (Int32 × Int32 × WH) ((Int32 × WH))} {r : (Int32 × WH)} (h : fX1_kept_b23 v0 v1 v2 v3 v4 w = some x)  (k23 : ∀ (v3' : Int32) (v4' : Int32) (w' : WH), x = (.inl (v3', v4', w')) → ∀ (H : Heap) (locs : List Loc) (ls : Array Slot), RepH G A w' H → Cu A s w0 w' H locs → lv_has ls 6 [(0, .ref v0), (1, .int v1), (2, .ref v2), (3, .int v3'), (4, .int v4')] → W p l e (hRm 20 457 w0) s m args below meth c H locs (wC w0 - wC w') (wS w0 - wS w') (hZ below args s G A w0 (some (.int r.1)) r.2) (F0 m 23 ls [])) (kR : ∀ q, x = (.inr q) → q = r) (hR : RepH G A w H) (hS : Cu A s w0 w H locs) (hl : lv_has ls 6 [(0, .ref v0), (1, .int v1), (2, .ref v2), (3, .int v3), (4, .int v4)]) : W p l e (hRm 20 457 w0) s m args below meth c H locs (wC w0 - wC w) (wS w0 - wS w) (hZ below args s G A w0 (some (.int r.1)) r.2) (F0 m 23 ls []) := by
  have B0 := B
  obtain ⟨hx, hb, hml, hown, hts, hr, hlk, hK⟩ := B0
  unfold fX1_kept_b23 at h
  refine lv_iload_n hx hb dX1_kept_23 rfl (lv_at hl 3 rfl) ?_
  refine lv_iload hx hb dX1_kept_24 (lv_at hl 4 rfl) ?_
  refine lv_icmp_ge (tgt := 68) hx hb dX1_kept_26 (by decide) (fun c1 => ?_) (fun c1 => ?_)
  · replace h := it_o c1 h
    refine lv_iload_n hx hb dX1_kept_68 rfl (lv_at hl 3 rfl) ?_
    have eR := kR _ (Option.some.inj h).symm
    subst eR
    exact h_ifin hx hb hr hlk hR hS dX1_kept_69
  · replace h := if_o c1 h
    refine lv_iload_n hx hb dX1_kept_29 rfl (lv_at hl 3 rfl) ?_
    refine lv_iload hx hb dX1_kept_30 (lv_at hl 4 rfl) ?_
    refine lv_iadd hx hb dX1_kept_32 ?_
    refine lv_iconst (v := 1) hx hb dX1_kept_33 (by decide) ?_
    refine lv_iadd hx hb dX1_kept_34 ?_
    refine lv_iconst (v := 2) hx hb dX1_kept_35 (by decide) ?_
    refine lv_idiv hx hb dX1_kept_36 (by decide) ?_
    replace h := nm_o h
    obtain ⟨x2, e3, h⟩ := h
    refine lv_istore (lv' := [(5, .int x2), (0, .ref v0), (1, .int v1), (2, .ref v2), (3, .int v3), (4, .int v4)]) hx hb dX1_kept_37 hl (by decide) (by subst e3; rfl) (fun ls hl => ?_)
    refine lv_aload_n hx hb dX1_kept_39 rfl (lv_at hl 1 rfl) ?_
    refine lv_iload_n hx hb dX1_kept_40 rfl (lv_at hl 2 rfl) ?_
    refine lv_aload_n hx hb dX1_kept_41 rfl (lv_at hl 3 rfl) ?_
    replace h := bo_o h
    obtain ⟨_, e5, h⟩ := h
    replace h := b2_o h
    obtain ⟨x7, w4, e6, h⟩ := h
    refine h_callV 0 (ci := 27) (As := []) (rest := [.int v1, .ref v0]) (v := (some (.int x7))) (w' := w4) (st1 := [.int x7, .int v1, .ref v0]) hx hb hml hown hts hK hR hS (Nat.le_refl _) (Nat.le_refl _) rfl e5 (mX8_number e6) (lw_V q1791 q1305 q1306 q141 q1307) (by decide +kernel) (Nat.le_of_ble_eq_true rfl) (Nat.le_of_ble_eq_true rfl) rfl hl.1 (Nat.le_of_ble_eq_true rfl) dX1_kept_42 rfl rfl (fun H locs hR hS => ?_)
    refine lv_iload hx hb dX1_kept_45 (lv_at hl 0 rfl) ?_
    replace h := bo_o h
    obtain ⟨_, e9, h⟩ := h
    replace h := b2_o h
    obtain ⟨x11, w8, e10, h⟩ := h
    refine h_callV 3 (ci := 17) (As := [.int v1, .int x7, .int x2]) (rest := []) (v := (some (.int x11))) (w' := w8) (st1 := [.int x11]) hx hb hml hown hts hK hR hS (Nat.le_refl _) (Nat.le_refl _) rfl e9 (mX1_usesWith e10) (lw_V q1792 q1794 qs44 q112 q1795) (by decide +kernel) (Nat.le_of_ble_eq_true rfl) (Nat.le_of_ble_eq_true rfl) rfl hl.1 (Nat.le_of_ble_eq_true rfl) dX1_kept_47 rfl rfl (fun H locs hR hS => ?_)
    refine lv_if_eq (tgt := 59) hx hb dX1_kept_50 (by decide) (fun c12 => ?_) (fun c12 => ?_)
    · replace h := it_o c12 h
      refine lv_iload hx hb dX1_kept_59 (lv_at hl 0 rfl) ?_
      refine lv_iconst (v := 1) hx hb dX1_kept_61 (by decide) ?_
      refine lv_isub hx hb dX1_kept_62 ?_
      replace h := nm_o h
      obtain ⟨x13, e14, h⟩ := h
      refine lv_istore (lv' := [(4, .int x13), (5, .int x2), (0, .ref v0), (1, .int v1), (2, .ref v2), (3, .int v3)]) hx hb dX1_kept_63 hl (by decide) (by subst e14; rfl) (fun ls hl => ?_)
      exact bX1_kept_65 B h k23 kR hR hS (lv_sub hl [2, 3, 4, 5, 0] rfl)
    · replace h := if_o c12 h
      exact bX1_kept_53 B h k23 kR hR hS (lv_sub hl [1, 2, 3, 5, 0] rfl)
noncomputable def fX1_kept_l23 (v0 : Nat) (v1 : Int32) (v2 : Nat) (v3 : Int32) (v4 : Int32) (w : WH) : Option ((Int32 × WH)) := whileO (fun q => fX1_kept_b23 v0 v1 v2 q.1 q.2.1 q.2.2) (v3, v4, w)
theorem lX1_kept_23 {p : Program} {l : Launch} {e : Env} {s : State} {m : MethodId} {args : Array Value} {below : List Frame} {meth : Method} {c : Code} {G : gE} {A : Nat → Prop} {w0 : WH} (B : gB G RX1 cX1_kept 6 (some .int) p s m args meth c) {v0 : Nat} {v1 : Int32} {v2 : Nat} {r : (Int32 × WH)}   : ∀ (v3 : Int32) (v4 : Int32) (w : WH), fX1_kept_l23 v0 v1 v2 v3 v4 w = some r → ∀ (H : Heap) (locs : List Loc) (ls : Array Slot), RepH G A w H → Cu A s w0 w H locs → lv_has ls 6 [(0, .ref v0), (1, .int v1), (2, .ref v2), (3, .int v3), (4, .int v4)] → W p l e (hRm 20 457 w0) s m args below meth c H locs (wC w0 - wC w) (wS w0 - wS w) (hZ below args s G A w0 (some (.int r.1)) r.2) (F0 m 23 ls []) := by
  intro v3 v4 w h
  refine wh_walk (body := (fun q => fX1_kept_b23 v0 v1 v2 q.1 q.2.1 q.2.2)) (P := (fun q : (Int32 × Int32 × WH) => ∀ (H : Heap) (locs : List Loc) (ls : Array Slot), RepH G A (q.2.2) H → Cu A s w0 (q.2.2) H locs → lv_has ls 6 [(0, .ref v0), (1, .int v1), (2, .ref v2), (3, .int (q.1)), (4, .int (q.2.1))] → W p l e (hRm 20 457 w0) s m args below meth c H locs (wC w0 - wC (q.2.2)) (wS w0 - wS (q.2.2)) (hZ below args s G A w0 (some (.int r.1)) r.2) (F0 m 23 ls []))) (r := r) ?_ (v3, v4, w) h
  intro q y hy hL hr H locs ls hR hS hl
  exact bX1_kept_23 (r := r) B hy (fun a0 a1 a2 e => hL (a0, a1, a2) e) (fun q e => hr q e) hR hS hl
noncomputable def fX1_kept (v0 : Nat) (v1 : Int32) (v2 : Nat) (w : WH) : Option ((Int32 × WH)) :=
  (hIs w v2 27).bind fun _ =>
  b2_ (fX8_number v2 w) fun x4 w1 =>
  (hIs w1 v0 17).bind fun _ =>
  b2_ (fX1_usesWith v0 v1 x4 0 w1) fun x8 w5 =>
  if x8 = 0 then (
    some ((-1), w5)
  ) else (
    (hIs w5 v2 27).bind fun _ =>
    b2_ (fX8_most v2 w5) fun x13 w10 =>
    fX1_kept_l23 v0 v1 v2 0 x13 w10
  )
theorem bX1_kept_0 {p : Program} {l : Launch} {e : Env} {s : State} {m : MethodId} {args : Array Value} {below : List Frame} {meth : Method} {c : Code} {H : Heap} {locs : List Loc} {ls : Array Slot} {G : gE} {A : Nat → Prop} {w0 : WH} (B : gB G RX1 cX1_kept 6 (some .int) p s m args meth c) {v0 : Nat} {v1 : Int32} {v2 : Nat} {w : WH} {r : (Int32 × WH)} (h : fX1_kept v0 v1 v2 w = some r)   (hR : RepH G A w H) (hS : Cu A s w0 w H locs) (hl : lv_has ls 6 [(0, .ref v0), (1, .int v1), (2, .ref v2)]) : W p l e (hRm 20 457 w0) s m args below meth c H locs (wC w0 - wC w) (wS w0 - wS w) (hZ below args s G A w0 (some (.int r.1)) r.2) (F0 m 0 ls []) := by
  have B0 := B
  obtain ⟨hx, hb, hml, hown, hts, hr, hlk, hK⟩ := B0
  unfold fX1_kept at h
  refine lv_aload_n hx hb dX1_kept_0 rfl (lv_at hl 0 rfl) ?_
  refine lv_iload_n hx hb dX1_kept_1 rfl (lv_at hl 1 rfl) ?_
  refine lv_aload_n hx hb dX1_kept_2 rfl (lv_at hl 2 rfl) ?_
  replace h := bo_o h
  obtain ⟨_, e2, h⟩ := h
  replace h := b2_o h
  obtain ⟨x4, w1, e3, h⟩ := h
  refine h_callV 0 (ci := 27) (As := []) (rest := [.int v1, .ref v0]) (v := (some (.int x4))) (w' := w1) (st1 := [.int x4, .int v1, .ref v0]) hx hb hml hown hts hK hR hS (Nat.le_refl _) (Nat.le_refl _) rfl e2 (mX8_number e3) (lw_V q1791 q1305 q1306 q141 q1307) (by decide +kernel) (Nat.le_of_ble_eq_true rfl) (Nat.le_of_ble_eq_true rfl) rfl hl.1 (Nat.le_of_ble_eq_true rfl) dX1_kept_3 rfl rfl (fun H locs hR hS => ?_)
  refine lv_iconst (v := 0) hx hb dX1_kept_6 (by decide) ?_
  replace h := bo_o h
  obtain ⟨_, e6, h⟩ := h
  replace h := b2_o h
  obtain ⟨x8, w5, e7, h⟩ := h
  refine h_callV 3 (ci := 17) (As := [.int v1, .int x4, .int 0]) (rest := []) (v := (some (.int x8))) (w' := w5) (st1 := [.int x8]) hx hb hml hown hts hK hR hS (Nat.le_refl _) (Nat.le_refl _) rfl e6 (mX1_usesWith e7) (lw_V q1792 q1794 qs44 q112 q1795) (by decide +kernel) (Nat.le_of_ble_eq_true rfl) (Nat.le_of_ble_eq_true rfl) rfl hl.1 (Nat.le_of_ble_eq_true rfl) dX1_kept_7 rfl rfl (fun H locs hR hS => ?_)
  refine lv_if_ne (tgt := 15) hx hb dX1_kept_10 (by decide) (fun c9 => ?_) (fun c9 => ?_)
  · replace h := if_o c9 h
    refine lv_iconst (v := 0) hx hb dX1_kept_15 (by decide) ?_
    refine lv_istore_n (lv' := [(3, .int 0), (0, .ref v0), (1, .int v1), (2, .ref v2)]) hx hb dX1_kept_16 rfl hl (by decide) rfl (fun ls hl => ?_)
    refine lv_aload_n hx hb dX1_kept_17 rfl (lv_at hl 3 rfl) ?_
    replace h := bo_o h
    obtain ⟨_, e11, h⟩ := h
    replace h := b2_o h
    obtain ⟨x13, w10, e12, h⟩ := h
    refine h_callV 0 (ci := 27) (As := []) (rest := []) (v := (some (.int x13))) (w' := w10) (st1 := [.int x13]) hx hb hml hown hts hK hR hS (Nat.le_refl _) (Nat.le_refl _) rfl e11 (mX8_most e12) (lw_V q1769 q1356 q1357 q141 q1358) (by decide +kernel) (Nat.le_of_ble_eq_true rfl) (Nat.le_of_ble_eq_true rfl) rfl hl.1 (Nat.le_of_ble_eq_true rfl) dX1_kept_18 rfl rfl (fun H locs hR hS => ?_)
    refine lv_istore (lv' := [(4, .int x13), (3, .int 0), (0, .ref v0), (1, .int v1), (2, .ref v2)]) hx hb dX1_kept_21 hl (by decide) rfl (fun ls hl => ?_)
    exact lX1_kept_23 B _ _ _ h H locs ls hR hS (lv_sub hl [2, 3, 4, 1, 0] rfl)
  · replace h := it_o c9 h
    refine lv_iconst (v := (-1)) hx hb dX1_kept_13 (by decide) ?_
    have eR := Option.some.inj h
    subst eR
    exact h_ifin hx hb hr hlk hR hS dX1_kept_14
theorem mX1_kept {l : Launch} {G : gE} {A : Nat → Prop} {v0 : Nat} {v1 : Int32} {v2 : Nat} {w : WH} {r : (Int32 × WH)} (h : fX1_kept v0 v1 v2 w = some r) : hM l G A yX1_kept cX1_kept 6 (some .int) 20 457 [.ref v0, .int v1, .ref v2] w (some (.int r.1)) r.2 :=
  h_of (by decide +kernel) (Nat.le_of_ble_eq_true rfl) (fun p e s m args below meth c ls B hnm hR hS hl => bX1_kept_0 B h hR hS hl)
noncomputable def fX11_init_b100 (v0 : Nat) (v1 : Nat) (v2 : Nat) (v3 : Int32) (w : WH) : Option (Sum (Int32 × WH) (WH)) :=
  some (.inl (v3 + 1, w))
theorem bX11_init_100 {p : Program} {l : Launch} {e : Env} {s : State} {m : MethodId} {args : Array Value} {below : List Frame} {meth : Method} {c : Code} {H : Heap} {locs : List Loc} {ls : Array Slot} {G : gE} {A : Nat → Prop} {w0 : WH} (B : gB G RX11 cX11_init 5 none p s m args meth c) (hnm : meth.name = "<init>") {v0 : Nat} {v1 : Nat} {v2 : Nat} {v3 : Int32} {w : WH} {x : Sum (Int32 × WH) (WH)} {r : WH} (h : fX11_init_b100 v0 v1 v2 v3 w = some x)  (k41 : ∀ (v3' : Int32) (w' : WH), x = (.inl (v3', w')) → ∀ (H : Heap) (locs : List Loc) (ls : Array Slot), RepH G A w' H → Cu A s w0 w' H locs → lv_has ls 5 [(0, .ref v0), (1, .ref v1), (2, .ref v2), (3, .int v3')] → W p l e (hRm 21 482 w0) s m args below meth c H locs (wC w0 - wC w') (wS w0 - wS w') (hZ below args s G A w0 none r) (F0 m 41 ls [])) (kR : ∀ q, x = (.inr q) → q = r) (hR : RepH G A w H) (hS : Cu A s w0 w H locs) (hl : lv_has ls 5 [(0, .ref v0), (1, .ref v1), (2, .ref v2), (3, .int v3)]) : W p l e (hRm 21 482 w0) s m args below meth c H locs (wC w0 - wC w) (wS w0 - wS w) (hZ below args s G A w0 none r) (F0 m 100 ls []) := by
  have B0 := B
  obtain ⟨hx, hb, hml, hown, hts, hr, hlk, hK⟩ := B0
  unfold fX11_init_b100 at h
  refine lv_iinc (v := v3 + 1) (lv' := [(3, .int (v3 + 1)), (0, .ref v0), (1, .ref v1), (2, .ref v2)]) hx hb dX11_init_100 hl (k := 3) rfl rfl (by decide) rfl (fun ls hl => ?_)
  refine lv_goto (tgt := 41) hx hb dX11_init_103 (by decide) ?_
  exact k41 _ _ (Option.some.inj h).symm H locs ls hR hS (lv_sub hl [1, 2, 3, 0] rfl)
noncomputable def fX11_init_b92 (v0 : Nat) (v1 : Nat) (v2 : Nat) (v3 : Int32) (v4 : Int32) (w : WH) : Option (Sum (Int32 × WH) (WH)) :=
  (hIs w v0 18).bind fun _ =>
  (fX11_offer v0 (v4 + 1) w).bind fun w1 =>
  fX11_init_b100 v0 v1 v2 v3 w1
theorem bX11_init_92 {p : Program} {l : Launch} {e : Env} {s : State} {m : MethodId} {args : Array Value} {below : List Frame} {meth : Method} {c : Code} {H : Heap} {locs : List Loc} {ls : Array Slot} {G : gE} {A : Nat → Prop} {w0 : WH} (B : gB G RX11 cX11_init 5 none p s m args meth c) (hnm : meth.name = "<init>") {v0 : Nat} {v1 : Nat} {v2 : Nat} {v3 : Int32} {v4 : Int32} {w : WH} {x : Sum (Int32 × WH) (WH)} {r : WH} (h : fX11_init_b92 v0 v1 v2 v3 v4 w = some x)  (k41 : ∀ (v3' : Int32) (w' : WH), x = (.inl (v3', w')) → ∀ (H : Heap) (locs : List Loc) (ls : Array Slot), RepH G A w' H → Cu A s w0 w' H locs → lv_has ls 5 [(0, .ref v0), (1, .ref v1), (2, .ref v2), (3, .int v3')] → W p l e (hRm 21 482 w0) s m args below meth c H locs (wC w0 - wC w') (wS w0 - wS w') (hZ below args s G A w0 none r) (F0 m 41 ls [])) (kR : ∀ q, x = (.inr q) → q = r) (hR : RepH G A w H) (hS : Cu A s w0 w H locs) (hl : lv_has ls 5 [(0, .ref v0), (1, .ref v1), (2, .ref v2), (3, .int v3), (4, .int v4)]) : W p l e (hRm 21 482 w0) s m args below meth c H locs (wC w0 - wC w) (wS w0 - wS w) (hZ below args s G A w0 none r) (F0 m 92 ls []) := by
  have B0 := B
  obtain ⟨hx, hb, hml, hown, hts, hr, hlk, hK⟩ := B0
  unfold fX11_init_b92 at h
  refine lv_aload_n hx hb dX11_init_92 rfl (lv_at hl 0 rfl) ?_
  refine lv_iload hx hb dX11_init_93 (lv_at hl 4 rfl) ?_
  refine lv_iconst (v := 1) hx hb dX11_init_95 (by decide) ?_
  refine lv_iadd hx hb dX11_init_96 ?_
  replace h := bo_o h
  obtain ⟨_, e2, h⟩ := h
  replace h := bo_o h
  obtain ⟨w1, e3, h⟩ := h
  refine h_callV 1 (ci := 18) (As := [.int (v4 + 1)]) (rest := []) (v := none) (w' := w1) (st1 := []) hx hb hml hown hts hK hR hS (Nat.le_refl _) (Nat.le_refl _) rfl e2 (mX11_offer e3) (lw_V q1777 q1779 qs42 q157 q1780) (by decide +kernel) (Nat.le_of_ble_eq_true rfl) (Nat.le_of_ble_eq_true rfl) rfl hl.1 (Nat.le_of_ble_eq_true rfl) dX11_init_97 rfl rfl (fun H locs hR hS => ?_)
  exact bX11_init_100 B hnm h k41 kR hR hS (lv_sub hl [0, 1, 2, 3] rfl)
noncomputable def fX11_init_b41 (v0 : Nat) (v1 : Nat) (v2 : Nat) (v3 : Int32) (w : WH) : Option (Sum (Int32 × WH) (WH)) :=
  (gR w v1 17 0).bind fun x1 =>
  x1.bind fun a3 =>
  (gR w a3 21 0).bind fun x5 =>
  x5.bind fun a7 =>
  (gR w a7 22 2).bind fun x9 =>
  x9.bind fun a11 =>
  (hIs w a11 2).bind fun _ =>
  b2_ (fJ2_size a11 w) fun x16 w13 =>
  if x16 ≤ v3 then (
    some (.inr w13)
  ) else (
    (hIs w13 v1 17).bind fun _ =>
    b2_ (fX1_kept v1 v3 v2 w13) fun x21 w18 =>
    if x21 = (-1) then (
      fX11_init_b100 v0 v1 v2 v3 w18
    ) else (
      (hIs w18 v0 18).bind fun _ =>
      (fX11_offer v0 x21 w18).bind fun w23 =>
      (hIs w23 v2 27).bind fun _ =>
      b2_ (fX8_most v2 w23) fun x29 w26 =>
      if x29 ≤ x21 then (
        fX11_init_b100 v0 v1 v2 v3 w26
      ) else (
        fX11_init_b92 v0 v1 v2 v3 x21 w26
      )
    )
  )
theorem bX11_init_41 {p : Program} {l : Launch} {e : Env} {s : State} {m : MethodId} {args : Array Value} {below : List Frame} {meth : Method} {c : Code} {H : Heap} {locs : List Loc} {ls : Array Slot} {G : gE} {A : Nat → Prop} {w0 : WH} (B : gB G RX11 cX11_init 5 none p s m args meth c) (hnm : meth.name = "<init>") {v0 : Nat} {v1 : Nat} {v2 : Nat} {v3 : Int32} {w : WH} {x : Sum (Int32 × WH) (WH)} {r : WH} (h : fX11_init_b41 v0 v1 v2 v3 w = some x)  (k41 : ∀ (v3' : Int32) (w' : WH), x = (.inl (v3', w')) → ∀ (H : Heap) (locs : List Loc) (ls : Array Slot), RepH G A w' H → Cu A s w0 w' H locs → lv_has ls 5 [(0, .ref v0), (1, .ref v1), (2, .ref v2), (3, .int v3')] → W p l e (hRm 21 482 w0) s m args below meth c H locs (wC w0 - wC w') (wS w0 - wS w') (hZ below args s G A w0 none r) (F0 m 41 ls [])) (kR : ∀ q, x = (.inr q) → q = r) (hR : RepH G A w H) (hS : Cu A s w0 w H locs) (hl : lv_has ls 5 [(0, .ref v0), (1, .ref v1), (2, .ref v2), (3, .int v3)]) : W p l e (hRm 21 482 w0) s m args below meth c H locs (wC w0 - wC w) (wS w0 - wS w) (hZ below args s G A w0 none r) (F0 m 41 ls []) := by
  have B0 := B
  obtain ⟨hx, hb, hml, hown, hts, hr, hlk, hK⟩ := B0
  unfold fX11_init_b41 at h
  refine lv_iload_n hx hb dX11_init_41 rfl (lv_at hl 3 rfl) ?_
  refine lv_aload_n hx hb dX11_init_42 rfl (lv_at hl 1 rfl) ?_
  replace h := bo_o h
  obtain ⟨x1, e2, h⟩ := h
  refine h_getN (ci := 17) (k := 0) (v := va_rf x1) hx hb hts hown hK hR in_X1 rfl (by decide) (fun _ _ => rfl) (hK.fn 25 rfl) (fun _ h9 => h9) (gR_o e2) dX11_init_43 ?_
  replace h := bo_o h
  obtain ⟨a3, e4, h⟩ := h
  subst e4
  replace h := bo_o h
  obtain ⟨x5, e6, h⟩ := h
  refine h_getN (ci := 21) (k := 0) (v := va_rf x5) hx hb hts hown hK hR in_X2 rfl (by decide) (fun _ _ => rfl) (hK.fn 13 rfl) (fun _ h9 => h9) (gR_o e6) dX11_init_46 ?_
  replace h := bo_o h
  obtain ⟨a7, e8, h⟩ := h
  subst e8
  replace h := bo_o h
  obtain ⟨x9, e10, h⟩ := h
  refine h_getN (ci := 22) (k := 2) (v := va_rf x9) hx hb hts hown hK hR in_X3 rfl (by decide) (fun _ _ => rfl) (hK.fn 8 rfl) (fun _ h9 => h9) (gR_o e10) dX11_init_49 ?_
  replace h := bo_o h
  obtain ⟨a11, e12, h⟩ := h
  subst e12
  replace h := bo_o h
  obtain ⟨_, e14, h⟩ := h
  replace h := b2_o h
  obtain ⟨x16, w13, e15, h⟩ := h
  refine h_callF 0  (As := []) (rest := [.int v3]) (v := (some (.int x16))) (w' := w13) (st1 := [.int x16, .int v3]) hx hb hml hown hts hK hR hS (Nat.le_refl _) (Nat.le_refl _) (h_recv (ci := 2) hK hR hS rfl e14) (mJ2_size e15) (lw_app (a := [.methodLink _ _ _, .selects _ _ _, .instanceMethod _, .initialized _]) (lw_4 q1786 q903 q905 q117) (lw_meth q907)) (hK.fw 0 rfl) (by decide +kernel) (Nat.le_of_ble_eq_true rfl) (Nat.le_of_ble_eq_true rfl) rfl hl.1 (Nat.le_of_ble_eq_true rfl) dX11_init_52 rfl rfl (fun H locs hR hS => ?_)
  refine lv_icmp_ge (tgt := 106) hx hb dX11_init_57 (by decide) (fun c17 => ?_) (fun c17 => ?_)
  · replace h := it_o c17 h
    have eR := kR _ (Option.some.inj h).symm
    subst eR
    exact h_vfin hx hb hr hlk hR hS dX11_init_106
  · replace h := if_o c17 h
    refine lv_aload_n hx hb dX11_init_60 rfl (lv_at hl 1 rfl) ?_
    refine lv_iload_n hx hb dX11_init_61 rfl (lv_at hl 3 rfl) ?_
    refine lv_aload_n hx hb dX11_init_62 rfl (lv_at hl 2 rfl) ?_
    replace h := bo_o h
    obtain ⟨_, e19, h⟩ := h
    replace h := b2_o h
    obtain ⟨x21, w18, e20, h⟩ := h
    refine h_callVN 2 (ci := 17) (As := [.int v3, .ref v2]) (rest := []) (v := (some (.int x21))) (w' := w18) (st1 := [.int x21]) hx hb hml hown hts hK hR hS (Nat.le_refl _) (Nat.le_refl _) rfl e19 (mX1_kept e20) (lw_meth q1790) (hK.mn 6 rfl) q112 q1789 qs43 (by decide +kernel) (Nat.le_of_ble_eq_true rfl) (Nat.le_of_ble_eq_true rfl) rfl hl.1 (Nat.le_of_ble_eq_true rfl) dX11_init_63 rfl rfl (fun H locs hR hS => ?_)
    refine lv_istore (lv' := [(4, .int x21), (0, .ref v0), (1, .ref v1), (2, .ref v2), (3, .int v3)]) hx hb dX11_init_66 hl (by decide) rfl (fun ls hl => ?_)
    refine lv_iload hx hb dX11_init_68 (lv_at hl 0 rfl) ?_
    refine lv_iconst (v := (-1)) hx hb dX11_init_70 (by decide) ?_
    refine lv_icmp_ne (tgt := 77) hx hb dX11_init_71 (by decide) (fun c22 => ?_) (fun c22 => ?_)
    · replace h := if_o c22 h
      refine lv_aload_n hx hb dX11_init_77 rfl (lv_at hl 1 rfl) ?_
      refine lv_iload hx hb dX11_init_78 (lv_at hl 0 rfl) ?_
      replace h := bo_o h
      obtain ⟨_, e24, h⟩ := h
      replace h := bo_o h
      obtain ⟨w23, e25, h⟩ := h
      refine h_callV 1 (ci := 18) (As := [.int x21]) (rest := []) (v := none) (w' := w23) (st1 := []) hx hb hml hown hts hK hR hS (Nat.le_refl _) (Nat.le_refl _) rfl e24 (mX11_offer e25) (lw_V q1777 q1779 qs42 q157 q1780) (by decide +kernel) (Nat.le_of_ble_eq_true rfl) (Nat.le_of_ble_eq_true rfl) rfl hl.1 (Nat.le_of_ble_eq_true rfl) dX11_init_80 rfl rfl (fun H locs hR hS => ?_)
      refine lv_iload hx hb dX11_init_83 (lv_at hl 0 rfl) ?_
      refine lv_aload_n hx hb dX11_init_85 rfl (lv_at hl 3 rfl) ?_
      replace h := bo_o h
      obtain ⟨_, e27, h⟩ := h
      replace h := b2_o h
      obtain ⟨x29, w26, e28, h⟩ := h
      refine h_callV 0 (ci := 27) (As := []) (rest := [.int x21]) (v := (some (.int x29))) (w' := w26) (st1 := [.int x29, .int x21]) hx hb hml hown hts hK hR hS (Nat.le_refl _) (Nat.le_refl _) rfl e27 (mX8_most e28) (lw_V q1784 q1356 q1357 q141 q1358) (by decide +kernel) (Nat.le_of_ble_eq_true rfl) (Nat.le_of_ble_eq_true rfl) rfl hl.1 (Nat.le_of_ble_eq_true rfl) dX11_init_86 rfl rfl (fun H locs hR hS => ?_)
      refine lv_icmp_ge (tgt := 100) hx hb dX11_init_89 (by decide) (fun c30 => ?_) (fun c30 => ?_)
      · replace h := it_o c30 h
        exact bX11_init_100 B hnm h k41 kR hR hS (lv_sub hl [1, 2, 3, 4] rfl)
      · replace h := if_o c30 h
        exact bX11_init_92 B hnm h k41 kR hR hS (lv_sub hl [1, 2, 3, 4, 0] rfl)
    · replace h := it_o c22 h
      refine lv_goto (tgt := 100) hx hb dX11_init_74 (by decide) ?_
      exact bX11_init_100 B hnm h k41 kR hR hS (lv_sub hl [1, 2, 3, 4] rfl)
noncomputable def fX11_init_l41 (v0 : Nat) (v1 : Nat) (v2 : Nat) (v3 : Int32) (w : WH) : Option (WH) := whileO (fun q => fX11_init_b41 v0 v1 v2 q.1 q.2) (v3, w)
theorem lX11_init_41 {p : Program} {l : Launch} {e : Env} {s : State} {m : MethodId} {args : Array Value} {below : List Frame} {meth : Method} {c : Code} {G : gE} {A : Nat → Prop} {w0 : WH} (B : gB G RX11 cX11_init 5 none p s m args meth c) (hnm : meth.name = "<init>") {v0 : Nat} {v1 : Nat} {v2 : Nat} {r : WH}   : ∀ (v3 : Int32) (w : WH), fX11_init_l41 v0 v1 v2 v3 w = some r → ∀ (H : Heap) (locs : List Loc) (ls : Array Slot), RepH G A w H → Cu A s w0 w H locs → lv_has ls 5 [(0, .ref v0), (1, .ref v1), (2, .ref v2), (3, .int v3)] → W p l e (hRm 21 482 w0) s m args below meth c H locs (wC w0 - wC w) (wS w0 - wS w) (hZ below args s G A w0 none r) (F0 m 41 ls []) := by
  intro v3 w h
  refine wh_walk (body := (fun q => fX11_init_b41 v0 v1 v2 q.1 q.2)) (P := (fun q : (Int32 × WH) => ∀ (H : Heap) (locs : List Loc) (ls : Array Slot), RepH G A (q.2) H → Cu A s w0 (q.2) H locs → lv_has ls 5 [(0, .ref v0), (1, .ref v1), (2, .ref v2), (3, .int (q.1))] → W p l e (hRm 21 482 w0) s m args below meth c H locs (wC w0 - wC (q.2)) (wS w0 - wS (q.2)) (hZ below args s G A w0 none r) (F0 m 41 ls []))) (r := r) ?_ (v3, w) h
  intro q y hy hL hr H locs ls hR hS hl
  exact bX11_init_41 (r := r) B hnm hy (fun a0 a1 e => hL (a0, a1) e) (fun q e => hr q e) hR hS hl
noncomputable def fX11_init (v0 : Nat) (v1 : Nat) (v2 : Nat) (w : WH) : Option (WH) :=
  (hPut w v0 18 3 (.ref v1)).bind fun w1 =>
  (hPut w1 v0 18 1 (.int (-1))).bind fun w3 =>
  (hPut w3 v0 18 2 (.long (-1))).bind fun w5 =>
  (hPut w5 v0 18 0 (.ref v2)).bind fun w7 =>
  (hIs w7 v0 18).bind fun _ =>
  (fX11_offer v0 0 w7).bind fun w9 =>
  (hIs w9 v2 27).bind fun _ =>
  b2_ (fX8_most v2 w9) fun x15 w12 =>
  (hIs w12 v0 18).bind fun _ =>
  (fX11_offer v0 x15 w12).bind fun w16 =>
  fX11_init_l41 v0 v1 v2 0 w16
theorem bX11_init_0 {p : Program} {l : Launch} {e : Env} {s : State} {m : MethodId} {args : Array Value} {below : List Frame} {meth : Method} {c : Code} {H : Heap} {locs : List Loc} {ls : Array Slot} {G : gE} {A : Nat → Prop} {w0 : WH} (B : gB G RX11 cX11_init 5 none p s m args meth c) (hnm : meth.name = "<init>") {v0 : Nat} {v1 : Nat} {v2 : Nat} {w : WH} {r : WH} (h : fX11_init v0 v1 v2 w = some r)   (hR : RepH G A w H) (hS : Cu A s w0 w H locs) (hl : lv_has ls 5 [(0, .ref v0), (1, .ref v1), (2, .ref v2)]) : W p l e (hRm 21 482 w0) s m args below meth c H locs (wC w0 - wC w) (wS w0 - wS w) (hZ below args s G A w0 none r) (F0 m 0 ls []) := by
  have B0 := B
  obtain ⟨hx, hb, hml, hown, hts, hr, hlk, hK⟩ := B0
  unfold fX11_init at h
  refine lv_aload_n hx hb dX11_init_0 rfl (lv_at hl 0 rfl) ?_
  refine lv_aload_n hx hb dX11_init_1 rfl (lv_at hl 1 rfl) ?_
  replace h := bo_o h
  obtain ⟨w1, e2, h⟩ := h
  refine h_putF (ci := 18) (k := 3) (ty := tyX11 3) hx hb hts hown hK hR hS in_X11 tyX11 tyX11_ok nmX11 rfl (by decide) q1801 (fun _ h9 => h9) rfl hnm rfl (tyX11_ok 3 (by decide)) rfl rfl e2 dX11_init_2 (fun H locs hR hS => ?_)
  refine lv_aload_n hx hb dX11_init_5 rfl (lv_at hl 0 rfl) ?_
  refine W.objInit hx hb hown (hts _ q1775) (hts _ q168) (hts _ q169) rfl (by rw [hml]; exact hl.1) rfl dX11_init_6 (Nat.le_of_ble_eq_true rfl) (Nat.le_of_ble_eq_true rfl) ?_
  refine W.eq (g2 := F0 m 9 ls []) rfl ?_
  refine lv_aload_n hx hb dX11_init_9 rfl (lv_at hl 0 rfl) ?_
  refine lv_iconst (v := (-1)) hx hb dX11_init_10 (by decide) ?_
  replace h := bo_o h
  obtain ⟨w3, e4, h⟩ := h
  refine h_put (ci := 18) (k := 1) (ty := tyX11 1) hx hb hts hown hK hR hS in_X11 tyX11 tyX11_ok nmX11 rfl (by decide) q1797 (fun _ h9 => h9) rfl (tyX11_ok 1 (by decide)) rfl rfl e4 dX11_init_11 (fun H locs hR hS => ?_)
  refine lv_aload_n hx hb dX11_init_14 rfl (lv_at hl 0 rfl) ?_
  refine lv_ldc2 (v := (-1)) hx hb hown (hts _ q1776) dX11_init_15 ?_
  replace h := bo_o h
  obtain ⟨w5, e6, h⟩ := h
  refine h_put (ci := 18) (k := 2) (ty := tyX11 2) hx hb hts hown hK hR hS in_X11 tyX11 tyX11_ok nmX11 rfl (by decide) q1799 (fun _ h9 => h9) rfl (tyX11_ok 2 (by decide)) rfl rfl e6 dX11_init_18 (fun H locs hR hS => ?_)
  refine lv_aload_n hx hb dX11_init_21 rfl (lv_at hl 0 rfl) ?_
  refine lv_aload_n hx hb dX11_init_22 rfl (lv_at hl 2 rfl) ?_
  replace h := bo_o h
  obtain ⟨w7, e8, h⟩ := h
  refine h_putF (ci := 18) (k := 0) (ty := tyX11 0) hx hb hts hown hK hR hS in_X11 tyX11 tyX11_ok nmX11 rfl (by decide) q1796 (fun _ h9 => h9) rfl hnm rfl (tyX11_ok 0 (by decide)) rfl rfl e8 dX11_init_23 (fun H locs hR hS => ?_)
  refine lv_aload_n hx hb dX11_init_26 rfl (lv_at hl 0 rfl) ?_
  refine lv_iconst (v := 0) hx hb dX11_init_27 (by decide) ?_
  replace h := bo_o h
  obtain ⟨_, e10, h⟩ := h
  replace h := bo_o h
  obtain ⟨w9, e11, h⟩ := h
  refine h_callV 1 (ci := 18) (As := [.int 0]) (rest := []) (v := none) (w' := w9) (st1 := []) hx hb hml hown hts hK hR hS (Nat.le_refl _) (Nat.le_refl _) rfl e10 (mX11_offer e11) (lw_V q1777 q1779 qs42 q157 q1780) (by decide +kernel) (Nat.le_of_ble_eq_true rfl) (Nat.le_of_ble_eq_true rfl) rfl hl.1 (Nat.le_of_ble_eq_true rfl) dX11_init_28 rfl rfl (fun H locs hR hS => ?_)
  refine lv_aload_n hx hb dX11_init_31 rfl (lv_at hl 0 rfl) ?_
  refine lv_aload_n hx hb dX11_init_32 rfl (lv_at hl 2 rfl) ?_
  replace h := bo_o h
  obtain ⟨_, e13, h⟩ := h
  replace h := b2_o h
  obtain ⟨x15, w12, e14, h⟩ := h
  refine h_callV 0 (ci := 27) (As := []) (rest := [.ref v0]) (v := (some (.int x15))) (w' := w12) (st1 := [.int x15, .ref v0]) hx hb hml hown hts hK hR hS (Nat.le_refl _) (Nat.le_refl _) rfl e13 (mX8_most e14) (lw_V q1784 q1356 q1357 q141 q1358) (by decide +kernel) (Nat.le_of_ble_eq_true rfl) (Nat.le_of_ble_eq_true rfl) rfl hl.1 (Nat.le_of_ble_eq_true rfl) dX11_init_33 rfl rfl (fun H locs hR hS => ?_)
  replace h := bo_o h
  obtain ⟨_, e17, h⟩ := h
  replace h := bo_o h
  obtain ⟨w16, e18, h⟩ := h
  refine h_callV 1 (ci := 18) (As := [.int x15]) (rest := []) (v := none) (w' := w16) (st1 := []) hx hb hml hown hts hK hR hS (Nat.le_refl _) (Nat.le_refl _) rfl e17 (mX11_offer e18) (lw_V q1777 q1779 qs42 q157 q1780) (by decide +kernel) (Nat.le_of_ble_eq_true rfl) (Nat.le_of_ble_eq_true rfl) rfl hl.1 (Nat.le_of_ble_eq_true rfl) dX11_init_36 rfl rfl (fun H locs hR hS => ?_)
  refine lv_iconst (v := 0) hx hb dX11_init_39 (by decide) ?_
  refine lv_istore_n (lv' := [(3, .int 0), (0, .ref v0), (1, .ref v1), (2, .ref v2)]) hx hb dX11_init_40 rfl hl (by decide) rfl (fun ls hl => ?_)
  exact lX11_init_41 B hnm _ _ h H locs ls hR hS (lv_sub hl [1, 2, 3, 0] rfl)
theorem mX11_init {l : Launch} {G : gE} {A : Nat → Prop} {v0 : Nat} {v1 : Nat} {v2 : Nat} {w : WH} {r : WH} (h : fX11_init v0 v1 v2 w = some r) : hM l G A yX11_init cX11_init 5 none 21 482 [.ref v0, .ref v1, .ref v2] w none r :=
  h_of (by decide +kernel) (Nat.le_of_ble_eq_true rfl) (fun p e s m args below meth c ls B hnm hR hS hl => bX11_init_0 B hnm h hR hS hl)
noncomputable def fX1_improved_b74 (v0 : Nat) (v1 : Int32) (v2 : Nat) (v3 : Nat) (v4 : Nat) (w : WH) : Option (Sum (Int32 × WH) ((Int32 × WH))) :=
  (gR w v0 17 0).bind fun x1 =>
  x1.bind fun a3 =>
  (gR w a3 21 1).bind fun x5 =>
  (hIs w v3 27).bind fun _ =>
  b2_ (fX8_number v3 w) fun x10 w7 =>
  (gI w7 v4 18 1).bind fun x11 =>
  x5.bind fun a13 =>
  (stI w7 a13 0 x10 x11).bind fun w15 =>
  some (.inl (v1 + 1, w15))
theorem bX1_improved_74 {p : Program} {l : Launch} {e : Env} {s : State} {m : MethodId} {args : Array Value} {below : List Frame} {meth : Method} {c : Code} {H : Heap} {locs : List Loc} {ls : Array Slot} {G : gE} {A : Nat → Prop} {w0 : WH} (B : gB G RX1 cX1_improved 5 (some .int) p s m args meth c) {v0 : Nat} {v1 : Int32} {v2 : Nat} {v3 : Nat} {v4 : Nat} {w : WH} {x : Sum (Int32 × WH) ((Int32 × WH))} {r : (Int32 × WH)} (h : fX1_improved_b74 v0 v1 v2 v3 v4 w = some x)  (k18 : ∀ (v1' : Int32) (w' : WH), x = (.inl (v1', w')) → ∀ (H : Heap) (locs : List Loc) (ls : Array Slot), RepH G A w' H → Cu A s w0 w' H locs → lv_has ls 5 [(0, .ref v0), (1, .int v1'), (2, va_rf v2)] → W p l e (hRm 22 506 w0) s m args below meth c H locs (wC w0 - wC w') (wS w0 - wS w') (hZ below args s G A w0 (some (.int r.1)) r.2) (F0 m 18 ls [])) (kR : ∀ q, x = (.inr q) → q = r) (hR : RepH G A w H) (hS : Cu A s w0 w H locs) (hl : lv_has ls 5 [(0, .ref v0), (1, .int v1), (2, .ref v2), (3, .ref v3), (4, .ref v4)]) : W p l e (hRm 22 506 w0) s m args below meth c H locs (wC w0 - wC w) (wS w0 - wS w) (hZ below args s G A w0 (some (.int r.1)) r.2) (F0 m 74 ls []) := by
  have B0 := B
  obtain ⟨hx, hb, hml, hown, hts, hr, hlk, hK⟩ := B0
  unfold fX1_improved_b74 at h
  refine lv_aload_n hx hb dX1_improved_74 rfl (lv_at hl 0 rfl) ?_
  replace h := bo_o h
  obtain ⟨x1, e2, h⟩ := h
  refine h_get (ci := 17) (k := 0) (v := va_rf x1) hx hb hts hown hK hR in_X1 rfl (by decide) (fun _ _ => rfl) q662 (fun _ h9 => h9) (gR_o e2) dX1_improved_75 ?_
  replace h := bo_o h
  obtain ⟨a3, e4, h⟩ := h
  subst e4
  replace h := bo_o h
  obtain ⟨x5, e6, h⟩ := h
  refine h_getN (ci := 21) (k := 1) (v := va_rf x5) hx hb hts hown hK hR in_X2 rfl (by decide) (fun _ _ => rfl) (hK.fn 18 rfl) (fun _ h9 => h9) (gR_o e6) dX1_improved_78 ?_
  refine lv_aload_n hx hb dX1_improved_81 rfl (lv_at hl 3 rfl) ?_
  replace h := bo_o h
  obtain ⟨_, e8, h⟩ := h
  replace h := b2_o h
  obtain ⟨x10, w7, e9, h⟩ := h
  refine h_callV 0 (ci := 27) (As := []) (rest := [va_rf x5]) (v := (some (.int x10))) (w' := w7) (st1 := [.int x10, va_rf x5]) hx hb hml hown hts hK hR hS (Nat.le_refl _) (Nat.le_refl _) rfl e8 (mX8_number e9) (lw_V q1791 q1305 q1306 q141 q1307) (by decide +kernel) (Nat.le_of_ble_eq_true rfl) (Nat.le_of_ble_eq_true rfl) rfl hl.1 (cat_le (Nat.le_of_ble_eq_true rfl)) dX1_improved_82 rfl rfl (fun H locs hR hS => ?_)
  refine lv_aload hx hb dX1_improved_85 (lv_at hl 4 rfl) ?_
  replace h := bo_o h
  obtain ⟨x11, e12, h⟩ := h
  refine h_getN (ci := 18) (k := 1) (v := .int x11) hx hb hts hown hK hR in_X11 rfl (by decide) (fun _ _ => rfl) (hK.fn 32 rfl) (fun _ h9 => h9) (gI_o e12) dX1_improved_87 ?_
  replace h := bo_o h
  obtain ⟨a13, e14, h⟩ := h
  subst e14
  replace h := bo_o h
  obtain ⟨w15, e16, h⟩ := h
  refine h_iast hx hb hK hR hS e16 dX1_improved_90 (fun H locs hR hS => ?_)
  refine lv_iinc (v := v1 + 1) (lv' := [(1, .int (v1 + 1)), (0, .ref v0), (2, .ref v2), (3, .ref v3), (4, .ref v4)]) hx hb dX1_improved_91 hl (k := 1) rfl rfl (by decide) rfl (fun ls hl => ?_)
  refine lv_goto (tgt := 18) hx hb dX1_improved_94 (by decide) ?_
  exact k18 _ _ (Option.some.inj h).symm H locs ls hR hS (lv_sub hl [1, 0, 2] rfl)
noncomputable def fX1_improved_b71 (v0 : Nat) (v1 : Int32) (v2 : Nat) (w : WH) : Option (Sum (Int32 × WH) ((Int32 × WH))) :=
  some (.inl (v1, w))
theorem bX1_improved_71 {p : Program} {l : Launch} {e : Env} {s : State} {m : MethodId} {args : Array Value} {below : List Frame} {meth : Method} {c : Code} {H : Heap} {locs : List Loc} {ls : Array Slot} {G : gE} {A : Nat → Prop} {w0 : WH} (B : gB G RX1 cX1_improved 5 (some .int) p s m args meth c) {v0 : Nat} {v1 : Int32} {v2 : Nat} {w : WH} {x : Sum (Int32 × WH) ((Int32 × WH))} {r : (Int32 × WH)} (h : fX1_improved_b71 v0 v1 v2 w = some x)  (k18 : ∀ (v1' : Int32) (w' : WH), x = (.inl (v1', w')) → ∀ (H : Heap) (locs : List Loc) (ls : Array Slot), RepH G A w' H → Cu A s w0 w' H locs → lv_has ls 5 [(0, .ref v0), (1, .int v1'), (2, va_rf v2)] → W p l e (hRm 22 506 w0) s m args below meth c H locs (wC w0 - wC w') (wS w0 - wS w') (hZ below args s G A w0 (some (.int r.1)) r.2) (F0 m 18 ls [])) (kR : ∀ q, x = (.inr q) → q = r) (hR : RepH G A w H) (hS : Cu A s w0 w H locs) (hl : lv_has ls 5 [(0, .ref v0), (1, .int v1), (2, .ref v2)]) : W p l e (hRm 22 506 w0) s m args below meth c H locs (wC w0 - wC w) (wS w0 - wS w) (hZ below args s G A w0 (some (.int r.1)) r.2) (F0 m 71 ls []) := by
  have B0 := B
  obtain ⟨hx, hb, hml, hown, hts, hr, hlk, hK⟩ := B0
  unfold fX1_improved_b71 at h
  refine lv_goto (tgt := 18) hx hb dX1_improved_71 (by decide) ?_
  exact k18 _ _ (Option.some.inj h).symm H locs ls hR hS (lv_sub hl [0, 1, 2] rfl)
noncomputable def fX1_improved_b18 (v0 : Nat) (v1 : Int32) (v2 : Option Nat) (w : WH) : Option (Sum (Int32 × WH) ((Int32 × WH))) :=
  v2.bind fun a1 =>
  (hIs w a1 4).bind fun _ =>
  b2_ (fJ21_hasNext a1 w) fun x6 w3 =>
  if x6 = 0 then (
    some (.inr (v1, w3))
  ) else (
    (hIs w3 a1 4).bind fun _ =>
    b2_ (fJ21_next a1 w3) fun x11 w8 =>
    x11.bind fun a12 =>
    (hIs w8 a12 27).bind fun _ =>
    (hIs w8 a12 27).bind fun _ =>
    b2_ (fX8_most a12 w8) fun x18 w15 =>
    if x18 = 0 then (
      some (.inl (v1, w15))
    ) else (
      b2_ (hNw w15 4 18 [.null, .int 0, .long 0, .null]) fun a20 w21 =>
      (fX11_init a20 v0 a12 w21).bind fun w23 =>
      (gJ w23 a20 18 2).bind fun x25 =>
      (hIs w23 v0 17).bind fun _ =>
      b2_ (fX1_brought v0 w23) fun x30 w27 =>
      if 0 < lg_cmp x25 x30 then (
        fX1_improved_b74 v0 v1 a1 a12 a20 w27
      ) else (
        fX1_improved_b71 v0 v1 a1 w27
      )
    )
  )
theorem bX1_improved_18 {p : Program} {l : Launch} {e : Env} {s : State} {m : MethodId} {args : Array Value} {below : List Frame} {meth : Method} {c : Code} {H : Heap} {locs : List Loc} {ls : Array Slot} {G : gE} {A : Nat → Prop} {w0 : WH} (B : gB G RX1 cX1_improved 5 (some .int) p s m args meth c) {v0 : Nat} {v1 : Int32} {v2 : Option Nat} {w : WH} {x : Sum (Int32 × WH) ((Int32 × WH))} {r : (Int32 × WH)} (h : fX1_improved_b18 v0 v1 v2 w = some x)  (k18 : ∀ (v1' : Int32) (w' : WH), x = (.inl (v1', w')) → ∀ (H : Heap) (locs : List Loc) (ls : Array Slot), RepH G A w' H → Cu A s w0 w' H locs → lv_has ls 5 [(0, .ref v0), (1, .int v1'), (2, va_rf v2)] → W p l e (hRm 22 506 w0) s m args below meth c H locs (wC w0 - wC w') (wS w0 - wS w') (hZ below args s G A w0 (some (.int r.1)) r.2) (F0 m 18 ls [])) (kR : ∀ q, x = (.inr q) → q = r) (hR : RepH G A w H) (hS : Cu A s w0 w H locs) (hl : lv_has ls 5 [(0, .ref v0), (1, .int v1), (2, va_rf v2)]) : W p l e (hRm 22 506 w0) s m args below meth c H locs (wC w0 - wC w) (wS w0 - wS w) (hZ below args s G A w0 (some (.int r.1)) r.2) (F0 m 18 ls []) := by
  have B0 := B
  obtain ⟨hx, hb, hml, hown, hts, hr, hlk, hK⟩ := B0
  unfold fX1_improved_b18 at h
  refine lv_aload_nq hx hb dX1_improved_18 rfl (lv_at hl 2 rfl) ?_
  replace h := bo_o h
  obtain ⟨a1, e2, h⟩ := h
  subst e2
  replace h := bo_o h
  obtain ⟨_, e4, h⟩ := h
  replace h := b2_o h
  obtain ⟨x6, w3, e5, h⟩ := h
  refine h_callF 0  (As := []) (rest := []) (v := (some (.int x6))) (w' := w3) (st1 := [.int x6]) hx hb hml hown hts hK hR hS (Nat.le_refl _) (Nat.le_refl _) (h_recv (ci := 4) hK hR hS rfl e4) (mJ21_hasNext e5) (lw_app (a := [.methodLink _ _ _, .selects _ _ _, .instanceMethod _, .initialized _]) (lw_4 q1540 q1569 q1571 q144) (lw_meth q1573)) (hK.fw 4 rfl) (by decide +kernel) (Nat.le_of_ble_eq_true rfl) (Nat.le_of_ble_eq_true rfl) rfl hl.1 (Nat.le_of_ble_eq_true rfl) dX1_improved_19 rfl rfl (fun H locs hR hS => ?_)
  refine lv_if_eq (tgt := 97) hx hb dX1_improved_24 (by decide) (fun c7 => ?_) (fun c7 => ?_)
  · replace h := it_o c7 h
    refine lv_iload_n hx hb dX1_improved_97 rfl (lv_at hl 1 rfl) ?_
    have eR := kR _ (Option.some.inj h).symm
    subst eR
    exact h_ifin hx hb hr hlk hR hS dX1_improved_98
  · replace h := if_o c7 h
    refine lv_aload_n hx hb dX1_improved_27 rfl (lv_at hl 2 rfl) ?_
    replace h := bo_o h
    obtain ⟨_, e9, h⟩ := h
    replace h := b2_o h
    obtain ⟨x11, w8, e10, h⟩ := h
    refine h_callF 0  (As := []) (rest := []) (v := (some (va_rf x11))) (w' := w8) (st1 := [va_rf x11]) hx hb hml hown hts hK hR hS (Nat.le_refl _) (Nat.le_refl _) (h_recv (ci := 4) hK hR hS rfl e9) (mJ21_next e10) (lw_app (a := [.methodLink _ _ _, .selects _ _ _, .instanceMethod _, .initialized _]) (lw_4 q1584 q1681 q1683 q144) (lw_meth q1685)) (hK.fw 5 rfl) (by decide +kernel) (Nat.le_of_ble_eq_true rfl) (Nat.le_of_ble_eq_true rfl) rfl hl.1 (Nat.le_of_ble_eq_true rfl) dX1_improved_28 rfl rfl (fun H locs hR hS => ?_)
    replace h := bo_o h
    obtain ⟨a12, e13, h⟩ := h
    subst e13
    replace h := bo_o h
    obtain ⟨_, e14, h⟩ := h
    refine h_castS (ci := 27) hx hb hts hown hK hR hS rfl e14 q1768 dX1_improved_33 ?_
    refine lv_astore_n (lv' := [(3, .ref a12), (0, .ref v0), (1, .int v1), (2, .ref a1)]) hx hb dX1_improved_36 rfl hl (by decide) rfl (fun ls hl => ?_)
    refine lv_aload_n hx hb dX1_improved_37 rfl (lv_at hl 0 rfl) ?_
    replace h := bo_o h
    obtain ⟨_, e16, h⟩ := h
    replace h := b2_o h
    obtain ⟨x18, w15, e17, h⟩ := h
    refine h_callV 0 (ci := 27) (As := []) (rest := []) (v := (some (.int x18))) (w' := w15) (st1 := [.int x18]) hx hb hml hown hts hK hR hS (Nat.le_refl _) (Nat.le_refl _) rfl e16 (mX8_most e17) (lw_V q1769 q1356 q1357 q141 q1358) (by decide +kernel) (Nat.le_of_ble_eq_true rfl) (Nat.le_of_ble_eq_true rfl) rfl hl.1 (Nat.le_of_ble_eq_true rfl) dX1_improved_38 rfl rfl (fun H locs hR hS => ?_)
    refine lv_if_ne (tgt := 47) hx hb dX1_improved_41 (by decide) (fun c19 => ?_) (fun c19 => ?_)
    · replace h := if_o c19 h
      replace h := b2_o h
      obtain ⟨a20, w21, e22, h⟩ := h
      refine h_new (ci := 18) (fs := [.null, .int 0, .long 0, .null]) hx hb hts hown hK hR hS (Nat.le_refl _) (Nat.le_refl _) in_X11 tyX11 tyX11_ok rfl (by decide +kernel) q1770 q1771 q157 e22 dX1_improved_47 (fun H locs hR hS => ?_)
      refine lv_dup hx hb dX1_improved_50 rfl ?_
      refine lv_aload_n hx hb dX1_improved_51 rfl (lv_at hl 1 rfl) ?_
      refine lv_aload_n hx hb dX1_improved_52 rfl (lv_at hl 0 rfl) ?_
      replace h := bo_o h
      obtain ⟨w23, e24, h⟩ := h
      refine h_callI 2  (As := [.ref v0, .ref a12]) (rest := [.ref a20]) (w' := w23) hx hb hml hown hts hK hR hS (Nat.le_refl _) (Nat.le_refl _) (mX11_init e24) (lw_meth q1774) q157 q1772 q1773 rfl (by decide +kernel) (Nat.le_of_ble_eq_true rfl) (Nat.le_of_ble_eq_true rfl) rfl hl.1 (Nat.le_of_ble_eq_true rfl) dX1_improved_53 rfl (fun H locs hR hS => ?_)
      refine lv_astore (lv' := [(4, .ref a20), (3, .ref a12), (0, .ref v0), (1, .int v1), (2, .ref a1)]) hx hb dX1_improved_56 hl (by decide) rfl (fun ls hl => ?_)
      refine lv_aload hx hb dX1_improved_58 (lv_at hl 0 rfl) ?_
      replace h := bo_o h
      obtain ⟨x25, e26, h⟩ := h
      refine h_getN (ci := 18) (k := 2) (v := .long x25) hx hb hts hown hK hR in_X11 rfl (by decide) (fun _ _ => rfl) (hK.fn 33 rfl) (fun _ h9 => h9) (gJ_o e26) dX1_improved_60 ?_
      refine lv_aload_n hx hb dX1_improved_63 rfl (lv_at hl 2 rfl) ?_
      replace h := bo_o h
      obtain ⟨_, e28, h⟩ := h
      replace h := b2_o h
      obtain ⟨x30, w27, e29, h⟩ := h
      refine h_callV 0 (ci := 17) (As := []) (rest := [.long x25]) (v := (some (.long x30))) (w' := w27) (st1 := [.long x30, .long x25]) hx hb hml hown hts hK hR hS (Nat.le_refl _) (Nat.le_refl _) rfl e28 (mX1_brought e29) (lw_V q1727 q1729 qs37 q112 q1730) (by decide +kernel) (Nat.le_of_ble_eq_true rfl) (Nat.le_of_ble_eq_true rfl) rfl hl.1 (Nat.le_of_ble_eq_true rfl) dX1_improved_64 rfl rfl (fun H locs hR hS => ?_)
      refine W.lcmp hx hb dX1_improved_67 ?_
      refine lv_if_gt (tgt := 74) hx hb dX1_improved_68 (by decide) (fun c31 => ?_) (fun c31 => ?_)
      · replace h := it_o c31 h
        exact bX1_improved_74 B h k18 kR hR hS (lv_sub hl [2, 3, 4, 1, 0] rfl)
      · replace h := if_o c31 h
        exact bX1_improved_71 B h k18 kR hR hS (lv_sub hl [2, 3, 4] rfl)
    · replace h := it_o c19 h
      refine lv_goto (tgt := 18) hx hb dX1_improved_44 (by decide) ?_
      exact k18 _ _ (Option.some.inj h).symm H locs ls hR hS (lv_sub hl [1, 2, 3] rfl)
noncomputable def fX1_improved_l18 (v0 : Nat) (v1 : Int32) (v2 : Option Nat) (w : WH) : Option ((Int32 × WH)) := whileO (fun q => fX1_improved_b18 v0 q.1 v2 q.2) (v1, w)
theorem lX1_improved_18 {p : Program} {l : Launch} {e : Env} {s : State} {m : MethodId} {args : Array Value} {below : List Frame} {meth : Method} {c : Code} {G : gE} {A : Nat → Prop} {w0 : WH} (B : gB G RX1 cX1_improved 5 (some .int) p s m args meth c) {v0 : Nat} {v2 : Option Nat} {r : (Int32 × WH)}   : ∀ (v1 : Int32) (w : WH), fX1_improved_l18 v0 v1 v2 w = some r → ∀ (H : Heap) (locs : List Loc) (ls : Array Slot), RepH G A w H → Cu A s w0 w H locs → lv_has ls 5 [(0, .ref v0), (1, .int v1), (2, va_rf v2)] → W p l e (hRm 22 506 w0) s m args below meth c H locs (wC w0 - wC w) (wS w0 - wS w) (hZ below args s G A w0 (some (.int r.1)) r.2) (F0 m 18 ls []) := by
  intro v1 w h
  refine wh_walk (body := (fun q => fX1_improved_b18 v0 q.1 v2 q.2)) (P := (fun q : (Int32 × WH) => ∀ (H : Heap) (locs : List Loc) (ls : Array Slot), RepH G A (q.2) H → Cu A s w0 (q.2) H locs → lv_has ls 5 [(0, .ref v0), (1, .int (q.1)), (2, va_rf v2)] → W p l e (hRm 22 506 w0) s m args below meth c H locs (wC w0 - wC (q.2)) (wS w0 - wS (q.2)) (hZ below args s G A w0 (some (.int r.1)) r.2) (F0 m 18 ls []))) (r := r) ?_ (v1, w) h
  intro q y hy hL hr H locs ls hR hS hl
  exact bX1_improved_18 (r := r) B hy (fun a0 a1 e => hL (a0, a1) e) (fun q e => hr q e) hR hS hl
noncomputable def fX1_improved (v0 : Nat) (w : WH) : Option ((Int32 × WH)) :=
  (gR w v0 17 0).bind fun x1 =>
  x1.bind fun a3 =>
  (gR w a3 21 0).bind fun x5 =>
  x5.bind fun a7 =>
  (gR w a7 22 1).bind fun x9 =>
  x9.bind fun a11 =>
  (hIs w a11 2).bind fun _ =>
  b2_ (fJ2_iterator a11 w) fun x16 w13 =>
  fX1_improved_l18 v0 0 x16 w13
theorem bX1_improved_0 {p : Program} {l : Launch} {e : Env} {s : State} {m : MethodId} {args : Array Value} {below : List Frame} {meth : Method} {c : Code} {H : Heap} {locs : List Loc} {ls : Array Slot} {G : gE} {A : Nat → Prop} {w0 : WH} (B : gB G RX1 cX1_improved 5 (some .int) p s m args meth c) {v0 : Nat} {w : WH} {r : (Int32 × WH)} (h : fX1_improved v0 w = some r)   (hR : RepH G A w H) (hS : Cu A s w0 w H locs) (hl : lv_has ls 5 [(0, .ref v0)]) : W p l e (hRm 22 506 w0) s m args below meth c H locs (wC w0 - wC w) (wS w0 - wS w) (hZ below args s G A w0 (some (.int r.1)) r.2) (F0 m 0 ls []) := by
  have B0 := B
  obtain ⟨hx, hb, hml, hown, hts, hr, hlk, hK⟩ := B0
  unfold fX1_improved at h
  refine lv_iconst (v := 0) hx hb dX1_improved_0 (by decide) ?_
  refine lv_istore_n (lv' := [(1, .int 0), (0, .ref v0)]) hx hb dX1_improved_1 rfl hl (by decide) rfl (fun ls hl => ?_)
  refine lv_aload_n hx hb dX1_improved_2 rfl (lv_at hl 1 rfl) ?_
  replace h := bo_o h
  obtain ⟨x1, e2, h⟩ := h
  refine h_get (ci := 17) (k := 0) (v := va_rf x1) hx hb hts hown hK hR in_X1 rfl (by decide) (fun _ _ => rfl) q662 (fun _ h9 => h9) (gR_o e2) dX1_improved_3 ?_
  replace h := bo_o h
  obtain ⟨a3, e4, h⟩ := h
  subst e4
  replace h := bo_o h
  obtain ⟨x5, e6, h⟩ := h
  refine h_getN (ci := 21) (k := 0) (v := va_rf x5) hx hb hts hown hK hR in_X2 rfl (by decide) (fun _ _ => rfl) (hK.fn 15 rfl) (fun _ h9 => h9) (gR_o e6) dX1_improved_6 ?_
  replace h := bo_o h
  obtain ⟨a7, e8, h⟩ := h
  subst e8
  replace h := bo_o h
  obtain ⟨x9, e10, h⟩ := h
  refine h_getN (ci := 22) (k := 1) (v := va_rf x9) hx hb hts hown hK hR in_X3 rfl (by decide) (fun _ _ => rfl) (hK.fn 6 rfl) (fun _ h9 => h9) (gR_o e10) dX1_improved_9 ?_
  replace h := bo_o h
  obtain ⟨a11, e12, h⟩ := h
  subst e12
  replace h := bo_o h
  obtain ⟨_, e14, h⟩ := h
  replace h := b2_o h
  obtain ⟨x16, w13, e15, h⟩ := h
  refine h_callF 0  (As := []) (rest := []) (v := (some (va_rf x16))) (w' := w13) (st1 := [va_rf x16]) hx hb hml hown hts hK hR hS (Nat.le_refl _) (Nat.le_refl _) (h_recv (ci := 2) hK hR hS rfl e14) (mJ2_iterator e15) (lw_app (a := [.methodLink _ _ _, .selects _ _ _, .instanceMethod _, .initialized _]) (lw_4 q1432 q1435 q1437 q117) (lw_meth q1439)) (hK.fw 3 rfl) (by decide +kernel) (Nat.le_of_ble_eq_true rfl) (Nat.le_of_ble_eq_true rfl) rfl hl.1 (Nat.le_of_ble_eq_true rfl) dX1_improved_12 rfl rfl (fun H locs hR hS => ?_)
  refine lv_astore_nq (lv' := [(2, va_rf x16), (1, .int 0), (0, .ref v0)]) hx hb dX1_improved_17 rfl hl (by decide) rfl (fun ls hl => ?_)
  exact lX1_improved_18 B _ _ h H locs ls hR hS (lv_sub hl [2, 1, 0] rfl)
theorem mX1_improved {l : Launch} {G : gE} {A : Nat → Prop} {v0 : Nat} {w : WH} {r : (Int32 × WH)} (h : fX1_improved v0 w = some r) : hM l G A yX1_improved cX1_improved 5 (some .int) 22 506 [.ref v0] w (some (.int r.1)) r.2 :=
  h_of (by decide +kernel) (Nat.le_of_ble_eq_true rfl) (fun p e s m args below meth c ls B hnm hR hS hl => bX1_improved_0 B h hR hS hl)
