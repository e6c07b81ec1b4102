set_option maxRecDepth 100000
set_option maxHeartbeats 4000000

noncomputable def fJ15_equals_b9 (v0 : Nat) (v1 : Nat) (v2 : Int32) (w : WH) : Option (Sum (Int32 × WH) ((Int32 × WH))) :=
  (aLn w v0).bind fun x1 =>
  if x1 ≤ v2 then (
    some (.inr (1, w))
  ) else (
    (ldI w v0 2 v2).bind fun x4 =>
    (ldI w v1 2 v2).bind fun x6 =>
    if x4 = x6 then (
      some (.inl (v2 + 1, w))
    ) else (
      some (.inr (0, w))
    )
  )
theorem bJ15_equals_9 {p : Program} {l : Launch} {e : Env} {s : State} {m : MethodId} {args : Array Value} {below : List Frame} {meth : Method} {c : Code} {H : Heap} {locs : List Loc} {ls : Array Slot} {G : gE} {A : Nat → Prop} {w0 : WH} (B : gB G RJ15 cJ15_equals 3 (some .boolean) p s m args meth c) {v0 : Nat} {v1 : Nat} {v2 : Int32} {w : WH} {x : Sum (Int32 × WH) ((Int32 × WH))} {r : (Int32 × WH)} (h : fJ15_equals_b9 v0 v1 v2 w = some x)  (k9 : ∀ (v2' : Int32) (w' : WH), x = (.inl (v2', w')) → ∀ (H : Heap) (locs : List Loc) (ls : Array Slot), RepH G A w' H → Cu A s w0 w' H locs → lv_has ls 3 [(0, .ref v0), (1, .ref v1), (2, .int v2')] → W p l e (hRm 0 0 w0) s m args below meth c H locs (wC w0 - wC w') (wS w0 - wS w') (hZ below args s G A w0 (some (.int r.1)) r.2) (F0 m 9 ls [])) (kR : ∀ q, x = (.inr q) → q = r) (hR : RepH G A w H) (hS : Cu A s w0 w H locs) (hl : lv_has ls 3 [(0, .ref v0), (1, .ref v1), (2, .int v2)]) : W p l e (hRm 0 0 w0) s m args below meth c H locs (wC w0 - wC w) (wS w0 - wS w) (hZ below args s G A w0 (some (.int r.1)) r.2) (F0 m 9 ls []) := by
  have B0 := B
  obtain ⟨hx, hb, hml, hown, hts, hr, hlk, hK⟩ := B0
  unfold fJ15_equals_b9 at h
  refine lv_iload_n hx hb dJ15_equals_9 rfl (lv_at hl 2 rfl) ?_
  refine lv_aload_n hx hb dJ15_equals_10 rfl (lv_at hl 0 rfl) ?_
  replace h := bo_o h
  obtain ⟨x1, e2, h⟩ := h
  refine h_alen hx hb hK hR hS e2 dJ15_equals_11 ?_
  refine lv_icmp_ge (tgt := 32) hx hb dJ15_equals_12 (by decide) (fun c3 => ?_) (fun c3 => ?_)
  · replace h := it_o c3 h
    refine lv_iconst (v := 1) hx hb dJ15_equals_32 (by decide) ?_
    have eR := kR _ (Option.some.inj h).symm
    subst eR
    exact h_zfin hx hb hr hlk (by show narrow .boolean (.int 1) = .int 1; decide) hR hS dJ15_equals_33
  · replace h := if_o c3 h
    refine lv_aload_n hx hb dJ15_equals_15 rfl (lv_at hl 0 rfl) ?_
    refine lv_iload_n hx hb dJ15_equals_16 rfl (lv_at hl 2 rfl) ?_
    replace h := bo_o h
    obtain ⟨x4, e5, h⟩ := h
    refine h_bald hx hb hK hR hS e5 dJ15_equals_17 ?_
    refine lv_aload_n hx hb dJ15_equals_18 rfl (lv_at hl 1 rfl) ?_
    refine lv_iload_n hx hb dJ15_equals_19 rfl (lv_at hl 2 rfl) ?_
    replace h := bo_o h
    obtain ⟨x6, e7, h⟩ := h
    refine h_bald hx hb hK hR hS e7 dJ15_equals_20 ?_
    refine lv_icmp_eq (tgt := 26) hx hb dJ15_equals_21 (by decide) (fun c8 => ?_) (fun c8 => ?_)
    · replace h := it_o c8 h
      refine lv_iinc (v := v2 + 1) (lv' := [(2, .int (v2 + 1)), (0, .ref v0), (1, .ref v1)]) hx hb dJ15_equals_26 hl (k := 2) rfl rfl (by decide) rfl (fun ls hl => ?_)
      refine lv_goto (tgt := 9) hx hb dJ15_equals_29 (by decide) ?_
      exact k9 _ _ (Option.some.inj h).symm H locs ls hR hS (lv_sub hl [1, 2, 0] rfl)
    · replace h := if_o c8 h
      refine lv_iconst (v := 0) hx hb dJ15_equals_24 (by decide) ?_
      have eR := kR _ (Option.some.inj h).symm
      subst eR
      exact h_zfin hx hb hr hlk (by show narrow .boolean (.int 0) = .int 0; decide) hR hS dJ15_equals_25
noncomputable def fJ15_equals_l9 (v0 : Nat) (v1 : Nat) (v2 : Int32) (w : WH) : Option ((Int32 × WH)) := whileO (fun q => fJ15_equals_b9 v0 v1 q.1 q.2) (v2, w)
theorem lJ15_equals_9 {p : Program} {l : Launch} {e : Env} {s : State} {m : MethodId} {args : Array Value} {below : List Frame} {meth : Method} {c : Code} {G : gE} {A : Nat → Prop} {w0 : WH} (B : gB G RJ15 cJ15_equals 3 (some .boolean) p s m args meth c) {v0 : Nat} {v1 : Nat} {r : (Int32 × WH)}   : ∀ (v2 : Int32) (w : WH), fJ15_equals_l9 v0 v1 v2 w = some r → ∀ (H : Heap) (locs : List Loc) (ls : Array Slot), RepH G A w H → Cu A s w0 w H locs → lv_has ls 3 [(0, .ref v0), (1, .ref v1), (2, .int v2)] → W p l e (hRm 0 0 w0) s m args below meth c H locs (wC w0 - wC w) (wS w0 - wS w) (hZ below args s G A w0 (some (.int r.1)) r.2) (F0 m 9 ls []) := by
  intro v2 w h
  refine wh_walk (body := (fun q => fJ15_equals_b9 v0 v1 q.1 q.2)) (P := (fun q : (Int32 × WH) => ∀ (H : Heap) (locs : List Loc) (ls : Array Slot), RepH G A (q.2) H → Cu A s w0 (q.2) H locs → lv_has ls 3 [(0, .ref v0), (1, .ref v1), (2, .int (q.1))] → W p l e (hRm 0 0 w0) s m args below meth c H locs (wC w0 - wC (q.2)) (wS w0 - wS (q.2)) (hZ below args s G A w0 (some (.int r.1)) r.2) (F0 m 9 ls []))) (r := r) ?_ (v2, w) h
  intro q y hy hL hr H locs ls hR hS hl
  exact bJ15_equals_9 (r := r) B hy (fun a0 a1 e => hL (a0, a1) e) (fun q e => hr q e) hR hS hl
noncomputable def fJ15_equals (v0 : Nat) (v1 : Nat) (w : WH) : Option ((Int32 × WH)) :=
  (aLn w v0).bind fun x1 =>
  (aLn w v1).bind fun x3 =>
  if x1 = x3 then (
    fJ15_equals_l9 v0 v1 0 w
  ) else (
    some (0, w)
  )
theorem bJ15_equals_0 {p : Program} {l : Launch} {e : Env} {s : State} {m : MethodId} {args : Array Value} {below : List Frame} {meth : Method} {c : Code} {H : Heap} {locs : List Loc} {ls : Array Slot} {G : gE} {A : Nat → Prop} {w0 : WH} (B : gB G RJ15 cJ15_equals 3 (some .boolean) p s m args meth c) {v0 : Nat} {v1 : Nat} {w : WH} {r : (Int32 × WH)} (h : fJ15_equals v0 v1 w = some r)   (hR : RepH G A w H) (hS : Cu A s w0 w H locs) (hl : lv_has ls 3 [(0, .ref v0), (1, .ref v1)]) : W p l e (hRm 0 0 w0) s m args below meth c H locs (wC w0 - wC w) (wS w0 - wS w) (hZ below args s G A w0 (some (.int r.1)) r.2) (F0 m 0 ls []) := by
  have B0 := B
  obtain ⟨hx, hb, hml, hown, hts, hr, hlk, hK⟩ := B0
  unfold fJ15_equals at h
  refine lv_aload_n hx hb dJ15_equals_0 rfl (lv_at hl 0 rfl) ?_
  replace h := bo_o h
  obtain ⟨x1, e2, h⟩ := h
  refine h_alen hx hb hK hR hS e2 dJ15_equals_1 ?_
  refine lv_aload_n hx hb dJ15_equals_2 rfl (lv_at hl 1 rfl) ?_
  replace h := bo_o h
  obtain ⟨x3, e4, h⟩ := h
  refine h_alen hx hb hK hR hS e4 dJ15_equals_3 ?_
  refine lv_icmp_ne (tgt := 34) hx hb dJ15_equals_4 (by decide) (fun c5 => ?_) (fun c5 => ?_)
  · replace h := if_o c5 h
    refine lv_iconst (v := 0) hx hb dJ15_equals_34 (by decide) ?_
    have eR := Option.some.inj h
    subst eR
    exact h_zfin hx hb hr hlk (by show narrow .boolean (.int 0) = .int 0; decide) hR hS dJ15_equals_35
  · replace h := it_o c5 h
    refine lv_iconst (v := 0) hx hb dJ15_equals_7 (by decide) ?_
    refine lv_istore_n (lv' := [(2, .int 0), (0, .ref v0), (1, .ref v1)]) hx hb dJ15_equals_8 rfl hl (by decide) rfl (fun ls hl => ?_)
    exact lJ15_equals_9 B _ _ h H locs ls hR hS (lv_sub hl [1, 2, 0] rfl)
theorem mJ15_equals {l : Launch} {G : gE} {A : Nat → Prop} {v0 : Nat} {v1 : Nat} {w : WH} {r : (Int32 × WH)} (h : fJ15_equals v0 v1 w = some r) : hM l G A yJ15_equals cJ15_equals 3 (some .boolean) 0 0 [.ref v0, .ref v1] w (some (.int r.1)) r.2 :=
  h_of (by decide +kernel) (Nat.le_of_ble_eq_true rfl) (fun p e s m args below meth c ls B hnm hR hS hl => bJ15_equals_0 B h hR hS hl)
noncomputable def fJ9_equals_b36 (v0 : Nat) (v2 : Nat) (w : WH) : Option ((Int32 × WH)) :=
  (gR w v0 16 0).bind fun x1 =>
  (gR w v2 16 0).bind fun x3 =>
  x1.bind fun a5 =>
  x3.bind fun a7 =>
  b2_ (fJ15_equals a5 a7 w) fun x11 w9 =>
  if x11 = 0 then (
    some (0, w9)
  ) else (
    some (1, w9)
  )
theorem bJ9_equals_36 {p : Program} {l : Launch} {e : Env} {s : State} {m : MethodId} {args : Array Value} {below : List Frame} {meth : Method} {c : Code} {H : Heap} {locs : List Loc} {ls : Array Slot} {G : gE} {A : Nat → Prop} {w0 : WH} (B : gB G RJ9 cJ9_equals 3 (some .boolean) p s m args meth c) {v0 : Nat} {v2 : Nat} {w : WH} {r : (Int32 × WH)} (h : fJ9_equals_b36 v0 v2 w = some r)   (hR : RepH G A w H) (hS : Cu A s w0 w H locs) (hl : lv_has ls 3 [(0, .ref v0), (2, .ref v2)]) : W p l e (hRm 1 22 w0) s m args below meth c H locs (wC w0 - wC w) (wS w0 - wS w) (hZ below args s G A w0 (some (.int r.1)) r.2) (F0 m 36 ls []) := by
  have B0 := B
  obtain ⟨hx, hb, hml, hown, hts, hr, hlk, hK⟩ := B0
  unfold fJ9_equals_b36 at h
  refine lv_aload_n hx hb dJ9_equals_36 rfl (lv_at hl 0 rfl) ?_
  replace h := bo_o h
  obtain ⟨x1, e2, h⟩ := h
  refine h_getS (k := 0) (v := va_rf x1) hx hb hts hown hK hR hS (by decide) q498 (gR_o e2) dJ9_equals_37 ?_
  refine lv_aload_n hx hb dJ9_equals_40 rfl (lv_at hl 1 rfl) ?_
  replace h := bo_o h
  obtain ⟨x3, e4, h⟩ := h
  refine h_getS (k := 0) (v := va_rf x3) hx hb hts hown hK hR hS (by decide) q498 (gR_o e4) dJ9_equals_41 ?_
  replace h := bo_o h
  obtain ⟨a5, e6, h⟩ := h
  subst e6
  replace h := bo_o h
  obtain ⟨a7, e8, h⟩ := h
  subst e8
  replace h := b2_o h
  obtain ⟨x11, w9, e10, h⟩ := h
  refine h_callS 2  (As := [.ref a5, .ref a7]) (rest := []) (v := (some (.int x11))) (w' := w9) (st1 := [.int x11]) hx hb hml hown hts hK hR hS (Nat.le_refl _) (Nat.le_refl _) (mJ15_equals e10) (lw_S q812 q813 q131 q814) (by decide +kernel) (Nat.le_of_ble_eq_true rfl) (Nat.le_of_ble_eq_true rfl) rfl hl.1 (Nat.le_of_ble_eq_true rfl) dJ9_equals_44 rfl rfl (fun H locs hR hS => ?_)
  refine lv_if_eq (tgt := 54) hx hb dJ9_equals_47 (by decide) (fun c12 => ?_) (fun c12 => ?_)
  · replace h := it_o c12 h
    refine lv_iconst (v := 0) hx hb dJ9_equals_54 (by decide) ?_
    have eR := Option.some.inj h
    subst eR
    exact h_zfin hx hb hr hlk (by show narrow .boolean (.int 0) = .int 0; decide) hR hS dJ9_equals_55
  · replace h := if_o c12 h
    refine lv_iconst (v := 1) hx hb dJ9_equals_50 (by decide) ?_
    refine lv_goto (tgt := 55) hx hb dJ9_equals_51 (by decide) ?_
    have eR := Option.some.inj h
    subst eR
    exact h_zfin hx hb hr hlk (by show narrow .boolean (.int 1) = .int 1; decide) hR hS dJ9_equals_55
noncomputable def fJ9_equals (v0 : Nat) (v1 : Nat) (w : WH) : Option ((Int32 × WH)) :=
  if some v0 = some v1 then (
    some (1, w)
  ) else (
    (hIs w v1 16).bind fun _ =>
    if (1 : Int32) = 0 then (
      some (0, w)
    ) else (
      (hIs w v1 16).bind fun _ =>
      if (1 : Int32) = 0 then (
        fJ9_equals_b36 v0 v1 w
      ) else (
        (gI w v0 16 1).bind fun x6 =>
        (gI w v1 16 1).bind fun x8 =>
        if x6 = x8 then (
          fJ9_equals_b36 v0 v1 w
        ) else (
          some (0, w)
        )
      )
    )
  )
theorem bJ9_equals_0 {p : Program} {l : Launch} {e : Env} {s : State} {m : MethodId} {args : Array Value} {below : List Frame} {meth : Method} {c : Code} {H : Heap} {locs : List Loc} {ls : Array Slot} {G : gE} {A : Nat → Prop} {w0 : WH} (B : gB G RJ9 cJ9_equals 3 (some .boolean) p s m args meth c) {v0 : Nat} {v1 : Nat} {w : WH} {r : (Int32 × WH)} (h : fJ9_equals v0 v1 w = some r)   (hR : RepH G A w H) (hS : Cu A s w0 w H locs) (hl : lv_has ls 3 [(0, .ref v0), (1, .ref v1)]) : W p l e (hRm 1 22 w0) s m args below meth c H locs (wC w0 - wC w) (wS w0 - wS w) (hZ below args s G A w0 (some (.int r.1)) r.2) (F0 m 0 ls []) := by
  have B0 := B
  obtain ⟨hx, hb, hml, hown, hts, hr, hlk, hK⟩ := B0
  unfold fJ9_equals at h
  refine lv_aload_n hx hb dJ9_equals_0 rfl (lv_at hl 0 rfl) ?_
  refine lv_aload_n hx hb dJ9_equals_1 rfl (lv_at hl 1 rfl) ?_
  refine lv_acmp_ne (rx := some v0) (ry := some v1) (tgt := 7) hx hb dJ9_equals_2 (by decide) (fun c1 => ?_) (fun c1 => ?_)
  · replace h := if_o c1 h
    refine lv_aload_n hx hb dJ9_equals_7 rfl (lv_at hl 1 rfl) ?_
    replace h := bo_o h
    obtain ⟨_, e2, h⟩ := h
    refine h_instS (ci := 16) hx hb hts hown hK hR hS rfl e2 q811 dJ9_equals_8 ?_
    refine lv_if_eq (tgt := 54) hx hb dJ9_equals_11 (by decide) (fun c3 => ?_) (fun c3 => ?_)
    · replace h := it_o c3 h
      refine lv_iconst (v := 0) hx hb dJ9_equals_54 (by decide) ?_
      have eR := Option.some.inj h
      subst eR
      exact h_zfin hx hb hr hlk (by show narrow .boolean (.int 0) = .int 0; decide) hR hS dJ9_equals_55
    · replace h := if_o c3 h
      refine lv_aload_n hx hb dJ9_equals_14 rfl (lv_at hl 1 rfl) ?_
      replace h := bo_o h
      obtain ⟨_, e4, h⟩ := h
      refine h_castS (ci := 16) hx hb hts hown hK hR hS rfl e4 q811 dJ9_equals_15 ?_
      refine lv_astore_n (lv' := [(2, .ref v1), (0, .ref v0), (1, .ref v1)]) hx hb dJ9_equals_18 rfl hl (by decide) rfl (fun ls hl => ?_)
      refine h_gets (v := .int 1) hx hb hts hown hR hS (hK.2.2.2.1 _ (List.mem_of_getElem? (i := 0) rfl)) q357 (fun _ h9 => h9) dJ9_equals_19 ?_
      refine lv_if_eq (tgt := 36) hx hb dJ9_equals_22 (by decide) (fun c5 => ?_) (fun c5 => ?_)
      · replace h := it_o c5 h
        exact bJ9_equals_36 B h  hR hS (lv_sub hl [1, 0] rfl)
      · replace h := if_o c5 h
        refine lv_aload_n hx hb dJ9_equals_25 rfl (lv_at hl 1 rfl) ?_
        replace h := bo_o h
        obtain ⟨x6, e7, h⟩ := h
        refine h_getS (k := 1) (v := .int x6) hx hb hts hown hK hR hS (by decide) q499 (gI_o e7) dJ9_equals_26 ?_
        refine lv_aload_n hx hb dJ9_equals_29 rfl (lv_at hl 0 rfl) ?_
        replace h := bo_o h
        obtain ⟨x8, e9, h⟩ := h
        refine h_getS (k := 1) (v := .int x8) hx hb hts hown hK hR hS (by decide) q499 (gI_o e9) dJ9_equals_30 ?_
        refine lv_icmp_ne (tgt := 54) hx hb dJ9_equals_33 (by decide) (fun c10 => ?_) (fun c10 => ?_)
        · replace h := if_o c10 h
          refine lv_iconst (v := 0) hx hb dJ9_equals_54 (by decide) ?_
          have eR := Option.some.inj h
          subst eR
          exact h_zfin hx hb hr hlk (by show narrow .boolean (.int 0) = .int 0; decide) hR hS dJ9_equals_55
        · replace h := it_o c10 h
          exact bJ9_equals_36 B h  hR hS (lv_sub hl [1, 0] rfl)
  · replace h := it_o c1 h
    refine lv_iconst (v := 1) hx hb dJ9_equals_5 (by decide) ?_
    have eR := Option.some.inj h
    subst eR
    exact h_zfin hx hb hr hlk (by show narrow .boolean (.int 1) = .int 1; decide) hR hS dJ9_equals_6
theorem mJ9_equals {l : Launch} {G : gE} {A : Nat → Prop} {v0 : Nat} {v1 : Nat} {w : WH} {r : (Int32 × WH)} (h : fJ9_equals v0 v1 w = some r) : hM l G A yJ9_equals cJ9_equals 3 (some .boolean) 1 22 [.ref v0, .ref v1] w (some (.int r.1)) r.2 :=
  h_of (by decide +kernel) (Nat.le_of_ble_eq_true rfl) (fun p e s m args below meth c ls B hnm hR hS hl => bJ9_equals_0 B h hR hS hl)
noncomputable def fX6_number_b71 (v0 : Nat) (v1 : Int32) (v2 : Int32) (v3 : Int32) (w : WH) : Option (((Sum (Int32) (Nat × Nat)) × WH)) :=
  b2_ (fX1_inRange (v3.toInt64) (v1.toInt64) (v2.toInt64) w) fun x3 w1 =>
  (hIs w1 v0 25).bind fun _ =>
  b2_ (fX6_require v0 x3 2 w1) fun o6 w4 => ex_ o6 (fun _ =>
    some (.inl v3, w4)) (fun q9 =>
    some (.inr q9, w4))
theorem bX6_number_71 {p : Program} {l : Launch} {e : Env} {s : State} {m : MethodId} {args : Array Value} {below : List Frame} {meth : Method} {c : Code} {H : Heap} {locs : List Loc} {ls : Array Slot} {G : gE} {A : Nat → Prop} {w0 : WH} (B : gB G RX6 cX6_number 4 (some .int) p s m args meth c) (hT : ∀ x ∈ c.exceptionTable.toList, False) (hl0 : l.stackTraces = false) {v0 : Nat} {v1 : Int32} {v2 : Int32} {v3 : Int32} {w : WH} {r : ((Sum (Int32) (Nat × Nat)) × WH)} (h : fX6_number_b71 v0 v1 v2 v3 w = some r)   (hR : RepH G A w H) (hS : Cu A s w0 w H locs) (hl : lv_has ls 4 [(0, .ref v0), (1, .int v1), (2, .int v2), (3, .int v3)]) : W p l e (hRm 5 112 w0) s m args below meth c H locs (wC w0 - wC w) (wS w0 - wS w) (hZX below args s G A w0 (oI r.1) r.2) (F0 m 71 ls []) := by
  have B0 := B
  obtain ⟨hx, hb, hml, hown, hts, hr, hlk, hK⟩ := B0
  unfold fX6_number_b71 at h
  refine lv_aload_n hx hb dX6_number_71 rfl (lv_at hl 0 rfl) ?_
  refine lv_iload_n hx hb dX6_number_72 rfl (lv_at hl 3 rfl) ?_
  refine lv_i2l hx hb dX6_number_73 rfl ?_
  refine lv_iload_n hx hb dX6_number_74 rfl (lv_at hl 1 rfl) ?_
  refine lv_i2l hx hb dX6_number_75 rfl ?_
  refine lv_iload_n hx hb dX6_number_76 rfl (lv_at hl 2 rfl) ?_
  refine lv_i2l hx hb dX6_number_77 rfl ?_
  replace h := b2_o h
  obtain ⟨x3, w1, e2, h⟩ := h
  refine h_callSN 3  (As := [.long (v3.toInt64), .long (v1.toInt64), .long (v2.toInt64)]) (rest := [.ref v0]) (v := (some (.int x3))) (w' := w1) (st1 := [.int x3, .ref v0]) hx hb hml hown hts hK hR hS (Nat.le_refl _) (Nat.le_refl _) (mX1_inRange e2) (lw_meth q744) (hK.mn 2 rfl) q112 q743 (by decide +kernel) (Nat.le_of_ble_eq_true rfl) (Nat.le_of_ble_eq_true rfl) rfl hl.1 (Nat.le_of_ble_eq_true rfl) dX6_number_78 rfl rfl (fun H locs hR hS => ?_)
  refine lv_iconst (v := 2) hx hb dX6_number_81 (by decide) ?_
  replace h := bo_o h
  obtain ⟨_, e5, h⟩ := h
  replace h := b2_o h
  obtain ⟨o6, w4, e7, h⟩ := h
  refine h_callVX 2 (ci := 25) (As := [.int x3, .int 2]) (rest := []) (o := oV o6) (w' := w4) hx hb hml hown hts hK hR hS (Nat.le_refl _) (Nat.le_refl _) rfl e5 (mX6_require hl0 e7) (lw_V q745 q747 qs4 q138 q748) (by decide +kernel) (Nat.le_of_ble_eq_true rfl) (Nat.le_of_ble_eq_true rfl) rfl hl.1 (Nat.le_of_ble_eq_true rfl) dX6_number_82 rfl (fun v9 hv9 H locs hR hS => ?_) (fun E9 q9 hq9 H locs hR hS hce => ?_)
  · cases o6 with
    | inr q => cases hv9
    | inl x8 =>
      cases hv9
      replace h := exl_o h
      refine W.eq (g2 := F0 m 85 ls []) rfl ?_
      refine lv_iload_n hx hb dX6_number_85 rfl (lv_at hl 3 rfl) ?_
      have eR := Option.some.inj h
      subst eR
      exact h_ifinX hx hb hr hlk hR hS dX6_number_86
  · cases o6 with
    | inl q => cases hq9
    | inr q9 =>
      cases hq9
      replace h := exr_o h
      have eR := Option.some.inj h
      subst eR
      exact h_out hT hlk hR hS hce
noncomputable def fX6_number_b68 (v0 : Nat) (v1 : Int32) (v2 : Int32) (v3 : Int32) (w : WH) : Option (Sum (Int32 × WH) (((Sum (Int32) (Nat × Nat)) × WH))) :=
  some (.inl (v3, w))
theorem bX6_number_68 {p : Program} {l : Launch} {e : Env} {s : State} {m : MethodId} {args : Array Value} {below : List Frame} {meth : Method} {c : Code} {H : Heap} {locs : List Loc} {ls : Array Slot} {G : gE} {A : Nat → Prop} {w0 : WH} (B : gB G RX6 cX6_number 4 (some .int) p s m args meth c) (hT : ∀ x ∈ c.exceptionTable.toList, False) (hl0 : l.stackTraces = false) {v0 : Nat} {v1 : Int32} {v2 : Int32} {v3 : Int32} {w : WH} {x : Sum (Int32 × WH) (((Sum (Int32) (Nat × Nat)) × WH))} {r : ((Sum (Int32) (Nat × Nat)) × WH)} (h : fX6_number_b68 v0 v1 v2 v3 w = some x)  (k21 : ∀ (v3' : Int32) (w' : WH), x = (.inl (v3', w')) → ∀ (H : Heap) (locs : List Loc) (ls : Array Slot), RepH G A w' H → Cu A s w0 w' H locs → lv_has ls 4 [(0, .ref v0), (1, .int v1), (2, .int v2), (3, .int v3')] → W p l e (hRm 5 112 w0) s m args below meth c H locs (wC w0 - wC w') (wS w0 - wS w') (hZX below args s G A w0 (oI r.1) r.2) (F0 m 21 ls [])) (kR : ∀ q, x = (.inr q) → q = r) (hR : RepH G A w H) (hS : Cu A s w0 w H locs) (hl : lv_has ls 4 [(0, .ref v0), (1, .int v1), (2, .int v2), (3, .int v3)]) : W p l e (hRm 5 112 w0) s m args below meth c H locs (wC w0 - wC w) (wS w0 - wS w) (hZX below args s G A w0 (oI r.1) r.2) (F0 m 68 ls []) := by
  have B0 := B
  obtain ⟨hx, hb, hml, hown, hts, hr, hlk, hK⟩ := B0
  unfold fX6_number_b68 at h
  refine lv_goto (tgt := 21) hx hb dX6_number_68 (by decide) ?_
  exact k21 _ _ (Option.some.inj h).symm H locs ls hR hS (lv_sub hl [0, 1, 2, 3] rfl)
noncomputable def fX6_number_b21 (v0 : Nat) (v1 : Int32) (v2 : Int32) (v3 : Int32) (w : WH) : Option (Sum (Int32 × WH) (((Sum (Int32) (Nat × Nat)) × WH))) :=
  (hIs w v0 25).bind fun _ =>
  b2_ (fX6_isAt v0 48 57 w) fun x4 w1 =>
  if x4 = 0 then (
    (fX6_number_b71 v0 v1 v2 v3 w1).map (fun y => (.inr y))
  ) else (
    (gR w1 v0 25 4).bind fun x6 =>
    x6.bind fun a8 =>
    (gR w1 a8 17 4).bind fun x10 =>
    (gI w1 v0 25 1).bind fun x12 =>
    x10.bind fun a14 =>
    (ldI w1 a14 2 x12).bind fun x16 =>
    nm_ (mnI 1000000 (((10 * v3) + x16) - 48)) fun x18 =>
    (gI w1 v0 25 1).bind fun x20 =>
    (hPut w1 v0 25 1 (.int (x20 + 1))).bind fun w22 =>
    fX6_number_b68 v0 v1 v2 x18 w22
  )
theorem bX6_number_21 {p : Program} {l : Launch} {e : Env} {s : State} {m : MethodId} {args : Array Value} {below : List Frame} {meth : Method} {c : Code} {H : Heap} {locs : List Loc} {ls : Array Slot} {G : gE} {A : Nat → Prop} {w0 : WH} (B : gB G RX6 cX6_number 4 (some .int) p s m args meth c) (hT : ∀ x ∈ c.exceptionTable.toList, False) (hl0 : l.stackTraces = false) {v0 : Nat} {v1 : Int32} {v2 : Int32} {v3 : Int32} {w : WH} {x : Sum (Int32 × WH) (((Sum (Int32) (Nat × Nat)) × WH))} {r : ((Sum (Int32) (Nat × Nat)) × WH)} (h : fX6_number_b21 v0 v1 v2 v3 w = some x)  (k21 : ∀ (v3' : Int32) (w' : WH), x = (.inl (v3', w')) → ∀ (H : Heap) (locs : List Loc) (ls : Array Slot), RepH G A w' H → Cu A s w0 w' H locs → lv_has ls 4 [(0, .ref v0), (1, .int v1), (2, .int v2), (3, .int v3')] → W p l e (hRm 5 112 w0) s m args below meth c H locs (wC w0 - wC w') (wS w0 - wS w') (hZX below args s G A w0 (oI r.1) r.2) (F0 m 21 ls [])) (kR : ∀ q, x = (.inr q) → q = r) (hR : RepH G A w H) (hS : Cu A s w0 w H locs) (hl : lv_has ls 4 [(0, .ref v0), (1, .int v1), (2, .int v2), (3, .int v3)]) : W p l e (hRm 5 112 w0) s m args below meth c H locs (wC w0 - wC w) (wS w0 - wS w) (hZX below args s G A w0 (oI r.1) r.2) (F0 m 21 ls []) := by
  have B0 := B
  obtain ⟨hx, hb, hml, hown, hts, hr, hlk, hK⟩ := B0
  unfold fX6_number_b21 at h
  refine lv_aload_n hx hb dX6_number_21 rfl (lv_at hl 0 rfl) ?_
  refine lv_bipush (v := 48) hx hb dX6_number_22 (by decide) ?_
  refine lv_bipush (v := 57) hx hb dX6_number_24 (by decide) ?_
  replace h := bo_o h
  obtain ⟨_, e2, h⟩ := h
  replace h := b2_o h
  obtain ⟨x4, w1, e3, h⟩ := h
  refine h_callV 2 (ci := 25) (As := [.int 48, .int 57]) (rest := []) (v := (some (.int x4))) (w' := w1) (st1 := [.int x4]) hx hb hml hown hts hK hR hS (Nat.le_refl _) (Nat.le_refl _) rfl e2 (mX6_isAt e3) (lw_V q779 q781 qs5 q138 q782) (by decide +kernel) (Nat.le_of_ble_eq_true rfl) (Nat.le_of_ble_eq_true rfl) rfl hl.1 (Nat.le_of_ble_eq_true rfl) dX6_number_26 rfl rfl (fun H locs hR hS => ?_)
  refine lv_if_eq (tgt := 71) hx hb dX6_number_29 (by decide) (fun c5 => ?_) (fun c5 => ?_)
  · replace h := it_o c5 h
    obtain ⟨y, h, ey⟩ := mp_o h
    have ey := kR _ ey.symm
    subst ey
    exact bX6_number_71 B hT hl0 h  hR hS (lv_sub hl [0, 1, 2, 3] rfl)
  · replace h := if_o c5 h
    refine lv_ldc (v := 1000000) hx hb hown (hts _ q821) dX6_number_32 ?_
    refine lv_bipush (v := 10) hx hb dX6_number_34 (by decide) ?_
    refine lv_iload_n hx hb dX6_number_36 rfl (lv_at hl 3 rfl) ?_
    refine lv_imul hx hb dX6_number_37 ?_
    refine lv_aload_n hx hb dX6_number_38 rfl (lv_at hl 0 rfl) ?_
    replace h := bo_o h
    obtain ⟨x6, e7, h⟩ := h
    refine h_get (ci := 25) (k := 4) (v := va_rf x6) hx hb hts hown hK hR in_X6 rfl (by decide) (fun _ _ => rfl) q716 (fun _ h9 => h9) (gR_o e7) dX6_number_39 ?_
    replace h := bo_o h
    obtain ⟨a8, e9, h⟩ := h
    subst e9
    replace h := bo_o h
    obtain ⟨x10, e11, h⟩ := h
    refine h_getN (ci := 17) (k := 4) (v := va_rf x10) hx hb hts hown hK hR in_X1 rfl (by decide) (fun _ _ => rfl) (hK.fn 26 rfl) (fun _ h9 => h9) (gR_o e11) dX6_number_42 ?_
    refine lv_aload_n hx hb dX6_number_45 rfl (lv_at hl 0 rfl) ?_
    replace h := bo_o h
    obtain ⟨x12, e13, h⟩ := h
    refine h_get (ci := 25) (k := 1) (v := .int x12) hx hb hts hown hK hR in_X6 rfl (by decide) (fun _ _ => rfl) q712 (fun _ h9 => h9) (gI_o e13) dX6_number_46 ?_
    replace h := bo_o h
    obtain ⟨a14, e15, h⟩ := h
    subst e15
    replace h := bo_o h
    obtain ⟨x16, e17, h⟩ := h
    refine h_bald hx hb hK hR hS e17 dX6_number_49 ?_
    refine lv_iadd hx hb dX6_number_50 ?_
    refine lv_bipush (v := 48) hx hb dX6_number_51 (by decide) ?_
    refine lv_isub hx hb dX6_number_53 ?_
    replace h := nm_o h
    obtain ⟨x18, e19, h⟩ := h
    refine va_mmin hx hb (hml.trans hl.1.symm) hown (hts _ q822) (hts _ q313) (hts _ q127) (hts _ q314) (Nat.le_of_ble_eq_true rfl) (Nat.le_of_ble_eq_true rfl) (Nat.sub_le _ _) (Nat.sub_le _ _) dX6_number_54 ?_
    refine W.eq (g2 := F0 m 57 ls [.int x18]) (by rw [e19]; rfl) ?_
    refine lv_istore_n (lv' := [(3, .int x18), (0, .ref v0), (1, .int v1), (2, .int v2)]) hx hb dX6_number_57 rfl hl (by decide) rfl (fun ls hl => ?_)
    refine lv_aload_n hx hb dX6_number_58 rfl (lv_at hl 1 rfl) ?_
    refine lv_dup hx hb dX6_number_59 rfl ?_
    replace h := bo_o h
    obtain ⟨x20, e21, h⟩ := h
    refine h_get (ci := 25) (k := 1) (v := .int x20) hx hb hts hown hK hR in_X6 rfl (by decide) (fun _ _ => rfl) q712 (fun _ h9 => h9) (gI_o e21) dX6_number_60 ?_
    refine lv_iconst (v := 1) hx hb dX6_number_63 (by decide) ?_
    refine lv_iadd hx hb dX6_number_64 ?_
    replace h := bo_o h
    obtain ⟨w22, e23, h⟩ := h
    refine h_put (ci := 25) (k := 1) (ty := tyX6 1) hx hb hts hown hK hR hS in_X6 tyX6 tyX6_ok nmX6 rfl (by decide) q712 (fun _ h9 => h9) rfl (tyX6_ok 1 (by decide)) rfl rfl e23 dX6_number_65 (fun H locs hR hS => ?_)
    exact bX6_number_68 B hT hl0 h k21 kR hR hS (lv_sub hl [1, 2, 3, 0] rfl)
noncomputable def fX6_number_l21 (v0 : Nat) (v1 : Int32) (v2 : Int32) (v3 : Int32) (w : WH) : Option (((Sum (Int32) (Nat × Nat)) × WH)) := whileO (fun q => fX6_number_b21 v0 v1 v2 q.1 q.2) (v3, w)
theorem lX6_number_21 {p : Program} {l : Launch} {e : Env} {s : State} {m : MethodId} {args : Array Value} {below : List Frame} {meth : Method} {c : Code} {G : gE} {A : Nat → Prop} {w0 : WH} (B : gB G RX6 cX6_number 4 (some .int) p s m args meth c) (hT : ∀ x ∈ c.exceptionTable.toList, False) (hl0 : l.stackTraces = false) {v0 : Nat} {v1 : Int32} {v2 : Int32} {r : ((Sum (Int32) (Nat × Nat)) × WH)}   : ∀ (v3 : Int32) (w : WH), fX6_number_l21 v0 v1 v2 v3 w = some r → ∀ (H : Heap) (locs : List Loc) (ls : Array Slot), RepH G A w H → Cu A s w0 w H locs → lv_has ls 4 [(0, .ref v0), (1, .int v1), (2, .int v2), (3, .int v3)] → W p l e (hRm 5 112 w0) s m args below meth c H locs (wC w0 - wC w) (wS w0 - wS w) (hZX below args s G A w0 (oI r.1) r.2) (F0 m 21 ls []) := by
  intro v3 w h
  refine wh_walk (body := (fun q => fX6_number_b21 v0 v1 v2 q.1 q.2)) (P := (fun q : (Int32 × WH) => ∀ (H : Heap) (locs : List Loc) (ls : Array Slot), RepH G A (q.2) H → Cu A s w0 (q.2) H locs → lv_has ls 4 [(0, .ref v0), (1, .int v1), (2, .int v2), (3, .int (q.1))] → W p l e (hRm 5 112 w0) s m args below meth c H locs (wC w0 - wC (q.2)) (wS w0 - wS (q.2)) (hZX below args s G A w0 (oI r.1) r.2) (F0 m 21 ls []))) (r := r) ?_ (v3, w) h
  intro q y hy hL hr H locs ls hR hS hl
  exact bX6_number_21 (r := r) B hT hl0 hy (fun a0 a1 e => hL (a0, a1) e) (fun q e => hr q e) hR hS hl
noncomputable def fX6_number (v0 : Nat) (v1 : Int32) (v2 : Int32) (w : WH) : Option (((Sum (Int32) (Nat × Nat)) × WH)) :=
  (hIs w v0 25).bind fun _ =>
  b2_ (fX6_peek v0 w) fun x4 w1 =>
  b2_ (fX1_inRange (x4.toInt64) 48 57 w1) fun x7 w5 =>
  (hIs w5 v0 25).bind fun _ =>
  b2_ (fX6_require v0 x7 1 w5) fun o10 w8 => ex_ o10 (fun _ =>
    fX6_number_l21 v0 v1 v2 0 w8) (fun q13 =>
    some (.inr q13, w8))
theorem bX6_number_0 {p : Program} {l : Launch} {e : Env} {s : State} {m : MethodId} {args : Array Value} {below : List Frame} {meth : Method} {c : Code} {H : Heap} {locs : List Loc} {ls : Array Slot} {G : gE} {A : Nat → Prop} {w0 : WH} (B : gB G RX6 cX6_number 4 (some .int) p s m args meth c) (hT : ∀ x ∈ c.exceptionTable.toList, False) (hl0 : l.stackTraces = false) {v0 : Nat} {v1 : Int32} {v2 : Int32} {w : WH} {r : ((Sum (Int32) (Nat × Nat)) × WH)} (h : fX6_number v0 v1 v2 w = some r)   (hR : RepH G A w H) (hS : Cu A s w0 w H locs) (hl : lv_has ls 4 [(0, .ref v0), (1, .int v1), (2, .int v2)]) : W p l e (hRm 5 112 w0) s m args below meth c H locs (wC w0 - wC w) (wS w0 - wS w) (hZX below args s G A w0 (oI r.1) r.2) (F0 m 0 ls []) := by
  have B0 := B
  obtain ⟨hx, hb, hml, hown, hts, hr, hlk, hK⟩ := B0
  unfold fX6_number at h
  refine lv_aload_n hx hb dX6_number_0 rfl (lv_at hl 0 rfl) ?_
  refine lv_aload_n hx hb dX6_number_1 rfl (lv_at hl 0 rfl) ?_
  replace h := bo_o h
  obtain ⟨_, e2, h⟩ := h
  replace h := b2_o h
  obtain ⟨x4, w1, e3, h⟩ := h
  refine h_callV 0 (ci := 25) (As := []) (rest := [.ref v0]) (v := (some (.int x4))) (w' := w1) (st1 := [.int x4, .ref v0]) hx hb hml hown hts hK hR hS (Nat.le_refl _) (Nat.le_refl _) rfl e2 (mX6_peek e3) (lw_V q736 q738 qs3 q138 q739) (by decide +kernel) (Nat.le_of_ble_eq_true rfl) (Nat.le_of_ble_eq_true rfl) rfl hl.1 (Nat.le_of_ble_eq_true rfl) dX6_number_2 rfl rfl (fun H locs hR hS => ?_)
  refine lv_i2l hx hb dX6_number_5 rfl ?_
  refine lv_ldc2 (v := 48) hx hb hown (hts _ q819) dX6_number_6 ?_
  refine lv_ldc2 (v := 57) hx hb hown (hts _ q820) dX6_number_9 ?_
  replace h := b2_o h
  obtain ⟨x7, w5, e6, h⟩ := h
  refine h_callSN 3  (As := [.long (x4.toInt64), .long 48, .long 57]) (rest := [.ref v0]) (v := (some (.int x7))) (w' := w5) (st1 := [.int x7, .ref v0]) hx hb hml hown hts hK hR hS (Nat.le_refl _) (Nat.le_refl _) (mX1_inRange e6) (lw_meth q744) (hK.mn 2 rfl) q112 q743 (by decide +kernel) (Nat.le_of_ble_eq_true rfl) (Nat.le_of_ble_eq_true rfl) rfl hl.1 (Nat.le_of_ble_eq_true rfl) dX6_number_12 rfl rfl (fun H locs hR hS => ?_)
  refine lv_iconst (v := 1) hx hb dX6_number_15 (by decide) ?_
  replace h := bo_o h
  obtain ⟨_, e9, h⟩ := h
  replace h := b2_o h
  obtain ⟨o10, w8, e11, h⟩ := h
  refine h_callVX 2 (ci := 25) (As := [.int x7, .int 1]) (rest := []) (o := oV o10) (w' := w8) hx hb hml hown hts hK hR hS (Nat.le_refl _) (Nat.le_refl _) rfl e9 (mX6_require hl0 e11) (lw_V q745 q747 qs4 q138 q748) (by decide +kernel) (Nat.le_of_ble_eq_true rfl) (Nat.le_of_ble_eq_true rfl) rfl hl.1 (Nat.le_of_ble_eq_true rfl) dX6_number_16 rfl (fun v9 hv9 H locs hR hS => ?_) (fun E9 q9 hq9 H locs hR hS hce => ?_)
  · cases o10 with
    | inr q => cases hv9
    | inl x12 =>
      cases hv9
      replace h := exl_o h
      refine W.eq (g2 := F0 m 19 ls []) rfl ?_
      refine lv_iconst (v := 0) hx hb dX6_number_19 (by decide) ?_
      refine lv_istore_n (lv' := [(3, .int 0), (0, .ref v0), (1, .int v1), (2, .int v2)]) hx hb dX6_number_20 rfl hl (by decide) rfl (fun ls hl => ?_)
      exact lX6_number_21 B hT hl0 _ _ h H locs ls hR hS (lv_sub hl [1, 2, 3, 0] rfl)
  · cases o10 with
    | inl q => cases hq9
    | inr q13 =>
      cases hq9
      replace h := exr_o h
      have eR := Option.some.inj h
      subst eR
      exact h_out hT hlk hR hS hce
theorem mX6_number {l : Launch} {G : gE} {A : Nat → Prop} {v0 : Nat} {v1 : Int32} {v2 : Int32} {w : WH} {r : ((Sum (Int32) (Nat × Nat)) × WH)} (hl0 : l.stackTraces = false) (h : fX6_number v0 v1 v2 w = some r) : hMX l G A yX6_number cX6_number 4 (some .int) 5 112 [.ref v0, .int v1, .int v2] w (oI r.1) r.2 :=
  h_ofX (by decide +kernel) (Nat.le_of_ble_eq_true rfl) (fun p e s m args below meth c ls B hnm hT hR hS hl => bX6_number_0 B hT hl0 h hR hS hl)
noncomputable def fX6_goesOn_b22 (v0 : Nat) (v1 : Int32) (s0 : Nat) (s1 : Int32) (w : WH) : Option (((Sum (Int32) (Nat × Nat)) × WH)) :=
  (hIs w s0 25).bind fun _ =>
  b2_ (fX6_require s0 s1 1 w) fun o3 w1 => ex_ o3 (fun _ =>
    (gI w1 v0 25 1).bind fun x7 =>
    (hPut w1 v0 25 1 (.int (x7 + 1))).bind fun w9 =>
    if v1 = 59 then (
      some (.inl 1, w9)
    ) else (
      some (.inl 0, w9)
    )) (fun q6 =>
    some (.inr q6, w1))
theorem bX6_goesOn_22 {p : Program} {l : Launch} {e : Env} {s : State} {m : MethodId} {args : Array Value} {below : List Frame} {meth : Method} {c : Code} {H : Heap} {locs : List Loc} {ls : Array Slot} {G : gE} {A : Nat → Prop} {w0 : WH} (B : gB G RX6 cX6_goesOn 2 (some .boolean) p s m args meth c) (hT : ∀ x ∈ c.exceptionTable.toList, False) (hl0 : l.stackTraces = false) {v0 : Nat} {v1 : Int32} {s0 : Nat} {s1 : Int32} {w : WH} {r : ((Sum (Int32) (Nat × Nat)) × WH)} (h : fX6_goesOn_b22 v0 v1 s0 s1 w = some r)   (hR : RepH G A w H) (hS : Cu A s w0 w H locs) (hl : lv_has ls 2 [(0, .ref v0), (1, .int v1)]) : W p l e (hRm 5 112 w0) s m args below meth c H locs (wC w0 - wC w) (wS w0 - wS w) (hZX below args s G A w0 (oI r.1) r.2) (F0 m 22 ls [.int s1, .ref s0]) := by
  have B0 := B
  obtain ⟨hx, hb, hml, hown, hts, hr, hlk, hK⟩ := B0
  unfold fX6_goesOn_b22 at h
  refine lv_iconst (v := 1) hx hb dX6_goesOn_22 (by decide) ?_
  replace h := bo_o h
  obtain ⟨_, e2, h⟩ := h
  replace h := b2_o h
  obtain ⟨o3, w1, e4, h⟩ := h
  refine h_callVX 2 (ci := 25) (As := [.int s1, .int 1]) (rest := []) (o := oV o3) (w' := w1) hx hb hml hown hts hK hR hS (Nat.le_refl _) (Nat.le_refl _) rfl e2 (mX6_require hl0 e4) (lw_V q745 q747 qs4 q138 q748) (by decide +kernel) (Nat.le_of_ble_eq_true rfl) (Nat.le_of_ble_eq_true rfl) rfl hl.1 (Nat.le_of_ble_eq_true rfl) dX6_goesOn_23 rfl (fun v9 hv9 H locs hR hS => ?_) (fun E9 q9 hq9 H locs hR hS hce => ?_)
  · cases o3 with
    | inr q => cases hv9
    | inl x5 =>
      cases hv9
      replace h := exl_o h
      refine W.eq (g2 := F0 m 26 ls []) rfl ?_
      refine lv_aload_n hx hb dX6_goesOn_26 rfl (lv_at hl 0 rfl) ?_
      refine lv_dup hx hb dX6_goesOn_27 rfl ?_
      replace h := bo_o h
      obtain ⟨x7, e8, h⟩ := h
      refine h_get (ci := 25) (k := 1) (v := .int x7) hx hb hts hown hK hR in_X6 rfl (by decide) (fun _ _ => rfl) q712 (fun _ h9 => h9) (gI_o e8) dX6_goesOn_28 ?_
      refine lv_iconst (v := 1) hx hb dX6_goesOn_31 (by decide) ?_
      refine lv_iadd hx hb dX6_goesOn_32 ?_
      replace h := bo_o h
      obtain ⟨w9, e10, h⟩ := h
      refine h_put (ci := 25) (k := 1) (ty := tyX6 1) hx hb hts hown hK hR hS in_X6 tyX6 tyX6_ok nmX6 rfl (by decide) q712 (fun _ h9 => h9) rfl (tyX6_ok 1 (by decide)) rfl rfl e10 dX6_goesOn_33 (fun H locs hR hS => ?_)
      refine lv_iload_n hx hb dX6_goesOn_36 rfl (lv_at hl 1 rfl) ?_
      refine lv_bipush (v := 59) hx hb dX6_goesOn_37 (by decide) ?_
      refine lv_icmp_ne (tgt := 46) hx hb dX6_goesOn_39 (by decide) (fun c11 => ?_) (fun c11 => ?_)
      · replace h := if_o c11 h
        refine lv_iconst (v := 0) hx hb dX6_goesOn_46 (by decide) ?_
        have eR := Option.some.inj h
        subst eR
        exact h_zfinX hx hb hr hlk (by show narrow .boolean (.int 0) = .int 0; decide) hR hS dX6_goesOn_47
      · replace h := it_o c11 h
        refine lv_iconst (v := 1) hx hb dX6_goesOn_42 (by decide) ?_
        refine lv_goto (tgt := 47) hx hb dX6_goesOn_43 (by decide) ?_
        have eR := Option.some.inj h
        subst eR
        exact h_zfinX hx hb hr hlk (by show narrow .boolean (.int 1) = .int 1; decide) hR hS dX6_goesOn_47
  · cases o3 with
    | inl q => cases hq9
    | inr q6 =>
      cases hq9
      replace h := exr_o h
      have eR := Option.some.inj h
      subst eR
      exact h_out hT hlk hR hS hce
noncomputable def fX6_goesOn_b17 (v0 : Nat) (v1 : Int32) (s0 : Nat) (w : WH) : Option (((Sum (Int32) (Nat × Nat)) × WH)) :=
  fX6_goesOn_b22 v0 v1 s0 1 w
theorem bX6_goesOn_17 {p : Program} {l : Launch} {e : Env} {s : State} {m : MethodId} {args : Array Value} {below : List Frame} {meth : Method} {c : Code} {H : Heap} {locs : List Loc} {ls : Array Slot} {G : gE} {A : Nat → Prop} {w0 : WH} (B : gB G RX6 cX6_goesOn 2 (some .boolean) p s m args meth c) (hT : ∀ x ∈ c.exceptionTable.toList, False) (hl0 : l.stackTraces = false) {v0 : Nat} {v1 : Int32} {s0 : Nat} {w : WH} {r : ((Sum (Int32) (Nat × Nat)) × WH)} (h : fX6_goesOn_b17 v0 v1 s0 w = some r)   (hR : RepH G A w H) (hS : Cu A s w0 w H locs) (hl : lv_has ls 2 [(0, .ref v0), (1, .int v1)]) : W p l e (hRm 5 112 w0) s m args below meth c H locs (wC w0 - wC w) (wS w0 - wS w) (hZX below args s G A w0 (oI r.1) r.2) (F0 m 17 ls [.ref s0]) := by
  have B0 := B
  obtain ⟨hx, hb, hml, hown, hts, hr, hlk, hK⟩ := B0
  unfold fX6_goesOn_b17 at h
  refine lv_iconst (v := 1) hx hb dX6_goesOn_17 (by decide) ?_
  refine lv_goto (tgt := 22) hx hb dX6_goesOn_18 (by decide) ?_
  exact bX6_goesOn_22 B hT hl0 h  hR hS (lv_sub hl [0, 1] rfl)
noncomputable def fX6_goesOn (v0 : Nat) (w : WH) : Option (((Sum (Int32) (Nat × Nat)) × WH)) :=
  (hIs w v0 25).bind fun _ =>
  b2_ (fX6_peek v0 w) fun x4 w1 =>
  if x4 = 59 then (
    fX6_goesOn_b17 v0 x4 v0 w1
  ) else (
    if x4 = (-1) then (
      fX6_goesOn_b17 v0 x4 v0 w1
    ) else (
      fX6_goesOn_b22 v0 x4 v0 0 w1
    )
  )
theorem bX6_goesOn_0 {p : Program} {l : Launch} {e : Env} {s : State} {m : MethodId} {args : Array Value} {below : List Frame} {meth : Method} {c : Code} {H : Heap} {locs : List Loc} {ls : Array Slot} {G : gE} {A : Nat → Prop} {w0 : WH} (B : gB G RX6 cX6_goesOn 2 (some .boolean) p s m args meth c) (hT : ∀ x ∈ c.exceptionTable.toList, False) (hl0 : l.stackTraces = false) {v0 : Nat} {w : WH} {r : ((Sum (Int32) (Nat × Nat)) × WH)} (h : fX6_goesOn v0 w = some r)   (hR : RepH G A w H) (hS : Cu A s w0 w H locs) (hl : lv_has ls 2 [(0, .ref v0)]) : W p l e (hRm 5 112 w0) s m args below meth c H locs (wC w0 - wC w) (wS w0 - wS w) (hZX below args s G A w0 (oI r.1) r.2) (F0 m 0 ls []) := by
  have B0 := B
  obtain ⟨hx, hb, hml, hown, hts, hr, hlk, hK⟩ := B0
  unfold fX6_goesOn at h
  refine lv_aload_n hx hb dX6_goesOn_0 rfl (lv_at hl 0 rfl) ?_
  replace h := bo_o h
  obtain ⟨_, e2, h⟩ := h
  replace h := b2_o h
  obtain ⟨x4, w1, e3, h⟩ := h
  refine h_callV 0 (ci := 25) (As := []) (rest := []) (v := (some (.int x4))) (w' := w1) (st1 := [.int x4]) hx hb hml hown hts hK hR hS (Nat.le_refl _) (Nat.le_refl _) rfl e2 (mX6_peek e3) (lw_V q736 q738 qs3 q138 q739) (by decide +kernel) (Nat.le_of_ble_eq_true rfl) (Nat.le_of_ble_eq_true rfl) rfl hl.1 (Nat.le_of_ble_eq_true rfl) dX6_goesOn_1 rfl rfl (fun H locs hR hS => ?_)
  refine lv_istore_n (lv' := [(1, .int x4), (0, .ref v0)]) hx hb dX6_goesOn_4 rfl hl (by decide) rfl (fun ls hl => ?_)
  refine lv_aload_n hx hb dX6_goesOn_5 rfl (lv_at hl 1 rfl) ?_
  refine lv_iload_n hx hb dX6_goesOn_6 rfl (lv_at hl 0 rfl) ?_
  refine lv_bipush (v := 59) hx hb dX6_goesOn_7 (by decide) ?_
  refine lv_icmp_eq (tgt := 17) hx hb dX6_goesOn_9 (by decide) (fun c5 => ?_) (fun c5 => ?_)
  · replace h := it_o c5 h
    exact bX6_goesOn_17 B hT hl0 h  hR hS (lv_sub hl [1, 0] rfl)
  · replace h := if_o c5 h
    refine lv_iload_n hx hb dX6_goesOn_12 rfl (lv_at hl 0 rfl) ?_
    refine lv_iconst (v := (-1)) hx hb dX6_goesOn_13 (by decide) ?_
    refine lv_icmp_ne (tgt := 21) hx hb dX6_goesOn_14 (by decide) (fun c6 => ?_) (fun c6 => ?_)
    · replace h := if_o c6 h
      refine lv_iconst (v := 0) hx hb dX6_goesOn_21 (by decide) ?_
      exact bX6_goesOn_22 B hT hl0 h  hR hS (lv_sub hl [1, 0] rfl)
    · replace h := it_o c6 h
      exact bX6_goesOn_17 B hT hl0 h  hR hS (lv_sub hl [1, 0] rfl)
theorem mX6_goesOn {l : Launch} {G : gE} {A : Nat → Prop} {v0 : Nat} {w : WH} {r : ((Sum (Int32) (Nat × Nat)) × WH)} (hl0 : l.stackTraces = false) (h : fX6_goesOn v0 w = some r) : hMX l G A yX6_goesOn cX6_goesOn 2 (some .boolean) 5 112 [.ref v0] w (oI r.1) r.2 :=
  h_ofX (by decide +kernel) (Nat.le_of_ble_eq_true rfl) (fun p e s m args below meth c ls B hnm hT hR hS hl => bX6_goesOn_0 B hT hl0 h hR hS hl)
noncomputable def fJ9_isLatin1 (v0 : Nat) (w : WH) : Option ((Int32 × WH)) :=
  if (1 : Int32) = 0 then (
    some (0, w)
  ) else (
    (gI w v0 16 1).bind fun x2 =>
    if x2 = 0 then (
      some (1, w)
    ) else (
      some (0, w)
    )
  )
theorem bJ9_isLatin1_0 {p : Program} {l : Launch} {e : Env} {s : State} {m : MethodId} {args : Array Value} {below : List Frame} {meth : Method} {c : Code} {H : Heap} {locs : List Loc} {ls : Array Slot} {G : gE} {A : Nat → Prop} {w0 : WH} (B : gB G RJ9 cJ9_isLatin1 1 (some .boolean) p s m args meth c) {v0 : Nat} {w : WH} {r : (Int32 × WH)} (h : fJ9_isLatin1 v0 w = some r)   (hR : RepH G A w H) (hS : Cu A s w0 w H locs) (hl : lv_has ls 1 [(0, .ref v0)]) : W p l e (hRm 0 0 w0) s m args below meth c H locs (wC w0 - wC w) (wS w0 - wS w) (hZ below args s G A w0 (some (.int r.1)) r.2) (F0 m 0 ls []) := by
  have B0 := B
  obtain ⟨hx, hb, hml, hown, hts, hr, hlk, hK⟩ := B0
  unfold fJ9_isLatin1 at h
  refine h_gets (v := .int 1) hx hb hts hown hR hS (hK.2.2.2.1 _ (List.mem_of_getElem? (i := 0) rfl)) q357 (fun _ h9 => h9) dJ9_isLatin1_0 ?_
  refine lv_if_eq (tgt := 17) hx hb dJ9_isLatin1_3 (by decide) (fun c1 => ?_) (fun c1 => ?_)
  · replace h := it_o c1 h
    refine lv_iconst (v := 0) hx hb dJ9_isLatin1_17 (by decide) ?_
    have eR := Option.some.inj h
    subst eR
    exact h_zfin hx hb hr hlk (by show narrow .boolean (.int 0) = .int 0; decide) hR hS dJ9_isLatin1_18
  · replace h := if_o c1 h
    refine lv_aload_n hx hb dJ9_isLatin1_6 rfl (lv_at hl 0 rfl) ?_
    replace h := bo_o h
    obtain ⟨x2, e3, h⟩ := h
    refine h_getS (k := 1) (v := .int x2) hx hb hts hown hK hR hS (by decide) q499 (gI_o e3) dJ9_isLatin1_7 ?_
    refine lv_if_ne (tgt := 17) hx hb dJ9_isLatin1_10 (by decide) (fun c4 => ?_) (fun c4 => ?_)
    · replace h := if_o c4 h
      refine lv_iconst (v := 0) hx hb dJ9_isLatin1_17 (by decide) ?_
      have eR := Option.some.inj h
      subst eR
      exact h_zfin hx hb hr hlk (by show narrow .boolean (.int 0) = .int 0; decide) hR hS dJ9_isLatin1_18
    · replace h := it_o c4 h
      refine lv_iconst (v := 1) hx hb dJ9_isLatin1_13 (by decide) ?_
      refine lv_goto (tgt := 18) hx hb dJ9_isLatin1_14 (by decide) ?_
      have eR := Option.some.inj h
      subst eR
      exact h_zfin hx hb hr hlk (by show narrow .boolean (.int 1) = .int 1; decide) hR hS dJ9_isLatin1_18
theorem mJ9_isLatin1 {l : Launch} {G : gE} {A : Nat → Prop} {v0 : Nat} {w : WH} {r : (Int32 × WH)} (h : fJ9_isLatin1 v0 w = some r) : hM l G A yJ9_isLatin1 cJ9_isLatin1 1 (some .boolean) 0 0 [.ref v0] w (some (.int r.1)) r.2 :=
  h_of (by decide +kernel) (Nat.le_of_ble_eq_true rfl) (fun p e s m args below meth c ls B hnm hR hS hl => bJ9_isLatin1_0 B h hR hS hl)
noncomputable def fJ11_signedHashCode_b8 (v0 : Int32) (v1 : Nat) (v4 : Int32) (v5 : Int32) (w : WH) : Option (Sum (Int32 × Int32 × WH) ((Int32 × WH))) :=
  if v4 ≤ v5 then (
    some (.inr (v0, w))
  ) else (
    (ldI w v1 2 v5).bind fun x2 =>
    nm_ ((31 * v0) + (x2 &&& 255)) fun x4 =>
    some (.inl (x4, v5 + 1, w))
  )
theorem bJ11_signedHashCode_8 {p : Program} {l : Launch} {e : Env} {s : State} {m : MethodId} {args : Array Value} {below : List Frame} {meth : Method} {c : Code} {H : Heap} {locs : List Loc} {ls : Array Slot} {G : gE} {A : Nat → Prop} {w0 : WH} (B : gB G RJ11 cJ11_signedHashCode 6 (some .int) p s m args meth c) {v0 : Int32} {v1 : Nat} {v4 : Int32} {v5 : Int32} {w : WH} {x : Sum (Int32 × Int32 × WH) ((Int32 × WH))} {r : (Int32 × WH)} (h : fJ11_signedHashCode_b8 v0 v1 v4 v5 w = some x)  (k8 : ∀ (v0' : Int32) (v5' : Int32) (w' : WH), x = (.inl (v0', v5', w')) → ∀ (H : Heap) (locs : List Loc) (ls : Array Slot), RepH G A w' H → Cu A s w0 w' H locs → lv_has ls 6 [(0, .int v0'), (1, .ref v1), (4, .int v4), (5, .int v5')] → W p l e (hRm 0 0 w0) s m args below meth c H locs (wC w0 - wC w') (wS w0 - wS w') (hZ below args s G A w0 (some (.int r.1)) r.2) (F0 m 8 ls [])) (kR : ∀ q, x = (.inr q) → q = r) (hR : RepH G A w H) (hS : Cu A s w0 w H locs) (hl : lv_has ls 6 [(0, .int v0), (1, .ref v1), (4, .int v4), (5, .int v5)]) : W p l e (hRm 0 0 w0) s m args below meth c H locs (wC w0 - wC w) (wS w0 - wS w) (hZ below args s G A w0 (some (.int r.1)) r.2) (F0 m 8 ls []) := by
  have B0 := B
  obtain ⟨hx, hb, hml, hown, hts, hr, hlk, hK⟩ := B0
  unfold fJ11_signedHashCode_b8 at h
  refine lv_iload hx hb dJ11_signedHashCode_8 (lv_at hl 3 rfl) ?_
  refine lv_iload hx hb dJ11_signedHashCode_10 (lv_at hl 2 rfl) ?_
  refine lv_icmp_ge (tgt := 35) hx hb dJ11_signedHashCode_12 (by decide) (fun c1 => ?_) (fun c1 => ?_)
  · replace h := it_o c1 h
    refine lv_iload_n hx hb dJ11_signedHashCode_35 rfl (lv_at hl 0 rfl) ?_
    have eR := kR _ (Option.some.inj h).symm
    subst eR
    exact h_ifin hx hb hr hlk hR hS dJ11_signedHashCode_36
  · replace h := if_o c1 h
    refine lv_bipush (v := 31) hx hb dJ11_signedHashCode_15 (by decide) ?_
    refine lv_iload_n hx hb dJ11_signedHashCode_17 rfl (lv_at hl 0 rfl) ?_
    refine lv_imul hx hb dJ11_signedHashCode_18 ?_
    refine lv_aload_n hx hb dJ11_signedHashCode_19 rfl (lv_at hl 1 rfl) ?_
    refine lv_iload hx hb dJ11_signedHashCode_20 (lv_at hl 3 rfl) ?_
    replace h := bo_o h
    obtain ⟨x2, e3, h⟩ := h
    refine h_bald hx hb hK hR hS e3 dJ11_signedHashCode_22 ?_
    refine lv_sipush (v := 255) hx hb dJ11_signedHashCode_23 (by decide) ?_
    refine lv_iand hx hb dJ11_signedHashCode_26 ?_
    refine lv_iadd hx hb dJ11_signedHashCode_27 ?_
    replace h := nm_o h
    obtain ⟨x4, e5, h⟩ := h
    refine lv_istore_n (lv' := [(0, .int x4), (1, .ref v1), (4, .int v4), (5, .int v5)]) hx hb dJ11_signedHashCode_28 rfl hl (by decide) (by subst e5; rfl) (fun ls hl => ?_)
    refine lv_iinc (v := v5 + 1) (lv' := [(5, .int (v5 + 1)), (0, .int x4), (1, .ref v1), (4, .int v4)]) hx hb dJ11_signedHashCode_29 hl (k := 3) rfl rfl (by decide) rfl (fun ls hl => ?_)
    refine lv_goto (tgt := 8) hx hb dJ11_signedHashCode_32 (by decide) ?_
    exact k8 _ _ _ (Option.some.inj h).symm H locs ls hR hS (lv_sub hl [1, 2, 3, 0] rfl)
noncomputable def fJ11_signedHashCode_l8 (v0 : Int32) (v1 : Nat) (v4 : Int32) (v5 : Int32) (w : WH) : Option ((Int32 × WH)) := whileO (fun q => fJ11_signedHashCode_b8 q.1 v1 v4 q.2.1 q.2.2) (v0, v5, w)
theorem lJ11_signedHashCode_8 {p : Program} {l : Launch} {e : Env} {s : State} {m : MethodId} {args : Array Value} {below : List Frame} {meth : Method} {c : Code} {G : gE} {A : Nat → Prop} {w0 : WH} (B : gB G RJ11 cJ11_signedHashCode 6 (some .int) p s m args meth c) {v1 : Nat} {v4 : Int32} {r : (Int32 × WH)}   : ∀ (v0 : Int32) (v5 : Int32) (w : WH), fJ11_signedHashCode_l8 v0 v1 v4 v5 w = some r → ∀ (H : Heap) (locs : List Loc) (ls : Array Slot), RepH G A w H → Cu A s w0 w H locs → lv_has ls 6 [(0, .int v0), (1, .ref v1), (4, .int v4), (5, .int v5)] → W p l e (hRm 0 0 w0) s m args below meth c H locs (wC w0 - wC w) (wS w0 - wS w) (hZ below args s G A w0 (some (.int r.1)) r.2) (F0 m 8 ls []) := by
  intro v0 v5 w h
  refine wh_walk (body := (fun q => fJ11_signedHashCode_b8 q.1 v1 v4 q.2.1 q.2.2)) (P := (fun q : (Int32 × Int32 × WH) => ∀ (H : Heap) (locs : List Loc) (ls : Array Slot), RepH G A (q.2.2) H → Cu A s w0 (q.2.2) H locs → lv_has ls 6 [(0, .int (q.1)), (1, .ref v1), (4, .int v4), (5, .int (q.2.1))] → W p l e (hRm 0 0 w0) s m args below meth c H locs (wC w0 - wC (q.2.2)) (wS w0 - wS (q.2.2)) (hZ below args s G A w0 (some (.int r.1)) r.2) (F0 m 8 ls []))) (r := r) ?_ (v0, v5, w) h
  intro q y hy hL hr H locs ls hR hS hl
  exact bJ11_signedHashCode_8 (r := r) B hy (fun a0 a1 a2 e => hL (a0, a1, a2) e) (fun q e => hr q e) hR hS hl
noncomputable def fJ11_signedHashCode (v0 : Int32) (v1 : Nat) (v2 : Int32) (v3 : Int32) (w : WH) : Option ((Int32 × WH)) :=
  nm_ (v2 + v3) fun x1 =>
  fJ11_signedHashCode_l8 v0 v1 x1 v2 w
theorem bJ11_signedHashCode_0 {p : Program} {l : Launch} {e : Env} {s : State} {m : MethodId} {args : Array Value} {below : List Frame} {meth : Method} {c : Code} {H : Heap} {locs : List Loc} {ls : Array Slot} {G : gE} {A : Nat → Prop} {w0 : WH} (B : gB G RJ11 cJ11_signedHashCode 6 (some .int) p s m args meth c) {v0 : Int32} {v1 : Nat} {v2 : Int32} {v3 : Int32} {w : WH} {r : (Int32 × WH)} (h : fJ11_signedHashCode v0 v1 v2 v3 w = some r)   (hR : RepH G A w H) (hS : Cu A s w0 w H locs) (hl : lv_has ls 6 [(0, .int v0), (1, .ref v1), (2, .int v2), (3, .int v3)]) : W p l e (hRm 0 0 w0) s m args below meth c H locs (wC w0 - wC w) (wS w0 - wS w) (hZ below args s G A w0 (some (.int r.1)) r.2) (F0 m 0 ls []) := by
  have B0 := B
  obtain ⟨hx, hb, hml, hown, hts, hr, hlk, hK⟩ := B0
  unfold fJ11_signedHashCode at h
  refine lv_iload_n hx hb dJ11_signedHashCode_0 rfl (lv_at hl 2 rfl) ?_
  refine lv_iload_n hx hb dJ11_signedHashCode_1 rfl (lv_at hl 3 rfl) ?_
  refine lv_iadd hx hb dJ11_signedHashCode_2 ?_
  replace h := nm_o h
  obtain ⟨x1, e2, h⟩ := h
  refine lv_istore (lv' := [(4, .int x1), (0, .int v0), (1, .ref v1), (2, .int v2), (3, .int v3)]) hx hb dJ11_signedHashCode_3 hl (by decide) (by subst e2; rfl) (fun ls hl => ?_)
  refine lv_iload_n hx hb dJ11_signedHashCode_5 rfl (lv_at hl 3 rfl) ?_
  refine lv_istore (lv' := [(5, .int v2), (4, .int x1), (0, .int v0), (1, .ref v1), (2, .int v2), (3, .int v3)]) hx hb dJ11_signedHashCode_6 hl (by decide) rfl (fun ls hl => ?_)
  exact lJ11_signedHashCode_8 B _ _ _ h H locs ls hR hS (lv_sub hl [2, 3, 1, 0] rfl)
theorem mJ11_signedHashCode {l : Launch} {G : gE} {A : Nat → Prop} {v0 : Int32} {v1 : Nat} {v2 : Int32} {v3 : Int32} {w : WH} {r : (Int32 × WH)} (h : fJ11_signedHashCode v0 v1 v2 v3 w = some r) : hM l G A yJ11_signedHashCode cJ11_signedHashCode 6 (some .int) 0 0 [.int v0, .ref v1, .int v2, .int v3] w (some (.int r.1)) r.2 :=
  h_of (by decide +kernel) (Nat.le_of_ble_eq_true rfl) (fun p e s m args below meth c ls B hnm hR hS hl => bJ11_signedHashCode_0 B h hR hS hl)
noncomputable def fJ11_hashCode_2_b8 (v0 : Int32) (v1 : Nat) (v4 : Int32) (v5 : Int32) (w : WH) : Option (Sum (Int32 × Int32 × WH) ((Int32 × WH))) :=
  if v4 ≤ v5 then (
    some (.inr (v0, w))
  ) else (
    (ldI w v1 2 v5).bind fun x2 =>
    nm_ ((31 * v0) + x2) fun x4 =>
    some (.inl (x4, v5 + 1, w))
  )
theorem bJ11_hashCode_2_8 {p : Program} {l : Launch} {e : Env} {s : State} {m : MethodId} {args : Array Value} {below : List Frame} {meth : Method} {c : Code} {H : Heap} {locs : List Loc} {ls : Array Slot} {G : gE} {A : Nat → Prop} {w0 : WH} (B : gB G RJ11 cJ11_hashCode_2 6 (some .int) p s m args meth c) {v0 : Int32} {v1 : Nat} {v4 : Int32} {v5 : Int32} {w : WH} {x : Sum (Int32 × Int32 × WH) ((Int32 × WH))} {r : (Int32 × WH)} (h : fJ11_hashCode_2_b8 v0 v1 v4 v5 w = some x)  (k8 : ∀ (v0' : Int32) (v5' : Int32) (w' : WH), x = (.inl (v0', v5', w')) → ∀ (H : Heap) (locs : List Loc) (ls : Array Slot), RepH G A w' H → Cu A s w0 w' H locs → lv_has ls 6 [(0, .int v0'), (1, .ref v1), (4, .int v4), (5, .int v5')] → W p l e (hRm 0 0 w0) s m args below meth c H locs (wC w0 - wC w') (wS w0 - wS w') (hZ below args s G A w0 (some (.int r.1)) r.2) (F0 m 8 ls [])) (kR : ∀ q, x = (.inr q) → q = r) (hR : RepH G A w H) (hS : Cu A s w0 w H locs) (hl : lv_has ls 6 [(0, .int v0), (1, .ref v1), (4, .int v4), (5, .int v5)]) : W p l e (hRm 0 0 w0) s m args below meth c H locs (wC w0 - wC w) (wS w0 - wS w) (hZ below args s G A w0 (some (.int r.1)) r.2) (F0 m 8 ls []) := by
  have B0 := B
  obtain ⟨hx, hb, hml, hown, hts, hr, hlk, hK⟩ := B0
  unfold fJ11_hashCode_2_b8 at h
  refine lv_iload hx hb dJ11_hashCode_2_8 (lv_at hl 3 rfl) ?_
  refine lv_iload hx hb dJ11_hashCode_2_10 (lv_at hl 2 rfl) ?_
  refine lv_icmp_ge (tgt := 31) hx hb dJ11_hashCode_2_12 (by decide) (fun c1 => ?_) (fun c1 => ?_)
  · replace h := it_o c1 h
    refine lv_iload_n hx hb dJ11_hashCode_2_31 rfl (lv_at hl 0 rfl) ?_
    have eR := kR _ (Option.some.inj h).symm
    subst eR
    exact h_ifin hx hb hr hlk hR hS dJ11_hashCode_2_32
  · replace h := if_o c1 h
    refine lv_bipush (v := 31) hx hb dJ11_hashCode_2_15 (by decide) ?_
    refine lv_iload_n hx hb dJ11_hashCode_2_17 rfl (lv_at hl 0 rfl) ?_
    refine lv_imul hx hb dJ11_hashCode_2_18 ?_
    refine lv_aload_n hx hb dJ11_hashCode_2_19 rfl (lv_at hl 1 rfl) ?_
    refine lv_iload hx hb dJ11_hashCode_2_20 (lv_at hl 3 rfl) ?_
    replace h := bo_o h
    obtain ⟨x2, e3, h⟩ := h
    refine h_bald hx hb hK hR hS e3 dJ11_hashCode_2_22 ?_
    refine lv_iadd hx hb dJ11_hashCode_2_23 ?_
    replace h := nm_o h
    obtain ⟨x4, e5, h⟩ := h
    refine lv_istore_n (lv' := [(0, .int x4), (1, .ref v1), (4, .int v4), (5, .int v5)]) hx hb dJ11_hashCode_2_24 rfl hl (by decide) (by subst e5; rfl) (fun ls hl => ?_)
    refine lv_iinc (v := v5 + 1) (lv' := [(5, .int (v5 + 1)), (0, .int x4), (1, .ref v1), (4, .int v4)]) hx hb dJ11_hashCode_2_25 hl (k := 3) rfl rfl (by decide) rfl (fun ls hl => ?_)
    refine lv_goto (tgt := 8) hx hb dJ11_hashCode_2_28 (by decide) ?_
    exact k8 _ _ _ (Option.some.inj h).symm H locs ls hR hS (lv_sub hl [1, 2, 3, 0] rfl)
noncomputable def fJ11_hashCode_2_l8 (v0 : Int32) (v1 : Nat) (v4 : Int32) (v5 : Int32) (w : WH) : Option ((Int32 × WH)) := whileO (fun q => fJ11_hashCode_2_b8 q.1 v1 v4 q.2.1 q.2.2) (v0, v5, w)
theorem lJ11_hashCode_2_8 {p : Program} {l : Launch} {e : Env} {s : State} {m : MethodId} {args : Array Value} {below : List Frame} {meth : Method} {c : Code} {G : gE} {A : Nat → Prop} {w0 : WH} (B : gB G RJ11 cJ11_hashCode_2 6 (some .int) p s m args meth c) {v1 : Nat} {v4 : Int32} {r : (Int32 × WH)}   : ∀ (v0 : Int32) (v5 : Int32) (w : WH), fJ11_hashCode_2_l8 v0 v1 v4 v5 w = some r → ∀ (H : Heap) (locs : List Loc) (ls : Array Slot), RepH G A w H → Cu A s w0 w H locs → lv_has ls 6 [(0, .int v0), (1, .ref v1), (4, .int v4), (5, .int v5)] → W p l e (hRm 0 0 w0) s m args below meth c H locs (wC w0 - wC w) (wS w0 - wS w) (hZ below args s G A w0 (some (.int r.1)) r.2) (F0 m 8 ls []) := by
  intro v0 v5 w h
  refine wh_walk (body := (fun q => fJ11_hashCode_2_b8 q.1 v1 v4 q.2.1 q.2.2)) (P := (fun q : (Int32 × Int32 × WH) => ∀ (H : Heap) (locs : List Loc) (ls : Array Slot), RepH G A (q.2.2) H → Cu A s w0 (q.2.2) H locs → lv_has ls 6 [(0, .int (q.1)), (1, .ref v1), (4, .int v4), (5, .int (q.2.1))] → W p l e (hRm 0 0 w0) s m args below meth c H locs (wC w0 - wC (q.2.2)) (wS w0 - wS (q.2.2)) (hZ below args s G A w0 (some (.int r.1)) r.2) (F0 m 8 ls []))) (r := r) ?_ (v0, v5, w) h
  intro q y hy hL hr H locs ls hR hS hl
  exact bJ11_hashCode_2_8 (r := r) B hy (fun a0 a1 a2 e => hL (a0, a1, a2) e) (fun q e => hr q e) hR hS hl
noncomputable def fJ11_hashCode_2 (v0 : Int32) (v1 : Nat) (v2 : Int32) (v3 : Int32) (w : WH) : Option ((Int32 × WH)) :=
  nm_ (v2 + v3) fun x1 =>
  fJ11_hashCode_2_l8 v0 v1 x1 v2 w
theorem bJ11_hashCode_2_0 {p : Program} {l : Launch} {e : Env} {s : State} {m : MethodId} {args : Array Value} {below : List Frame} {meth : Method} {c : Code} {H : Heap} {locs : List Loc} {ls : Array Slot} {G : gE} {A : Nat → Prop} {w0 : WH} (B : gB G RJ11 cJ11_hashCode_2 6 (some .int) p s m args meth c) {v0 : Int32} {v1 : Nat} {v2 : Int32} {v3 : Int32} {w : WH} {r : (Int32 × WH)} (h : fJ11_hashCode_2 v0 v1 v2 v3 w = some r)   (hR : RepH G A w H) (hS : Cu A s w0 w H locs) (hl : lv_has ls 6 [(0, .int v0), (1, .ref v1), (2, .int v2), (3, .int v3)]) : W p l e (hRm 0 0 w0) s m args below meth c H locs (wC w0 - wC w) (wS w0 - wS w) (hZ below args s G A w0 (some (.int r.1)) r.2) (F0 m 0 ls []) := by
  have B0 := B
  obtain ⟨hx, hb, hml, hown, hts, hr, hlk, hK⟩ := B0
  unfold fJ11_hashCode_2 at h
  refine lv_iload_n hx hb dJ11_hashCode_2_0 rfl (lv_at hl 2 rfl) ?_
  refine lv_iload_n hx hb dJ11_hashCode_2_1 rfl (lv_at hl 3 rfl) ?_
  refine lv_iadd hx hb dJ11_hashCode_2_2 ?_
  replace h := nm_o h
  obtain ⟨x1, e2, h⟩ := h
  refine lv_istore (lv' := [(4, .int x1), (0, .int v0), (1, .ref v1), (2, .int v2), (3, .int v3)]) hx hb dJ11_hashCode_2_3 hl (by decide) (by subst e2; rfl) (fun ls hl => ?_)
  refine lv_iload_n hx hb dJ11_hashCode_2_5 rfl (lv_at hl 3 rfl) ?_
  refine lv_istore (lv' := [(5, .int v2), (4, .int x1), (0, .int v0), (1, .ref v1), (2, .int v2), (3, .int v3)]) hx hb dJ11_hashCode_2_6 hl (by decide) rfl (fun ls hl => ?_)
  exact lJ11_hashCode_2_8 B _ _ _ h H locs ls hR hS (lv_sub hl [2, 3, 1, 0] rfl)
theorem mJ11_hashCode_2 {l : Launch} {G : gE} {A : Nat → Prop} {v0 : Int32} {v1 : Nat} {v2 : Int32} {v3 : Int32} {w : WH} {r : (Int32 × WH)} (h : fJ11_hashCode_2 v0 v1 v2 v3 w = some r) : hM l G A yJ11_hashCode_2 cJ11_hashCode_2 6 (some .int) 0 0 [.int v0, .ref v1, .int v2, .int v3] w (some (.int r.1)) r.2 :=
  h_of (by decide +kernel) (Nat.le_of_ble_eq_true rfl) (fun p e s m args below meth c ls B hnm hR hS hl => bJ11_hashCode_2_0 B h hR hS hl)
noncomputable def fJ11_vectorizedHashCode_b116 (v0 : Nat) (v1 : Int32) (v2 : Int32) (v3 : Int32) (w : WH) : Option ((Int32 × WH)) :=
  none
theorem bJ11_vectorizedHashCode_116 {p : Program} {l : Launch} {e : Env} {s : State} {m : MethodId} {args : Array Value} {below : List Frame} {meth : Method} {c : Code} {H : Heap} {locs : List Loc} {ls : Array Slot} {G : gE} {A : Nat → Prop} {w0 : WH} (B : gB G RJ11 cJ11_vectorizedHashCode 5 (some .int) p s m args meth c) {v0 : Nat} {v1 : Int32} {v2 : Int32} {v3 : Int32} {w : WH} {r : (Int32 × WH)} (h : fJ11_vectorizedHashCode_b116 v0 v1 v2 v3 w = some r)   (hR : RepH G A w H) (hS : Cu A s w0 w H locs) (hl : lv_has ls 5 [(0, .ref v0), (1, .int v1), (2, .int v2), (3, .int v3)]) : W p l e (hRm 12 269 w0) s m args below meth c H locs (wC w0 - wC w) (wS w0 - wS w) (hZ below args s G A w0 (some (.int r.1)) r.2) (F0 m 116 ls []) := by
  have B0 := B
  obtain ⟨hx, hb, hml, hown, hts, hr, hlk, hK⟩ := B0
  unfold fJ11_vectorizedHashCode_b116 at h
  refine lv_iload_n hx hb dJ11_vectorizedHashCode_116 rfl (lv_at hl 3 rfl) ?_
  refine lv_aload_n hx hb dJ11_vectorizedHashCode_117 rfl (lv_at hl 0 rfl) ?_
  exact (nomatch h)
noncomputable def fJ11_vectorizedHashCode (v0 : Nat) (v1 : Int32) (v2 : Int32) (v3 : Int32) (v4 : Int32) (w : WH) : Option ((Int32 × WH)) :=
  if v4 = 4 then (
    (hTa w v0 2).bind fun _ =>
    b2_ (fJ11_signedHashCode v3 v0 v1 v2 w) fun x5 w3 =>
    some (x5, w3)
  ) else (
    if v4 = 5 then (
      none
    ) else (
      if v4 = 8 then (
        (hTa w v0 2).bind fun _ =>
        b2_ (fJ11_hashCode_2 v3 v0 v1 v2 w) fun x12 w10 =>
        some (x12, w10)
      ) else (
        if v4 = 9 then (
          none
        ) else (
          if v4 = 10 then (
            fJ11_vectorizedHashCode_b116 v0 v1 v2 v3 w
          ) else (
            none
          )
        )
      )
    )
  )
theorem bJ11_vectorizedHashCode_0 {p : Program} {l : Launch} {e : Env} {s : State} {m : MethodId} {args : Array Value} {below : List Frame} {meth : Method} {c : Code} {H : Heap} {locs : List Loc} {ls : Array Slot} {G : gE} {A : Nat → Prop} {w0 : WH} (B : gB G RJ11 cJ11_vectorizedHashCode 5 (some .int) p s m args meth c) {v0 : Nat} {v1 : Int32} {v2 : Int32} {v3 : Int32} {v4 : Int32} {w : WH} {r : (Int32 × WH)} (h : fJ11_vectorizedHashCode v0 v1 v2 v3 v4 w = some r)   (hR : RepH G A w H) (hS : Cu A s w0 w H locs) (hl : lv_has ls 5 [(0, .ref v0), (1, .int v1), (2, .int v2), (3, .int v3), (4, .int v4)]) : W p l e (hRm 12 269 w0) s m args below meth c H locs (wC w0 - wC w) (wS w0 - wS w) (hZ below args s G A w0 (some (.int r.1)) r.2) (F0 m 0 ls []) := by
  have B0 := B
  obtain ⟨hx, hb, hml, hown, hts, hr, hlk, hK⟩ := B0
  unfold fJ11_vectorizedHashCode at h
  refine lv_iload hx hb dJ11_vectorizedHashCode_0 (lv_at hl 4 rfl) ?_
  by_cases c1 : v4 = 4
  · replace h := it_o c1 h
    rw [c1]
    refine lv_tableIn (off := 42) (tgt := 44) hx hb dJ11_vectorizedHashCode_2 (by decide) (by decide) rfl (by decide) ?_
    refine lv_iload_n hx hb dJ11_vectorizedHashCode_44 rfl (lv_at hl 3 rfl) ?_
    refine lv_aload_n hx hb dJ11_vectorizedHashCode_45 rfl (lv_at hl 0 rfl) ?_
    replace h := bo_o h
    obtain ⟨_, e2, h⟩ := h
    refine h_castB hx hb hts hown hK hR e2 q845 dJ11_vectorizedHashCode_46 ?_
    refine lv_iload_n hx hb dJ11_vectorizedHashCode_49 rfl (lv_at hl 1 rfl) ?_
    refine lv_iload_n hx hb dJ11_vectorizedHashCode_50 rfl (lv_at hl 2 rfl) ?_
    replace h := b2_o h
    obtain ⟨x5, w3, e4, h⟩ := h
    refine h_callS 4  (As := [.int v3, .ref v0, .int v1, .int v2]) (rest := []) (v := (some (.int x5))) (w' := w3) (st1 := [.int x5]) hx hb hml hown hts hK hR hS (Nat.le_refl _) (Nat.le_refl _) (mJ11_signedHashCode e4) (lw_S q846 q847 q126 q848) (by decide +kernel) (Nat.le_of_ble_eq_true rfl) (Nat.le_of_ble_eq_true rfl) rfl hl.1 (Nat.le_of_ble_eq_true rfl) dJ11_vectorizedHashCode_51 rfl rfl (fun H locs hR hS => ?_)
    refine lv_goto (tgt := 157) hx hb dJ11_vectorizedHashCode_54 (by decide) ?_
    have eR := Option.some.inj h
    subst eR
    exact h_ifin hx hb hr hlk hR hS dJ11_vectorizedHashCode_157
  · replace h := if_o c1 h
    by_cases c6 : v4 = 5
    · replace h := it_o c6 h
      rw [c6]
      refine lv_tableIn (off := 55) (tgt := 57) hx hb dJ11_vectorizedHashCode_2 (by decide) (by decide) rfl (by decide) ?_
      refine lv_aload_n hx hb dJ11_vectorizedHashCode_57 rfl (lv_at hl 0 rfl) ?_
      exact (nomatch h)
    · replace h := if_o c6 h
      by_cases c8 : v4 = 8
      · replace h := it_o c8 h
        rw [c8]
        refine lv_tableIn (off := 88) (tgt := 90) hx hb dJ11_vectorizedHashCode_2 (by decide) (by decide) rfl (by decide) ?_
        refine lv_iload_n hx hb dJ11_vectorizedHashCode_90 rfl (lv_at hl 3 rfl) ?_
        refine lv_aload_n hx hb dJ11_vectorizedHashCode_91 rfl (lv_at hl 0 rfl) ?_
        replace h := bo_o h
        obtain ⟨_, e9, h⟩ := h
        refine h_castB hx hb hts hown hK hR e9 q845 dJ11_vectorizedHashCode_92 ?_
        refine lv_iload_n hx hb dJ11_vectorizedHashCode_95 rfl (lv_at hl 1 rfl) ?_
        refine lv_iload_n hx hb dJ11_vectorizedHashCode_96 rfl (lv_at hl 2 rfl) ?_
        replace h := b2_o h
        obtain ⟨x12, w10, e11, h⟩ := h
        refine h_callS 4  (As := [.int v3, .ref v0, .int v1, .int v2]) (rest := []) (v := (some (.int x12))) (w' := w10) (st1 := [.int x12]) hx hb hml hown hts hK hR hS (Nat.le_refl _) (Nat.le_refl _) (mJ11_hashCode_2 e11) (lw_S q869 q870 q126 q871) (by decide +kernel) (Nat.le_of_ble_eq_true rfl) (Nat.le_of_ble_eq_true rfl) rfl hl.1 (Nat.le_of_ble_eq_true rfl) dJ11_vectorizedHashCode_97 rfl rfl (fun H locs hR hS => ?_)
        refine lv_goto (tgt := 157) hx hb dJ11_vectorizedHashCode_100 (by decide) ?_
        have eR := Option.some.inj h
        subst eR
        exact h_ifin hx hb hr hlk hR hS dJ11_vectorizedHashCode_157
      · replace h := if_o c8 h
        by_cases c13 : v4 = 9
        · replace h := it_o c13 h
          rw [c13]
          refine lv_tableIn (off := 101) (tgt := 103) hx hb dJ11_vectorizedHashCode_2 (by decide) (by decide) rfl (by decide) ?_
          refine lv_iload_n hx hb dJ11_vectorizedHashCode_103 rfl (lv_at hl 3 rfl) ?_
          refine lv_aload_n hx hb dJ11_vectorizedHashCode_104 rfl (lv_at hl 0 rfl) ?_
          exact (nomatch h)
        · replace h := if_o c13 h
          by_cases c15 : v4 = 10
          · replace h := it_o c15 h
            rw [c15]
            refine lv_tableIn (off := 114) (tgt := 116) hx hb dJ11_vectorizedHashCode_2 (by decide) (by decide) rfl (by decide) ?_
            exact bJ11_vectorizedHashCode_116 B h  hR hS (lv_sub hl [0, 1, 2, 3] rfl)
          · replace h := if_o c15 h
            exact (nomatch h)
theorem mJ11_vectorizedHashCode {l : Launch} {G : gE} {A : Nat → Prop} {v0 : Nat} {v1 : Int32} {v2 : Int32} {v3 : Int32} {v4 : Int32} {w : WH} {r : (Int32 × WH)} (h : fJ11_vectorizedHashCode v0 v1 v2 v3 v4 w = some r) : hM l G A yJ11_vectorizedHashCode cJ11_vectorizedHashCode 5 (some .int) 12 269 [.ref v0, .int v1, .int v2, .int v3, .int v4] w (some (.int r.1)) r.2 :=
  h_of (by decide +kernel) (Nat.le_of_ble_eq_true rfl) (fun p e s m args below meth c ls B hnm hR hS hl => bJ11_vectorizedHashCode_0 B h hR hS hl)
noncomputable def fJ15_hashCode (v0 : Nat) (w : WH) : Option ((Int32 × WH)) :=
  (aLn w v0).bind fun x1 =>
  if x1 = 0 then (
    some (0, w)
  ) else (
    if x1 = 1 then (
      (ldI w v0 2 0).bind fun x5 =>
      some (x5 &&& 255, w)
    ) else (
      (aLn w v0).bind fun x7 =>
      b2_ (fJ11_vectorizedHashCode v0 0 x7 0 4 w) fun x11 w9 =>
      some (x11, w9)
    )
  )
theorem bJ15_hashCode_0 {p : Program} {l : Launch} {e : Env} {s : State} {m : MethodId} {args : Array Value} {below : List Frame} {meth : Method} {c : Code} {H : Heap} {locs : List Loc} {ls : Array Slot} {G : gE} {A : Nat → Prop} {w0 : WH} (B : gB G RJ15 cJ15_hashCode 1 (some .int) p s m args meth c) {v0 : Nat} {w : WH} {r : (Int32 × WH)} (h : fJ15_hashCode v0 w = some r)   (hR : RepH G A w H) (hS : Cu A s w0 w H locs) (hl : lv_has ls 1 [(0, .ref v0)]) : W p l e (hRm 13 293 w0) s m args below meth c H locs (wC w0 - wC w) (wS w0 - wS w) (hZ below args s G A w0 (some (.int r.1)) r.2) (F0 m 0 ls []) := by
  have B0 := B
  obtain ⟨hx, hb, hml, hown, hts, hr, hlk, hK⟩ := B0
  unfold fJ15_hashCode at h
  refine lv_aload_n hx hb dJ15_hashCode_0 rfl (lv_at hl 0 rfl) ?_
  replace h := bo_o h
  obtain ⟨x1, e2, h⟩ := h
  refine h_alen hx hb hK hR hS e2 dJ15_hashCode_1 ?_
  by_cases c3 : x1 = 0
  · replace h := it_o c3 h
    rw [c3]
    refine lv_lookup (off := 26) (tgt := 28) hx hb dJ15_hashCode_2 (by decide) (by decide) (by decide) ?_
    refine lv_iconst (v := 0) hx hb dJ15_hashCode_28 (by decide) ?_
    refine lv_goto (tgt := 51) hx hb dJ15_hashCode_29 (by decide) ?_
    have eR := Option.some.inj h
    subst eR
    exact h_ifin hx hb hr hlk hR hS dJ15_hashCode_51
  · replace h := if_o c3 h
    by_cases c4 : x1 = 1
    · replace h := it_o c4 h
      rw [c4]
      refine lv_lookup (off := 30) (tgt := 32) hx hb dJ15_hashCode_2 (by decide) (by decide) (by decide) ?_
      refine lv_aload_n hx hb dJ15_hashCode_32 rfl (lv_at hl 0 rfl) ?_
      refine lv_iconst (v := 0) hx hb dJ15_hashCode_33 (by decide) ?_
      replace h := bo_o h
      obtain ⟨x5, e6, h⟩ := h
      refine h_bald hx hb hK hR hS e6 dJ15_hashCode_34 ?_
      refine lv_sipush (v := 255) hx hb dJ15_hashCode_35 (by decide) ?_
      refine lv_iand hx hb dJ15_hashCode_38 ?_
      refine lv_goto (tgt := 51) hx hb dJ15_hashCode_39 (by decide) ?_
      have eR := Option.some.inj h
      subst eR
      exact h_ifin hx hb hr hlk hR hS dJ15_hashCode_51
    · replace h := if_o c4 h
      refine lv_lookup (off := 40) (tgt := 42) hx hb dJ15_hashCode_2 (by decide) (sw_lk2 (k1 := 0) (k2 := 1) c3 c4 (by decide)) (by decide) ?_
      refine lv_aload_n hx hb dJ15_hashCode_42 rfl (lv_at hl 0 rfl) ?_
      refine lv_iconst (v := 0) hx hb dJ15_hashCode_43 (by decide) ?_
      refine lv_aload_n hx hb dJ15_hashCode_44 rfl (lv_at hl 0 rfl) ?_
      replace h := bo_o h
      obtain ⟨x7, e8, h⟩ := h
      refine h_alen hx hb hK hR hS e8 dJ15_hashCode_45 ?_
      refine lv_iconst (v := 0) hx hb dJ15_hashCode_46 (by decide) ?_
      refine lv_iconst (v := 4) hx hb dJ15_hashCode_47 (by decide) ?_
      replace h := b2_o h
      obtain ⟨x11, w9, e10, h⟩ := h
      refine h_callS 5  (As := [.ref v0, .int 0, .int x7, .int 0, .int 4]) (rest := []) (v := (some (.int x11))) (w' := w9) (st1 := [.int x11]) hx hb hml hown hts hK hR hS (Nat.le_refl _) (Nat.le_refl _) (mJ11_vectorizedHashCode e10) (lw_S q842 q843 q126 q844) (by decide +kernel) (Nat.le_of_ble_eq_true rfl) (Nat.le_of_ble_eq_true rfl) rfl hl.1 (Nat.le_of_ble_eq_true rfl) dJ15_hashCode_48 rfl rfl (fun H locs hR hS => ?_)
      have eR := Option.some.inj h
      subst eR
      exact h_ifin hx hb hr hlk hR hS dJ15_hashCode_51
theorem mJ15_hashCode {l : Launch} {G : gE} {A : Nat → Prop} {v0 : Nat} {w : WH} {r : (Int32 × WH)} (h : fJ15_hashCode v0 w = some r) : hM l G A yJ15_hashCode cJ15_hashCode 1 (some .int) 13 293 [.ref v0] w (some (.int r.1)) r.2 :=
  h_of (by decide +kernel) (Nat.le_of_ble_eq_true rfl) (fun p e s m args below meth c ls B hnm hR hS hl => bJ15_hashCode_0 B h hR hS hl)
noncomputable def fJ9_hashCode_b40 (v0 : Nat) (s0 : Int32) (w : WH) : Option ((Int32 × WH)) :=
  if s0 = 0 then (
    (hPut w v0 16 3 (.int 1)).bind fun w2 =>
    some (s0, w2)
  ) else (
    (hPut w v0 16 2 (.int s0)).bind fun w4 =>
    some (s0, w4)
  )
theorem bJ9_hashCode_40 {p : Program} {l : Launch} {e : Env} {s : State} {m : MethodId} {args : Array Value} {below : List Frame} {meth : Method} {c : Code} {H : Heap} {locs : List Loc} {ls : Array Slot} {G : gE} {A : Nat → Prop} {w0 : WH} (B : gB G RJ9 cJ9_hashCode 2 (some .int) p s m args meth c) {v0 : Nat} {s0 : Int32} {w : WH} {r : (Int32 × WH)} (h : fJ9_hashCode_b40 v0 s0 w = some r)   (hR : RepH G A w H) (hS : Cu A s w0 w H locs) (hl : lv_has ls 2 [(0, .ref v0)]) : W p l e (hRm 14 313 w0) s m args below meth c H locs (wC w0 - wC w) (wS w0 - wS w) (hZ below args s G A w0 (some (.int r.1)) r.2) (F0 m 40 ls [.int s0]) := by
  have B0 := B
  obtain ⟨hx, hb, hml, hown, hts, hr, hlk, hK⟩ := B0
  unfold fJ9_hashCode_b40 at h
  refine lv_istore_n (lv' := [(1, .int s0), (0, .ref v0)]) hx hb dJ9_hashCode_40 rfl hl (by decide) rfl (fun ls hl => ?_)
  refine lv_iload_n hx hb dJ9_hashCode_41 rfl (lv_at hl 0 rfl) ?_
  refine lv_if_ne (tgt := 53) hx hb dJ9_hashCode_42 (by decide) (fun c1 => ?_) (fun c1 => ?_)
  · replace h := if_o c1 h
    refine lv_aload_n hx hb dJ9_hashCode_53 rfl (lv_at hl 1 rfl) ?_
    refine lv_iload_n hx hb dJ9_hashCode_54 rfl (lv_at hl 0 rfl) ?_
    replace h := bo_o h
    obtain ⟨w4, e5, h⟩ := h
    refine h_put (ci := 16) (k := 2) (ty := tyJ9 2) hx hb hts hown hK hR hS in_J9 tyJ9 tyJ9_ok nmJ9 rfl (by decide) q500 (fun _ h9 => h9) rfl (tyJ9_ok 2 (by decide)) rfl rfl e5 dJ9_hashCode_55 (fun H locs hR hS => ?_)
    refine lv_iload_n hx hb dJ9_hashCode_58 rfl (lv_at hl 0 rfl) ?_
    have eR := Option.some.inj h
    subst eR
    exact h_ifin hx hb hr hlk hR hS dJ9_hashCode_59
  · replace h := it_o c1 h
    refine lv_aload_n hx hb dJ9_hashCode_45 rfl (lv_at hl 1 rfl) ?_
    refine lv_iconst (v := 1) hx hb dJ9_hashCode_46 (by decide) ?_
    replace h := bo_o h
    obtain ⟨w2, e3, h⟩ := h
    refine h_put (ci := 16) (k := 3) (ty := tyJ9 3) hx hb hts hown hK hR hS in_J9 tyJ9 tyJ9_ok nmJ9 rfl (by decide) q501 (fun _ h9 => h9) rfl (tyJ9_ok 3 (by decide)) rfl rfl e3 dJ9_hashCode_47 (fun H locs hR hS => ?_)
    refine lv_goto (tgt := 58) hx hb dJ9_hashCode_50 (by decide) ?_
    refine lv_iload_n hx hb dJ9_hashCode_58 rfl (lv_at hl 0 rfl) ?_
    have eR := Option.some.inj h
    subst eR
    exact h_ifin hx hb hr hlk hR hS dJ9_hashCode_59
noncomputable def fJ9_hashCode (v0 : Nat) (w : WH) : Option ((Int32 × WH)) :=
  (gI w v0 16 2).bind fun x1 =>
  if x1 = 0 then (
    (gI w v0 16 3).bind fun x4 =>
    if x4 = 0 then (
      (hIs w v0 16).bind fun _ =>
      b2_ (fJ9_isLatin1 v0 w) fun x10 w7 =>
      if x10 = 0 then (
        (gR w7 v0 16 0).bind fun x12 =>
        none
      ) else (
        (gR w7 v0 16 0).bind fun x14 =>
        x14.bind fun a16 =>
        b2_ (fJ15_hashCode a16 w7) fun x20 w18 =>
        fJ9_hashCode_b40 v0 x20 w18
      )
    ) else (
      some (x1, w)
    )
  ) else (
    some (x1, w)
  )
theorem bJ9_hashCode_0 {p : Program} {l : Launch} {e : Env} {s : State} {m : MethodId} {args : Array Value} {below : List Frame} {meth : Method} {c : Code} {H : Heap} {locs : List Loc} {ls : Array Slot} {G : gE} {A : Nat → Prop} {w0 : WH} (B : gB G RJ9 cJ9_hashCode 2 (some .int) p s m args meth c) {v0 : Nat} {w : WH} {r : (Int32 × WH)} (h : fJ9_hashCode v0 w = some r)   (hR : RepH G A w H) (hS : Cu A s w0 w H locs) (hl : lv_has ls 2 [(0, .ref v0)]) : W p l e (hRm 14 313 w0) s m args below meth c H locs (wC w0 - wC w) (wS w0 - wS w) (hZ below args s G A w0 (some (.int r.1)) r.2) (F0 m 0 ls []) := by
  have B0 := B
  obtain ⟨hx, hb, hml, hown, hts, hr, hlk, hK⟩ := B0
  unfold fJ9_hashCode at h
  refine lv_aload_n hx hb dJ9_hashCode_0 rfl (lv_at hl 0 rfl) ?_
  replace h := bo_o h
  obtain ⟨x1, e2, h⟩ := h
  refine h_get (ci := 16) (k := 2) (v := .int x1) hx hb hts hown hK hR in_J9 rfl (by decide) (fun _ _ => rfl) q500 (fun _ h9 => h9) (gI_o e2) dJ9_hashCode_1 ?_
  refine lv_istore_n (lv' := [(1, .int x1), (0, .ref v0)]) hx hb dJ9_hashCode_4 rfl hl (by decide) rfl (fun ls hl => ?_)
  refine lv_iload_n hx hb dJ9_hashCode_5 rfl (lv_at hl 0 rfl) ?_
  refine lv_if_ne (tgt := 58) hx hb dJ9_hashCode_6 (by decide) (fun c3 => ?_) (fun c3 => ?_)
  · replace h := if_o c3 h
    refine lv_iload_n hx hb dJ9_hashCode_58 rfl (lv_at hl 0 rfl) ?_
    have eR := Option.some.inj h
    subst eR
    exact h_ifin hx hb hr hlk hR hS dJ9_hashCode_59
  · replace h := it_o c3 h
    refine lv_aload_n hx hb dJ9_hashCode_9 rfl (lv_at hl 1 rfl) ?_
    replace h := bo_o h
    obtain ⟨x4, e5, h⟩ := h
    refine h_get (ci := 16) (k := 3) (v := .int x4) hx hb hts hown hK hR in_J9 rfl (by decide) (fun _ _ => rfl) q501 (fun _ h9 => h9) (gI_o e5) dJ9_hashCode_10 ?_
    refine lv_if_ne (tgt := 58) hx hb dJ9_hashCode_13 (by decide) (fun c6 => ?_) (fun c6 => ?_)
    · replace h := if_o c6 h
      refine lv_iload_n hx hb dJ9_hashCode_58 rfl (lv_at hl 0 rfl) ?_
      have eR := Option.some.inj h
      subst eR
      exact h_ifin hx hb hr hlk hR hS dJ9_hashCode_59
    · replace h := it_o c6 h
      refine lv_aload_n hx hb dJ9_hashCode_16 rfl (lv_at hl 1 rfl) ?_
      replace h := bo_o h
      obtain ⟨_, e8, h⟩ := h
      replace h := b2_o h
      obtain ⟨x10, w7, e9, h⟩ := h
      refine h_callV 0 (ci := 16) (As := []) (rest := []) (v := (some (.int x10))) (w' := w7) (st1 := [.int x10]) hx hb hml hown hts hK hR hS (Nat.le_refl _) (Nat.le_refl _) rfl e8 (mJ9_isLatin1 e9) (lw_V q835 q836 q837 q124 q838) (by decide +kernel) (Nat.le_of_ble_eq_true rfl) (Nat.le_of_ble_eq_true rfl) rfl hl.1 (Nat.le_of_ble_eq_true rfl) dJ9_hashCode_17 rfl rfl (fun H locs hR hS => ?_)
      refine lv_if_eq (tgt := 33) hx hb dJ9_hashCode_20 (by decide) (fun c11 => ?_) (fun c11 => ?_)
      · replace h := it_o c11 h
        refine lv_aload_n hx hb dJ9_hashCode_33 rfl (lv_at hl 1 rfl) ?_
        replace h := bo_o h
        obtain ⟨x12, e13, h⟩ := h
        refine h_getS (k := 0) (v := va_rf x12) hx hb hts hown hK hR hS (by decide) q498 (gR_o e13) dJ9_hashCode_34 ?_
        exact (nomatch h)
      · replace h := if_o c11 h
        refine lv_aload_n hx hb dJ9_hashCode_23 rfl (lv_at hl 1 rfl) ?_
        replace h := bo_o h
        obtain ⟨x14, e15, h⟩ := h
        refine h_getS (k := 0) (v := va_rf x14) hx hb hts hown hK hR hS (by decide) q498 (gR_o e15) dJ9_hashCode_24 ?_
        replace h := bo_o h
        obtain ⟨a16, e17, h⟩ := h
        subst e17
        replace h := b2_o h
        obtain ⟨x20, w18, e19, h⟩ := h
        refine h_callS 1  (As := [.ref a16]) (rest := []) (v := (some (.int x20))) (w' := w18) (st1 := [.int x20]) hx hb hml hown hts hK hR hS (Nat.le_refl _) (Nat.le_refl _) (mJ15_hashCode e19) (lw_S q839 q840 q131 q841) (by decide +kernel) (Nat.le_of_ble_eq_true rfl) (Nat.le_of_ble_eq_true rfl) rfl hl.1 (Nat.le_of_ble_eq_true rfl) dJ9_hashCode_27 rfl rfl (fun H locs hR hS => ?_)
        refine lv_goto (tgt := 40) hx hb dJ9_hashCode_30 (by decide) ?_
        exact bJ9_hashCode_40 B h  hR hS (lv_sub hl [1] rfl)
theorem mJ9_hashCode {l : Launch} {G : gE} {A : Nat → Prop} {v0 : Nat} {w : WH} {r : (Int32 × WH)} (h : fJ9_hashCode v0 w = some r) : hM l G A yJ9_hashCode cJ9_hashCode 2 (some .int) 14 313 [.ref v0] w (some (.int r.1)) r.2 :=
  h_of (by decide +kernel) (Nat.le_of_ble_eq_true rfl) (fun p e s m args below meth c ls B hnm hR hS hl => bJ9_hashCode_0 B h hR hS hl)
noncomputable def fJ2_size (v0 : Nat) (w : WH) : Option ((Int32 × WH)) :=
  (gI w v0 2 2).bind fun x1 =>
  some (x1, w)
theorem bJ2_size_0 {p : Program} {l : Launch} {e : Env} {s : State} {m : MethodId} {args : Array Value} {below : List Frame} {meth : Method} {c : Code} {H : Heap} {locs : List Loc} {ls : Array Slot} {G : gE} {A : Nat → Prop} {w0 : WH} (B : gB G RJ2 cJ2_size 1 (some .int) p s m args meth c) {v0 : Nat} {w : WH} {r : (Int32 × WH)} (h : fJ2_size v0 w = some r)   (hR : RepH G A w H) (hS : Cu A s w0 w H locs) (hl : lv_has ls 1 [(0, .ref v0)]) : W p l e (hRm 0 0 w0) s m args below meth c H locs (wC w0 - wC w) (wS w0 - wS w) (hZ below args s G A w0 (some (.int r.1)) r.2) (F0 m 0 ls []) := by
  have B0 := B
  obtain ⟨hx, hb, hml, hown, hts, hr, hlk, hK⟩ := B0
  unfold fJ2_size at h
  refine lv_aload_n hx hb dJ2_size_0 rfl (lv_at hl 0 rfl) ?_
  replace h := bo_o h
  obtain ⟨x1, e2, h⟩ := h
  refine h_get (ci := 2) (k := 2) (v := .int x1) hx hb hts hown hK hR in_J2 rfl (by decide) (fun _ _ => rfl) q515 (fun _ h9 => h9) (gI_o e2) dJ2_size_1 ?_
  have eR := Option.some.inj h
  subst eR
  exact h_ifin hx hb hr hlk hR hS dJ2_size_4
theorem mJ2_size {l : Launch} {G : gE} {A : Nat → Prop} {v0 : Nat} {w : WH} {r : (Int32 × WH)} (h : fJ2_size v0 w = some r) : hM l G A yJ2_size cJ2_size 1 (some .int) 0 0 [.ref v0] w (some (.int r.1)) r.2 :=
  h_of (by decide +kernel) (Nat.le_of_ble_eq_true rfl) (fun p e s m args below meth c ls B hnm hR hS hl => bJ2_size_0 B h hR hS hl)
noncomputable def fX6_node (v0 : Nat) (w : WH) : Option (((Sum (Int32) (Nat × Nat)) × WH)) :=
  (gR w v0 25 0).bind fun x1 =>
  x1.bind fun a3 =>
  (gI w a3 22 0).bind fun x5 =>
  (hIs w v0 25).bind fun _ =>
  b2_ (fX6_number v0 0 (x5 - 1) w) fun o9 w7 => ex_ o9 (fun x11 =>
    some (.inl x11, w7)) (fun q12 =>
    some (.inr q12, w7))
theorem bX6_node_0 {p : Program} {l : Launch} {e : Env} {s : State} {m : MethodId} {args : Array Value} {below : List Frame} {meth : Method} {c : Code} {H : Heap} {locs : List Loc} {ls : Array Slot} {G : gE} {A : Nat → Prop} {w0 : WH} (B : gB G RX6 cX6_node 1 (some .int) p s m args meth c) (hT : ∀ x ∈ c.exceptionTable.toList, False) (hl0 : l.stackTraces = false) {v0 : Nat} {w : WH} {r : ((Sum (Int32) (Nat × Nat)) × WH)} (h : fX6_node v0 w = some r)   (hR : RepH G A w H) (hS : Cu A s w0 w H locs) (hl : lv_has ls 1 [(0, .ref v0)]) : W p l e (hRm 6 135 w0) s m args below meth c H locs (wC w0 - wC w) (wS w0 - wS w) (hZX below args s G A w0 (oI r.1) r.2) (F0 m 0 ls []) := by
  have B0 := B
  obtain ⟨hx, hb, hml, hown, hts, hr, hlk, hK⟩ := B0
  unfold fX6_node at h
  refine lv_aload_n hx hb dX6_node_0 rfl (lv_at hl 0 rfl) ?_
  refine lv_iconst (v := 0) hx hb dX6_node_1 (by decide) ?_
  refine lv_aload_n hx hb dX6_node_2 rfl (lv_at hl 0 rfl) ?_
  replace h := bo_o h
  obtain ⟨x1, e2, h⟩ := h
  refine h_get (ci := 25) (k := 0) (v := va_rf x1) hx hb hts hown hK hR in_X6 rfl (by decide) (fun _ _ => rfl) q711 (fun _ h9 => h9) (gR_o e2) dX6_node_3 ?_
  replace h := bo_o h
  obtain ⟨a3, e4, h⟩ := h
  subst e4
  replace h := bo_o h
  obtain ⟨x5, e6, h⟩ := h
  refine h_getN (ci := 22) (k := 0) (v := .int x5) hx hb hts hown hK hR in_X3 rfl (by decide) (fun _ _ => rfl) (hK.fn 2 rfl) (fun _ h9 => h9) (gI_o e6) dX6_node_6 ?_
  refine lv_iconst (v := 1) hx hb dX6_node_9 (by decide) ?_
  refine lv_isub hx hb dX6_node_10 ?_
  replace h := bo_o h
  obtain ⟨_, e8, h⟩ := h
  replace h := b2_o h
  obtain ⟨o9, w7, e10, h⟩ := h
  refine h_callVX 2 (ci := 25) (As := [.int 0, .int (x5 - 1)]) (rest := []) (o := oI o9) (w' := w7) hx hb hml hown hts hK hR hS (Nat.le_refl _) (Nat.le_refl _) rfl e8 (mX6_number hl0 e10) (lw_V q815 q817 qs6 q138 q818) (by decide +kernel) (Nat.le_of_ble_eq_true rfl) (Nat.le_of_ble_eq_true rfl) rfl hl.1 (Nat.le_of_ble_eq_true rfl) dX6_node_11 rfl (fun v9 hv9 H locs hR hS => ?_) (fun E9 q9 hq9 H locs hR hS hce => ?_)
  · cases o9 with
    | inr q => cases hv9
    | inl x11 =>
      cases hv9
      replace h := exl_o h
      refine W.eq (g2 := F0 m 14 ls [.int x11]) rfl ?_
      have eR := Option.some.inj h
      subst eR
      exact h_ifinX hx hb hr hlk hR hS dX6_node_14
  · cases o9 with
    | inl q => cases hq9
    | inr q12 =>
      cases hq9
      replace h := exr_o h
      have eR := Option.some.inj h
      subst eR
      exact h_out hT hlk hR hS hce
theorem mX6_node {l : Launch} {G : gE} {A : Nat → Prop} {v0 : Nat} {w : WH} {r : ((Sum (Int32) (Nat × Nat)) × WH)} (hl0 : l.stackTraces = false) (h : fX6_node v0 w = some r) : hMX l G A yX6_node cX6_node 1 (some .int) 6 135 [.ref v0] w (oI r.1) r.2 :=
  h_ofX (by decide +kernel) (Nat.le_of_ble_eq_true rfl) (fun p e s m args below meth c ls B hnm hT hR hS hl => bX6_node_0 B hT hl0 h hR hS hl)
noncomputable def fX6_nodeBut_b16 (v2 : Int32) (s0 : Nat) (s1 : Int32) (w : WH) : Option (((Sum (Int32) (Nat × Nat)) × WH)) :=
  (hIs w s0 25).bind fun _ =>
  b2_ (fX6_require s0 s1 3 w) fun o3 w1 => ex_ o3 (fun _ =>
    some (.inl v2, w1)) (fun q6 =>
    some (.inr q6, w1))
theorem bX6_nodeBut_16 {p : Program} {l : Launch} {e : Env} {s : State} {m : MethodId} {args : Array Value} {below : List Frame} {meth : Method} {c : Code} {H : Heap} {locs : List Loc} {ls : Array Slot} {G : gE} {A : Nat → Prop} {w0 : WH} (B : gB G RX6 cX6_nodeBut 3 (some .int) p s m args meth c) (hT : ∀ x ∈ c.exceptionTable.toList, False) (hl0 : l.stackTraces = false) {v2 : Int32} {s0 : Nat} {s1 : Int32} {w : WH} {r : ((Sum (Int32) (Nat × Nat)) × WH)} (h : fX6_nodeBut_b16 v2 s0 s1 w = some r)   (hR : RepH G A w H) (hS : Cu A s w0 w H locs) (hl : lv_has ls 3 [(2, .int v2)]) : W p l e (hRm 7 155 w0) s m args below meth c H locs (wC w0 - wC w) (wS w0 - wS w) (hZX below args s G A w0 (oI r.1) r.2) (F0 m 16 ls [.int s1, .ref s0]) := by
  have B0 := B
  obtain ⟨hx, hb, hml, hown, hts, hr, hlk, hK⟩ := B0
  unfold fX6_nodeBut_b16 at h
  refine lv_iconst (v := 3) hx hb dX6_nodeBut_16 (by decide) ?_
  replace h := bo_o h
  obtain ⟨_, e2, h⟩ := h
  replace h := b2_o h
  obtain ⟨o3, w1, e4, h⟩ := h
  refine h_callVX 2 (ci := 25) (As := [.int s1, .int 3]) (rest := []) (o := oV o3) (w' := w1) hx hb hml hown hts hK hR hS (Nat.le_refl _) (Nat.le_refl _) rfl e2 (mX6_require hl0 e4) (lw_V q745 q747 qs4 q138 q748) (by decide +kernel) (Nat.le_of_ble_eq_true rfl) (Nat.le_of_ble_eq_true rfl) rfl hl.1 (Nat.le_of_ble_eq_true rfl) dX6_nodeBut_17 rfl (fun v9 hv9 H locs hR hS => ?_) (fun E9 q9 hq9 H locs hR hS hce => ?_)
  · cases o3 with
    | inr q => cases hv9
    | inl x5 =>
      cases hv9
      replace h := exl_o h
      refine W.eq (g2 := F0 m 20 ls []) rfl ?_
      refine lv_iload_n hx hb dX6_nodeBut_20 rfl (lv_at hl 0 rfl) ?_
      have eR := Option.some.inj h
      subst eR
      exact h_ifinX hx hb hr hlk hR hS dX6_nodeBut_21
  · cases o3 with
    | inl q => cases hq9
    | inr q6 =>
      cases hq9
      replace h := exr_o h
      have eR := Option.some.inj h
      subst eR
      exact h_out hT hlk hR hS hce
noncomputable def fX6_nodeBut (v0 : Nat) (v1 : Int32) (w : WH) : Option (((Sum (Int32) (Nat × Nat)) × WH)) :=
  (hIs w v0 25).bind fun _ =>
  b2_ (fX6_node v0 w) fun o3 w1 => ex_ o3 (fun x5 =>
    if x5 = v1 then (
      fX6_nodeBut_b16 x5 v0 0 w1
    ) else (
      fX6_nodeBut_b16 x5 v0 1 w1
    )) (fun q6 =>
    some (.inr q6, w1))
theorem bX6_nodeBut_0 {p : Program} {l : Launch} {e : Env} {s : State} {m : MethodId} {args : Array Value} {below : List Frame} {meth : Method} {c : Code} {H : Heap} {locs : List Loc} {ls : Array Slot} {G : gE} {A : Nat → Prop} {w0 : WH} (B : gB G RX6 cX6_nodeBut 3 (some .int) p s m args meth c) (hT : ∀ x ∈ c.exceptionTable.toList, False) (hl0 : l.stackTraces = false) {v0 : Nat} {v1 : Int32} {w : WH} {r : ((Sum (Int32) (Nat × Nat)) × WH)} (h : fX6_nodeBut v0 v1 w = some r)   (hR : RepH G A w H) (hS : Cu A s w0 w H locs) (hl : lv_has ls 3 [(0, .ref v0), (1, .int v1)]) : W p l e (hRm 7 155 w0) s m args below meth c H locs (wC w0 - wC w) (wS w0 - wS w) (hZX below args s G A w0 (oI r.1) r.2) (F0 m 0 ls []) := by
  have B0 := B
  obtain ⟨hx, hb, hml, hown, hts, hr, hlk, hK⟩ := B0
  unfold fX6_nodeBut at h
  refine lv_aload_n hx hb dX6_nodeBut_0 rfl (lv_at hl 0 rfl) ?_
  replace h := bo_o h
  obtain ⟨_, e2, h⟩ := h
  replace h := b2_o h
  obtain ⟨o3, w1, e4, h⟩ := h
  refine h_callVX 0 (ci := 25) (As := []) (rest := []) (o := oI o3) (w' := w1) hx hb hml hown hts hK hR hS (Nat.le_refl _) (Nat.le_refl _) rfl e2 (mX6_node hl0 e4) (lw_V q914 q916 qs10 q138 q917) (by decide +kernel) (Nat.le_of_ble_eq_true rfl) (Nat.le_of_ble_eq_true rfl) rfl hl.1 (Nat.le_of_ble_eq_true rfl) dX6_nodeBut_1 rfl (fun v9 hv9 H locs hR hS => ?_) (fun E9 q9 hq9 H locs hR hS hce => ?_)
  · cases o3 with
    | inr q => cases hv9
    | inl x5 =>
      cases hv9
      replace h := exl_o h
      refine W.eq (g2 := F0 m 4 ls [.int x5]) rfl ?_
      refine lv_istore_n (lv' := [(2, .int x5), (0, .ref v0), (1, .int v1)]) hx hb dX6_nodeBut_4 rfl hl (by decide) rfl (fun ls hl => ?_)
      refine lv_aload_n hx hb dX6_nodeBut_5 rfl (lv_at hl 1 rfl) ?_
      refine lv_iload_n hx hb dX6_nodeBut_6 rfl (lv_at hl 0 rfl) ?_
      refine lv_iload_n hx hb dX6_nodeBut_7 rfl (lv_at hl 2 rfl) ?_
      refine lv_icmp_eq (tgt := 15) hx hb dX6_nodeBut_8 (by decide) (fun c7 => ?_) (fun c7 => ?_)
      · replace h := it_o c7 h
        refine lv_iconst (v := 0) hx hb dX6_nodeBut_15 (by decide) ?_
        exact bX6_nodeBut_16 B hT hl0 h  hR hS (lv_sub hl [0] rfl)
      · replace h := if_o c7 h
        refine lv_iconst (v := 1) hx hb dX6_nodeBut_11 (by decide) ?_
        refine lv_goto (tgt := 16) hx hb dX6_nodeBut_12 (by decide) ?_
        exact bX6_nodeBut_16 B hT hl0 h  hR hS (lv_sub hl [0] rfl)
  · cases o3 with
    | inl q => cases hq9
    | inr q6 =>
      cases hq9
      replace h := exr_o h
      have eR := Option.some.inj h
      subst eR
      exact h_out hT hlk hR hS hce
theorem mX6_nodeBut {l : Launch} {G : gE} {A : Nat → Prop} {v0 : Nat} {v1 : Int32} {w : WH} {r : ((Sum (Int32) (Nat × Nat)) × WH)} (hl0 : l.stackTraces = false) (h : fX6_nodeBut v0 v1 w = some r) : hMX l G A yX6_nodeBut cX6_nodeBut 3 (some .int) 7 155 [.ref v0, .int v1] w (oI r.1) r.2 :=
  h_ofX (by decide +kernel) (Nat.le_of_ble_eq_true rfl) (fun p e s m args below meth c ls B hnm hT hR hS hl => bX6_nodeBut_0 B hT hl0 h hR hS hl)
noncomputable def fJ19_init (v0 : Nat) (w : WH) : Option (WH) :=
  some w
theorem bJ19_init_0 {p : Program} {l : Launch} {e : Env} {s : State} {m : MethodId} {args : Array Value} {below : List Frame} {meth : Method} {c : Code} {H : Heap} {locs : List Loc} {ls : Array Slot} {G : gE} {A : Nat → Prop} {w0 : WH} (B : gB G RJ19 cJ19_init 1 none p s m args meth c) (hnm : meth.name = "<init>") {v0 : Nat} {w : WH} {r : WH} (h : fJ19_init v0 w = some r)   (hR : RepH G A w H) (hS : Cu A s w0 w H locs) (hl : lv_has ls 1 [(0, .ref v0)]) : W p l e (hRm 1 20 w0) s m args below meth c H locs (wC w0 - wC w) (wS w0 - wS w) (hZ below args s G A w0 none r) (F0 m 0 ls []) := by
  have B0 := B
  obtain ⟨hx, hb, hml, hown, hts, hr, hlk, hK⟩ := B0
  unfold fJ19_init at h
  refine lv_aload_n hx hb dJ19_init_0 rfl (lv_at hl 0 rfl) ?_
  refine W.objInit hx hb hown (hts _ q931) (hts _ q168) (hts _ q169) rfl (by rw [hml]; exact hl.1) rfl dJ19_init_1 (Nat.le_of_ble_eq_true rfl) (Nat.le_of_ble_eq_true rfl) ?_
  refine W.eq (g2 := F0 m 4 ls []) rfl ?_
  have eR := Option.some.inj h
  subst eR
  exact h_vfin hx hb hr hlk hR hS dJ19_init_4
theorem mJ19_init {l : Launch} {G : gE} {A : Nat → Prop} {v0 : Nat} {w : WH} {r : WH} (h : fJ19_init v0 w = some r) : hM l G A yJ19_init cJ19_init 1 none 1 20 [.ref v0] w none r :=
  h_of (by decide +kernel) (Nat.le_of_ble_eq_true rfl) (fun p e s m args below meth c ls B hnm hR hS hl => bJ19_init_0 B hnm h hR hS hl)
noncomputable def fX8_init (v0 : Nat) (v1 : Int32) (v2 : Int32) (v3 : Int32) (v4 : Int32) (v5 : Int32) (w : WH) : Option (WH) :=
  (fJ19_init v0 w).bind fun w1 =>
  (hPut w1 v0 27 0 (.int v1)).bind fun w3 =>
  (hPut w3 v0 27 1 (.int v2)).bind fun w5 =>
  (hPut w5 v0 27 2 (.int v3)).bind fun w7 =>
  (hPut w7 v0 27 3 (.int v4)).bind fun w9 =>
  (hPut w9 v0 27 4 (.int v5)).bind fun w11 =>
  some w11
theorem bX8_init_0 {p : Program} {l : Launch} {e : Env} {s : State} {m : MethodId} {args : Array Value} {below : List Frame} {meth : Method} {c : Code} {H : Heap} {locs : List Loc} {ls : Array Slot} {G : gE} {A : Nat → Prop} {w0 : WH} (B : gB G RX8 cX8_init 6 none p s m args meth c) (hnm : meth.name = "<init>") {v0 : Nat} {v1 : Int32} {v2 : Int32} {v3 : Int32} {v4 : Int32} {v5 : Int32} {w : WH} {r : WH} (h : fX8_init v0 v1 v2 v3 v4 v5 w = some r)   (hR : RepH G A w H) (hS : Cu A s w0 w H locs) (hl : lv_has ls 6 [(0, .ref v0), (1, .int v1), (2, .int v2), (3, .int v3), (4, .int v4), (5, .int v5)]) : W p l e (hRm 2 40 w0) s m args below meth c H locs (wC w0 - wC w) (wS w0 - wS w) (hZ below args s G A w0 none r) (F0 m 0 ls []) := by
  have B0 := B
  obtain ⟨hx, hb, hml, hown, hts, hr, hlk, hK⟩ := B0
  unfold fX8_init at h
  refine lv_aload_n hx hb dX8_init_0 rfl (lv_at hl 0 rfl) ?_
  replace h := bo_o h
  obtain ⟨w1, e2, h⟩ := h
  refine h_callI 0  (As := []) (rest := []) (w' := w1) hx hb hml hown hts hK hR hS (Nat.le_refl _) (Nat.le_refl _) (mJ19_init e2) (lw_meth q930) q140 q928 q929 rfl (by decide +kernel) (Nat.le_of_ble_eq_true rfl) (Nat.le_of_ble_eq_true rfl) rfl hl.1 (Nat.le_of_ble_eq_true rfl) dX8_init_1 rfl (fun H locs hR hS => ?_)
  refine lv_aload_n hx hb dX8_init_4 rfl (lv_at hl 0 rfl) ?_
  refine lv_iload_n hx hb dX8_init_5 rfl (lv_at hl 1 rfl) ?_
  replace h := bo_o h
  obtain ⟨w3, e4, h⟩ := h
  refine h_putF (ci := 27) (k := 0) (ty := tyX8 0) hx hb hts hown hK hR hS in_X8 tyX8 tyX8_ok nmX8 rfl (by decide) q932 (fun _ h9 => h9) rfl hnm rfl (tyX8_ok 0 (by decide)) rfl rfl e4 dX8_init_6 (fun H locs hR hS => ?_)
  refine lv_aload_n hx hb dX8_init_9 rfl (lv_at hl 0 rfl) ?_
  refine lv_iload_n hx hb dX8_init_10 rfl (lv_at hl 2 rfl) ?_
  replace h := bo_o h
  obtain ⟨w5, e6, h⟩ := h
  refine h_putF (ci := 27) (k := 1) (ty := tyX8 1) hx hb hts hown hK hR hS in_X8 tyX8 tyX8_ok nmX8 rfl (by decide) q933 (fun _ h9 => h9) rfl hnm rfl (tyX8_ok 1 (by decide)) rfl rfl e6 dX8_init_11 (fun H locs hR hS => ?_)
  refine lv_aload_n hx hb dX8_init_14 rfl (lv_at hl 0 rfl) ?_
  refine lv_iload_n hx hb dX8_init_15 rfl (lv_at hl 3 rfl) ?_
  replace h := bo_o h
  obtain ⟨w7, e8, h⟩ := h
  refine h_putF (ci := 27) (k := 2) (ty := tyX8 2) hx hb hts hown hK hR hS in_X8 tyX8 tyX8_ok nmX8 rfl (by decide) q934 (fun _ h9 => h9) rfl hnm rfl (tyX8_ok 2 (by decide)) rfl rfl e8 dX8_init_16 (fun H locs hR hS => ?_)
  refine lv_aload_n hx hb dX8_init_19 rfl (lv_at hl 0 rfl) ?_
  refine lv_iload hx hb dX8_init_20 (lv_at hl 4 rfl) ?_
  replace h := bo_o h
  obtain ⟨w9, e10, h⟩ := h
  refine h_putF (ci := 27) (k := 3) (ty := tyX8 3) hx hb hts hown hK hR hS in_X8 tyX8 tyX8_ok nmX8 rfl (by decide) q935 (fun _ h9 => h9) rfl hnm rfl (tyX8_ok 3 (by decide)) rfl rfl e10 dX8_init_22 (fun H locs hR hS => ?_)
  refine lv_aload_n hx hb dX8_init_25 rfl (lv_at hl 0 rfl) ?_
  refine lv_iload hx hb dX8_init_26 (lv_at hl 5 rfl) ?_
  replace h := bo_o h
  obtain ⟨w11, e12, h⟩ := h
  refine h_putF (ci := 27) (k := 4) (ty := tyX8 4) hx hb hts hown hK hR hS in_X8 tyX8 tyX8_ok nmX8 rfl (by decide) q936 (fun _ h9 => h9) rfl hnm rfl (tyX8_ok 4 (by decide)) rfl rfl e12 dX8_init_28 (fun H locs hR hS => ?_)
  have eR := Option.some.inj h
  subst eR
  exact h_vfin hx hb hr hlk hR hS dX8_init_31
theorem mX8_init {l : Launch} {G : gE} {A : Nat → Prop} {v0 : Nat} {v1 : Int32} {v2 : Int32} {v3 : Int32} {v4 : Int32} {v5 : Int32} {w : WH} {r : WH} (h : fX8_init v0 v1 v2 v3 v4 v5 w = some r) : hM l G A yX8_init cX8_init 6 none 2 40 [.ref v0, .int v1, .int v2, .int v3, .int v4, .int v5] w none r :=
  h_of (by decide +kernel) (Nat.le_of_ble_eq_true rfl) (fun p e s m args below meth c ls B hnm hR hS hl => bX8_init_0 B hnm h hR hS hl)
