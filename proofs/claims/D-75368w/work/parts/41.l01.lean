set_option maxRecDepth 100000
set_option maxHeartbeats 4000000
noncomputable def fL_law_b3008 (L : Nat) (xs : Nat → Int32) (v1 : Nat) (v3 : Nat) (v4 : Int32) (w : LW) : Option (Sum (Int32 × LW) (Int32)) :=
  some (.inl (v4 + 4, w))
theorem bL_law_3008 {p : Program} {l : Launch} {e : Env} {s : State} {m : MethodId} {args : Array Value} {below : List Frame} {meth : Method} {c : Code} {H : Heap} {locs : List Loc} {ls : Array Slot} {G : gE} {w0 : WH} {o b L : Nat} {xs : Nat → Int32} {Q : Int32 → State → Prop} (B : lB G b L xs w0 p s m args meth c) (hE : lE l G w0 p e s m args below meth c Q) (hl0 : l.stackTraces = false) {v1 : Nat} {v3 : Nat} {v4 : Int32} {w : LW} {x : Sum (Int32 × LW) (Int32)} {r : Int32} (h : fL_law_b3008 L xs v1 v3 v4 w = some x)  (k23 : ∀ (v4' : Int32) (w' : LW), x = (.inl (v4', w')) → ∀ (H : Heap) (locs : List Loc) (ls : Array Slot), RepL G o w' H → Cu (gFr G) s w0 w'.2 H locs → lv_has ls 8 [(0, .ref b), (1, .ref v1), (2, .ref o), (3, .ref v3), (4, .int v4')] → W p l e room_1 s m args below meth c H locs (wC w0 - wC w'.2) (wS w0 - wS w'.2) (Q r) (F0 m 23 ls [])) (kR : ∀ q, x = (.inr q) → q = r) (hR : RepL G o w H) (hS : Cu (gFr G) s w0 w.2 H locs) (hl : lv_has ls 8 [(0, .ref b), (1, .ref v1), (2, .ref o), (3, .ref v3), (4, .int v4)]) : W p l e room_1 s m args below meth c H locs (wC w0 - wC w.2) (wS w0 - wS w.2) (Q r) (F0 m 3008 ls []) := by
  have B0 := B
  obtain ⟨⟨hx, hb, hml, hown, hts, hr, hlk, hK⟩, hX, hbl, hbA, hRc, hRs⟩ := B0
  unfold fL_law_b3008 at h
  refine lv_iinc (v := v4 + 4) (lv' := [(4, .int (v4 + 4)), (0, .ref b), (1, .ref v1), (2, .ref o), (3, .ref v3)]) hx hb dL_law_3008 hl (k := 4) rfl rfl (by decide) rfl (fun ls hl => ?_)
  refine lv_goto (tgt := 23) hx hb dL_law_3011 (by decide) ?_
  exact k23 _ w (Option.some.inj h).symm H locs ls hR hS (lv_sub hl [1, 2, 3, 4, 0] rfl)
noncomputable def fL_law_b333 (L : Nat) (xs : Nat → Int32) (v1 : Nat) (v3 : Nat) (v4 : Int32) (s0 : Int32) (s2 : Int64) (w : LW) : Option (Sum (Int32 × LW) (Int32)) :=
  b2_ (fX5_append s2 w.1) fun x1 t3 =>
  if s0 = x1 then (
    fL_law_b3008 L xs v1 v3 v4 (t3, w.2)
  ) else (
    some (.inr 0)
  )
theorem bL_law_333 {p : Program} {l : Launch} {e : Env} {s : State} {m : MethodId} {args : Array Value} {below : List Frame} {meth : Method} {c : Code} {H : Heap} {locs : List Loc} {ls : Array Slot} {G : gE} {w0 : WH} {o b L : Nat} {xs : Nat → Int32} {Q : Int32 → State → Prop} (B : lB G b L xs w0 p s m args meth c) (hE : lE l G w0 p e s m args below meth c Q) (hl0 : l.stackTraces = false) {v1 : Nat} {v3 : Nat} {v4 : Int32} {s0 : Int32} {s2 : Int64} {w : LW} {x : Sum (Int32 × LW) (Int32)} {r : Int32} (h : fL_law_b333 L xs v1 v3 v4 s0 s2 w = some x)  (k23 : ∀ (v4' : Int32) (w' : LW), x = (.inl (v4', w')) → ∀ (H : Heap) (locs : List Loc) (ls : Array Slot), RepL G o w' H → Cu (gFr G) s w0 w'.2 H locs → lv_has ls 8 [(0, .ref b), (1, .ref v1), (2, .ref o), (3, .ref v3), (4, .int v4')] → W p l e room_1 s m args below meth c H locs (wC w0 - wC w'.2) (wS w0 - wS w'.2) (Q r) (F0 m 23 ls [])) (kR : ∀ q, x = (.inr q) → q = r) (hR : RepL G o w H) (hS : Cu (gFr G) s w0 w.2 H locs) (hl : lv_has ls 8 [(0, .ref b), (1, .ref v1), (2, .ref o), (3, .ref v3), (4, .int v4)]) : W p l e room_1 s m args below meth c H locs (wC w0 - wC w.2) (wS w0 - wS w.2) (Q r) (F0 m 333 ls [.long s2, .ref o, .int s0]) := by
  have B0 := B
  obtain ⟨⟨hx, hb, hml, hown, hts, hr, hlk, hK⟩, hX, hbl, hbA, hRc, hRs⟩ := B0
  unfold fL_law_b333 at h
  replace h := b2_o h
  obtain ⟨x1, t3, e2, h⟩ := h
  refine l_callT 1 (As := [.long s2]) (rest := [.int s0]) (v := (some (.int x1))) (T' := t3) (st1 := [.int x1, .int s0]) hx hb hml hown hts hK hR hS hRc hRs (mX5_append e2) (lw_V q2538 q2539 q2540 q137 q2541) (by decide +kernel) (Nat.le_of_ble_eq_true rfl) (Nat.le_of_ble_eq_true rfl) rfl hl.1 (Nat.le_of_ble_eq_true rfl) dL_law_333 rfl rfl (fun H locs hR hS => ?_)
  refine lv_icmp_eq (tgt := 3008) hx hb dL_law_336 (by decide) (fun c4 => ?_) (fun c4 => ?_)
  · replace h := it_o c4 h
    exact bL_law_3008 (w := (t3, w.2)) B hE hl0 h k23 kR hR hS (lv_sub hl [0, 1, 2, 3, 4] rfl)
  · replace h := if_o c4 h
    refine lv_iconst (v := 0) hx hb dL_law_339 (by decide) ?_
    have eR := kR _ (Option.some.inj h).symm
    subst eR
    exact hE _ ls H locs w.2 _ dL_law_340 hS
noncomputable def fL_law_b341 (L : Nat) (xs : Nat → Int32) (v1 : Nat) (v3 : Nat) (v4 : Int32) (w : LW) : Option (Sum (Int32 × LW) (Int32)) :=
  (hIs w.2 v1 17).bind fun _ =>
  b2_ (fX1_load v1 w.2) fun x1 w3 =>
  b2_ (fX5_load  w.1) fun x5 t7 =>
  if x1 = x5 then (
    fL_law_b3008 L xs v1 v3 v4 (t7, w3)
  ) else (
    some (.inr 0)
  )
theorem bL_law_341 {p : Program} {l : Launch} {e : Env} {s : State} {m : MethodId} {args : Array Value} {below : List Frame} {meth : Method} {c : Code} {H : Heap} {locs : List Loc} {ls : Array Slot} {G : gE} {w0 : WH} {o b L : Nat} {xs : Nat → Int32} {Q : Int32 → State → Prop} (B : lB G b L xs w0 p s m args meth c) (hE : lE l G w0 p e s m args below meth c Q) (hl0 : l.stackTraces = false) {v1 : Nat} {v3 : Nat} {v4 : Int32} {w : LW} {x : Sum (Int32 × LW) (Int32)} {r : Int32} (h : fL_law_b341 L xs v1 v3 v4 w = some x)  (k23 : ∀ (v4' : Int32) (w' : LW), x = (.inl (v4', w')) → ∀ (H : Heap) (locs : List Loc) (ls : Array Slot), RepL G o w' H → Cu (gFr G) s w0 w'.2 H locs → lv_has ls 8 [(0, .ref b), (1, .ref v1), (2, .ref o), (3, .ref v3), (4, .int v4')] → W p l e room_1 s m args below meth c H locs (wC w0 - wC w'.2) (wS w0 - wS w'.2) (Q r) (F0 m 23 ls [])) (kR : ∀ q, x = (.inr q) → q = r) (hR : RepL G o w H) (hS : Cu (gFr G) s w0 w.2 H locs) (hl : lv_has ls 8 [(0, .ref b), (1, .ref v1), (2, .ref o), (3, .ref v3), (4, .int v4)]) : W p l e room_1 s m args below meth c H locs (wC w0 - wC w.2) (wS w0 - wS w.2) (Q r) (F0 m 341 ls []) := by
  have B0 := B
  obtain ⟨⟨hx, hb, hml, hown, hts, hr, hlk, hK⟩, hX, hbl, hbA, hRc, hRs⟩ := B0
  unfold fL_law_b341 at h
  refine lv_aload_n hx hb dL_law_341 rfl (lv_at hl 1 rfl) ?_
  replace h := bo_o h
  obtain ⟨_, e4, h⟩ := h
  replace h := b2_o h
  obtain ⟨x1, w3, e2, h⟩ := h
  refine l_callVW 0 (ci := 17) (As := []) (rest := []) (v := (some (.int x1))) (w' := w3) (st1 := [.int x1]) hx hb hml hown hts hK hR hS hRc hRs rfl e4 (mX1_load hl0 e2) (lw_VW q698 q699 q700 q112 q701) (by decide +kernel) (Nat.le_of_ble_eq_true rfl) (Nat.le_of_ble_eq_true rfl) rfl hl.1 (Nat.le_of_ble_eq_true rfl) dL_law_342 rfl rfl (fun H locs hR hS => ?_)
  refine lv_aload_n hx hb dL_law_345 rfl (lv_at hl 2 rfl) ?_
  replace h := b2_o h
  obtain ⟨x5, t7, e6, h⟩ := h
  refine l_callT 0 (As := []) (rest := [.int x1]) (v := (some (.int x5))) (T' := t7) (st1 := [.int x5, .int x1]) hx hb hml hown hts hK hR hS hRc hRs (mX5_load e6) (lw_V q2546 q2547 q2548 q137 q2549) (by decide +kernel) (Nat.le_of_ble_eq_true rfl) (Nat.le_of_ble_eq_true rfl) rfl hl.1 (Nat.le_of_ble_eq_true rfl) dL_law_346 rfl rfl (fun H locs hR hS => ?_)
  refine lv_icmp_eq (tgt := 3008) hx hb dL_law_349 (by decide) (fun c8 => ?_) (fun c8 => ?_)
  · replace h := it_o c8 h
    exact bL_law_3008 (w := (t7, w3)) B hE hl0 h k23 kR hR hS (lv_sub hl [0, 1, 2, 3, 4] rfl)
  · replace h := if_o c8 h
    refine lv_iconst (v := 0) hx hb dL_law_352 (by decide) ?_
    have eR := kR _ (Option.some.inj h).symm
    subst eR
    exact hE _ ls H locs w3 _ dL_law_353 hS
noncomputable def fL_law_b354 (L : Nat) (xs : Nat → Int32) (v1 : Nat) (v3 : Nat) (v4 : Int32) (w : LW) : Option (Sum (Int32 × LW) (Int32)) :=
  (hIs w.2 v1 17).bind fun _ =>
  b2_ (fX1_loadError v1 w.2) fun x1 w3 =>
  b2_ (fX5_loadError  w.1) fun x5 t7 =>
  if x1 = x5 then (
    fL_law_b3008 L xs v1 v3 v4 (t7, w3)
  ) else (
    some (.inr 0)
  )
theorem bL_law_354 {p : Program} {l : Launch} {e : Env} {s : State} {m : MethodId} {args : Array Value} {below : List Frame} {meth : Method} {c : Code} {H : Heap} {locs : List Loc} {ls : Array Slot} {G : gE} {w0 : WH} {o b L : Nat} {xs : Nat → Int32} {Q : Int32 → State → Prop} (B : lB G b L xs w0 p s m args meth c) (hE : lE l G w0 p e s m args below meth c Q) (hl0 : l.stackTraces = false) {v1 : Nat} {v3 : Nat} {v4 : Int32} {w : LW} {x : Sum (Int32 × LW) (Int32)} {r : Int32} (h : fL_law_b354 L xs v1 v3 v4 w = some x)  (k23 : ∀ (v4' : Int32) (w' : LW), x = (.inl (v4', w')) → ∀ (H : Heap) (locs : List Loc) (ls : Array Slot), RepL G o w' H → Cu (gFr G) s w0 w'.2 H locs → lv_has ls 8 [(0, .ref b), (1, .ref v1), (2, .ref o), (3, .ref v3), (4, .int v4')] → W p l e room_1 s m args below meth c H locs (wC w0 - wC w'.2) (wS w0 - wS w'.2) (Q r) (F0 m 23 ls [])) (kR : ∀ q, x = (.inr q) → q = r) (hR : RepL G o w H) (hS : Cu (gFr G) s w0 w.2 H locs) (hl : lv_has ls 8 [(0, .ref b), (1, .ref v1), (2, .ref o), (3, .ref v3), (4, .int v4)]) : W p l e room_1 s m args below meth c H locs (wC w0 - wC w.2) (wS w0 - wS w.2) (Q r) (F0 m 354 ls []) := by
  have B0 := B
  obtain ⟨⟨hx, hb, hml, hown, hts, hr, hlk, hK⟩, hX, hbl, hbA, hRc, hRs⟩ := B0
  unfold fL_law_b354 at h
  refine lv_aload_n hx hb dL_law_354 rfl (lv_at hl 1 rfl) ?_
  replace h := bo_o h
  obtain ⟨_, e4, h⟩ := h
  replace h := b2_o h
  obtain ⟨x1, w3, e2, h⟩ := h
  refine l_callV 0 (ci := 17) (As := []) (rest := []) (v := (some (.int x1))) (w' := w3) (st1 := [.int x1]) hx hb hml hown hts hK hR hS hRc hRs rfl e4 (mX1_loadError e2) (lw_V q1077 q1078 q1079 q112 q1080) (by decide +kernel) (Nat.le_of_ble_eq_true rfl) (Nat.le_of_ble_eq_true rfl) rfl hl.1 (Nat.le_of_ble_eq_true rfl) dL_law_355 rfl rfl (fun H locs hR hS => ?_)
  refine lv_aload_n hx hb dL_law_358 rfl (lv_at hl 2 rfl) ?_
  replace h := b2_o h
  obtain ⟨x5, t7, e6, h⟩ := h
  refine l_callT 0 (As := []) (rest := [.int x1]) (v := (some (.int x5))) (T' := t7) (st1 := [.int x5, .int x1]) hx hb hml hown hts hK hR hS hRc hRs (mX5_loadError e6) (lw_V q2621 q2622 q2623 q137 q2624) (by decide +kernel) (Nat.le_of_ble_eq_true rfl) (Nat.le_of_ble_eq_true rfl) rfl hl.1 (Nat.le_of_ble_eq_true rfl) dL_law_359 rfl rfl (fun H locs hR hS => ?_)
  refine lv_icmp_eq (tgt := 3008) hx hb dL_law_362 (by decide) (fun c8 => ?_) (fun c8 => ?_)
  · replace h := it_o c8 h
    exact bL_law_3008 (w := (t7, w3)) B hE hl0 h k23 kR hR hS (lv_sub hl [0, 1, 2, 3, 4] rfl)
  · replace h := if_o c8 h
    refine lv_iconst (v := 0) hx hb dL_law_365 (by decide) ?_
    have eR := kR _ (Option.some.inj h).symm
    subst eR
    exact hE _ ls H locs w3 _ dL_law_366 hS
noncomputable def fL_law_b367 (L : Nat) (xs : Nat → Int32) (v1 : Nat) (v3 : Nat) (v4 : Int32) (w : LW) : Option (Sum (Int32 × LW) (Int32)) :=
  (hIs w.2 v1 17).bind fun _ =>
  b2_ (fX1_loadStatement v1 w.2) fun x1 w3 =>
  b2_ (fX5_loadStatement  w.1) fun x5 t7 =>
  if x1 = x5 then (
    fL_law_b3008 L xs v1 v3 v4 (t7, w3)
  ) else (
    some (.inr 0)
  )
theorem bL_law_367 {p : Program} {l : Launch} {e : Env} {s : State} {m : MethodId} {args : Array Value} {below : List Frame} {meth : Method} {c : Code} {H : Heap} {locs : List Loc} {ls : Array Slot} {G : gE} {w0 : WH} {o b L : Nat} {xs : Nat → Int32} {Q : Int32 → State → Prop} (B : lB G b L xs w0 p s m args meth c) (hE : lE l G w0 p e s m args below meth c Q) (hl0 : l.stackTraces = false) {v1 : Nat} {v3 : Nat} {v4 : Int32} {w : LW} {x : Sum (Int32 × LW) (Int32)} {r : Int32} (h : fL_law_b367 L xs v1 v3 v4 w = some x)  (k23 : ∀ (v4' : Int32) (w' : LW), x = (.inl (v4', w')) → ∀ (H : Heap) (locs : List Loc) (ls : Array Slot), RepL G o w' H → Cu (gFr G) s w0 w'.2 H locs → lv_has ls 8 [(0, .ref b), (1, .ref v1), (2, .ref o), (3, .ref v3), (4, .int v4')] → W p l e room_1 s m args below meth c H locs (wC w0 - wC w'.2) (wS w0 - wS w'.2) (Q r) (F0 m 23 ls [])) (kR : ∀ q, x = (.inr q) → q = r) (hR : RepL G o w H) (hS : Cu (gFr G) s w0 w.2 H locs) (hl : lv_has ls 8 [(0, .ref b), (1, .ref v1), (2, .ref o), (3, .ref v3), (4, .int v4)]) : W p l e room_1 s m args below meth c H locs (wC w0 - wC w.2) (wS w0 - wS w.2) (Q r) (F0 m 367 ls []) := by
  have B0 := B
  obtain ⟨⟨hx, hb, hml, hown, hts, hr, hlk, hK⟩, hX, hbl, hbA, hRc, hRs⟩ := B0
  unfold fL_law_b367 at h
  refine lv_aload_n hx hb dL_law_367 rfl (lv_at hl 1 rfl) ?_
  replace h := bo_o h
  obtain ⟨_, e4, h⟩ := h
  replace h := b2_o h
  obtain ⟨x1, w3, e2, h⟩ := h
  refine l_callV 0 (ci := 17) (As := []) (rest := []) (v := (some (.int x1))) (w' := w3) (st1 := [.int x1]) hx hb hml hown hts hK hR hS hRc hRs rfl e4 (mX1_loadStatement e2) (lw_V q1081 q1082 q1083 q112 q1084) (by decide +kernel) (Nat.le_of_ble_eq_true rfl) (Nat.le_of_ble_eq_true rfl) rfl hl.1 (Nat.le_of_ble_eq_true rfl) dL_law_368 rfl rfl (fun H locs hR hS => ?_)
  refine lv_aload_n hx hb dL_law_371 rfl (lv_at hl 2 rfl) ?_
  replace h := b2_o h
  obtain ⟨x5, t7, e6, h⟩ := h
  refine l_callT 0 (As := []) (rest := [.int x1]) (v := (some (.int x5))) (T' := t7) (st1 := [.int x5, .int x1]) hx hb hml hown hts hK hR hS hRc hRs (mX5_loadStatement e6) (lw_V q2625 q2626 q2627 q137 q2628) (by decide +kernel) (Nat.le_of_ble_eq_true rfl) (Nat.le_of_ble_eq_true rfl) rfl hl.1 (Nat.le_of_ble_eq_true rfl) dL_law_372 rfl rfl (fun H locs hR hS => ?_)
  refine lv_icmp_eq (tgt := 3008) hx hb dL_law_375 (by decide) (fun c8 => ?_) (fun c8 => ?_)
  · replace h := it_o c8 h
    exact bL_law_3008 (w := (t7, w3)) B hE hl0 h k23 kR hR hS (lv_sub hl [0, 1, 2, 3, 4] rfl)
  · replace h := if_o c8 h
    refine lv_iconst (v := 0) hx hb dL_law_378 (by decide) ?_
    have eR := kR _ (Option.some.inj h).symm
    subst eR
    exact hE _ ls H locs w3 _ dL_law_379 hS
noncomputable def fL_law_b433 (L : Nat) (xs : Nat → Int32) (v1 : Nat) (v3 : Nat) (v4 : Int32) (w : LW) : Option (Sum (Int32 × LW) (Int32)) :=
  fL_law_b3008 L xs v1 v3 v4 w
theorem bL_law_433 {p : Program} {l : Launch} {e : Env} {s : State} {m : MethodId} {args : Array Value} {below : List Frame} {meth : Method} {c : Code} {H : Heap} {locs : List Loc} {ls : Array Slot} {G : gE} {w0 : WH} {o b L : Nat} {xs : Nat → Int32} {Q : Int32 → State → Prop} (B : lB G b L xs w0 p s m args meth c) (hE : lE l G w0 p e s m args below meth c Q) (hl0 : l.stackTraces = false) {v1 : Nat} {v3 : Nat} {v4 : Int32} {w : LW} {x : Sum (Int32 × LW) (Int32)} {r : Int32} (h : fL_law_b433 L xs v1 v3 v4 w = some x)  (k23 : ∀ (v4' : Int32) (w' : LW), x = (.inl (v4', w')) → ∀ (H : Heap) (locs : List Loc) (ls : Array Slot), RepL G o w' H → Cu (gFr G) s w0 w'.2 H locs → lv_has ls 8 [(0, .ref b), (1, .ref v1), (2, .ref o), (3, .ref v3), (4, .int v4')] → W p l e room_1 s m args below meth c H locs (wC w0 - wC w'.2) (wS w0 - wS w'.2) (Q r) (F0 m 23 ls [])) (kR : ∀ q, x = (.inr q) → q = r) (hR : RepL G o w H) (hS : Cu (gFr G) s w0 w.2 H locs) (hl : lv_has ls 8 [(0, .ref b), (1, .ref v1), (2, .ref o), (3, .ref v3), (4, .int v4)]) : W p l e room_1 s m args below meth c H locs (wC w0 - wC w.2) (wS w0 - wS w.2) (Q r) (F0 m 433 ls []) := by
  have B0 := B
  obtain ⟨⟨hx, hb, hml, hown, hts, hr, hlk, hK⟩, hX, hbl, hbA, hRc, hRs⟩ := B0
  unfold fL_law_b433 at h
  refine lv_goto (tgt := 3008) hx hb dL_law_433 (by decide) ?_
  exact bL_law_3008 (w := w) B hE hl0 h k23 kR hR hS (lv_sub hl [0, 1, 2, 3, 4] rfl)
noncomputable def fL_law_b380 (L : Nat) (xs : Nat → Int32) (v1 : Nat) (v3 : Nat) (v4 : Int32) (w : LW) : Option (Sum (Int32 × LW) (Int32)) :=
  (sld L xs (v4 + 1)).bind fun x1 =>
  b2_ (fX0_count v1 x1 v3 w.2) fun x3 w5 =>
  (sld L xs (v4 + 1)).bind fun x6 =>
  b2_ (fX5_count x6 w.1) fun x8 t10 =>
  b2_ (fX5_thrown  t10) fun x11 t13 =>
  if x11 = x3 then (
    if x3 = 0 then (
      (ldJ w5 v3 0).bind fun x16 =>
      if lg_cmp x16 (x8.toInt64) = 0 then (
        fL_law_b433 L xs v1 v3 v4 (t13, w5)
      ) else (
        some (.inr 0)
      )
    ) else (
      fL_law_b433 L xs v1 v3 v4 (t13, w5)
    )
  ) else (
    some (.inr 0)
  )
theorem bL_law_380 {p : Program} {l : Launch} {e : Env} {s : State} {m : MethodId} {args : Array Value} {below : List Frame} {meth : Method} {c : Code} {H : Heap} {locs : List Loc} {ls : Array Slot} {G : gE} {w0 : WH} {o b L : Nat} {xs : Nat → Int32} {Q : Int32 → State → Prop} (B : lB G b L xs w0 p s m args meth c) (hE : lE l G w0 p e s m args below meth c Q) (hl0 : l.stackTraces = false) {v1 : Nat} {v3 : Nat} {v4 : Int32} {w : LW} {x : Sum (Int32 × LW) (Int32)} {r : Int32} (h : fL_law_b380 L xs v1 v3 v4 w = some x)  (k23 : ∀ (v4' : Int32) (w' : LW), x = (.inl (v4', w')) → ∀ (H : Heap) (locs : List Loc) (ls : Array Slot), RepL G o w' H → Cu (gFr G) s w0 w'.2 H locs → lv_has ls 8 [(0, .ref b), (1, .ref v1), (2, .ref o), (3, .ref v3), (4, .int v4')] → W p l e room_1 s m args below meth c H locs (wC w0 - wC w'.2) (wS w0 - wS w'.2) (Q r) (F0 m 23 ls [])) (kR : ∀ q, x = (.inr q) → q = r) (hR : RepL G o w H) (hS : Cu (gFr G) s w0 w.2 H locs) (hl : lv_has ls 8 [(0, .ref b), (1, .ref v1), (2, .ref o), (3, .ref v3), (4, .int v4)]) : W p l e room_1 s m args below meth c H locs (wC w0 - wC w.2) (wS w0 - wS w.2) (Q r) (F0 m 380 ls []) := by
  have B0 := B
  obtain ⟨⟨hx, hb, hml, hown, hts, hr, hlk, hK⟩, hX, hbl, hbA, hRc, hRs⟩ := B0
  unfold fL_law_b380 at h
  refine lv_aload_n hx hb dL_law_380 rfl (lv_at hl 1 rfl) ?_
  refine lv_aload_n hx hb dL_law_381 rfl (lv_at hl 0 rfl) ?_
  refine lv_iload hx hb dL_law_382 (lv_at hl 4 rfl) ?_
  refine lv_iconst (v := 1) hx hb dL_law_384 (by decide) ?_
  refine lv_iadd hx hb dL_law_385 ?_
  replace h := bo_o h
  obtain ⟨x1, e2, h⟩ := h
  refine l_sld (w := w) hx hb hX hbl hbA hS e2 dL_law_386 ?_
  refine lv_aload_n hx hb dL_law_387 rfl (lv_at hl 3 rfl) ?_
  replace h := b2_o h
  obtain ⟨x3, w5, e4, h⟩ := h
  refine l_callSW 3 (As := [.ref v1, .int x1, .ref v3]) (rest := []) (v := (some (.int x3))) (w' := w5) (st1 := [.int x3]) hx hb hml hown hts hK hR hS hRc hRs (mX0_count hl0 e4) (lw_SW q1911 q1912 q111 q1913) (by decide +kernel) (Nat.le_of_ble_eq_true rfl) (Nat.le_of_ble_eq_true rfl) rfl hl.1 (Nat.le_of_ble_eq_true rfl) dL_law_388 rfl rfl (fun H locs hR hS => ?_)
  refine lv_istore (lv' := [(5, .int x3), (0, .ref b), (1, .ref v1), (2, .ref o), (3, .ref v3), (4, .int v4)]) hx hb dL_law_391 hl (by decide) rfl (fun ls hl => ?_)
  refine lv_aload_n hx hb dL_law_393 rfl (lv_at hl 3 rfl) ?_
  refine lv_aload_n hx hb dL_law_394 rfl (lv_at hl 1 rfl) ?_
  refine lv_iload hx hb dL_law_395 (lv_at hl 5 rfl) ?_
  refine lv_iconst (v := 1) hx hb dL_law_397 (by decide) ?_
  refine lv_iadd hx hb dL_law_398 ?_
  replace h := bo_o h
  obtain ⟨x6, e7, h⟩ := h
  refine l_sld (w := (w.1, w5)) hx hb hX hbl hbA hS e7 dL_law_399 ?_
  replace h := b2_o h
  obtain ⟨x8, t10, e9, h⟩ := h
  refine l_callT 1 (As := [.int x6]) (rest := []) (v := (some (.int x8))) (T' := t10) (st1 := [.int x8]) hx hb hml hown hts hK hR hS hRc hRs (mX5_count e9) (lw_V q2629 q2630 q2631 q137 q2632) (by decide +kernel) (Nat.le_of_ble_eq_true rfl) (Nat.le_of_ble_eq_true rfl) rfl hl.1 (Nat.le_of_ble_eq_true rfl) dL_law_400 rfl rfl (fun H locs hR hS => ?_)
  refine lv_istore (lv' := [(6, .int x8), (5, .int x3), (0, .ref b), (1, .ref v1), (2, .ref o), (3, .ref v3), (4, .int v4)]) hx hb dL_law_403 hl (by decide) rfl (fun ls hl => ?_)
  refine lv_aload_n hx hb dL_law_405 rfl (lv_at hl 4 rfl) ?_
  replace h := b2_o h
  obtain ⟨x11, t13, e12, h⟩ := h
  refine l_callT 0 (As := []) (rest := []) (v := (some (.int x11))) (T' := t13) (st1 := [.int x11]) hx hb hml hown hts hK hR hS hRc hRs (mX5_thrown e12) (lw_V q2534 q2535 q2536 q137 q2537) (by decide +kernel) (Nat.le_of_ble_eq_true rfl) (Nat.le_of_ble_eq_true rfl) rfl hl.1 (Nat.le_of_ble_eq_true rfl) dL_law_406 rfl rfl (fun H locs hR hS => ?_)
  refine lv_iload hx hb dL_law_409 (lv_at hl 1 rfl) ?_
  refine lv_icmp_eq (tgt := 416) hx hb dL_law_411 (by decide) (fun c14 => ?_) (fun c14 => ?_)
  · replace h := it_o c14 h
    refine lv_iload hx hb dL_law_416 (lv_at hl 1 rfl) ?_
    refine lv_if_ne (tgt := 433) hx hb dL_law_418 (by decide) (fun c15 => ?_) (fun c15 => ?_)
    · replace h := if_o c15 h
      exact bL_law_433 (w := (t13, w5)) B hE hl0 h k23 kR hR hS (lv_sub hl [2, 3, 4, 5, 6] rfl)
    · replace h := it_o c15 h
      refine lv_aload_n hx hb dL_law_421 rfl (lv_at hl 5 rfl) ?_
      refine lv_iconst (v := 0) hx hb dL_law_422 (by decide) ?_
      replace h := bo_o h
      obtain ⟨x16, e17, h⟩ := h
      refine h_lald hx hb hK hR.2.weak e17 dL_law_423 ?_
      refine lv_iload hx hb dL_law_424 (lv_at hl 0 rfl) ?_
      refine lv_i2l hx hb dL_law_426 rfl ?_
      refine W.lcmp hx hb dL_law_427 ?_
      refine lv_if_eq (tgt := 433) hx hb dL_law_428 (by decide) (fun c18 => ?_) (fun c18 => ?_)
      · replace h := it_o c18 h
        exact bL_law_433 (w := (t13, w5)) B hE hl0 h k23 kR hR hS (lv_sub hl [2, 3, 4, 5, 6] rfl)
      · replace h := if_o c18 h
        refine lv_iconst (v := 0) hx hb dL_law_431 (by decide) ?_
        have eR := kR _ (Option.some.inj h).symm
        subst eR
        exact hE _ ls H locs w5 _ dL_law_432 hS
  · replace h := if_o c14 h
    refine lv_iconst (v := 0) hx hb dL_law_414 (by decide) ?_
    have eR := kR _ (Option.some.inj h).symm
    subst eR
    exact hE _ ls H locs w5 _ dL_law_415 hS
noncomputable def fL_law_b501 (L : Nat) (xs : Nat → Int32) (v1 : Nat) (v3 : Nat) (v4 : Int32) (w : LW) : Option (Sum (Int32 × LW) (Int32)) :=
  fL_law_b3008 L xs v1 v3 v4 w
theorem bL_law_501 {p : Program} {l : Launch} {e : Env} {s : State} {m : MethodId} {args : Array Value} {below : List Frame} {meth : Method} {c : Code} {H : Heap} {locs : List Loc} {ls : Array Slot} {G : gE} {w0 : WH} {o b L : Nat} {xs : Nat → Int32} {Q : Int32 → State → Prop} (B : lB G b L xs w0 p s m args meth c) (hE : lE l G w0 p e s m args below meth c Q) (hl0 : l.stackTraces = false) {v1 : Nat} {v3 : Nat} {v4 : Int32} {w : LW} {x : Sum (Int32 × LW) (Int32)} {r : Int32} (h : fL_law_b501 L xs v1 v3 v4 w = some x)  (k23 : ∀ (v4' : Int32) (w' : LW), x = (.inl (v4', w')) → ∀ (H : Heap) (locs : List Loc) (ls : Array Slot), RepL G o w' H → Cu (gFr G) s w0 w'.2 H locs → lv_has ls 8 [(0, .ref b), (1, .ref v1), (2, .ref o), (3, .ref v3), (4, .int v4')] → W p l e room_1 s m args below meth c H locs (wC w0 - wC w'.2) (wS w0 - wS w'.2) (Q r) (F0 m 23 ls [])) (kR : ∀ q, x = (.inr q) → q = r) (hR : RepL G o w H) (hS : Cu (gFr G) s w0 w.2 H locs) (hl : lv_has ls 8 [(0, .ref b), (1, .ref v1), (2, .ref o), (3, .ref v3), (4, .int v4)]) : W p l e room_1 s m args below meth c H locs (wC w0 - wC w.2) (wS w0 - wS w.2) (Q r) (F0 m 501 ls []) := by
  have B0 := B
  obtain ⟨⟨hx, hb, hml, hown, hts, hr, hlk, hK⟩, hX, hbl, hbA, hRc, hRs⟩ := B0
  unfold fL_law_b501 at h
  refine lv_goto (tgt := 3008) hx hb dL_law_501 (by decide) ?_
  exact bL_law_3008 (w := w) B hE hl0 h k23 kR hR hS (lv_sub hl [0, 1, 2, 3, 4] rfl)
noncomputable def fL_law_b484 (L : Nat) (xs : Nat → Int32) (v1 : Nat) (v3 : Nat) (v4 : Int32) (v5 : Int32) (v6 : Int32) (w : LW) : Option (Sum (Int32 × LW) (Int32)) :=
  if v5 = 0 then (
    (ldJ w.2 v3 0).bind fun x2 =>
    if lg_cmp x2 (v6.toInt64) = 0 then (
      fL_law_b501 L xs v1 v3 v4 w
    ) else (
      some (.inr 0)
    )
  ) else (
    fL_law_b501 L xs v1 v3 v4 w
  )
theorem bL_law_484 {p : Program} {l : Launch} {e : Env} {s : State} {m : MethodId} {args : Array Value} {below : List Frame} {meth : Method} {c : Code} {H : Heap} {locs : List Loc} {ls : Array Slot} {G : gE} {w0 : WH} {o b L : Nat} {xs : Nat → Int32} {Q : Int32 → State → Prop} (B : lB G b L xs w0 p s m args meth c) (hE : lE l G w0 p e s m args below meth c Q) (hl0 : l.stackTraces = false) {v1 : Nat} {v3 : Nat} {v4 : Int32} {v5 : Int32} {v6 : Int32} {w : LW} {x : Sum (Int32 × LW) (Int32)} {r : Int32} (h : fL_law_b484 L xs v1 v3 v4 v5 v6 w = some x)  (k23 : ∀ (v4' : Int32) (w' : LW), x = (.inl (v4', w')) → ∀ (H : Heap) (locs : List Loc) (ls : Array Slot), RepL G o w' H → Cu (gFr G) s w0 w'.2 H locs → lv_has ls 8 [(0, .ref b), (1, .ref v1), (2, .ref o), (3, .ref v3), (4, .int v4')] → W p l e room_1 s m args below meth c H locs (wC w0 - wC w'.2) (wS w0 - wS w'.2) (Q r) (F0 m 23 ls [])) (kR : ∀ q, x = (.inr q) → q = r) (hR : RepL G o w H) (hS : Cu (gFr G) s w0 w.2 H locs) (hl : lv_has ls 8 [(0, .ref b), (1, .ref v1), (2, .ref o), (3, .ref v3), (4, .int v4), (5, .int v5), (6, .int v6)]) : W p l e room_1 s m args below meth c H locs (wC w0 - wC w.2) (wS w0 - wS w.2) (Q r) (F0 m 484 ls []) := by
  have B0 := B
  obtain ⟨⟨hx, hb, hml, hown, hts, hr, hlk, hK⟩, hX, hbl, hbA, hRc, hRs⟩ := B0
  unfold fL_law_b484 at h
  refine lv_iload hx hb dL_law_484 (lv_at hl 5 rfl) ?_
  refine lv_if_ne (tgt := 501) hx hb dL_law_486 (by decide) (fun c1 => ?_) (fun c1 => ?_)
  · replace h := if_o c1 h
    exact bL_law_501 (w := w) B hE hl0 h k23 kR hR hS (lv_sub hl [0, 1, 2, 3, 4] rfl)
  · replace h := it_o c1 h
    refine lv_aload_n hx hb dL_law_489 rfl (lv_at hl 3 rfl) ?_
    refine lv_iconst (v := 0) hx hb dL_law_490 (by decide) ?_
    replace h := bo_o h
    obtain ⟨x2, e3, h⟩ := h
    refine h_lald hx hb hK hR.2.weak e3 dL_law_491 ?_
    refine lv_iload hx hb dL_law_492 (lv_at hl 6 rfl) ?_
    refine lv_i2l hx hb dL_law_494 rfl ?_
    refine W.lcmp hx hb dL_law_495 ?_
    refine lv_if_eq (tgt := 501) hx hb dL_law_496 (by decide) (fun c4 => ?_) (fun c4 => ?_)
    · replace h := it_o c4 h
      exact bL_law_501 (w := w) B hE hl0 h k23 kR hR hS (lv_sub hl [0, 1, 2, 3, 4] rfl)
    · replace h := if_o c4 h
      refine lv_iconst (v := 0) hx hb dL_law_499 (by decide) ?_
      have eR := kR _ (Option.some.inj h).symm
      subst eR
      exact hE _ ls H locs w.2 _ dL_law_500 hS
noncomputable def fL_law_b436 (L : Nat) (xs : Nat → Int32) (v1 : Nat) (v3 : Nat) (v4 : Int32) (w : LW) : Option (Sum (Int32 × LW) (Int32)) :=
  (sld L xs (v4 + 1)).bind fun x1 =>
  (sld L xs (v4 + 2)).bind fun x3 =>
  b2_ (fX0_arcValue v1 x1 x3 v3 w.2) fun x5 w7 =>
  (sld L xs (v4 + 1)).bind fun x8 =>
  (sld L xs (v4 + 2)).bind fun x10 =>
  b2_ (fX5_arcValue x8 x10 w.1) fun x12 t14 =>
  b2_ (fX5_thrown  t14) fun x15 t17 =>
  if x15 = x5 then (
    fL_law_b484 L xs v1 v3 v4 x5 x12 (t17, w7)
  ) else (
    some (.inr 0)
  )
theorem bL_law_436 {p : Program} {l : Launch} {e : Env} {s : State} {m : MethodId} {args : Array Value} {below : List Frame} {meth : Method} {c : Code} {H : Heap} {locs : List Loc} {ls : Array Slot} {G : gE} {w0 : WH} {o b L : Nat} {xs : Nat → Int32} {Q : Int32 → State → Prop} (B : lB G b L xs w0 p s m args meth c) (hE : lE l G w0 p e s m args below meth c Q) (hl0 : l.stackTraces = false) {v1 : Nat} {v3 : Nat} {v4 : Int32} {w : LW} {x : Sum (Int32 × LW) (Int32)} {r : Int32} (h : fL_law_b436 L xs v1 v3 v4 w = some x)  (k23 : ∀ (v4' : Int32) (w' : LW), x = (.inl (v4', w')) → ∀ (H : Heap) (locs : List Loc) (ls : Array Slot), RepL G o w' H → Cu (gFr G) s w0 w'.2 H locs → lv_has ls 8 [(0, .ref b), (1, .ref v1), (2, .ref o), (3, .ref v3), (4, .int v4')] → W p l e room_1 s m args below meth c H locs (wC w0 - wC w'.2) (wS w0 - wS w'.2) (Q r) (F0 m 23 ls [])) (kR : ∀ q, x = (.inr q) → q = r) (hR : RepL G o w H) (hS : Cu (gFr G) s w0 w.2 H locs) (hl : lv_has ls 8 [(0, .ref b), (1, .ref v1), (2, .ref o), (3, .ref v3), (4, .int v4)]) : W p l e room_1 s m args below meth c H locs (wC w0 - wC w.2) (wS w0 - wS w.2) (Q r) (F0 m 436 ls []) := by
  have B0 := B
  obtain ⟨⟨hx, hb, hml, hown, hts, hr, hlk, hK⟩, hX, hbl, hbA, hRc, hRs⟩ := B0
  unfold fL_law_b436 at h
  refine lv_aload_n hx hb dL_law_436 rfl (lv_at hl 1 rfl) ?_
  refine lv_aload_n hx hb dL_law_437 rfl (lv_at hl 0 rfl) ?_
  refine lv_iload hx hb dL_law_438 (lv_at hl 4 rfl) ?_
  refine lv_iconst (v := 1) hx hb dL_law_440 (by decide) ?_
  refine lv_iadd hx hb dL_law_441 ?_
  replace h := bo_o h
  obtain ⟨x1, e2, h⟩ := h
  refine l_sld (w := w) hx hb hX hbl hbA hS e2 dL_law_442 ?_
  refine lv_aload_n hx hb dL_law_443 rfl (lv_at hl 0 rfl) ?_
  refine lv_iload hx hb dL_law_444 (lv_at hl 4 rfl) ?_
  refine lv_iconst (v := 2) hx hb dL_law_446 (by decide) ?_
  refine lv_iadd hx hb dL_law_447 ?_
  replace h := bo_o h
  obtain ⟨x3, e4, h⟩ := h
  refine l_sld (w := w) hx hb hX hbl hbA hS e4 dL_law_448 ?_
  refine lv_aload_n hx hb dL_law_449 rfl (lv_at hl 3 rfl) ?_
  replace h := b2_o h
  obtain ⟨x5, w7, e6, h⟩ := h
  refine l_callSW 4 (As := [.ref v1, .int x1, .int x3, .ref v3]) (rest := []) (v := (some (.int x5))) (w' := w7) (st1 := [.int x5]) hx hb hml hown hts hK hR hS hRc hRs (mX0_arcValue hl0 e6) (lw_SW q1938 q1939 q111 q1940) (by decide +kernel) (Nat.le_of_ble_eq_true rfl) (Nat.le_of_ble_eq_true rfl) rfl hl.1 (Nat.le_of_ble_eq_true rfl) dL_law_450 rfl rfl (fun H locs hR hS => ?_)
  refine lv_istore (lv' := [(5, .int x5), (0, .ref b), (1, .ref v1), (2, .ref o), (3, .ref v3), (4, .int v4)]) hx hb dL_law_453 hl (by decide) rfl (fun ls hl => ?_)
  refine lv_aload_n hx hb dL_law_455 rfl (lv_at hl 3 rfl) ?_
  refine lv_aload_n hx hb dL_law_456 rfl (lv_at hl 1 rfl) ?_
  refine lv_iload hx hb dL_law_457 (lv_at hl 5 rfl) ?_
  refine lv_iconst (v := 1) hx hb dL_law_459 (by decide) ?_
  refine lv_iadd hx hb dL_law_460 ?_
  replace h := bo_o h
  obtain ⟨x8, e9, h⟩ := h
  refine l_sld (w := (w.1, w7)) hx hb hX hbl hbA hS e9 dL_law_461 ?_
  refine lv_aload_n hx hb dL_law_462 rfl (lv_at hl 1 rfl) ?_
  refine lv_iload hx hb dL_law_463 (lv_at hl 5 rfl) ?_
  refine lv_iconst (v := 2) hx hb dL_law_465 (by decide) ?_
  refine lv_iadd hx hb dL_law_466 ?_
  replace h := bo_o h
  obtain ⟨x10, e11, h⟩ := h
  refine l_sld (w := (w.1, w7)) hx hb hX hbl hbA hS e11 dL_law_467 ?_
  replace h := b2_o h
  obtain ⟨x12, t14, e13, h⟩ := h
  refine l_callT 2 (As := [.int x8, .int x10]) (rest := []) (v := (some (.int x12))) (T' := t14) (st1 := [.int x12]) hx hb hml hown hts hK hR hS hRc hRs (mX5_arcValue e13) (lw_V q2641 q2642 q2643 q137 q2644) (by decide +kernel) (Nat.le_of_ble_eq_true rfl) (Nat.le_of_ble_eq_true rfl) rfl hl.1 (Nat.le_of_ble_eq_true rfl) dL_law_468 rfl rfl (fun H locs hR hS => ?_)
  refine lv_istore (lv' := [(6, .int x12), (5, .int x5), (0, .ref b), (1, .ref v1), (2, .ref o), (3, .ref v3), (4, .int v4)]) hx hb dL_law_471 hl (by decide) rfl (fun ls hl => ?_)
  refine lv_aload_n hx hb dL_law_473 rfl (lv_at hl 4 rfl) ?_
  replace h := b2_o h
  obtain ⟨x15, t17, e16, h⟩ := h
  refine l_callT 0 (As := []) (rest := []) (v := (some (.int x15))) (T' := t17) (st1 := [.int x15]) hx hb hml hown hts hK hR hS hRc hRs (mX5_thrown e16) (lw_V q2534 q2535 q2536 q137 q2537) (by decide +kernel) (Nat.le_of_ble_eq_true rfl) (Nat.le_of_ble_eq_true rfl) rfl hl.1 (Nat.le_of_ble_eq_true rfl) dL_law_474 rfl rfl (fun H locs hR hS => ?_)
  refine lv_iload hx hb dL_law_477 (lv_at hl 1 rfl) ?_
  refine lv_icmp_eq (tgt := 484) hx hb dL_law_479 (by decide) (fun c18 => ?_) (fun c18 => ?_)
  · replace h := it_o c18 h
    exact bL_law_484 (w := (t17, w7)) B hE hl0 h k23 kR hR hS (lv_sub hl [2, 3, 4, 5, 6, 1, 0] rfl)
  · replace h := if_o c18 h
    refine lv_iconst (v := 0) hx hb dL_law_482 (by decide) ?_
    have eR := kR _ (Option.some.inj h).symm
    subst eR
    exact hE _ ls H locs w7 _ dL_law_483 hS
noncomputable def fL_law_b569 (L : Nat) (xs : Nat → Int32) (v1 : Nat) (v3 : Nat) (v4 : Int32) (w : LW) : Option (Sum (Int32 × LW) (Int32)) :=
  fL_law_b3008 L xs v1 v3 v4 w
theorem bL_law_569 {p : Program} {l : Launch} {e : Env} {s : State} {m : MethodId} {args : Array Value} {below : List Frame} {meth : Method} {c : Code} {H : Heap} {locs : List Loc} {ls : Array Slot} {G : gE} {w0 : WH} {o b L : Nat} {xs : Nat → Int32} {Q : Int32 → State → Prop} (B : lB G b L xs w0 p s m args meth c) (hE : lE l G w0 p e s m args below meth c Q) (hl0 : l.stackTraces = false) {v1 : Nat} {v3 : Nat} {v4 : Int32} {w : LW} {x : Sum (Int32 × LW) (Int32)} {r : Int32} (h : fL_law_b569 L xs v1 v3 v4 w = some x)  (k23 : ∀ (v4' : Int32) (w' : LW), x = (.inl (v4', w')) → ∀ (H : Heap) (locs : List Loc) (ls : Array Slot), RepL G o w' H → Cu (gFr G) s w0 w'.2 H locs → lv_has ls 8 [(0, .ref b), (1, .ref v1), (2, .ref o), (3, .ref v3), (4, .int v4')] → W p l e room_1 s m args below meth c H locs (wC w0 - wC w'.2) (wS w0 - wS w'.2) (Q r) (F0 m 23 ls [])) (kR : ∀ q, x = (.inr q) → q = r) (hR : RepL G o w H) (hS : Cu (gFr G) s w0 w.2 H locs) (hl : lv_has ls 8 [(0, .ref b), (1, .ref v1), (2, .ref o), (3, .ref v3), (4, .int v4)]) : W p l e room_1 s m args below meth c H locs (wC w0 - wC w.2) (wS w0 - wS w.2) (Q r) (F0 m 569 ls []) := by
  have B0 := B
  obtain ⟨⟨hx, hb, hml, hown, hts, hr, hlk, hK⟩, hX, hbl, hbA, hRc, hRs⟩ := B0
  unfold fL_law_b569 at h
  refine lv_goto (tgt := 3008) hx hb dL_law_569 (by decide) ?_
  exact bL_law_3008 (w := w) B hE hl0 h k23 kR hR hS (lv_sub hl [0, 1, 2, 3, 4] rfl)
noncomputable def fL_law_b552 (L : Nat) (xs : Nat → Int32) (v1 : Nat) (v3 : Nat) (v4 : Int32) (v5 : Int32) (v6 : Int32) (w : LW) : Option (Sum (Int32 × LW) (Int32)) :=
  if v5 = 0 then (
    (ldJ w.2 v3 0).bind fun x2 =>
    if lg_cmp x2 (v6.toInt64) = 0 then (
      fL_law_b569 L xs v1 v3 v4 w
    ) else (
      some (.inr 0)
    )
  ) else (
    fL_law_b569 L xs v1 v3 v4 w
  )
theorem bL_law_552 {p : Program} {l : Launch} {e : Env} {s : State} {m : MethodId} {args : Array Value} {below : List Frame} {meth : Method} {c : Code} {H : Heap} {locs : List Loc} {ls : Array Slot} {G : gE} {w0 : WH} {o b L : Nat} {xs : Nat → Int32} {Q : Int32 → State → Prop} (B : lB G b L xs w0 p s m args meth c) (hE : lE l G w0 p e s m args below meth c Q) (hl0 : l.stackTraces = false) {v1 : Nat} {v3 : Nat} {v4 : Int32} {v5 : Int32} {v6 : Int32} {w : LW} {x : Sum (Int32 × LW) (Int32)} {r : Int32} (h : fL_law_b552 L xs v1 v3 v4 v5 v6 w = some x)  (k23 : ∀ (v4' : Int32) (w' : LW), x = (.inl (v4', w')) → ∀ (H : Heap) (locs : List Loc) (ls : Array Slot), RepL G o w' H → Cu (gFr G) s w0 w'.2 H locs → lv_has ls 8 [(0, .ref b), (1, .ref v1), (2, .ref o), (3, .ref v3), (4, .int v4')] → W p l e room_1 s m args below meth c H locs (wC w0 - wC w'.2) (wS w0 - wS w'.2) (Q r) (F0 m 23 ls [])) (kR : ∀ q, x = (.inr q) → q = r) (hR : RepL G o w H) (hS : Cu (gFr G) s w0 w.2 H locs) (hl : lv_has ls 8 [(0, .ref b), (1, .ref v1), (2, .ref o), (3, .ref v3), (4, .int v4), (5, .int v5), (6, .int v6)]) : W p l e room_1 s m args below meth c H locs (wC w0 - wC w.2) (wS w0 - wS w.2) (Q r) (F0 m 552 ls []) := by
  have B0 := B
  obtain ⟨⟨hx, hb, hml, hown, hts, hr, hlk, hK⟩, hX, hbl, hbA, hRc, hRs⟩ := B0
  unfold fL_law_b552 at h
  refine lv_iload hx hb dL_law_552 (lv_at hl 5 rfl) ?_
  refine lv_if_ne (tgt := 569) hx hb dL_law_554 (by decide) (fun c1 => ?_) (fun c1 => ?_)
  · replace h := if_o c1 h
    exact bL_law_569 (w := w) B hE hl0 h k23 kR hR hS (lv_sub hl [0, 1, 2, 3, 4] rfl)
  · replace h := it_o c1 h
    refine lv_aload_n hx hb dL_law_557 rfl (lv_at hl 3 rfl) ?_
    refine lv_iconst (v := 0) hx hb dL_law_558 (by decide) ?_
    replace h := bo_o h
    obtain ⟨x2, e3, h⟩ := h
    refine h_lald hx hb hK hR.2.weak e3 dL_law_559 ?_
    refine lv_iload hx hb dL_law_560 (lv_at hl 6 rfl) ?_
    refine lv_i2l hx hb dL_law_562 rfl ?_
    refine W.lcmp hx hb dL_law_563 ?_
    refine lv_if_eq (tgt := 569) hx hb dL_law_564 (by decide) (fun c4 => ?_) (fun c4 => ?_)
    · replace h := it_o c4 h
      exact bL_law_569 (w := w) B hE hl0 h k23 kR hR hS (lv_sub hl [0, 1, 2, 3, 4] rfl)
    · replace h := if_o c4 h
      refine lv_iconst (v := 0) hx hb dL_law_567 (by decide) ?_
      have eR := kR _ (Option.some.inj h).symm
      subst eR
      exact hE _ ls H locs w.2 _ dL_law_568 hS
noncomputable def fL_law_b504 (L : Nat) (xs : Nat → Int32) (v1 : Nat) (v3 : Nat) (v4 : Int32) (w : LW) : Option (Sum (Int32 × LW) (Int32)) :=
  (sld L xs (v4 + 1)).bind fun x1 =>
  (sld L xs (v4 + 2)).bind fun x3 =>
  b2_ (fX0_tripValue v1 x1 x3 v3 w.2) fun x5 w7 =>
  (sld L xs (v4 + 1)).bind fun x8 =>
  (sld L xs (v4 + 2)).bind fun x10 =>
  b2_ (fX5_tripValue x8 x10 w.1) fun x12 t14 =>
  b2_ (fX5_thrown  t14) fun x15 t17 =>
  if x15 = x5 then (
    fL_law_b552 L xs v1 v3 v4 x5 x12 (t17, w7)
  ) else (
    some (.inr 0)
  )
theorem bL_law_504 {p : Program} {l : Launch} {e : Env} {s : State} {m : MethodId} {args : Array Value} {below : List Frame} {meth : Method} {c : Code} {H : Heap} {locs : List Loc} {ls : Array Slot} {G : gE} {w0 : WH} {o b L : Nat} {xs : Nat → Int32} {Q : Int32 → State → Prop} (B : lB G b L xs w0 p s m args meth c) (hE : lE l G w0 p e s m args below meth c Q) (hl0 : l.stackTraces = false) {v1 : Nat} {v3 : Nat} {v4 : Int32} {w : LW} {x : Sum (Int32 × LW) (Int32)} {r : Int32} (h : fL_law_b504 L xs v1 v3 v4 w = some x)  (k23 : ∀ (v4' : Int32) (w' : LW), x = (.inl (v4', w')) → ∀ (H : Heap) (locs : List Loc) (ls : Array Slot), RepL G o w' H → Cu (gFr G) s w0 w'.2 H locs → lv_has ls 8 [(0, .ref b), (1, .ref v1), (2, .ref o), (3, .ref v3), (4, .int v4')] → W p l e room_1 s m args below meth c H locs (wC w0 - wC w'.2) (wS w0 - wS w'.2) (Q r) (F0 m 23 ls [])) (kR : ∀ q, x = (.inr q) → q = r) (hR : RepL G o w H) (hS : Cu (gFr G) s w0 w.2 H locs) (hl : lv_has ls 8 [(0, .ref b), (1, .ref v1), (2, .ref o), (3, .ref v3), (4, .int v4)]) : W p l e room_1 s m args below meth c H locs (wC w0 - wC w.2) (wS w0 - wS w.2) (Q r) (F0 m 504 ls []) := by
  have B0 := B
  obtain ⟨⟨hx, hb, hml, hown, hts, hr, hlk, hK⟩, hX, hbl, hbA, hRc, hRs⟩ := B0
  unfold fL_law_b504 at h
  refine lv_aload_n hx hb dL_law_504 rfl (lv_at hl 1 rfl) ?_
  refine lv_aload_n hx hb dL_law_505 rfl (lv_at hl 0 rfl) ?_
  refine lv_iload hx hb dL_law_506 (lv_at hl 4 rfl) ?_
  refine lv_iconst (v := 1) hx hb dL_law_508 (by decide) ?_
  refine lv_iadd hx hb dL_law_509 ?_
  replace h := bo_o h
  obtain ⟨x1, e2, h⟩ := h
  refine l_sld (w := w) hx hb hX hbl hbA hS e2 dL_law_510 ?_
  refine lv_aload_n hx hb dL_law_511 rfl (lv_at hl 0 rfl) ?_
  refine lv_iload hx hb dL_law_512 (lv_at hl 4 rfl) ?_
  refine lv_iconst (v := 2) hx hb dL_law_514 (by decide) ?_
  refine lv_iadd hx hb dL_law_515 ?_
  replace h := bo_o h
  obtain ⟨x3, e4, h⟩ := h
  refine l_sld (w := w) hx hb hX hbl hbA hS e4 dL_law_516 ?_
  refine lv_aload_n hx hb dL_law_517 rfl (lv_at hl 3 rfl) ?_
  replace h := b2_o h
  obtain ⟨x5, w7, e6, h⟩ := h
  refine l_callSW 4 (As := [.ref v1, .int x1, .int x3, .ref v3]) (rest := []) (v := (some (.int x5))) (w' := w7) (st1 := [.int x5]) hx hb hml hown hts hK hR hS hRc hRs (mX0_tripValue hl0 e6) (lw_SW q1968 q1969 q111 q1970) (by decide +kernel) (Nat.le_of_ble_eq_true rfl) (Nat.le_of_ble_eq_true rfl) rfl hl.1 (Nat.le_of_ble_eq_true rfl) dL_law_518 rfl rfl (fun H locs hR hS => ?_)
  refine lv_istore (lv' := [(5, .int x5), (0, .ref b), (1, .ref v1), (2, .ref o), (3, .ref v3), (4, .int v4)]) hx hb dL_law_521 hl (by decide) rfl (fun ls hl => ?_)
  refine lv_aload_n hx hb dL_law_523 rfl (lv_at hl 3 rfl) ?_
  refine lv_aload_n hx hb dL_law_524 rfl (lv_at hl 1 rfl) ?_
  refine lv_iload hx hb dL_law_525 (lv_at hl 5 rfl) ?_
  refine lv_iconst (v := 1) hx hb dL_law_527 (by decide) ?_
  refine lv_iadd hx hb dL_law_528 ?_
  replace h := bo_o h
  obtain ⟨x8, e9, h⟩ := h
  refine l_sld (w := (w.1, w7)) hx hb hX hbl hbA hS e9 dL_law_529 ?_
  refine lv_aload_n hx hb dL_law_530 rfl (lv_at hl 1 rfl) ?_
  refine lv_iload hx hb dL_law_531 (lv_at hl 5 rfl) ?_
  refine lv_iconst (v := 2) hx hb dL_law_533 (by decide) ?_
  refine lv_iadd hx hb dL_law_534 ?_
  replace h := bo_o h
  obtain ⟨x10, e11, h⟩ := h
  refine l_sld (w := (w.1, w7)) hx hb hX hbl hbA hS e11 dL_law_535 ?_
  replace h := b2_o h
  obtain ⟨x12, t14, e13, h⟩ := h
  refine l_callT 2 (As := [.int x8, .int x10]) (rest := []) (v := (some (.int x12))) (T' := t14) (st1 := [.int x12]) hx hb hml hown hts hK hR hS hRc hRs (mX5_tripValue e13) (lw_V q2649 q2650 q2651 q137 q2652) (by decide +kernel) (Nat.le_of_ble_eq_true rfl) (Nat.le_of_ble_eq_true rfl) rfl hl.1 (Nat.le_of_ble_eq_true rfl) dL_law_536 rfl rfl (fun H locs hR hS => ?_)
  refine lv_istore (lv' := [(6, .int x12), (5, .int x5), (0, .ref b), (1, .ref v1), (2, .ref o), (3, .ref v3), (4, .int v4)]) hx hb dL_law_539 hl (by decide) rfl (fun ls hl => ?_)
  refine lv_aload_n hx hb dL_law_541 rfl (lv_at hl 4 rfl) ?_
  replace h := b2_o h
  obtain ⟨x15, t17, e16, h⟩ := h
  refine l_callT 0 (As := []) (rest := []) (v := (some (.int x15))) (T' := t17) (st1 := [.int x15]) hx hb hml hown hts hK hR hS hRc hRs (mX5_thrown e16) (lw_V q2534 q2535 q2536 q137 q2537) (by decide +kernel) (Nat.le_of_ble_eq_true rfl) (Nat.le_of_ble_eq_true rfl) rfl hl.1 (Nat.le_of_ble_eq_true rfl) dL_law_542 rfl rfl (fun H locs hR hS => ?_)
  refine lv_iload hx hb dL_law_545 (lv_at hl 1 rfl) ?_
  refine lv_icmp_eq (tgt := 552) hx hb dL_law_547 (by decide) (fun c18 => ?_) (fun c18 => ?_)
  · replace h := it_o c18 h
    exact bL_law_552 (w := (t17, w7)) B hE hl0 h k23 kR hR hS (lv_sub hl [2, 3, 4, 5, 6, 1, 0] rfl)
  · replace h := if_o c18 h
    refine lv_iconst (v := 0) hx hb dL_law_550 (by decide) ?_
    have eR := kR _ (Option.some.inj h).symm
    subst eR
    exact hE _ ls H locs w7 _ dL_law_551 hS
noncomputable def fL_law_b637 (L : Nat) (xs : Nat → Int32) (v1 : Nat) (v3 : Nat) (v4 : Int32) (w : LW) : Option (Sum (Int32 × LW) (Int32)) :=
  fL_law_b3008 L xs v1 v3 v4 w
theorem bL_law_637 {p : Program} {l : Launch} {e : Env} {s : State} {m : MethodId} {args : Array Value} {below : List Frame} {meth : Method} {c : Code} {H : Heap} {locs : List Loc} {ls : Array Slot} {G : gE} {w0 : WH} {o b L : Nat} {xs : Nat → Int32} {Q : Int32 → State → Prop} (B : lB G b L xs w0 p s m args meth c) (hE : lE l G w0 p e s m args below meth c Q) (hl0 : l.stackTraces = false) {v1 : Nat} {v3 : Nat} {v4 : Int32} {w : LW} {x : Sum (Int32 × LW) (Int32)} {r : Int32} (h : fL_law_b637 L xs v1 v3 v4 w = some x)  (k23 : ∀ (v4' : Int32) (w' : LW), x = (.inl (v4', w')) → ∀ (H : Heap) (locs : List Loc) (ls : Array Slot), RepL G o w' H → Cu (gFr G) s w0 w'.2 H locs → lv_has ls 8 [(0, .ref b), (1, .ref v1), (2, .ref o), (3, .ref v3), (4, .int v4')] → W p l e room_1 s m args below meth c H locs (wC w0 - wC w'.2) (wS w0 - wS w'.2) (Q r) (F0 m 23 ls [])) (kR : ∀ q, x = (.inr q) → q = r) (hR : RepL G o w H) (hS : Cu (gFr G) s w0 w.2 H locs) (hl : lv_has ls 8 [(0, .ref b), (1, .ref v1), (2, .ref o), (3, .ref v3), (4, .int v4)]) : W p l e room_1 s m args below meth c H locs (wC w0 - wC w.2) (wS w0 - wS w.2) (Q r) (F0 m 637 ls []) := by
  have B0 := B
  obtain ⟨⟨hx, hb, hml, hown, hts, hr, hlk, hK⟩, hX, hbl, hbA, hRc, hRs⟩ := B0
  unfold fL_law_b637 at h
  refine lv_goto (tgt := 3008) hx hb dL_law_637 (by decide) ?_
  exact bL_law_3008 (w := w) B hE hl0 h k23 kR hR hS (lv_sub hl [0, 1, 2, 3, 4] rfl)
noncomputable def fL_law_b620 (L : Nat) (xs : Nat → Int32) (v1 : Nat) (v3 : Nat) (v4 : Int32) (v5 : Int32) (v6 : Int32) (w : LW) : Option (Sum (Int32 × LW) (Int32)) :=
  if v5 = 0 then (
    (ldJ w.2 v3 0).bind fun x2 =>
    if lg_cmp x2 (v6.toInt64) = 0 then (
      fL_law_b637 L xs v1 v3 v4 w
    ) else (
      some (.inr 0)
    )
  ) else (
    fL_law_b637 L xs v1 v3 v4 w
  )
theorem bL_law_620 {p : Program} {l : Launch} {e : Env} {s : State} {m : MethodId} {args : Array Value} {below : List Frame} {meth : Method} {c : Code} {H : Heap} {locs : List Loc} {ls : Array Slot} {G : gE} {w0 : WH} {o b L : Nat} {xs : Nat → Int32} {Q : Int32 → State → Prop} (B : lB G b L xs w0 p s m args meth c) (hE : lE l G w0 p e s m args below meth c Q) (hl0 : l.stackTraces = false) {v1 : Nat} {v3 : Nat} {v4 : Int32} {v5 : Int32} {v6 : Int32} {w : LW} {x : Sum (Int32 × LW) (Int32)} {r : Int32} (h : fL_law_b620 L xs v1 v3 v4 v5 v6 w = some x)  (k23 : ∀ (v4' : Int32) (w' : LW), x = (.inl (v4', w')) → ∀ (H : Heap) (locs : List Loc) (ls : Array Slot), RepL G o w' H → Cu (gFr G) s w0 w'.2 H locs → lv_has ls 8 [(0, .ref b), (1, .ref v1), (2, .ref o), (3, .ref v3), (4, .int v4')] → W p l e room_1 s m args below meth c H locs (wC w0 - wC w'.2) (wS w0 - wS w'.2) (Q r) (F0 m 23 ls [])) (kR : ∀ q, x = (.inr q) → q = r) (hR : RepL G o w H) (hS : Cu (gFr G) s w0 w.2 H locs) (hl : lv_has ls 8 [(0, .ref b), (1, .ref v1), (2, .ref o), (3, .ref v3), (4, .int v4), (5, .int v5), (6, .int v6)]) : W p l e room_1 s m args below meth c H locs (wC w0 - wC w.2) (wS w0 - wS w.2) (Q r) (F0 m 620 ls []) := by
  have B0 := B
  obtain ⟨⟨hx, hb, hml, hown, hts, hr, hlk, hK⟩, hX, hbl, hbA, hRc, hRs⟩ := B0
  unfold fL_law_b620 at h
  refine lv_iload hx hb dL_law_620 (lv_at hl 5 rfl) ?_
  refine lv_if_ne (tgt := 637) hx hb dL_law_622 (by decide) (fun c1 => ?_) (fun c1 => ?_)
  · replace h := if_o c1 h
    exact bL_law_637 (w := w) B hE hl0 h k23 kR hR hS (lv_sub hl [0, 1, 2, 3, 4] rfl)
  · replace h := it_o c1 h
    refine lv_aload_n hx hb dL_law_625 rfl (lv_at hl 3 rfl) ?_
    refine lv_iconst (v := 0) hx hb dL_law_626 (by decide) ?_
    replace h := bo_o h
    obtain ⟨x2, e3, h⟩ := h
    refine h_lald hx hb hK hR.2.weak e3 dL_law_627 ?_
    refine lv_iload hx hb dL_law_628 (lv_at hl 6 rfl) ?_
    refine lv_i2l hx hb dL_law_630 rfl ?_
    refine W.lcmp hx hb dL_law_631 ?_
    refine lv_if_eq (tgt := 637) hx hb dL_law_632 (by decide) (fun c4 => ?_) (fun c4 => ?_)
    · replace h := it_o c4 h
      exact bL_law_637 (w := w) B hE hl0 h k23 kR hR hS (lv_sub hl [0, 1, 2, 3, 4] rfl)
    · replace h := if_o c4 h
      refine lv_iconst (v := 0) hx hb dL_law_635 (by decide) ?_
      have eR := kR _ (Option.some.inj h).symm
      subst eR
      exact hE _ ls H locs w.2 _ dL_law_636 hS
noncomputable def fL_law_b572 (L : Nat) (xs : Nat → Int32) (v1 : Nat) (v3 : Nat) (v4 : Int32) (w : LW) : Option (Sum (Int32 × LW) (Int32)) :=
  (sld L xs (v4 + 1)).bind fun x1 =>
  (sld L xs (v4 + 2)).bind fun x3 =>
  b2_ (fX0_setToll v1 x1 x3 v3 w.2) fun x5 w7 =>
  (sld L xs (v4 + 1)).bind fun x8 =>
  (sld L xs (v4 + 2)).bind fun x10 =>
  b2_ (fX5_setToll x8 x10 w.1) fun x12 t14 =>
  b2_ (fX5_thrown  t14) fun x15 t17 =>
  if x15 = x5 then (
    fL_law_b620 L xs v1 v3 v4 x5 x12 (t17, w7)
  ) else (
    some (.inr 0)
  )
theorem bL_law_572 {p : Program} {l : Launch} {e : Env} {s : State} {m : MethodId} {args : Array Value} {below : List Frame} {meth : Method} {c : Code} {H : Heap} {locs : List Loc} {ls : Array Slot} {G : gE} {w0 : WH} {o b L : Nat} {xs : Nat → Int32} {Q : Int32 → State → Prop} (B : lB G b L xs w0 p s m args meth c) (hE : lE l G w0 p e s m args below meth c Q) (hl0 : l.stackTraces = false) {v1 : Nat} {v3 : Nat} {v4 : Int32} {w : LW} {x : Sum (Int32 × LW) (Int32)} {r : Int32} (h : fL_law_b572 L xs v1 v3 v4 w = some x)  (k23 : ∀ (v4' : Int32) (w' : LW), x = (.inl (v4', w')) → ∀ (H : Heap) (locs : List Loc) (ls : Array Slot), RepL G o w' H → Cu (gFr G) s w0 w'.2 H locs → lv_has ls 8 [(0, .ref b), (1, .ref v1), (2, .ref o), (3, .ref v3), (4, .int v4')] → W p l e room_1 s m args below meth c H locs (wC w0 - wC w'.2) (wS w0 - wS w'.2) (Q r) (F0 m 23 ls [])) (kR : ∀ q, x = (.inr q) → q = r) (hR : RepL G o w H) (hS : Cu (gFr G) s w0 w.2 H locs) (hl : lv_has ls 8 [(0, .ref b), (1, .ref v1), (2, .ref o), (3, .ref v3), (4, .int v4)]) : W p l e room_1 s m args below meth c H locs (wC w0 - wC w.2) (wS w0 - wS w.2) (Q r) (F0 m 572 ls []) := by
  have B0 := B
  obtain ⟨⟨hx, hb, hml, hown, hts, hr, hlk, hK⟩, hX, hbl, hbA, hRc, hRs⟩ := B0
  unfold fL_law_b572 at h
  refine lv_aload_n hx hb dL_law_572 rfl (lv_at hl 1 rfl) ?_
  refine lv_aload_n hx hb dL_law_573 rfl (lv_at hl 0 rfl) ?_
  refine lv_iload hx hb dL_law_574 (lv_at hl 4 rfl) ?_
  refine lv_iconst (v := 1) hx hb dL_law_576 (by decide) ?_
  refine lv_iadd hx hb dL_law_577 ?_
  replace h := bo_o h
  obtain ⟨x1, e2, h⟩ := h
  refine l_sld (w := w) hx hb hX hbl hbA hS e2 dL_law_578 ?_
  refine lv_aload_n hx hb dL_law_579 rfl (lv_at hl 0 rfl) ?_
  refine lv_iload hx hb dL_law_580 (lv_at hl 4 rfl) ?_
  refine lv_iconst (v := 2) hx hb dL_law_582 (by decide) ?_
  refine lv_iadd hx hb dL_law_583 ?_
  replace h := bo_o h
  obtain ⟨x3, e4, h⟩ := h
  refine l_sld (w := w) hx hb hX hbl hbA hS e4 dL_law_584 ?_
  refine lv_aload_n hx hb dL_law_585 rfl (lv_at hl 3 rfl) ?_
  replace h := b2_o h
  obtain ⟨x5, w7, e6, h⟩ := h
  refine l_callSW 4 (As := [.ref v1, .int x1, .int x3, .ref v3]) (rest := []) (v := (some (.int x5))) (w' := w7) (st1 := [.int x5]) hx hb hml hown hts hK hR hS hRc hRs (mX0_setToll hl0 e6) (lw_SW q1986 q1987 q111 q1988) (by decide +kernel) (Nat.le_of_ble_eq_true rfl) (Nat.le_of_ble_eq_true rfl) rfl hl.1 (Nat.le_of_ble_eq_true rfl) dL_law_586 rfl rfl (fun H locs hR hS => ?_)
  refine lv_istore (lv' := [(5, .int x5), (0, .ref b), (1, .ref v1), (2, .ref o), (3, .ref v3), (4, .int v4)]) hx hb dL_law_589 hl (by decide) rfl (fun ls hl => ?_)
  refine lv_aload_n hx hb dL_law_591 rfl (lv_at hl 3 rfl) ?_
  refine lv_aload_n hx hb dL_law_592 rfl (lv_at hl 1 rfl) ?_
  refine lv_iload hx hb dL_law_593 (lv_at hl 5 rfl) ?_
  refine lv_iconst (v := 1) hx hb dL_law_595 (by decide) ?_
  refine lv_iadd hx hb dL_law_596 ?_
  replace h := bo_o h
  obtain ⟨x8, e9, h⟩ := h
  refine l_sld (w := (w.1, w7)) hx hb hX hbl hbA hS e9 dL_law_597 ?_
  refine lv_aload_n hx hb dL_law_598 rfl (lv_at hl 1 rfl) ?_
  refine lv_iload hx hb dL_law_599 (lv_at hl 5 rfl) ?_
  refine lv_iconst (v := 2) hx hb dL_law_601 (by decide) ?_
  refine lv_iadd hx hb dL_law_602 ?_
  replace h := bo_o h
  obtain ⟨x10, e11, h⟩ := h
  refine l_sld (w := (w.1, w7)) hx hb hX hbl hbA hS e11 dL_law_603 ?_
  replace h := b2_o h
  obtain ⟨x12, t14, e13, h⟩ := h
  refine l_callT 2 (As := [.int x8, .int x10]) (rest := []) (v := (some (.int x12))) (T' := t14) (st1 := [.int x12]) hx hb hml hown hts hK hR hS hRc hRs (mX5_setToll e13) (lw_V q2661 q2662 q2663 q137 q2664) (by decide +kernel) (Nat.le_of_ble_eq_true rfl) (Nat.le_of_ble_eq_true rfl) rfl hl.1 (Nat.le_of_ble_eq_true rfl) dL_law_604 rfl rfl (fun H locs hR hS => ?_)
  refine lv_istore (lv' := [(6, .int x12), (5, .int x5), (0, .ref b), (1, .ref v1), (2, .ref o), (3, .ref v3), (4, .int v4)]) hx hb dL_law_607 hl (by decide) rfl (fun ls hl => ?_)
  refine lv_aload_n hx hb dL_law_609 rfl (lv_at hl 4 rfl) ?_
  replace h := b2_o h
  obtain ⟨x15, t17, e16, h⟩ := h
  refine l_callT 0 (As := []) (rest := []) (v := (some (.int x15))) (T' := t17) (st1 := [.int x15]) hx hb hml hown hts hK hR hS hRc hRs (mX5_thrown e16) (lw_V q2534 q2535 q2536 q137 q2537) (by decide +kernel) (Nat.le_of_ble_eq_true rfl) (Nat.le_of_ble_eq_true rfl) rfl hl.1 (Nat.le_of_ble_eq_true rfl) dL_law_610 rfl rfl (fun H locs hR hS => ?_)
  refine lv_iload hx hb dL_law_613 (lv_at hl 1 rfl) ?_
  refine lv_icmp_eq (tgt := 620) hx hb dL_law_615 (by decide) (fun c18 => ?_) (fun c18 => ?_)
  · replace h := it_o c18 h
    exact bL_law_620 (w := (t17, w7)) B hE hl0 h k23 kR hR hS (lv_sub hl [2, 3, 4, 5, 6, 1, 0] rfl)
  · replace h := if_o c18 h
    refine lv_iconst (v := 0) hx hb dL_law_618 (by decide) ?_
    have eR := kR _ (Option.some.inj h).symm
    subst eR
    exact hE _ ls H locs w7 _ dL_law_619 hS
noncomputable def fL_law_b693 (L : Nat) (xs : Nat → Int32) (v1 : Nat) (v3 : Nat) (v4 : Int32) (w : LW) : Option (Sum (Int32 × LW) (Int32)) :=
  fL_law_b3008 L xs v1 v3 v4 w
theorem bL_law_693 {p : Program} {l : Launch} {e : Env} {s : State} {m : MethodId} {args : Array Value} {below : List Frame} {meth : Method} {c : Code} {H : Heap} {locs : List Loc} {ls : Array Slot} {G : gE} {w0 : WH} {o b L : Nat} {xs : Nat → Int32} {Q : Int32 → State → Prop} (B : lB G b L xs w0 p s m args meth c) (hE : lE l G w0 p e s m args below meth c Q) (hl0 : l.stackTraces = false) {v1 : Nat} {v3 : Nat} {v4 : Int32} {w : LW} {x : Sum (Int32 × LW) (Int32)} {r : Int32} (h : fL_law_b693 L xs v1 v3 v4 w = some x)  (k23 : ∀ (v4' : Int32) (w' : LW), x = (.inl (v4', w')) → ∀ (H : Heap) (locs : List Loc) (ls : Array Slot), RepL G o w' H → Cu (gFr G) s w0 w'.2 H locs → lv_has ls 8 [(0, .ref b), (1, .ref v1), (2, .ref o), (3, .ref v3), (4, .int v4')] → W p l e room_1 s m args below meth c H locs (wC w0 - wC w'.2) (wS w0 - wS w'.2) (Q r) (F0 m 23 ls [])) (kR : ∀ q, x = (.inr q) → q = r) (hR : RepL G o w H) (hS : Cu (gFr G) s w0 w.2 H locs) (hl : lv_has ls 8 [(0, .ref b), (1, .ref v1), (2, .ref o), (3, .ref v3), (4, .int v4)]) : W p l e room_1 s m args below meth c H locs (wC w0 - wC w.2) (wS w0 - wS w.2) (Q r) (F0 m 693 ls []) := by
  have B0 := B
  obtain ⟨⟨hx, hb, hml, hown, hts, hr, hlk, hK⟩, hX, hbl, hbA, hRc, hRs⟩ := B0
  unfold fL_law_b693 at h
  refine lv_goto (tgt := 3008) hx hb dL_law_693 (by decide) ?_
  exact bL_law_3008 (w := w) B hE hl0 h k23 kR hR hS (lv_sub hl [0, 1, 2, 3, 4] rfl)
noncomputable def fL_law_b640 (L : Nat) (xs : Nat → Int32) (v1 : Nat) (v3 : Nat) (v4 : Int32) (w : LW) : Option (Sum (Int32 × LW) (Int32)) :=
  (sld L xs (v4 + 1)).bind fun x1 =>
  b2_ (fX0_addTolls v1 x1 v3 w.2) fun x3 w5 =>
  (sld L xs (v4 + 1)).bind fun x6 =>
  b2_ (fX5_addTolls x6 w.1) fun x8 t10 =>
  b2_ (fX5_thrown  t10) fun x11 t13 =>
  if x11 = x3 then (
    if x3 = 0 then (
      (ldJ w5 v3 0).bind fun x16 =>
      if lg_cmp x16 (x8.toInt64) = 0 then (
        fL_law_b693 L xs v1 v3 v4 (t13, w5)
      ) else (
        some (.inr 0)
      )
    ) else (
      fL_law_b693 L xs v1 v3 v4 (t13, w5)
    )
  ) else (
    some (.inr 0)
  )
theorem bL_law_640 {p : Program} {l : Launch} {e : Env} {s : State} {m : MethodId} {args : Array Value} {below : List Frame} {meth : Method} {c : Code} {H : Heap} {locs : List Loc} {ls : Array Slot} {G : gE} {w0 : WH} {o b L : Nat} {xs : Nat → Int32} {Q : Int32 → State → Prop} (B : lB G b L xs w0 p s m args meth c) (hE : lE l G w0 p e s m args below meth c Q) (hl0 : l.stackTraces = false) {v1 : Nat} {v3 : Nat} {v4 : Int32} {w : LW} {x : Sum (Int32 × LW) (Int32)} {r : Int32} (h : fL_law_b640 L xs v1 v3 v4 w = some x)  (k23 : ∀ (v4' : Int32) (w' : LW), x = (.inl (v4', w')) → ∀ (H : Heap) (locs : List Loc) (ls : Array Slot), RepL G o w' H → Cu (gFr G) s w0 w'.2 H locs → lv_has ls 8 [(0, .ref b), (1, .ref v1), (2, .ref o), (3, .ref v3), (4, .int v4')] → W p l e room_1 s m args below meth c H locs (wC w0 - wC w'.2) (wS w0 - wS w'.2) (Q r) (F0 m 23 ls [])) (kR : ∀ q, x = (.inr q) → q = r) (hR : RepL G o w H) (hS : Cu (gFr G) s w0 w.2 H locs) (hl : lv_has ls 8 [(0, .ref b), (1, .ref v1), (2, .ref o), (3, .ref v3), (4, .int v4)]) : W p l e room_1 s m args below meth c H locs (wC w0 - wC w.2) (wS w0 - wS w.2) (Q r) (F0 m 640 ls []) := by
  have B0 := B
  obtain ⟨⟨hx, hb, hml, hown, hts, hr, hlk, hK⟩, hX, hbl, hbA, hRc, hRs⟩ := B0
  unfold fL_law_b640 at h
  refine lv_aload_n hx hb dL_law_640 rfl (lv_at hl 1 rfl) ?_
  refine lv_aload_n hx hb dL_law_641 rfl (lv_at hl 0 rfl) ?_
  refine lv_iload hx hb dL_law_642 (lv_at hl 4 rfl) ?_
  refine lv_iconst (v := 1) hx hb dL_law_644 (by decide) ?_
  refine lv_iadd hx hb dL_law_645 ?_
  replace h := bo_o h
  obtain ⟨x1, e2, h⟩ := h
  refine l_sld (w := w) hx hb hX hbl hbA hS e2 dL_law_646 ?_
  refine lv_aload_n hx hb dL_law_647 rfl (lv_at hl 3 rfl) ?_
  replace h := b2_o h
  obtain ⟨x3, w5, e4, h⟩ := h
  refine l_callSW 3 (As := [.ref v1, .int x1, .ref v3]) (rest := []) (v := (some (.int x3))) (w' := w5) (st1 := [.int x3]) hx hb hml hown hts hK hR hS hRc hRs (mX0_addTolls hl0 e4) (lw_SW q1996 q1997 q111 q1998) (by decide +kernel) (Nat.le_of_ble_eq_true rfl) (Nat.le_of_ble_eq_true rfl) rfl hl.1 (Nat.le_of_ble_eq_true rfl) dL_law_648 rfl rfl (fun H locs hR hS => ?_)
  refine lv_istore (lv' := [(5, .int x3), (0, .ref b), (1, .ref v1), (2, .ref o), (3, .ref v3), (4, .int v4)]) hx hb dL_law_651 hl (by decide) rfl (fun ls hl => ?_)
  refine lv_aload_n hx hb dL_law_653 rfl (lv_at hl 3 rfl) ?_
  refine lv_aload_n hx hb dL_law_654 rfl (lv_at hl 1 rfl) ?_
  refine lv_iload hx hb dL_law_655 (lv_at hl 5 rfl) ?_
  refine lv_iconst (v := 1) hx hb dL_law_657 (by decide) ?_
  refine lv_iadd hx hb dL_law_658 ?_
  replace h := bo_o h
  obtain ⟨x6, e7, h⟩ := h
  refine l_sld (w := (w.1, w5)) hx hb hX hbl hbA hS e7 dL_law_659 ?_
  replace h := b2_o h
  obtain ⟨x8, t10, e9, h⟩ := h
  refine l_callT 1 (As := [.int x6]) (rest := []) (v := (some (.int x8))) (T' := t10) (st1 := [.int x8]) hx hb hml hown hts hK hR hS hRc hRs (mX5_addTolls e9) (lw_V q2673 q2674 q2675 q137 q2676) (by decide +kernel) (Nat.le_of_ble_eq_true rfl) (Nat.le_of_ble_eq_true rfl) rfl hl.1 (Nat.le_of_ble_eq_true rfl) dL_law_660 rfl rfl (fun H locs hR hS => ?_)
  refine lv_istore (lv' := [(6, .int x8), (5, .int x3), (0, .ref b), (1, .ref v1), (2, .ref o), (3, .ref v3), (4, .int v4)]) hx hb dL_law_663 hl (by decide) rfl (fun ls hl => ?_)
  refine lv_aload_n hx hb dL_law_665 rfl (lv_at hl 4 rfl) ?_
  replace h := b2_o h
  obtain ⟨x11, t13, e12, h⟩ := h
  refine l_callT 0 (As := []) (rest := []) (v := (some (.int x11))) (T' := t13) (st1 := [.int x11]) hx hb hml hown hts hK hR hS hRc hRs (mX5_thrown e12) (lw_V q2534 q2535 q2536 q137 q2537) (by decide +kernel) (Nat.le_of_ble_eq_true rfl) (Nat.le_of_ble_eq_true rfl) rfl hl.1 (Nat.le_of_ble_eq_true rfl) dL_law_666 rfl rfl (fun H locs hR hS => ?_)
  refine lv_iload hx hb dL_law_669 (lv_at hl 1 rfl) ?_
  refine lv_icmp_eq (tgt := 676) hx hb dL_law_671 (by decide) (fun c14 => ?_) (fun c14 => ?_)
  · replace h := it_o c14 h
    refine lv_iload hx hb dL_law_676 (lv_at hl 1 rfl) ?_
    refine lv_if_ne (tgt := 693) hx hb dL_law_678 (by decide) (fun c15 => ?_) (fun c15 => ?_)
    · replace h := if_o c15 h
      exact bL_law_693 (w := (t13, w5)) B hE hl0 h k23 kR hR hS (lv_sub hl [2, 3, 4, 5, 6] rfl)
    · replace h := it_o c15 h
      refine lv_aload_n hx hb dL_law_681 rfl (lv_at hl 5 rfl) ?_
      refine lv_iconst (v := 0) hx hb dL_law_682 (by decide) ?_
      replace h := bo_o h
      obtain ⟨x16, e17, h⟩ := h
      refine h_lald hx hb hK hR.2.weak e17 dL_law_683 ?_
      refine lv_iload hx hb dL_law_684 (lv_at hl 0 rfl) ?_
      refine lv_i2l hx hb dL_law_686 rfl ?_
      refine W.lcmp hx hb dL_law_687 ?_
      refine lv_if_eq (tgt := 693) hx hb dL_law_688 (by decide) (fun c18 => ?_) (fun c18 => ?_)
      · replace h := it_o c18 h
        exact bL_law_693 (w := (t13, w5)) B hE hl0 h k23 kR hR hS (lv_sub hl [2, 3, 4, 5, 6] rfl)
      · replace h := if_o c18 h
        refine lv_iconst (v := 0) hx hb dL_law_691 (by decide) ?_
        have eR := kR _ (Option.some.inj h).symm
        subst eR
        exact hE _ ls H locs w5 _ dL_law_692 hS
  · replace h := if_o c14 h
    refine lv_iconst (v := 0) hx hb dL_law_674 (by decide) ?_
    have eR := kR _ (Option.some.inj h).symm
    subst eR
    exact hE _ ls H locs w5 _ dL_law_675 hS
noncomputable def fL_law_b696 (L : Nat) (xs : Nat → Int32) (v1 : Nat) (v3 : Nat) (v4 : Int32) (w : LW) : Option (Sum (Int32 × LW) (Int32)) :=
  (hIs w.2 v1 17).bind fun _ =>
  b2_ (fX1_clearTolls v1 w.2) fun x1 w3 =>
  b2_ (fX5_clearTolls  w.1) fun x5 t7 =>
  if x1 = x5 then (
    fL_law_b3008 L xs v1 v3 v4 (t7, w3)
  ) else (
    some (.inr 0)
  )
theorem bL_law_696 {p : Program} {l : Launch} {e : Env} {s : State} {m : MethodId} {args : Array Value} {below : List Frame} {meth : Method} {c : Code} {H : Heap} {locs : List Loc} {ls : Array Slot} {G : gE} {w0 : WH} {o b L : Nat} {xs : Nat → Int32} {Q : Int32 → State → Prop} (B : lB G b L xs w0 p s m args meth c) (hE : lE l G w0 p e s m args below meth c Q) (hl0 : l.stackTraces = false) {v1 : Nat} {v3 : Nat} {v4 : Int32} {w : LW} {x : Sum (Int32 × LW) (Int32)} {r : Int32} (h : fL_law_b696 L xs v1 v3 v4 w = some x)  (k23 : ∀ (v4' : Int32) (w' : LW), x = (.inl (v4', w')) → ∀ (H : Heap) (locs : List Loc) (ls : Array Slot), RepL G o w' H → Cu (gFr G) s w0 w'.2 H locs → lv_has ls 8 [(0, .ref b), (1, .ref v1), (2, .ref o), (3, .ref v3), (4, .int v4')] → W p l e room_1 s m args below meth c H locs (wC w0 - wC w'.2) (wS w0 - wS w'.2) (Q r) (F0 m 23 ls [])) (kR : ∀ q, x = (.inr q) → q = r) (hR : RepL G o w H) (hS : Cu (gFr G) s w0 w.2 H locs) (hl : lv_has ls 8 [(0, .ref b), (1, .ref v1), (2, .ref o), (3, .ref v3), (4, .int v4)]) : W p l e room_1 s m args below meth c H locs (wC w0 - wC w.2) (wS w0 - wS w.2) (Q r) (F0 m 696 ls []) := by
  have B0 := B
  obtain ⟨⟨hx, hb, hml, hown, hts, hr, hlk, hK⟩, hX, hbl, hbA, hRc, hRs⟩ := B0
  unfold fL_law_b696 at h
  refine lv_aload_n hx hb dL_law_696 rfl (lv_at hl 1 rfl) ?_
  replace h := bo_o h
  obtain ⟨_, e4, h⟩ := h
  replace h := b2_o h
  obtain ⟨x1, w3, e2, h⟩ := h
  refine l_callV 0 (ci := 17) (As := []) (rest := []) (v := (some (.int x1))) (w' := w3) (st1 := [.int x1]) hx hb hml hown hts hK hR hS hRc hRs rfl e4 (mX1_clearTolls e2) (lw_V q1085 q1086 q1087 q112 q1088) (by decide +kernel) (Nat.le_of_ble_eq_true rfl) (Nat.le_of_ble_eq_true rfl) rfl hl.1 (Nat.le_of_ble_eq_true rfl) dL_law_697 rfl rfl (fun H locs hR hS => ?_)
  refine lv_aload_n hx hb dL_law_700 rfl (lv_at hl 2 rfl) ?_
  replace h := b2_o h
  obtain ⟨x5, t7, e6, h⟩ := h
  refine l_callT 0 (As := []) (rest := [.int x1]) (v := (some (.int x5))) (T' := t7) (st1 := [.int x5, .int x1]) hx hb hml hown hts hK hR hS hRc hRs (mX5_clearTolls e6) (lw_V q2682 q2683 q2684 q137 q2685) (by decide +kernel) (Nat.le_of_ble_eq_true rfl) (Nat.le_of_ble_eq_true rfl) rfl hl.1 (Nat.le_of_ble_eq_true rfl) dL_law_701 rfl rfl (fun H locs hR hS => ?_)
  refine lv_icmp_eq (tgt := 3008) hx hb dL_law_704 (by decide) (fun c8 => ?_) (fun c8 => ?_)
  · replace h := it_o c8 h
    exact bL_law_3008 (w := (t7, w3)) B hE hl0 h k23 kR hR hS (lv_sub hl [0, 1, 2, 3, 4] rfl)
  · replace h := if_o c8 h
    refine lv_iconst (v := 0) hx hb dL_law_707 (by decide) ?_
    have eR := kR _ (Option.some.inj h).symm
    subst eR
    exact hE _ ls H locs w3 _ dL_law_708 hS
noncomputable def fL_law_b774 (L : Nat) (xs : Nat → Int32) (v1 : Nat) (v3 : Nat) (v4 : Int32) (w : LW) : Option (Sum (Int32 × LW) (Int32)) :=
  fL_law_b3008 L xs v1 v3 v4 w
theorem bL_law_774 {p : Program} {l : Launch} {e : Env} {s : State} {m : MethodId} {args : Array Value} {below : List Frame} {meth : Method} {c : Code} {H : Heap} {locs : List Loc} {ls : Array Slot} {G : gE} {w0 : WH} {o b L : Nat} {xs : Nat → Int32} {Q : Int32 → State → Prop} (B : lB G b L xs w0 p s m args meth c) (hE : lE l G w0 p e s m args below meth c Q) (hl0 : l.stackTraces = false) {v1 : Nat} {v3 : Nat} {v4 : Int32} {w : LW} {x : Sum (Int32 × LW) (Int32)} {r : Int32} (h : fL_law_b774 L xs v1 v3 v4 w = some x)  (k23 : ∀ (v4' : Int32) (w' : LW), x = (.inl (v4', w')) → ∀ (H : Heap) (locs : List Loc) (ls : Array Slot), RepL G o w' H → Cu (gFr G) s w0 w'.2 H locs → lv_has ls 8 [(0, .ref b), (1, .ref v1), (2, .ref o), (3, .ref v3), (4, .int v4')] → W p l e room_1 s m args below meth c H locs (wC w0 - wC w'.2) (wS w0 - wS w'.2) (Q r) (F0 m 23 ls [])) (kR : ∀ q, x = (.inr q) → q = r) (hR : RepL G o w H) (hS : Cu (gFr G) s w0 w.2 H locs) (hl : lv_has ls 8 [(0, .ref b), (1, .ref v1), (2, .ref o), (3, .ref v3), (4, .int v4)]) : W p l e room_1 s m args below meth c H locs (wC w0 - wC w.2) (wS w0 - wS w.2) (Q r) (F0 m 774 ls []) := by
  have B0 := B
  obtain ⟨⟨hx, hb, hml, hown, hts, hr, hlk, hK⟩, hX, hbl, hbA, hRc, hRs⟩ := B0
  unfold fL_law_b774 at h
  refine lv_goto (tgt := 3008) hx hb dL_law_774 (by decide) ?_
  exact bL_law_3008 (w := w) B hE hl0 h k23 kR hR hS (lv_sub hl [0, 1, 2, 3, 4] rfl)
noncomputable def fL_law_b757 (L : Nat) (xs : Nat → Int32) (v1 : Nat) (v3 : Nat) (v4 : Int32) (v5 : Int32) (v6 : Int32) (w : LW) : Option (Sum (Int32 × LW) (Int32)) :=
  if v5 = 0 then (
    (ldJ w.2 v3 0).bind fun x2 =>
    if lg_cmp x2 (v6.toInt64) = 0 then (
      fL_law_b774 L xs v1 v3 v4 w
    ) else (
      some (.inr 0)
    )
  ) else (
    fL_law_b774 L xs v1 v3 v4 w
  )
theorem bL_law_757 {p : Program} {l : Launch} {e : Env} {s : State} {m : MethodId} {args : Array Value} {below : List Frame} {meth : Method} {c : Code} {H : Heap} {locs : List Loc} {ls : Array Slot} {G : gE} {w0 : WH} {o b L : Nat} {xs : Nat → Int32} {Q : Int32 → State → Prop} (B : lB G b L xs w0 p s m args meth c) (hE : lE l G w0 p e s m args below meth c Q) (hl0 : l.stackTraces = false) {v1 : Nat} {v3 : Nat} {v4 : Int32} {v5 : Int32} {v6 : Int32} {w : LW} {x : Sum (Int32 × LW) (Int32)} {r : Int32} (h : fL_law_b757 L xs v1 v3 v4 v5 v6 w = some x)  (k23 : ∀ (v4' : Int32) (w' : LW), x = (.inl (v4', w')) → ∀ (H : Heap) (locs : List Loc) (ls : Array Slot), RepL G o w' H → Cu (gFr G) s w0 w'.2 H locs → lv_has ls 8 [(0, .ref b), (1, .ref v1), (2, .ref o), (3, .ref v3), (4, .int v4')] → W p l e room_1 s m args below meth c H locs (wC w0 - wC w'.2) (wS w0 - wS w'.2) (Q r) (F0 m 23 ls [])) (kR : ∀ q, x = (.inr q) → q = r) (hR : RepL G o w H) (hS : Cu (gFr G) s w0 w.2 H locs) (hl : lv_has ls 8 [(0, .ref b), (1, .ref v1), (2, .ref o), (3, .ref v3), (4, .int v4), (5, .int v5), (6, .int v6)]) : W p l e room_1 s m args below meth c H locs (wC w0 - wC w.2) (wS w0 - wS w.2) (Q r) (F0 m 757 ls []) := by
  have B0 := B
  obtain ⟨⟨hx, hb, hml, hown, hts, hr, hlk, hK⟩, hX, hbl, hbA, hRc, hRs⟩ := B0
  unfold fL_law_b757 at h
  refine lv_iload hx hb dL_law_757 (lv_at hl 5 rfl) ?_
  refine lv_if_ne (tgt := 774) hx hb dL_law_759 (by decide) (fun c1 => ?_) (fun c1 => ?_)
  · replace h := if_o c1 h
    exact bL_law_774 (w := w) B hE hl0 h k23 kR hR hS (lv_sub hl [0, 1, 2, 3, 4] rfl)
  · replace h := it_o c1 h
    refine lv_aload_n hx hb dL_law_762 rfl (lv_at hl 3 rfl) ?_
    refine lv_iconst (v := 0) hx hb dL_law_763 (by decide) ?_
    replace h := bo_o h
    obtain ⟨x2, e3, h⟩ := h
    refine h_lald hx hb hK hR.2.weak e3 dL_law_764 ?_
    refine lv_iload hx hb dL_law_765 (lv_at hl 6 rfl) ?_
    refine lv_i2l hx hb dL_law_767 rfl ?_
    refine W.lcmp hx hb dL_law_768 ?_
    refine lv_if_eq (tgt := 774) hx hb dL_law_769 (by decide) (fun c4 => ?_) (fun c4 => ?_)
    · replace h := it_o c4 h
      exact bL_law_774 (w := w) B hE hl0 h k23 kR hR hS (lv_sub hl [0, 1, 2, 3, 4] rfl)
    · replace h := if_o c4 h
      refine lv_iconst (v := 0) hx hb dL_law_772 (by decide) ?_
      have eR := kR _ (Option.some.inj h).symm
      subst eR
      exact hE _ ls H locs w.2 _ dL_law_773 hS
noncomputable def fL_law_b709 (L : Nat) (xs : Nat → Int32) (v1 : Nat) (v3 : Nat) (v4 : Int32) (w : LW) : Option (Sum (Int32 × LW) (Int32)) :=
  (sld L xs (v4 + 1)).bind fun x1 =>
  (sld L xs (v4 + 2)).bind fun x3 =>
  b2_ (fX0_setDemand v1 x1 x3 v3 w.2) fun x5 w7 =>
  (sld L xs (v4 + 1)).bind fun x8 =>
  (sld L xs (v4 + 2)).bind fun x10 =>
  b2_ (fX5_setDemand x8 x10 w.1) fun x12 t14 =>
  b2_ (fX5_thrown  t14) fun x15 t17 =>
  if x15 = x5 then (
    fL_law_b757 L xs v1 v3 v4 x5 x12 (t17, w7)
  ) else (
    some (.inr 0)
  )
theorem bL_law_709 {p : Program} {l : Launch} {e : Env} {s : State} {m : MethodId} {args : Array Value} {below : List Frame} {meth : Method} {c : Code} {H : Heap} {locs : List Loc} {ls : Array Slot} {G : gE} {w0 : WH} {o b L : Nat} {xs : Nat → Int32} {Q : Int32 → State → Prop} (B : lB G b L xs w0 p s m args meth c) (hE : lE l G w0 p e s m args below meth c Q) (hl0 : l.stackTraces = false) {v1 : Nat} {v3 : Nat} {v4 : Int32} {w : LW} {x : Sum (Int32 × LW) (Int32)} {r : Int32} (h : fL_law_b709 L xs v1 v3 v4 w = some x)  (k23 : ∀ (v4' : Int32) (w' : LW), x = (.inl (v4', w')) → ∀ (H : Heap) (locs : List Loc) (ls : Array Slot), RepL G o w' H → Cu (gFr G) s w0 w'.2 H locs → lv_has ls 8 [(0, .ref b), (1, .ref v1), (2, .ref o), (3, .ref v3), (4, .int v4')] → W p l e room_1 s m args below meth c H locs (wC w0 - wC w'.2) (wS w0 - wS w'.2) (Q r) (F0 m 23 ls [])) (kR : ∀ q, x = (.inr q) → q = r) (hR : RepL G o w H) (hS : Cu (gFr G) s w0 w.2 H locs) (hl : lv_has ls 8 [(0, .ref b), (1, .ref v1), (2, .ref o), (3, .ref v3), (4, .int v4)]) : W p l e room_1 s m args below meth c H locs (wC w0 - wC w.2) (wS w0 - wS w.2) (Q r) (F0 m 709 ls []) := by
  have B0 := B
  obtain ⟨⟨hx, hb, hml, hown, hts, hr, hlk, hK⟩, hX, hbl, hbA, hRc, hRs⟩ := B0
  unfold fL_law_b709 at h
  refine lv_aload_n hx hb dL_law_709 rfl (lv_at hl 1 rfl) ?_
  refine lv_aload_n hx hb dL_law_710 rfl (lv_at hl 0 rfl) ?_
  refine lv_iload hx hb dL_law_711 (lv_at hl 4 rfl) ?_
  refine lv_iconst (v := 1) hx hb dL_law_713 (by decide) ?_
  refine lv_iadd hx hb dL_law_714 ?_
  replace h := bo_o h
  obtain ⟨x1, e2, h⟩ := h
  refine l_sld (w := w) hx hb hX hbl hbA hS e2 dL_law_715 ?_
  refine lv_aload_n hx hb dL_law_716 rfl (lv_at hl 0 rfl) ?_
  refine lv_iload hx hb dL_law_717 (lv_at hl 4 rfl) ?_
  refine lv_iconst (v := 2) hx hb dL_law_719 (by decide) ?_
  refine lv_iadd hx hb dL_law_720 ?_
  replace h := bo_o h
  obtain ⟨x3, e4, h⟩ := h
  refine l_sld (w := w) hx hb hX hbl hbA hS e4 dL_law_721 ?_
  refine lv_aload_n hx hb dL_law_722 rfl (lv_at hl 3 rfl) ?_
  replace h := b2_o h
  obtain ⟨x5, w7, e6, h⟩ := h
  refine l_callSW 4 (As := [.ref v1, .int x1, .int x3, .ref v3]) (rest := []) (v := (some (.int x5))) (w' := w7) (st1 := [.int x5]) hx hb hml hown hts hK hR hS hRc hRs (mX0_setDemand hl0 e6) (lw_SW q2006 q2007 q111 q2008) (by decide +kernel) (Nat.le_of_ble_eq_true rfl) (Nat.le_of_ble_eq_true rfl) rfl hl.1 (Nat.le_of_ble_eq_true rfl) dL_law_723 rfl rfl (fun H locs hR hS => ?_)
  refine lv_istore (lv' := [(5, .int x5), (0, .ref b), (1, .ref v1), (2, .ref o), (3, .ref v3), (4, .int v4)]) hx hb dL_law_726 hl (by decide) rfl (fun ls hl => ?_)
  refine lv_aload_n hx hb dL_law_728 rfl (lv_at hl 3 rfl) ?_
  refine lv_aload_n hx hb dL_law_729 rfl (lv_at hl 1 rfl) ?_
  refine lv_iload hx hb dL_law_730 (lv_at hl 5 rfl) ?_
  refine lv_iconst (v := 1) hx hb dL_law_732 (by decide) ?_
  refine lv_iadd hx hb dL_law_733 ?_
  replace h := bo_o h
  obtain ⟨x8, e9, h⟩ := h
  refine l_sld (w := (w.1, w7)) hx hb hX hbl hbA hS e9 dL_law_734 ?_
  refine lv_aload_n hx hb dL_law_735 rfl (lv_at hl 1 rfl) ?_
  refine lv_iload hx hb dL_law_736 (lv_at hl 5 rfl) ?_
  refine lv_iconst (v := 2) hx hb dL_law_738 (by decide) ?_
  refine lv_iadd hx hb dL_law_739 ?_
  replace h := bo_o h
  obtain ⟨x10, e11, h⟩ := h
  refine l_sld (w := (w.1, w7)) hx hb hX hbl hbA hS e11 dL_law_740 ?_
  replace h := b2_o h
  obtain ⟨x12, t14, e13, h⟩ := h
  refine l_callT 2 (As := [.int x8, .int x10]) (rest := []) (v := (some (.int x12))) (T' := t14) (st1 := [.int x12]) hx hb hml hown hts hK hR hS hRc hRs (mX5_setDemand e13) (lw_V q2694 q2695 q2696 q137 q2697) (by decide +kernel) (Nat.le_of_ble_eq_true rfl) (Nat.le_of_ble_eq_true rfl) rfl hl.1 (Nat.le_of_ble_eq_true rfl) dL_law_741 rfl rfl (fun H locs hR hS => ?_)
  refine lv_istore (lv' := [(6, .int x12), (5, .int x5), (0, .ref b), (1, .ref v1), (2, .ref o), (3, .ref v3), (4, .int v4)]) hx hb dL_law_744 hl (by decide) rfl (fun ls hl => ?_)
  refine lv_aload_n hx hb dL_law_746 rfl (lv_at hl 4 rfl) ?_
  replace h := b2_o h
  obtain ⟨x15, t17, e16, h⟩ := h
  refine l_callT 0 (As := []) (rest := []) (v := (some (.int x15))) (T' := t17) (st1 := [.int x15]) hx hb hml hown hts hK hR hS hRc hRs (mX5_thrown e16) (lw_V q2534 q2535 q2536 q137 q2537) (by decide +kernel) (Nat.le_of_ble_eq_true rfl) (Nat.le_of_ble_eq_true rfl) rfl hl.1 (Nat.le_of_ble_eq_true rfl) dL_law_747 rfl rfl (fun H locs hR hS => ?_)
  refine lv_iload hx hb dL_law_750 (lv_at hl 1 rfl) ?_
  refine lv_icmp_eq (tgt := 757) hx hb dL_law_752 (by decide) (fun c18 => ?_) (fun c18 => ?_)
  · replace h := it_o c18 h
    exact bL_law_757 (w := (t17, w7)) B hE hl0 h k23 kR hR hS (lv_sub hl [2, 3, 4, 5, 6, 1, 0] rfl)
  · replace h := if_o c18 h
    refine lv_iconst (v := 0) hx hb dL_law_755 (by decide) ?_
    have eR := kR _ (Option.some.inj h).symm
    subst eR
    exact hE _ ls H locs w7 _ dL_law_756 hS
noncomputable def fL_law_b865 (L : Nat) (xs : Nat → Int32) (v1 : Nat) (v3 : Nat) (v4 : Int32) (w : LW) : Option (Sum (Int32 × LW) (Int32)) :=
  fL_law_b3008 L xs v1 v3 v4 w
theorem bL_law_865 {p : Program} {l : Launch} {e : Env} {s : State} {m : MethodId} {args : Array Value} {below : List Frame} {meth : Method} {c : Code} {H : Heap} {locs : List Loc} {ls : Array Slot} {G : gE} {w0 : WH} {o b L : Nat} {xs : Nat → Int32} {Q : Int32 → State → Prop} (B : lB G b L xs w0 p s m args meth c) (hE : lE l G w0 p e s m args below meth c Q) (hl0 : l.stackTraces = false) {v1 : Nat} {v3 : Nat} {v4 : Int32} {w : LW} {x : Sum (Int32 × LW) (Int32)} {r : Int32} (h : fL_law_b865 L xs v1 v3 v4 w = some x)  (k23 : ∀ (v4' : Int32) (w' : LW), x = (.inl (v4', w')) → ∀ (H : Heap) (locs : List Loc) (ls : Array Slot), RepL G o w' H → Cu (gFr G) s w0 w'.2 H locs → lv_has ls 8 [(0, .ref b), (1, .ref v1), (2, .ref o), (3, .ref v3), (4, .int v4')] → W p l e room_1 s m args below meth c H locs (wC w0 - wC w'.2) (wS w0 - wS w'.2) (Q r) (F0 m 23 ls [])) (kR : ∀ q, x = (.inr q) → q = r) (hR : RepL G o w H) (hS : Cu (gFr G) s w0 w.2 H locs) (hl : lv_has ls 8 [(0, .ref b), (1, .ref v1), (2, .ref o), (3, .ref v3), (4, .int v4)]) : W p l e room_1 s m args below meth c H locs (wC w0 - wC w.2) (wS w0 - wS w.2) (Q r) (F0 m 865 ls []) := by
  have B0 := B
  obtain ⟨⟨hx, hb, hml, hown, hts, hr, hlk, hK⟩, hX, hbl, hbA, hRc, hRs⟩ := B0
  unfold fL_law_b865 at h
  refine lv_goto (tgt := 3008) hx hb dL_law_865 (by decide) ?_
  exact bL_law_3008 (w := w) B hE hl0 h k23 kR hR hS (lv_sub hl [0, 1, 2, 3, 4] rfl)
noncomputable def fL_law_b859 (L : Nat) (xs : Nat → Int32) (v1 : Nat) (v3 : Nat) (v4 : Int32) (s0 : Int64) (s1 : Int64) (w : LW) : Option (Sum (Int32 × LW) (Int32)) :=
  if lg_cmp s0 s1 = 0 then (
    fL_law_b865 L xs v1 v3 v4 w
  ) else (
    some (.inr 0)
  )
theorem bL_law_859 {p : Program} {l : Launch} {e : Env} {s : State} {m : MethodId} {args : Array Value} {below : List Frame} {meth : Method} {c : Code} {H : Heap} {locs : List Loc} {ls : Array Slot} {G : gE} {w0 : WH} {o b L : Nat} {xs : Nat → Int32} {Q : Int32 → State → Prop} (B : lB G b L xs w0 p s m args meth c) (hE : lE l G w0 p e s m args below meth c Q) (hl0 : l.stackTraces = false) {v1 : Nat} {v3 : Nat} {v4 : Int32} {s0 : Int64} {s1 : Int64} {w : LW} {x : Sum (Int32 × LW) (Int32)} {r : Int32} (h : fL_law_b859 L xs v1 v3 v4 s0 s1 w = some x)  (k23 : ∀ (v4' : Int32) (w' : LW), x = (.inl (v4', w')) → ∀ (H : Heap) (locs : List Loc) (ls : Array Slot), RepL G o w' H → Cu (gFr G) s w0 w'.2 H locs → lv_has ls 8 [(0, .ref b), (1, .ref v1), (2, .ref o), (3, .ref v3), (4, .int v4')] → W p l e room_1 s m args below meth c H locs (wC w0 - wC w'.2) (wS w0 - wS w'.2) (Q r) (F0 m 23 ls [])) (kR : ∀ q, x = (.inr q) → q = r) (hR : RepL G o w H) (hS : Cu (gFr G) s w0 w.2 H locs) (hl : lv_has ls 8 [(0, .ref b), (1, .ref v1), (2, .ref o), (3, .ref v3), (4, .int v4)]) : W p l e room_1 s m args below meth c H locs (wC w0 - wC w.2) (wS w0 - wS w.2) (Q r) (F0 m 859 ls [.long s1, .long s0]) := by
  have B0 := B
  obtain ⟨⟨hx, hb, hml, hown, hts, hr, hlk, hK⟩, hX, hbl, hbA, hRc, hRs⟩ := B0
  unfold fL_law_b859 at h
  refine W.lcmp hx hb dL_law_859 ?_
  refine lv_if_eq (tgt := 865) hx hb dL_law_860 (by decide) (fun c1 => ?_) (fun c1 => ?_)
  · replace h := it_o c1 h
    exact bL_law_865 (w := w) B hE hl0 h k23 kR hR hS (lv_sub hl [0, 1, 2, 3, 4] rfl)
  · replace h := if_o c1 h
    refine lv_iconst (v := 0) hx hb dL_law_863 (by decide) ?_
    have eR := kR _ (Option.some.inj h).symm
    subst eR
    exact hE _ ls H locs w.2 _ dL_law_864 hS
noncomputable def fL_law_b825 (L : Nat) (xs : Nat → Int32) (v1 : Nat) (v3 : Nat) (v4 : Int32) (v5 : Int32) (s1 : Int32) (s2 : Int32) (w : LW) : Option (Sum (Int32 × LW) (Int32)) :=
  b2_ (fX5_close s1 s2 w.1) fun x1 t3 =>
  b2_ (fX5_thrown  t3) fun x4 t6 =>
  if x4 = v5 then (
    if v5 = 0 then (
      (ldJ w.2 v3 0).bind fun x9 =>
      if x1 = 0 then (
        fL_law_b859 L xs v1 v3 v4 x9 0 (t6, w.2)
      ) else (
        fL_law_b859 L xs v1 v3 v4 x9 1 (t6, w.2)
      )
    ) else (
      fL_law_b865 L xs v1 v3 v4 (t6, w.2)
    )
  ) else (
    some (.inr 0)
  )
theorem bL_law_825 {p : Program} {l : Launch} {e : Env} {s : State} {m : MethodId} {args : Array Value} {below : List Frame} {meth : Method} {c : Code} {H : Heap} {locs : List Loc} {ls : Array Slot} {G : gE} {w0 : WH} {o b L : Nat} {xs : Nat → Int32} {Q : Int32 → State → Prop} (B : lB G b L xs w0 p s m args meth c) (hE : lE l G w0 p e s m args below meth c Q) (hl0 : l.stackTraces = false) {v1 : Nat} {v3 : Nat} {v4 : Int32} {v5 : Int32} {s1 : Int32} {s2 : Int32} {w : LW} {x : Sum (Int32 × LW) (Int32)} {r : Int32} (h : fL_law_b825 L xs v1 v3 v4 v5 s1 s2 w = some x)  (k23 : ∀ (v4' : Int32) (w' : LW), x = (.inl (v4', w')) → ∀ (H : Heap) (locs : List Loc) (ls : Array Slot), RepL G o w' H → Cu (gFr G) s w0 w'.2 H locs → lv_has ls 8 [(0, .ref b), (1, .ref v1), (2, .ref o), (3, .ref v3), (4, .int v4')] → W p l e room_1 s m args below meth c H locs (wC w0 - wC w'.2) (wS w0 - wS w'.2) (Q r) (F0 m 23 ls [])) (kR : ∀ q, x = (.inr q) → q = r) (hR : RepL G o w H) (hS : Cu (gFr G) s w0 w.2 H locs) (hl : lv_has ls 8 [(0, .ref b), (1, .ref v1), (2, .ref o), (3, .ref v3), (4, .int v4), (5, .int v5)]) : W p l e room_1 s m args below meth c H locs (wC w0 - wC w.2) (wS w0 - wS w.2) (Q r) (F0 m 825 ls [.int s2, .int s1, .ref o]) := by
  have B0 := B
  obtain ⟨⟨hx, hb, hml, hown, hts, hr, hlk, hK⟩, hX, hbl, hbA, hRc, hRs⟩ := B0
  unfold fL_law_b825 at h
  replace h := b2_o h
  obtain ⟨x1, t3, e2, h⟩ := h
  refine l_callT 2 (As := [.int s1, .int s2]) (rest := []) (v := (some (.int x1))) (T' := t3) (st1 := [.int x1]) hx hb hml hown hts hK hR hS hRc hRs (mX5_close e2) (lw_V q2698 q2699 q2700 q137 q2701) (by decide +kernel) (Nat.le_of_ble_eq_true rfl) (Nat.le_of_ble_eq_true rfl) rfl hl.1 (Nat.le_of_ble_eq_true rfl) dL_law_825 rfl rfl (fun H locs hR hS => ?_)
  refine lv_istore (lv' := [(6, .int x1), (0, .ref b), (1, .ref v1), (2, .ref o), (3, .ref v3), (4, .int v4), (5, .int v5)]) hx hb dL_law_828 hl (by decide) rfl (fun ls hl => ?_)
  refine lv_aload_n hx hb dL_law_830 rfl (lv_at hl 3 rfl) ?_
  replace h := b2_o h
  obtain ⟨x4, t6, e5, h⟩ := h
  refine l_callT 0 (As := []) (rest := []) (v := (some (.int x4))) (T' := t6) (st1 := [.int x4]) hx hb hml hown hts hK hR hS hRc hRs (mX5_thrown e5) (lw_V q2534 q2535 q2536 q137 q2537) (by decide +kernel) (Nat.le_of_ble_eq_true rfl) (Nat.le_of_ble_eq_true rfl) rfl hl.1 (Nat.le_of_ble_eq_true rfl) dL_law_831 rfl rfl (fun H locs hR hS => ?_)
  refine lv_iload hx hb dL_law_834 (lv_at hl 6 rfl) ?_
  refine lv_icmp_eq (tgt := 841) hx hb dL_law_836 (by decide) (fun c7 => ?_) (fun c7 => ?_)
  · replace h := it_o c7 h
    refine lv_iload hx hb dL_law_841 (lv_at hl 6 rfl) ?_
    refine lv_if_ne (tgt := 865) hx hb dL_law_843 (by decide) (fun c8 => ?_) (fun c8 => ?_)
    · replace h := if_o c8 h
      exact bL_law_865 (w := (t6, w.2)) B hE hl0 h k23 kR hR hS (lv_sub hl [1, 2, 3, 4, 5] rfl)
    · replace h := it_o c8 h
      refine lv_aload_n hx hb dL_law_846 rfl (lv_at hl 4 rfl) ?_
      refine lv_iconst (v := 0) hx hb dL_law_847 (by decide) ?_
      replace h := bo_o h
      obtain ⟨x9, e10, h⟩ := h
      refine h_lald hx hb hK hR.2.weak e10 dL_law_848 ?_
      refine lv_iload hx hb dL_law_849 (lv_at hl 0 rfl) ?_
      refine lv_if_eq (tgt := 858) hx hb dL_law_851 (by decide) (fun c11 => ?_) (fun c11 => ?_)
      · replace h := it_o c11 h
        refine lv_lconst (v := 0) hx hb dL_law_858 (by decide) ?_
        exact bL_law_859 (w := (t6, w.2)) B hE hl0 h k23 kR hR hS (lv_sub hl [1, 2, 3, 4, 5] rfl)
      · replace h := if_o c11 h
        refine lv_lconst (v := 1) hx hb dL_law_854 (by decide) ?_
        refine lv_goto (tgt := 859) hx hb dL_law_855 (by decide) ?_
        exact bL_law_859 (w := (t6, w.2)) B hE hl0 h k23 kR hR hS (lv_sub hl [1, 2, 3, 4, 5] rfl)
  · replace h := if_o c7 h
    refine lv_iconst (v := 0) hx hb dL_law_839 (by decide) ?_
    have eR := kR _ (Option.some.inj h).symm
    subst eR
    exact hE _ ls H locs w.2 _ dL_law_840 hS
noncomputable def fL_law_b798 (L : Nat) (xs : Nat → Int32) (v1 : Nat) (v3 : Nat) (v4 : Int32) (s0 : Nat) (s1 : Int32) (s2 : Int32) (w : LW) : Option (Sum (Int32 × LW) (Int32)) :=
  b2_ (fX0_close s0 s1 s2 v3 w.2) fun x1 w3 =>
  (sld L xs (v4 + 1)).bind fun x4 =>
  (sld L xs (v4 + 2)).bind fun x6 =>
  if x6 = 0 then (
    fL_law_b825 L xs v1 v3 v4 x1 x4 0 (w.1, w3)
  ) else (
    fL_law_b825 L xs v1 v3 v4 x1 x4 1 (w.1, w3)
  )
theorem bL_law_798 {p : Program} {l : Launch} {e : Env} {s : State} {m : MethodId} {args : Array Value} {below : List Frame} {meth : Method} {c : Code} {H : Heap} {locs : List Loc} {ls : Array Slot} {G : gE} {w0 : WH} {o b L : Nat} {xs : Nat → Int32} {Q : Int32 → State → Prop} (B : lB G b L xs w0 p s m args meth c) (hE : lE l G w0 p e s m args below meth c Q) (hl0 : l.stackTraces = false) {v1 : Nat} {v3 : Nat} {v4 : Int32} {s0 : Nat} {s1 : Int32} {s2 : Int32} {w : LW} {x : Sum (Int32 × LW) (Int32)} {r : Int32} (h : fL_law_b798 L xs v1 v3 v4 s0 s1 s2 w = some x)  (k23 : ∀ (v4' : Int32) (w' : LW), x = (.inl (v4', w')) → ∀ (H : Heap) (locs : List Loc) (ls : Array Slot), RepL G o w' H → Cu (gFr G) s w0 w'.2 H locs → lv_has ls 8 [(0, .ref b), (1, .ref v1), (2, .ref o), (3, .ref v3), (4, .int v4')] → W p l e room_1 s m args below meth c H locs (wC w0 - wC w'.2) (wS w0 - wS w'.2) (Q r) (F0 m 23 ls [])) (kR : ∀ q, x = (.inr q) → q = r) (hR : RepL G o w H) (hS : Cu (gFr G) s w0 w.2 H locs) (hl : lv_has ls 8 [(0, .ref b), (1, .ref v1), (2, .ref o), (3, .ref v3), (4, .int v4)]) : W p l e room_1 s m args below meth c H locs (wC w0 - wC w.2) (wS w0 - wS w.2) (Q r) (F0 m 798 ls [.int s2, .int s1, .ref s0]) := by
  have B0 := B
  obtain ⟨⟨hx, hb, hml, hown, hts, hr, hlk, hK⟩, hX, hbl, hbA, hRc, hRs⟩ := B0
  unfold fL_law_b798 at h
  refine lv_aload_n hx hb dL_law_798 rfl (lv_at hl 3 rfl) ?_
  replace h := b2_o h
  obtain ⟨x1, w3, e2, h⟩ := h
  refine l_callSW 4 (As := [.ref s0, .int s1, .int s2, .ref v3]) (rest := []) (v := (some (.int x1))) (w' := w3) (st1 := [.int x1]) hx hb hml hown hts hK hR hS hRc hRs (mX0_close hl0 e2) (lw_SW q2014 q2015 q111 q2016) (by decide +kernel) (Nat.le_of_ble_eq_true rfl) (Nat.le_of_ble_eq_true rfl) rfl hl.1 (Nat.le_of_ble_eq_true rfl) dL_law_799 rfl rfl (fun H locs hR hS => ?_)
  refine lv_istore (lv' := [(5, .int x1), (0, .ref b), (1, .ref v1), (2, .ref o), (3, .ref v3), (4, .int v4)]) hx hb dL_law_802 hl (by decide) rfl (fun ls hl => ?_)
  refine lv_aload_n hx hb dL_law_804 rfl (lv_at hl 3 rfl) ?_
  refine lv_aload_n hx hb dL_law_805 rfl (lv_at hl 1 rfl) ?_
  refine lv_iload hx hb dL_law_806 (lv_at hl 5 rfl) ?_
  refine lv_iconst (v := 1) hx hb dL_law_808 (by decide) ?_
  refine lv_iadd hx hb dL_law_809 ?_
  replace h := bo_o h
  obtain ⟨x4, e5, h⟩ := h
  refine l_sld (w := (w.1, w3)) hx hb hX hbl hbA hS e5 dL_law_810 ?_
  refine lv_aload_n hx hb dL_law_811 rfl (lv_at hl 1 rfl) ?_
  refine lv_iload hx hb dL_law_812 (lv_at hl 5 rfl) ?_
  refine lv_iconst (v := 2) hx hb dL_law_814 (by decide) ?_
  refine lv_iadd hx hb dL_law_815 ?_
  replace h := bo_o h
  obtain ⟨x6, e7, h⟩ := h
  refine l_sld (w := (w.1, w3)) hx hb hX hbl hbA hS e7 dL_law_816 ?_
  refine lv_if_eq (tgt := 824) hx hb dL_law_817 (by decide) (fun c8 => ?_) (fun c8 => ?_)
  · replace h := it_o c8 h
    refine lv_iconst (v := 0) hx hb dL_law_824 (by decide) ?_
    exact bL_law_825 (w := (w.1, w3)) B hE hl0 h k23 kR hR hS (lv_sub hl [1, 2, 3, 4, 5, 0] rfl)
  · replace h := if_o c8 h
    refine lv_iconst (v := 1) hx hb dL_law_820 (by decide) ?_
    refine lv_goto (tgt := 825) hx hb dL_law_821 (by decide) ?_
    exact bL_law_825 (w := (w.1, w3)) B hE hl0 h k23 kR hR hS (lv_sub hl [1, 2, 3, 4, 5, 0] rfl)
noncomputable def fL_law_b777 (L : Nat) (xs : Nat → Int32) (v1 : Nat) (v3 : Nat) (v4 : Int32) (w : LW) : Option (Sum (Int32 × LW) (Int32)) :=
  (sld L xs (v4 + 1)).bind fun x1 =>
  (sld L xs (v4 + 2)).bind fun x3 =>
  if x3 = 0 then (
    fL_law_b798 L xs v1 v3 v4 v1 x1 0 w
  ) else (
    fL_law_b798 L xs v1 v3 v4 v1 x1 1 w
  )
theorem bL_law_777 {p : Program} {l : Launch} {e : Env} {s : State} {m : MethodId} {args : Array Value} {below : List Frame} {meth : Method} {c : Code} {H : Heap} {locs : List Loc} {ls : Array Slot} {G : gE} {w0 : WH} {o b L : Nat} {xs : Nat → Int32} {Q : Int32 → State → Prop} (B : lB G b L xs w0 p s m args meth c) (hE : lE l G w0 p e s m args below meth c Q) (hl0 : l.stackTraces = false) {v1 : Nat} {v3 : Nat} {v4 : Int32} {w : LW} {x : Sum (Int32 × LW) (Int32)} {r : Int32} (h : fL_law_b777 L xs v1 v3 v4 w = some x)  (k23 : ∀ (v4' : Int32) (w' : LW), x = (.inl (v4', w')) → ∀ (H : Heap) (locs : List Loc) (ls : Array Slot), RepL G o w' H → Cu (gFr G) s w0 w'.2 H locs → lv_has ls 8 [(0, .ref b), (1, .ref v1), (2, .ref o), (3, .ref v3), (4, .int v4')] → W p l e room_1 s m args below meth c H locs (wC w0 - wC w'.2) (wS w0 - wS w'.2) (Q r) (F0 m 23 ls [])) (kR : ∀ q, x = (.inr q) → q = r) (hR : RepL G o w H) (hS : Cu (gFr G) s w0 w.2 H locs) (hl : lv_has ls 8 [(0, .ref b), (1, .ref v1), (2, .ref o), (3, .ref v3), (4, .int v4)]) : W p l e room_1 s m args below meth c H locs (wC w0 - wC w.2) (wS w0 - wS w.2) (Q r) (F0 m 777 ls []) := by
  have B0 := B
  obtain ⟨⟨hx, hb, hml, hown, hts, hr, hlk, hK⟩, hX, hbl, hbA, hRc, hRs⟩ := B0
  unfold fL_law_b777 at h
  refine lv_aload_n hx hb dL_law_777 rfl (lv_at hl 1 rfl) ?_
  refine lv_aload_n hx hb dL_law_778 rfl (lv_at hl 0 rfl) ?_
  refine lv_iload hx hb dL_law_779 (lv_at hl 4 rfl) ?_
  refine lv_iconst (v := 1) hx hb dL_law_781 (by decide) ?_
  refine lv_iadd hx hb dL_law_782 ?_
  replace h := bo_o h
  obtain ⟨x1, e2, h⟩ := h
  refine l_sld (w := w) hx hb hX hbl hbA hS e2 dL_law_783 ?_
  refine lv_aload_n hx hb dL_law_784 rfl (lv_at hl 0 rfl) ?_
  refine lv_iload hx hb dL_law_785 (lv_at hl 4 rfl) ?_
  refine lv_iconst (v := 2) hx hb dL_law_787 (by decide) ?_
  refine lv_iadd hx hb dL_law_788 ?_
  replace h := bo_o h
  obtain ⟨x3, e4, h⟩ := h
  refine l_sld (w := w) hx hb hX hbl hbA hS e4 dL_law_789 ?_
  refine lv_if_eq (tgt := 797) hx hb dL_law_790 (by decide) (fun c5 => ?_) (fun c5 => ?_)
  · replace h := it_o c5 h
    refine lv_iconst (v := 0) hx hb dL_law_797 (by decide) ?_
    exact bL_law_798 (w := w) B hE hl0 h k23 kR hR hS (lv_sub hl [0, 1, 2, 3, 4] rfl)
  · replace h := if_o c5 h
    refine lv_iconst (v := 1) hx hb dL_law_793 (by decide) ?_
    refine lv_goto (tgt := 798) hx hb dL_law_794 (by decide) ?_
    exact bL_law_798 (w := w) B hE hl0 h k23 kR hR hS (lv_sub hl [0, 1, 2, 3, 4] rfl)
noncomputable def fL_law_b901 (L : Nat) (xs : Nat → Int32) (v1 : Nat) (v3 : Nat) (v4 : Int32) (s0 : Int32) (s2 : Int32) (w : LW) : Option (Sum (Int32 × LW) (Int32)) :=
  b2_ (fX5_setTies s2 w.1) fun x1 t3 =>
  if s0 = x1 then (
    fL_law_b3008 L xs v1 v3 v4 (t3, w.2)
  ) else (
    some (.inr 0)
  )
theorem bL_law_901 {p : Program} {l : Launch} {e : Env} {s : State} {m : MethodId} {args : Array Value} {below : List Frame} {meth : Method} {c : Code} {H : Heap} {locs : List Loc} {ls : Array Slot} {G : gE} {w0 : WH} {o b L : Nat} {xs : Nat → Int32} {Q : Int32 → State → Prop} (B : lB G b L xs w0 p s m args meth c) (hE : lE l G w0 p e s m args below meth c Q) (hl0 : l.stackTraces = false) {v1 : Nat} {v3 : Nat} {v4 : Int32} {s0 : Int32} {s2 : Int32} {w : LW} {x : Sum (Int32 × LW) (Int32)} {r : Int32} (h : fL_law_b901 L xs v1 v3 v4 s0 s2 w = some x)  (k23 : ∀ (v4' : Int32) (w' : LW), x = (.inl (v4', w')) → ∀ (H : Heap) (locs : List Loc) (ls : Array Slot), RepL G o w' H → Cu (gFr G) s w0 w'.2 H locs → lv_has ls 8 [(0, .ref b), (1, .ref v1), (2, .ref o), (3, .ref v3), (4, .int v4')] → W p l e room_1 s m args below meth c H locs (wC w0 - wC w'.2) (wS w0 - wS w'.2) (Q r) (F0 m 23 ls [])) (kR : ∀ q, x = (.inr q) → q = r) (hR : RepL G o w H) (hS : Cu (gFr G) s w0 w.2 H locs) (hl : lv_has ls 8 [(0, .ref b), (1, .ref v1), (2, .ref o), (3, .ref v3), (4, .int v4)]) : W p l e room_1 s m args below meth c H locs (wC w0 - wC w.2) (wS w0 - wS w.2) (Q r) (F0 m 901 ls [.int s2, .ref o, .int s0]) := by
  have B0 := B
  obtain ⟨⟨hx, hb, hml, hown, hts, hr, hlk, hK⟩, hX, hbl, hbA, hRc, hRs⟩ := B0
  unfold fL_law_b901 at h
  replace h := b2_o h
  obtain ⟨x1, t3, e2, h⟩ := h
  refine l_callT 1 (As := [.int s2]) (rest := [.int s0]) (v := (some (.int x1))) (T' := t3) (st1 := [.int x1, .int s0]) hx hb hml hown hts hK hR hS hRc hRs (mX5_setTies e2) (lw_V q2702 q2703 q2704 q137 q2705) (by decide +kernel) (Nat.le_of_ble_eq_true rfl) (Nat.le_of_ble_eq_true rfl) rfl hl.1 (Nat.le_of_ble_eq_true rfl) dL_law_901 rfl rfl (fun H locs hR hS => ?_)
  refine lv_icmp_eq (tgt := 3008) hx hb dL_law_904 (by decide) (fun c4 => ?_) (fun c4 => ?_)
  · replace h := it_o c4 h
    exact bL_law_3008 (w := (t3, w.2)) B hE hl0 h k23 kR hR hS (lv_sub hl [0, 1, 2, 3, 4] rfl)
  · replace h := if_o c4 h
    refine lv_iconst (v := 0) hx hb dL_law_907 (by decide) ?_
    have eR := kR _ (Option.some.inj h).symm
    subst eR
    exact hE _ ls H locs w.2 _ dL_law_908 hS
noncomputable def fL_law_b883 (L : Nat) (xs : Nat → Int32) (v1 : Nat) (v3 : Nat) (v4 : Int32) (s0 : Nat) (s1 : Int32) (w : LW) : Option (Sum (Int32 × LW) (Int32)) :=
  (hIs w.2 s0 17).bind fun _ =>
  b2_ (fX1_setTies s0 s1 w.2) fun x1 w3 =>
  (sld L xs (v4 + 1)).bind fun x5 =>
  if x5 = 0 then (
    fL_law_b901 L xs v1 v3 v4 x1 0 (w.1, w3)
  ) else (
    fL_law_b901 L xs v1 v3 v4 x1 1 (w.1, w3)
  )
theorem bL_law_883 {p : Program} {l : Launch} {e : Env} {s : State} {m : MethodId} {args : Array Value} {below : List Frame} {meth : Method} {c : Code} {H : Heap} {locs : List Loc} {ls : Array Slot} {G : gE} {w0 : WH} {o b L : Nat} {xs : Nat → Int32} {Q : Int32 → State → Prop} (B : lB G b L xs w0 p s m args meth c) (hE : lE l G w0 p e s m args below meth c Q) (hl0 : l.stackTraces = false) {v1 : Nat} {v3 : Nat} {v4 : Int32} {s0 : Nat} {s1 : Int32} {w : LW} {x : Sum (Int32 × LW) (Int32)} {r : Int32} (h : fL_law_b883 L xs v1 v3 v4 s0 s1 w = some x)  (k23 : ∀ (v4' : Int32) (w' : LW), x = (.inl (v4', w')) → ∀ (H : Heap) (locs : List Loc) (ls : Array Slot), RepL G o w' H → Cu (gFr G) s w0 w'.2 H locs → lv_has ls 8 [(0, .ref b), (1, .ref v1), (2, .ref o), (3, .ref v3), (4, .int v4')] → W p l e room_1 s m args below meth c H locs (wC w0 - wC w'.2) (wS w0 - wS w'.2) (Q r) (F0 m 23 ls [])) (kR : ∀ q, x = (.inr q) → q = r) (hR : RepL G o w H) (hS : Cu (gFr G) s w0 w.2 H locs) (hl : lv_has ls 8 [(0, .ref b), (1, .ref v1), (2, .ref o), (3, .ref v3), (4, .int v4)]) : W p l e room_1 s m args below meth c H locs (wC w0 - wC w.2) (wS w0 - wS w.2) (Q r) (F0 m 883 ls [.int s1, .ref s0]) := by
  have B0 := B
  obtain ⟨⟨hx, hb, hml, hown, hts, hr, hlk, hK⟩, hX, hbl, hbA, hRc, hRs⟩ := B0
  unfold fL_law_b883 at h
  replace h := bo_o h
  obtain ⟨_, e4, h⟩ := h
  replace h := b2_o h
  obtain ⟨x1, w3, e2, h⟩ := h
  refine l_callV 1 (ci := 17) (As := [.int s1]) (rest := []) (v := (some (.int x1))) (w' := w3) (st1 := [.int x1]) hx hb hml hown hts hK hR hS hRc hRs rfl e4 (mX1_setTies e2) (lw_V q1157 q1158 q1159 q112 q1160) (by decide +kernel) (Nat.le_of_ble_eq_true rfl) (Nat.le_of_ble_eq_true rfl) rfl hl.1 (Nat.le_of_ble_eq_true rfl) dL_law_883 rfl rfl (fun H locs hR hS => ?_)
  refine lv_aload_n hx hb dL_law_886 rfl (lv_at hl 2 rfl) ?_
  refine lv_aload_n hx hb dL_law_887 rfl (lv_at hl 0 rfl) ?_
  refine lv_iload hx hb dL_law_888 (lv_at hl 4 rfl) ?_
  refine lv_iconst (v := 1) hx hb dL_law_890 (by decide) ?_
  refine lv_iadd hx hb dL_law_891 ?_
  replace h := bo_o h
  obtain ⟨x5, e6, h⟩ := h
  refine l_sld (w := (w.1, w3)) hx hb hX hbl hbA hS e6 dL_law_892 ?_
  refine lv_if_eq (tgt := 900) hx hb dL_law_893 (by decide) (fun c7 => ?_) (fun c7 => ?_)
  · replace h := it_o c7 h
    refine lv_iconst (v := 0) hx hb dL_law_900 (by decide) ?_
    exact bL_law_901 (w := (w.1, w3)) B hE hl0 h k23 kR hR hS (lv_sub hl [0, 1, 2, 3, 4] rfl)
  · replace h := if_o c7 h
    refine lv_iconst (v := 1) hx hb dL_law_896 (by decide) ?_
    refine lv_goto (tgt := 901) hx hb dL_law_897 (by decide) ?_
    exact bL_law_901 (w := (w.1, w3)) B hE hl0 h k23 kR hR hS (lv_sub hl [0, 1, 2, 3, 4] rfl)
noncomputable def fL_law_b868 (L : Nat) (xs : Nat → Int32) (v1 : Nat) (v3 : Nat) (v4 : Int32) (w : LW) : Option (Sum (Int32 × LW) (Int32)) :=
  (sld L xs (v4 + 1)).bind fun x1 =>
  if x1 = 0 then (
    fL_law_b883 L xs v1 v3 v4 v1 0 w
  ) else (
    fL_law_b883 L xs v1 v3 v4 v1 1 w
  )
theorem bL_law_868 {p : Program} {l : Launch} {e : Env} {s : State} {m : MethodId} {args : Array Value} {below : List Frame} {meth : Method} {c : Code} {H : Heap} {locs : List Loc} {ls : Array Slot} {G : gE} {w0 : WH} {o b L : Nat} {xs : Nat → Int32} {Q : Int32 → State → Prop} (B : lB G b L xs w0 p s m args meth c) (hE : lE l G w0 p e s m args below meth c Q) (hl0 : l.stackTraces = false) {v1 : Nat} {v3 : Nat} {v4 : Int32} {w : LW} {x : Sum (Int32 × LW) (Int32)} {r : Int32} (h : fL_law_b868 L xs v1 v3 v4 w = some x)  (k23 : ∀ (v4' : Int32) (w' : LW), x = (.inl (v4', w')) → ∀ (H : Heap) (locs : List Loc) (ls : Array Slot), RepL G o w' H → Cu (gFr G) s w0 w'.2 H locs → lv_has ls 8 [(0, .ref b), (1, .ref v1), (2, .ref o), (3, .ref v3), (4, .int v4')] → W p l e room_1 s m args below meth c H locs (wC w0 - wC w'.2) (wS w0 - wS w'.2) (Q r) (F0 m 23 ls [])) (kR : ∀ q, x = (.inr q) → q = r) (hR : RepL G o w H) (hS : Cu (gFr G) s w0 w.2 H locs) (hl : lv_has ls 8 [(0, .ref b), (1, .ref v1), (2, .ref o), (3, .ref v3), (4, .int v4)]) : W p l e room_1 s m args below meth c H locs (wC w0 - wC w.2) (wS w0 - wS w.2) (Q r) (F0 m 868 ls []) := by
  have B0 := B
  obtain ⟨⟨hx, hb, hml, hown, hts, hr, hlk, hK⟩, hX, hbl, hbA, hRc, hRs⟩ := B0
  unfold fL_law_b868 at h
  refine lv_aload_n hx hb dL_law_868 rfl (lv_at hl 1 rfl) ?_
  refine lv_aload_n hx hb dL_law_869 rfl (lv_at hl 0 rfl) ?_
  refine lv_iload hx hb dL_law_870 (lv_at hl 4 rfl) ?_
  refine lv_iconst (v := 1) hx hb dL_law_872 (by decide) ?_
  refine lv_iadd hx hb dL_law_873 ?_
  replace h := bo_o h
  obtain ⟨x1, e2, h⟩ := h
  refine l_sld (w := w) hx hb hX hbl hbA hS e2 dL_law_874 ?_
  refine lv_if_eq (tgt := 882) hx hb dL_law_875 (by decide) (fun c3 => ?_) (fun c3 => ?_)
  · replace h := it_o c3 h
    refine lv_iconst (v := 0) hx hb dL_law_882 (by decide) ?_
    exact bL_law_883 (w := w) B hE hl0 h k23 kR hR hS (lv_sub hl [0, 1, 2, 3, 4] rfl)
  · replace h := if_o c3 h
    refine lv_iconst (v := 1) hx hb dL_law_878 (by decide) ?_
    refine lv_goto (tgt := 883) hx hb dL_law_879 (by decide) ?_
    exact bL_law_883 (w := w) B hE hl0 h k23 kR hR hS (lv_sub hl [0, 1, 2, 3, 4] rfl)
noncomputable def fL_law_b909 (L : Nat) (xs : Nat → Int32) (v1 : Nat) (v3 : Nat) (v4 : Int32) (w : LW) : Option (Sum (Int32 × LW) (Int32)) :=
  (hIs w.2 v1 17).bind fun _ =>
  b2_ (fX1_tiesForLeader v1 w.2) fun x1 w3 =>
  b2_ (fX5_tiesForLeader  w.1) fun x5 t7 =>
  if x1 = x5 then (
    fL_law_b3008 L xs v1 v3 v4 (t7, w3)
  ) else (
    some (.inr 0)
  )
theorem bL_law_909 {p : Program} {l : Launch} {e : Env} {s : State} {m : MethodId} {args : Array Value} {below : List Frame} {meth : Method} {c : Code} {H : Heap} {locs : List Loc} {ls : Array Slot} {G : gE} {w0 : WH} {o b L : Nat} {xs : Nat → Int32} {Q : Int32 → State → Prop} (B : lB G b L xs w0 p s m args meth c) (hE : lE l G w0 p e s m args below meth c Q) (hl0 : l.stackTraces = false) {v1 : Nat} {v3 : Nat} {v4 : Int32} {w : LW} {x : Sum (Int32 × LW) (Int32)} {r : Int32} (h : fL_law_b909 L xs v1 v3 v4 w = some x)  (k23 : ∀ (v4' : Int32) (w' : LW), x = (.inl (v4', w')) → ∀ (H : Heap) (locs : List Loc) (ls : Array Slot), RepL G o w' H → Cu (gFr G) s w0 w'.2 H locs → lv_has ls 8 [(0, .ref b), (1, .ref v1), (2, .ref o), (3, .ref v3), (4, .int v4')] → W p l e room_1 s m args below meth c H locs (wC w0 - wC w'.2) (wS w0 - wS w'.2) (Q r) (F0 m 23 ls [])) (kR : ∀ q, x = (.inr q) → q = r) (hR : RepL G o w H) (hS : Cu (gFr G) s w0 w.2 H locs) (hl : lv_has ls 8 [(0, .ref b), (1, .ref v1), (2, .ref o), (3, .ref v3), (4, .int v4)]) : W p l e room_1 s m args below meth c H locs (wC w0 - wC w.2) (wS w0 - wS w.2) (Q r) (F0 m 909 ls []) := by
  have B0 := B
  obtain ⟨⟨hx, hb, hml, hown, hts, hr, hlk, hK⟩, hX, hbl, hbA, hRc, hRs⟩ := B0
  unfold fL_law_b909 at h
  refine lv_aload_n hx hb dL_law_909 rfl (lv_at hl 1 rfl) ?_
  replace h := bo_o h
  obtain ⟨_, e4, h⟩ := h
  replace h := b2_o h
  obtain ⟨x1, w3, e2, h⟩ := h
  refine l_callV 0 (ci := 17) (As := []) (rest := []) (v := (some (.int x1))) (w' := w3) (st1 := [.int x1]) hx hb hml hown hts hK hR hS hRc hRs rfl e4 (mX1_tiesForLeader e2) (lw_V q1161 q1162 q1163 q112 q1164) (by decide +kernel) (Nat.le_of_ble_eq_true rfl) (Nat.le_of_ble_eq_true rfl) rfl hl.1 (Nat.le_of_ble_eq_true rfl) dL_law_910 rfl rfl (fun H locs hR hS => ?_)
  refine lv_aload_n hx hb dL_law_913 rfl (lv_at hl 2 rfl) ?_
  replace h := b2_o h
  obtain ⟨x5, t7, e6, h⟩ := h
  refine l_callT 0 (As := []) (rest := [.int x1]) (v := (some (.int x5))) (T' := t7) (st1 := [.int x5, .int x1]) hx hb hml hown hts hK hR hS hRc hRs (mX5_tiesForLeader e6) (lw_V q2706 q2707 q2708 q137 q2709) (by decide +kernel) (Nat.le_of_ble_eq_true rfl) (Nat.le_of_ble_eq_true rfl) rfl hl.1 (Nat.le_of_ble_eq_true rfl) dL_law_914 rfl rfl (fun H locs hR hS => ?_)
  refine lv_icmp_eq (tgt := 3008) hx hb dL_law_917 (by decide) (fun c8 => ?_) (fun c8 => ?_)
  · replace h := it_o c8 h
    exact bL_law_3008 (w := (t7, w3)) B hE hl0 h k23 kR hR hS (lv_sub hl [0, 1, 2, 3, 4] rfl)
  · replace h := if_o c8 h
    refine lv_iconst (v := 0) hx hb dL_law_920 (by decide) ?_
    have eR := kR _ (Option.some.inj h).symm
    subst eR
    exact hE _ ls H locs w3 _ dL_law_921 hS
noncomputable def fL_law_b922 (L : Nat) (xs : Nat → Int32) (v1 : Nat) (v3 : Nat) (v4 : Int32) (w : LW) : Option (Sum (Int32 × LW) (Int32)) :=
  (hIs w.2 v1 17).bind fun _ =>
  b2_ (fX1_undo v1 w.2) fun x1 w3 =>
  b2_ (fX5_undo  w.1) fun x5 t7 =>
  if x1 = x5 then (
    fL_law_b3008 L xs v1 v3 v4 (t7, w3)
  ) else (
    some (.inr 0)
  )
theorem bL_law_922 {p : Program} {l : Launch} {e : Env} {s : State} {m : MethodId} {args : Array Value} {below : List Frame} {meth : Method} {c : Code} {H : Heap} {locs : List Loc} {ls : Array Slot} {G : gE} {w0 : WH} {o b L : Nat} {xs : Nat → Int32} {Q : Int32 → State → Prop} (B : lB G b L xs w0 p s m args meth c) (hE : lE l G w0 p e s m args below meth c Q) (hl0 : l.stackTraces = false) {v1 : Nat} {v3 : Nat} {v4 : Int32} {w : LW} {x : Sum (Int32 × LW) (Int32)} {r : Int32} (h : fL_law_b922 L xs v1 v3 v4 w = some x)  (k23 : ∀ (v4' : Int32) (w' : LW), x = (.inl (v4', w')) → ∀ (H : Heap) (locs : List Loc) (ls : Array Slot), RepL G o w' H → Cu (gFr G) s w0 w'.2 H locs → lv_has ls 8 [(0, .ref b), (1, .ref v1), (2, .ref o), (3, .ref v3), (4, .int v4')] → W p l e room_1 s m args below meth c H locs (wC w0 - wC w'.2) (wS w0 - wS w'.2) (Q r) (F0 m 23 ls [])) (kR : ∀ q, x = (.inr q) → q = r) (hR : RepL G o w H) (hS : Cu (gFr G) s w0 w.2 H locs) (hl : lv_has ls 8 [(0, .ref b), (1, .ref v1), (2, .ref o), (3, .ref v3), (4, .int v4)]) : W p l e room_1 s m args below meth c H locs (wC w0 - wC w.2) (wS w0 - wS w.2) (Q r) (F0 m 922 ls []) := by
  have B0 := B
  obtain ⟨⟨hx, hb, hml, hown, hts, hr, hlk, hK⟩, hX, hbl, hbA, hRc, hRs⟩ := B0
  unfold fL_law_b922 at h
  refine lv_aload_n hx hb dL_law_922 rfl (lv_at hl 1 rfl) ?_
  replace h := bo_o h
  obtain ⟨_, e4, h⟩ := h
  replace h := b2_o h
  obtain ⟨x1, w3, e2, h⟩ := h
  refine l_callV 0 (ci := 17) (As := []) (rest := []) (v := (some (.int x1))) (w' := w3) (st1 := [.int x1]) hx hb hml hown hts hK hR hS hRc hRs rfl e4 (mX1_undo e2) (lw_V q1165 q1166 q1167 q112 q1168) (by decide +kernel) (Nat.le_of_ble_eq_true rfl) (Nat.le_of_ble_eq_true rfl) rfl hl.1 (Nat.le_of_ble_eq_true rfl) dL_law_923 rfl rfl (fun H locs hR hS => ?_)
  refine lv_aload_n hx hb dL_law_926 rfl (lv_at hl 2 rfl) ?_
  replace h := b2_o h
  obtain ⟨x5, t7, e6, h⟩ := h
  refine l_callT 0 (As := []) (rest := [.int x1]) (v := (some (.int x5))) (T' := t7) (st1 := [.int x5, .int x1]) hx hb hml hown hts hK hR hS hRc hRs (mX5_undo e6) (lw_V q2710 q2711 q2712 q137 q2713) (by decide +kernel) (Nat.le_of_ble_eq_true rfl) (Nat.le_of_ble_eq_true rfl) rfl hl.1 (Nat.le_of_ble_eq_true rfl) dL_law_927 rfl rfl (fun H locs hR hS => ?_)
  refine lv_icmp_eq (tgt := 3008) hx hb dL_law_930 (by decide) (fun c8 => ?_) (fun c8 => ?_)
  · replace h := it_o c8 h
    exact bL_law_3008 (w := (t7, w3)) B hE hl0 h k23 kR hR hS (lv_sub hl [0, 1, 2, 3, 4] rfl)
  · replace h := if_o c8 h
    refine lv_iconst (v := 0) hx hb dL_law_933 (by decide) ?_
    have eR := kR _ (Option.some.inj h).symm
    subst eR
    exact hE _ ls H locs w3 _ dL_law_934 hS
noncomputable def fL_law_b935 (L : Nat) (xs : Nat → Int32) (v1 : Nat) (v3 : Nat) (v4 : Int32) (w : LW) : Option (Sum (Int32 × LW) (Int32)) :=
  (hIs w.2 v1 17).bind fun _ =>
  b2_ (fX1_undoCount v1 w.2) fun x1 w3 =>
  b2_ (fX5_undoCount  w.1) fun x5 t7 =>
  if x1 = x5 then (
    fL_law_b3008 L xs v1 v3 v4 (t7, w3)
  ) else (
    some (.inr 0)
  )
theorem bL_law_935 {p : Program} {l : Launch} {e : Env} {s : State} {m : MethodId} {args : Array Value} {below : List Frame} {meth : Method} {c : Code} {H : Heap} {locs : List Loc} {ls : Array Slot} {G : gE} {w0 : WH} {o b L : Nat} {xs : Nat → Int32} {Q : Int32 → State → Prop} (B : lB G b L xs w0 p s m args meth c) (hE : lE l G w0 p e s m args below meth c Q) (hl0 : l.stackTraces = false) {v1 : Nat} {v3 : Nat} {v4 : Int32} {w : LW} {x : Sum (Int32 × LW) (Int32)} {r : Int32} (h : fL_law_b935 L xs v1 v3 v4 w = some x)  (k23 : ∀ (v4' : Int32) (w' : LW), x = (.inl (v4', w')) → ∀ (H : Heap) (locs : List Loc) (ls : Array Slot), RepL G o w' H → Cu (gFr G) s w0 w'.2 H locs → lv_has ls 8 [(0, .ref b), (1, .ref v1), (2, .ref o), (3, .ref v3), (4, .int v4')] → W p l e room_1 s m args below meth c H locs (wC w0 - wC w'.2) (wS w0 - wS w'.2) (Q r) (F0 m 23 ls [])) (kR : ∀ q, x = (.inr q) → q = r) (hR : RepL G o w H) (hS : Cu (gFr G) s w0 w.2 H locs) (hl : lv_has ls 8 [(0, .ref b), (1, .ref v1), (2, .ref o), (3, .ref v3), (4, .int v4)]) : W p l e room_1 s m args below meth c H locs (wC w0 - wC w.2) (wS w0 - wS w.2) (Q r) (F0 m 935 ls []) := by
  have B0 := B
  obtain ⟨⟨hx, hb, hml, hown, hts, hr, hlk, hK⟩, hX, hbl, hbA, hRc, hRs⟩ := B0
  unfold fL_law_b935 at h
  refine lv_aload_n hx hb dL_law_935 rfl (lv_at hl 1 rfl) ?_
  replace h := bo_o h
  obtain ⟨_, e4, h⟩ := h
  replace h := b2_o h
  obtain ⟨x1, w3, e2, h⟩ := h
  refine l_callV 0 (ci := 17) (As := []) (rest := []) (v := (some (.int x1))) (w' := w3) (st1 := [.int x1]) hx hb hml hown hts hK hR hS hRc hRs rfl e4 (mX1_undoCount e2) (lw_V q1184 q1185 q1186 q112 q1187) (by decide +kernel) (Nat.le_of_ble_eq_true rfl) (Nat.le_of_ble_eq_true rfl) rfl hl.1 (Nat.le_of_ble_eq_true rfl) dL_law_936 rfl rfl (fun H locs hR hS => ?_)
  refine lv_aload_n hx hb dL_law_939 rfl (lv_at hl 2 rfl) ?_
  replace h := b2_o h
  obtain ⟨x5, t7, e6, h⟩ := h
  refine l_callT 0 (As := []) (rest := [.int x1]) (v := (some (.int x5))) (T' := t7) (st1 := [.int x5, .int x1]) hx hb hml hown hts hK hR hS hRc hRs (mX5_undoCount e6) (lw_V q2714 q2715 q2716 q137 q2717) (by decide +kernel) (Nat.le_of_ble_eq_true rfl) (Nat.le_of_ble_eq_true rfl) rfl hl.1 (Nat.le_of_ble_eq_true rfl) dL_law_940 rfl rfl (fun H locs hR hS => ?_)
  refine lv_icmp_eq (tgt := 3008) hx hb dL_law_943 (by decide) (fun c8 => ?_) (fun c8 => ?_)
  · replace h := it_o c8 h
    exact bL_law_3008 (w := (t7, w3)) B hE hl0 h k23 kR hR hS (lv_sub hl [0, 1, 2, 3, 4] rfl)
  · replace h := if_o c8 h
    refine lv_iconst (v := 0) hx hb dL_law_946 (by decide) ?_
    have eR := kR _ (Option.some.inj h).symm
    subst eR
    exact hE _ ls H locs w3 _ dL_law_947 hS
noncomputable def fL_law_b1008 (L : Nat) (xs : Nat → Int32) (v1 : Nat) (v3 : Nat) (v4 : Int32) (w : LW) : Option (Sum (Int32 × LW) (Int32)) :=
  fL_law_b3008 L xs v1 v3 v4 w
theorem bL_law_1008 {p : Program} {l : Launch} {e : Env} {s : State} {m : MethodId} {args : Array Value} {below : List Frame} {meth : Method} {c : Code} {H : Heap} {locs : List Loc} {ls : Array Slot} {G : gE} {w0 : WH} {o b L : Nat} {xs : Nat → Int32} {Q : Int32 → State → Prop} (B : lB G b L xs w0 p s m args meth c) (hE : lE l G w0 p e s m args below meth c Q) (hl0 : l.stackTraces = false) {v1 : Nat} {v3 : Nat} {v4 : Int32} {w : LW} {x : Sum (Int32 × LW) (Int32)} {r : Int32} (h : fL_law_b1008 L xs v1 v3 v4 w = some x)  (k23 : ∀ (v4' : Int32) (w' : LW), x = (.inl (v4', w')) → ∀ (H : Heap) (locs : List Loc) (ls : Array Slot), RepL G o w' H → Cu (gFr G) s w0 w'.2 H locs → lv_has ls 8 [(0, .ref b), (1, .ref v1), (2, .ref o), (3, .ref v3), (4, .int v4')] → W p l e room_1 s m args below meth c H locs (wC w0 - wC w'.2) (wS w0 - wS w'.2) (Q r) (F0 m 23 ls [])) (kR : ∀ q, x = (.inr q) → q = r) (hR : RepL G o w H) (hS : Cu (gFr G) s w0 w.2 H locs) (hl : lv_has ls 8 [(0, .ref b), (1, .ref v1), (2, .ref o), (3, .ref v3), (4, .int v4)]) : W p l e room_1 s m args below meth c H locs (wC w0 - wC w.2) (wS w0 - wS w.2) (Q r) (F0 m 1008 ls []) := by
  have B0 := B
  obtain ⟨⟨hx, hb, hml, hown, hts, hr, hlk, hK⟩, hX, hbl, hbA, hRc, hRs⟩ := B0
  unfold fL_law_b1008 at h
  refine lv_goto (tgt := 3008) hx hb dL_law_1008 (by decide) ?_
  exact bL_law_3008 (w := w) B hE hl0 h k23 kR hR hS (lv_sub hl [0, 1, 2, 3, 4] rfl)
noncomputable def fL_law_b1002 (L : Nat) (xs : Nat → Int32) (v1 : Nat) (v3 : Nat) (v4 : Int32) (s0 : Int64) (s1 : Int64) (w : LW) : Option (Sum (Int32 × LW) (Int32)) :=
  if lg_cmp s0 s1 = 0 then (
    fL_law_b1008 L xs v1 v3 v4 w
  ) else (
    some (.inr 0)
  )
theorem bL_law_1002 {p : Program} {l : Launch} {e : Env} {s : State} {m : MethodId} {args : Array Value} {below : List Frame} {meth : Method} {c : Code} {H : Heap} {locs : List Loc} {ls : Array Slot} {G : gE} {w0 : WH} {o b L : Nat} {xs : Nat → Int32} {Q : Int32 → State → Prop} (B : lB G b L xs w0 p s m args meth c) (hE : lE l G w0 p e s m args below meth c Q) (hl0 : l.stackTraces = false) {v1 : Nat} {v3 : Nat} {v4 : Int32} {s0 : Int64} {s1 : Int64} {w : LW} {x : Sum (Int32 × LW) (Int32)} {r : Int32} (h : fL_law_b1002 L xs v1 v3 v4 s0 s1 w = some x)  (k23 : ∀ (v4' : Int32) (w' : LW), x = (.inl (v4', w')) → ∀ (H : Heap) (locs : List Loc) (ls : Array Slot), RepL G o w' H → Cu (gFr G) s w0 w'.2 H locs → lv_has ls 8 [(0, .ref b), (1, .ref v1), (2, .ref o), (3, .ref v3), (4, .int v4')] → W p l e room_1 s m args below meth c H locs (wC w0 - wC w'.2) (wS w0 - wS w'.2) (Q r) (F0 m 23 ls [])) (kR : ∀ q, x = (.inr q) → q = r) (hR : RepL G o w H) (hS : Cu (gFr G) s w0 w.2 H locs) (hl : lv_has ls 8 [(0, .ref b), (1, .ref v1), (2, .ref o), (3, .ref v3), (4, .int v4)]) : W p l e room_1 s m args below meth c H locs (wC w0 - wC w.2) (wS w0 - wS w.2) (Q r) (F0 m 1002 ls [.long s1, .long s0]) := by
  have B0 := B
  obtain ⟨⟨hx, hb, hml, hown, hts, hr, hlk, hK⟩, hX, hbl, hbA, hRc, hRs⟩ := B0
  unfold fL_law_b1002 at h
  refine W.lcmp hx hb dL_law_1002 ?_
  refine lv_if_eq (tgt := 1008) hx hb dL_law_1003 (by decide) (fun c1 => ?_) (fun c1 => ?_)
  · replace h := it_o c1 h
    exact bL_law_1008 (w := w) B hE hl0 h k23 kR hR hS (lv_sub hl [0, 1, 2, 3, 4] rfl)
  · replace h := if_o c1 h
    refine lv_iconst (v := 0) hx hb dL_law_1006 (by decide) ?_
    have eR := kR _ (Option.some.inj h).symm
    subst eR
    exact hE _ ls H locs w.2 _ dL_law_1007 hS
noncomputable def fL_law_b948 (L : Nat) (xs : Nat → Int32) (v1 : Nat) (v3 : Nat) (v4 : Int32) (w : LW) : Option (Sum (Int32 × LW) (Int32)) :=
  (sld L xs (v4 + 1)).bind fun x1 =>
  b2_ (fX0_hasPath v1 x1 v3 w.2) fun x3 w5 =>
  (sld L xs (v4 + 1)).bind fun x6 =>
  b2_ (fX5_hasPath x6 w.1) fun x8 t10 =>
  b2_ (fX5_thrown  t10) fun x11 t13 =>
  if x11 = x3 then (
    if x3 = 0 then (
      (ldJ w5 v3 0).bind fun x16 =>
      if x8 = 0 then (
        fL_law_b1002 L xs v1 v3 v4 x16 0 (t13, w5)
      ) else (
        fL_law_b1002 L xs v1 v3 v4 x16 1 (t13, w5)
      )
    ) else (
      fL_law_b1008 L xs v1 v3 v4 (t13, w5)
    )
  ) else (
    some (.inr 0)
  )
theorem bL_law_948 {p : Program} {l : Launch} {e : Env} {s : State} {m : MethodId} {args : Array Value} {below : List Frame} {meth : Method} {c : Code} {H : Heap} {locs : List Loc} {ls : Array Slot} {G : gE} {w0 : WH} {o b L : Nat} {xs : Nat → Int32} {Q : Int32 → State → Prop} (B : lB G b L xs w0 p s m args meth c) (hE : lE l G w0 p e s m args below meth c Q) (hl0 : l.stackTraces = false) {v1 : Nat} {v3 : Nat} {v4 : Int32} {w : LW} {x : Sum (Int32 × LW) (Int32)} {r : Int32} (h : fL_law_b948 L xs v1 v3 v4 w = some x)  (k23 : ∀ (v4' : Int32) (w' : LW), x = (.inl (v4', w')) → ∀ (H : Heap) (locs : List Loc) (ls : Array Slot), RepL G o w' H → Cu (gFr G) s w0 w'.2 H locs → lv_has ls 8 [(0, .ref b), (1, .ref v1), (2, .ref o), (3, .ref v3), (4, .int v4')] → W p l e room_1 s m args below meth c H locs (wC w0 - wC w'.2) (wS w0 - wS w'.2) (Q r) (F0 m 23 ls [])) (kR : ∀ q, x = (.inr q) → q = r) (hR : RepL G o w H) (hS : Cu (gFr G) s w0 w.2 H locs) (hl : lv_has ls 8 [(0, .ref b), (1, .ref v1), (2, .ref o), (3, .ref v3), (4, .int v4)]) : W p l e room_1 s m args below meth c H locs (wC w0 - wC w.2) (wS w0 - wS w.2) (Q r) (F0 m 948 ls []) := by
  have B0 := B
  obtain ⟨⟨hx, hb, hml, hown, hts, hr, hlk, hK⟩, hX, hbl, hbA, hRc, hRs⟩ := B0
  unfold fL_law_b948 at h
  refine lv_aload_n hx hb dL_law_948 rfl (lv_at hl 1 rfl) ?_
  refine lv_aload_n hx hb dL_law_949 rfl (lv_at hl 0 rfl) ?_
  refine lv_iload hx hb dL_law_950 (lv_at hl 4 rfl) ?_
  refine lv_iconst (v := 1) hx hb dL_law_952 (by decide) ?_
  refine lv_iadd hx hb dL_law_953 ?_
  replace h := bo_o h
  obtain ⟨x1, e2, h⟩ := h
  refine l_sld (w := w) hx hb hX hbl hbA hS e2 dL_law_954 ?_
  refine lv_aload_n hx hb dL_law_955 rfl (lv_at hl 3 rfl) ?_
  replace h := b2_o h
  obtain ⟨x3, w5, e4, h⟩ := h
  refine l_callSW 3 (As := [.ref v1, .int x1, .ref v3]) (rest := []) (v := (some (.int x3))) (w' := w5) (st1 := [.int x3]) hx hb hml hown hts hK hR hS hRc hRs (mX0_hasPath hl0 e4) (lw_SW q2031 q2032 q111 q2033) (by decide +kernel) (Nat.le_of_ble_eq_true rfl) (Nat.le_of_ble_eq_true rfl) rfl hl.1 (Nat.le_of_ble_eq_true rfl) dL_law_956 rfl rfl (fun H locs hR hS => ?_)
  refine lv_istore (lv' := [(5, .int x3), (0, .ref b), (1, .ref v1), (2, .ref o), (3, .ref v3), (4, .int v4)]) hx hb dL_law_959 hl (by decide) rfl (fun ls hl => ?_)
  refine lv_aload_n hx hb dL_law_961 rfl (lv_at hl 3 rfl) ?_
  refine lv_aload_n hx hb dL_law_962 rfl (lv_at hl 1 rfl) ?_
  refine lv_iload hx hb dL_law_963 (lv_at hl 5 rfl) ?_
  refine lv_iconst (v := 1) hx hb dL_law_965 (by decide) ?_
  refine lv_iadd hx hb dL_law_966 ?_
  replace h := bo_o h
  obtain ⟨x6, e7, h⟩ := h
  refine l_sld (w := (w.1, w5)) hx hb hX hbl hbA hS e7 dL_law_967 ?_
  replace h := b2_o h
  obtain ⟨x8, t10, e9, h⟩ := h
  refine l_callT 1 (As := [.int x6]) (rest := []) (v := (some (.int x8))) (T' := t10) (st1 := [.int x8]) hx hb hml hown hts hK hR hS hRc hRs (mX5_hasPath e9) (lw_V q2718 q2719 q2720 q137 q2721) (by decide +kernel) (Nat.le_of_ble_eq_true rfl) (Nat.le_of_ble_eq_true rfl) rfl hl.1 (Nat.le_of_ble_eq_true rfl) dL_law_968 rfl rfl (fun H locs hR hS => ?_)
  refine lv_istore (lv' := [(6, .int x8), (5, .int x3), (0, .ref b), (1, .ref v1), (2, .ref o), (3, .ref v3), (4, .int v4)]) hx hb dL_law_971 hl (by decide) rfl (fun ls hl => ?_)
  refine lv_aload_n hx hb dL_law_973 rfl (lv_at hl 4 rfl) ?_
  replace h := b2_o h
  obtain ⟨x11, t13, e12, h⟩ := h
  refine l_callT 0 (As := []) (rest := []) (v := (some (.int x11))) (T' := t13) (st1 := [.int x11]) hx hb hml hown hts hK hR hS hRc hRs (mX5_thrown e12) (lw_V q2534 q2535 q2536 q137 q2537) (by decide +kernel) (Nat.le_of_ble_eq_true rfl) (Nat.le_of_ble_eq_true rfl) rfl hl.1 (Nat.le_of_ble_eq_true rfl) dL_law_974 rfl rfl (fun H locs hR hS => ?_)
  refine lv_iload hx hb dL_law_977 (lv_at hl 1 rfl) ?_
  refine lv_icmp_eq (tgt := 984) hx hb dL_law_979 (by decide) (fun c14 => ?_) (fun c14 => ?_)
  · replace h := it_o c14 h
    refine lv_iload hx hb dL_law_984 (lv_at hl 1 rfl) ?_
    refine lv_if_ne (tgt := 1008) hx hb dL_law_986 (by decide) (fun c15 => ?_) (fun c15 => ?_)
    · replace h := if_o c15 h
      exact bL_law_1008 (w := (t13, w5)) B hE hl0 h k23 kR hR hS (lv_sub hl [2, 3, 4, 5, 6] rfl)
    · replace h := it_o c15 h
      refine lv_aload_n hx hb dL_law_989 rfl (lv_at hl 5 rfl) ?_
      refine lv_iconst (v := 0) hx hb dL_law_990 (by decide) ?_
      replace h := bo_o h
      obtain ⟨x16, e17, h⟩ := h
      refine h_lald hx hb hK hR.2.weak e17 dL_law_991 ?_
      refine lv_iload hx hb dL_law_992 (lv_at hl 0 rfl) ?_
      refine lv_if_eq (tgt := 1001) hx hb dL_law_994 (by decide) (fun c18 => ?_) (fun c18 => ?_)
      · replace h := it_o c18 h
        refine lv_lconst (v := 0) hx hb dL_law_1001 (by decide) ?_
        exact bL_law_1002 (w := (t13, w5)) B hE hl0 h k23 kR hR hS (lv_sub hl [2, 3, 4, 5, 6] rfl)
      · replace h := if_o c18 h
        refine lv_lconst (v := 1) hx hb dL_law_997 (by decide) ?_
        refine lv_goto (tgt := 1002) hx hb dL_law_998 (by decide) ?_
        exact bL_law_1002 (w := (t13, w5)) B hE hl0 h k23 kR hR hS (lv_sub hl [2, 3, 4, 5, 6] rfl)
  · replace h := if_o c14 h
    refine lv_iconst (v := 0) hx hb dL_law_982 (by decide) ?_
    have eR := kR _ (Option.some.inj h).symm
    subst eR
    exact hE _ ls H locs w5 _ dL_law_983 hS
noncomputable def fL_law_b1064 (L : Nat) (xs : Nat → Int32) (v1 : Nat) (v3 : Nat) (v4 : Int32) (w : LW) : Option (Sum (Int32 × LW) (Int32)) :=
  fL_law_b3008 L xs v1 v3 v4 w
theorem bL_law_1064 {p : Program} {l : Launch} {e : Env} {s : State} {m : MethodId} {args : Array Value} {below : List Frame} {meth : Method} {c : Code} {H : Heap} {locs : List Loc} {ls : Array Slot} {G : gE} {w0 : WH} {o b L : Nat} {xs : Nat → Int32} {Q : Int32 → State → Prop} (B : lB G b L xs w0 p s m args meth c) (hE : lE l G w0 p e s m args below meth c Q) (hl0 : l.stackTraces = false) {v1 : Nat} {v3 : Nat} {v4 : Int32} {w : LW} {x : Sum (Int32 × LW) (Int32)} {r : Int32} (h : fL_law_b1064 L xs v1 v3 v4 w = some x)  (k23 : ∀ (v4' : Int32) (w' : LW), x = (.inl (v4', w')) → ∀ (H : Heap) (locs : List Loc) (ls : Array Slot), RepL G o w' H → Cu (gFr G) s w0 w'.2 H locs → lv_has ls 8 [(0, .ref b), (1, .ref v1), (2, .ref o), (3, .ref v3), (4, .int v4')] → W p l e room_1 s m args below meth c H locs (wC w0 - wC w'.2) (wS w0 - wS w'.2) (Q r) (F0 m 23 ls [])) (kR : ∀ q, x = (.inr q) → q = r) (hR : RepL G o w H) (hS : Cu (gFr G) s w0 w.2 H locs) (hl : lv_has ls 8 [(0, .ref b), (1, .ref v1), (2, .ref o), (3, .ref v3), (4, .int v4)]) : W p l e room_1 s m args below meth c H locs (wC w0 - wC w.2) (wS w0 - wS w.2) (Q r) (F0 m 1064 ls []) := by
  have B0 := B
  obtain ⟨⟨hx, hb, hml, hown, hts, hr, hlk, hK⟩, hX, hbl, hbA, hRc, hRs⟩ := B0
  unfold fL_law_b1064 at h
  refine lv_goto (tgt := 3008) hx hb dL_law_1064 (by decide) ?_
  exact bL_law_3008 (w := w) B hE hl0 h k23 kR hR hS (lv_sub hl [0, 1, 2, 3, 4] rfl)
noncomputable def fL_law_b1011 (L : Nat) (xs : Nat → Int32) (v1 : Nat) (v3 : Nat) (v4 : Int32) (w : LW) : Option (Sum (Int32 × LW) (Int32)) :=
  (sld L xs (v4 + 1)).bind fun x1 =>
  b2_ (fX0_pathLength v1 x1 v3 w.2) fun x3 w5 =>
  (sld L xs (v4 + 1)).bind fun x6 =>
  b2_ (fX5_pathLength x6 w.1) fun x8 t10 =>
  b2_ (fX5_thrown  t10) fun x11 t13 =>
  if x11 = x3 then (
    if x3 = 0 then (
      (ldJ w5 v3 0).bind fun x16 =>
      if lg_cmp x16 (x8.toInt64) = 0 then (
        fL_law_b1064 L xs v1 v3 v4 (t13, w5)
      ) else (
        some (.inr 0)
      )
    ) else (
      fL_law_b1064 L xs v1 v3 v4 (t13, w5)
    )
  ) else (
    some (.inr 0)
  )
theorem bL_law_1011 {p : Program} {l : Launch} {e : Env} {s : State} {m : MethodId} {args : Array Value} {below : List Frame} {meth : Method} {c : Code} {H : Heap} {locs : List Loc} {ls : Array Slot} {G : gE} {w0 : WH} {o b L : Nat} {xs : Nat → Int32} {Q : Int32 → State → Prop} (B : lB G b L xs w0 p s m args meth c) (hE : lE l G w0 p e s m args below meth c Q) (hl0 : l.stackTraces = false) {v1 : Nat} {v3 : Nat} {v4 : Int32} {w : LW} {x : Sum (Int32 × LW) (Int32)} {r : Int32} (h : fL_law_b1011 L xs v1 v3 v4 w = some x)  (k23 : ∀ (v4' : Int32) (w' : LW), x = (.inl (v4', w')) → ∀ (H : Heap) (locs : List Loc) (ls : Array Slot), RepL G o w' H → Cu (gFr G) s w0 w'.2 H locs → lv_has ls 8 [(0, .ref b), (1, .ref v1), (2, .ref o), (3, .ref v3), (4, .int v4')] → W p l e room_1 s m args below meth c H locs (wC w0 - wC w'.2) (wS w0 - wS w'.2) (Q r) (F0 m 23 ls [])) (kR : ∀ q, x = (.inr q) → q = r) (hR : RepL G o w H) (hS : Cu (gFr G) s w0 w.2 H locs) (hl : lv_has ls 8 [(0, .ref b), (1, .ref v1), (2, .ref o), (3, .ref v3), (4, .int v4)]) : W p l e room_1 s m args below meth c H locs (wC w0 - wC w.2) (wS w0 - wS w.2) (Q r) (F0 m 1011 ls []) := by
  have B0 := B
  obtain ⟨⟨hx, hb, hml, hown, hts, hr, hlk, hK⟩, hX, hbl, hbA, hRc, hRs⟩ := B0
  unfold fL_law_b1011 at h
  refine lv_aload_n hx hb dL_law_1011 rfl (lv_at hl 1 rfl) ?_
  refine lv_aload_n hx hb dL_law_1012 rfl (lv_at hl 0 rfl) ?_
  refine lv_iload hx hb dL_law_1013 (lv_at hl 4 rfl) ?_
  refine lv_iconst (v := 1) hx hb dL_law_1015 (by decide) ?_
  refine lv_iadd hx hb dL_law_1016 ?_
  replace h := bo_o h
  obtain ⟨x1, e2, h⟩ := h
  refine l_sld (w := w) hx hb hX hbl hbA hS e2 dL_law_1017 ?_
  refine lv_aload_n hx hb dL_law_1018 rfl (lv_at hl 3 rfl) ?_
  replace h := b2_o h
  obtain ⟨x3, w5, e4, h⟩ := h
  refine l_callSW 3 (As := [.ref v1, .int x1, .ref v3]) (rest := []) (v := (some (.int x3))) (w' := w5) (st1 := [.int x3]) hx hb hml hown hts hK hR hS hRc hRs (mX0_pathLength hl0 e4) (lw_SW q2038 q2039 q111 q2040) (by decide +kernel) (Nat.le_of_ble_eq_true rfl) (Nat.le_of_ble_eq_true rfl) rfl hl.1 (Nat.le_of_ble_eq_true rfl) dL_law_1019 rfl rfl (fun H locs hR hS => ?_)
  refine lv_istore (lv' := [(5, .int x3), (0, .ref b), (1, .ref v1), (2, .ref o), (3, .ref v3), (4, .int v4)]) hx hb dL_law_1022 hl (by decide) rfl (fun ls hl => ?_)
  refine lv_aload_n hx hb dL_law_1024 rfl (lv_at hl 3 rfl) ?_
  refine lv_aload_n hx hb dL_law_1025 rfl (lv_at hl 1 rfl) ?_
  refine lv_iload hx hb dL_law_1026 (lv_at hl 5 rfl) ?_
  refine lv_iconst (v := 1) hx hb dL_law_1028 (by decide) ?_
  refine lv_iadd hx hb dL_law_1029 ?_
  replace h := bo_o h
  obtain ⟨x6, e7, h⟩ := h
  refine l_sld (w := (w.1, w5)) hx hb hX hbl hbA hS e7 dL_law_1030 ?_
  replace h := b2_o h
  obtain ⟨x8, t10, e9, h⟩ := h
  refine l_callT 1 (As := [.int x6]) (rest := []) (v := (some (.int x8))) (T' := t10) (st1 := [.int x8]) hx hb hml hown hts hK hR hS hRc hRs (mX5_pathLength e9) (lw_V q2757 q2758 q2759 q137 q2760) (by decide +kernel) (Nat.le_of_ble_eq_true rfl) (Nat.le_of_ble_eq_true rfl) rfl hl.1 (Nat.le_of_ble_eq_true rfl) dL_law_1031 rfl rfl (fun H locs hR hS => ?_)
  refine lv_istore (lv' := [(6, .int x8), (5, .int x3), (0, .ref b), (1, .ref v1), (2, .ref o), (3, .ref v3), (4, .int v4)]) hx hb dL_law_1034 hl (by decide) rfl (fun ls hl => ?_)
  refine lv_aload_n hx hb dL_law_1036 rfl (lv_at hl 4 rfl) ?_
  replace h := b2_o h
  obtain ⟨x11, t13, e12, h⟩ := h
  refine l_callT 0 (As := []) (rest := []) (v := (some (.int x11))) (T' := t13) (st1 := [.int x11]) hx hb hml hown hts hK hR hS hRc hRs (mX5_thrown e12) (lw_V q2534 q2535 q2536 q137 q2537) (by decide +kernel) (Nat.le_of_ble_eq_true rfl) (Nat.le_of_ble_eq_true rfl) rfl hl.1 (Nat.le_of_ble_eq_true rfl) dL_law_1037 rfl rfl (fun H locs hR hS => ?_)
  refine lv_iload hx hb dL_law_1040 (lv_at hl 1 rfl) ?_
  refine lv_icmp_eq (tgt := 1047) hx hb dL_law_1042 (by decide) (fun c14 => ?_) (fun c14 => ?_)
  · replace h := it_o c14 h
    refine lv_iload hx hb dL_law_1047 (lv_at hl 1 rfl) ?_
    refine lv_if_ne (tgt := 1064) hx hb dL_law_1049 (by decide) (fun c15 => ?_) (fun c15 => ?_)
    · replace h := if_o c15 h
      exact bL_law_1064 (w := (t13, w5)) B hE hl0 h k23 kR hR hS (lv_sub hl [2, 3, 4, 5, 6] rfl)
    · replace h := it_o c15 h
      refine lv_aload_n hx hb dL_law_1052 rfl (lv_at hl 5 rfl) ?_
      refine lv_iconst (v := 0) hx hb dL_law_1053 (by decide) ?_
      replace h := bo_o h
      obtain ⟨x16, e17, h⟩ := h
      refine h_lald hx hb hK hR.2.weak e17 dL_law_1054 ?_
      refine lv_iload hx hb dL_law_1055 (lv_at hl 0 rfl) ?_
      refine lv_i2l hx hb dL_law_1057 rfl ?_
      refine W.lcmp hx hb dL_law_1058 ?_
      refine lv_if_eq (tgt := 1064) hx hb dL_law_1059 (by decide) (fun c18 => ?_) (fun c18 => ?_)
      · replace h := it_o c18 h
        exact bL_law_1064 (w := (t13, w5)) B hE hl0 h k23 kR hR hS (lv_sub hl [2, 3, 4, 5, 6] rfl)
      · replace h := if_o c18 h
        refine lv_iconst (v := 0) hx hb dL_law_1062 (by decide) ?_
        have eR := kR _ (Option.some.inj h).symm
        subst eR
        exact hE _ ls H locs w5 _ dL_law_1063 hS
  · replace h := if_o c14 h
    refine lv_iconst (v := 0) hx hb dL_law_1045 (by decide) ?_
    have eR := kR _ (Option.some.inj h).symm
    subst eR
    exact hE _ ls H locs w5 _ dL_law_1046 hS
noncomputable def fL_law_b1132 (L : Nat) (xs : Nat → Int32) (v1 : Nat) (v3 : Nat) (v4 : Int32) (w : LW) : Option (Sum (Int32 × LW) (Int32)) :=
  fL_law_b3008 L xs v1 v3 v4 w
theorem bL_law_1132 {p : Program} {l : Launch} {e : Env} {s : State} {m : MethodId} {args : Array Value} {below : List Frame} {meth : Method} {c : Code} {H : Heap} {locs : List Loc} {ls : Array Slot} {G : gE} {w0 : WH} {o b L : Nat} {xs : Nat → Int32} {Q : Int32 → State → Prop} (B : lB G b L xs w0 p s m args meth c) (hE : lE l G w0 p e s m args below meth c Q) (hl0 : l.stackTraces = false) {v1 : Nat} {v3 : Nat} {v4 : Int32} {w : LW} {x : Sum (Int32 × LW) (Int32)} {r : Int32} (h : fL_law_b1132 L xs v1 v3 v4 w = some x)  (k23 : ∀ (v4' : Int32) (w' : LW), x = (.inl (v4', w')) → ∀ (H : Heap) (locs : List Loc) (ls : Array Slot), RepL G o w' H → Cu (gFr G) s w0 w'.2 H locs → lv_has ls 8 [(0, .ref b), (1, .ref v1), (2, .ref o), (3, .ref v3), (4, .int v4')] → W p l e room_1 s m args below meth c H locs (wC w0 - wC w'.2) (wS w0 - wS w'.2) (Q r) (F0 m 23 ls [])) (kR : ∀ q, x = (.inr q) → q = r) (hR : RepL G o w H) (hS : Cu (gFr G) s w0 w.2 H locs) (hl : lv_has ls 8 [(0, .ref b), (1, .ref v1), (2, .ref o), (3, .ref v3), (4, .int v4)]) : W p l e room_1 s m args below meth c H locs (wC w0 - wC w.2) (wS w0 - wS w.2) (Q r) (F0 m 1132 ls []) := by
  have B0 := B
  obtain ⟨⟨hx, hb, hml, hown, hts, hr, hlk, hK⟩, hX, hbl, hbA, hRc, hRs⟩ := B0
  unfold fL_law_b1132 at h
  refine lv_goto (tgt := 3008) hx hb dL_law_1132 (by decide) ?_
  exact bL_law_3008 (w := w) B hE hl0 h k23 kR hR hS (lv_sub hl [0, 1, 2, 3, 4] rfl)
noncomputable def fL_law_b1115 (L : Nat) (xs : Nat → Int32) (v1 : Nat) (v3 : Nat) (v4 : Int32) (v5 : Int32) (v6 : Int32) (w : LW) : Option (Sum (Int32 × LW) (Int32)) :=
  if v5 = 0 then (
    (ldJ w.2 v3 0).bind fun x2 =>
    if lg_cmp x2 (v6.toInt64) = 0 then (
      fL_law_b1132 L xs v1 v3 v4 w
    ) else (
      some (.inr 0)
    )
  ) else (
    fL_law_b1132 L xs v1 v3 v4 w
  )
theorem bL_law_1115 {p : Program} {l : Launch} {e : Env} {s : State} {m : MethodId} {args : Array Value} {below : List Frame} {meth : Method} {c : Code} {H : Heap} {locs : List Loc} {ls : Array Slot} {G : gE} {w0 : WH} {o b L : Nat} {xs : Nat → Int32} {Q : Int32 → State → Prop} (B : lB G b L xs w0 p s m args meth c) (hE : lE l G w0 p e s m args below meth c Q) (hl0 : l.stackTraces = false) {v1 : Nat} {v3 : Nat} {v4 : Int32} {v5 : Int32} {v6 : Int32} {w : LW} {x : Sum (Int32 × LW) (Int32)} {r : Int32} (h : fL_law_b1115 L xs v1 v3 v4 v5 v6 w = some x)  (k23 : ∀ (v4' : Int32) (w' : LW), x = (.inl (v4', w')) → ∀ (H : Heap) (locs : List Loc) (ls : Array Slot), RepL G o w' H → Cu (gFr G) s w0 w'.2 H locs → lv_has ls 8 [(0, .ref b), (1, .ref v1), (2, .ref o), (3, .ref v3), (4, .int v4')] → W p l e room_1 s m args below meth c H locs (wC w0 - wC w'.2) (wS w0 - wS w'.2) (Q r) (F0 m 23 ls [])) (kR : ∀ q, x = (.inr q) → q = r) (hR : RepL G o w H) (hS : Cu (gFr G) s w0 w.2 H locs) (hl : lv_has ls 8 [(0, .ref b), (1, .ref v1), (2, .ref o), (3, .ref v3), (4, .int v4), (5, .int v5), (6, .int v6)]) : W p l e room_1 s m args below meth c H locs (wC w0 - wC w.2) (wS w0 - wS w.2) (Q r) (F0 m 1115 ls []) := by
  have B0 := B
  obtain ⟨⟨hx, hb, hml, hown, hts, hr, hlk, hK⟩, hX, hbl, hbA, hRc, hRs⟩ := B0
  unfold fL_law_b1115 at h
  refine lv_iload hx hb dL_law_1115 (lv_at hl 5 rfl) ?_
  refine lv_if_ne (tgt := 1132) hx hb dL_law_1117 (by decide) (fun c1 => ?_) (fun c1 => ?_)
  · replace h := if_o c1 h
    exact bL_law_1132 (w := w) B hE hl0 h k23 kR hR hS (lv_sub hl [0, 1, 2, 3, 4] rfl)
  · replace h := it_o c1 h
    refine lv_aload_n hx hb dL_law_1120 rfl (lv_at hl 3 rfl) ?_
    refine lv_iconst (v := 0) hx hb dL_law_1121 (by decide) ?_
    replace h := bo_o h
    obtain ⟨x2, e3, h⟩ := h
    refine h_lald hx hb hK hR.2.weak e3 dL_law_1122 ?_
    refine lv_iload hx hb dL_law_1123 (lv_at hl 6 rfl) ?_
    refine lv_i2l hx hb dL_law_1125 rfl ?_
    refine W.lcmp hx hb dL_law_1126 ?_
    refine lv_if_eq (tgt := 1132) hx hb dL_law_1127 (by decide) (fun c4 => ?_) (fun c4 => ?_)
    · replace h := it_o c4 h
      exact bL_law_1132 (w := w) B hE hl0 h k23 kR hR hS (lv_sub hl [0, 1, 2, 3, 4] rfl)
    · replace h := if_o c4 h
      refine lv_iconst (v := 0) hx hb dL_law_1130 (by decide) ?_
      have eR := kR _ (Option.some.inj h).symm
      subst eR
      exact hE _ ls H locs w.2 _ dL_law_1131 hS
noncomputable def fL_law_b1067 (L : Nat) (xs : Nat → Int32) (v1 : Nat) (v3 : Nat) (v4 : Int32) (w : LW) : Option (Sum (Int32 × LW) (Int32)) :=
  (sld L xs (v4 + 1)).bind fun x1 =>
  (sld L xs (v4 + 2)).bind fun x3 =>
  b2_ (fX0_pathArc v1 x1 x3 v3 w.2) fun x5 w7 =>
  (sld L xs (v4 + 1)).bind fun x8 =>
  (sld L xs (v4 + 2)).bind fun x10 =>
  b2_ (fX5_pathArc x8 x10 w.1) fun x12 t14 =>
  b2_ (fX5_thrown  t14) fun x15 t17 =>
  if x15 = x5 then (
    fL_law_b1115 L xs v1 v3 v4 x5 x12 (t17, w7)
  ) else (
    some (.inr 0)
  )
theorem bL_law_1067 {p : Program} {l : Launch} {e : Env} {s : State} {m : MethodId} {args : Array Value} {below : List Frame} {meth : Method} {c : Code} {H : Heap} {locs : List Loc} {ls : Array Slot} {G : gE} {w0 : WH} {o b L : Nat} {xs : Nat → Int32} {Q : Int32 → State → Prop} (B : lB G b L xs w0 p s m args meth c) (hE : lE l G w0 p e s m args below meth c Q) (hl0 : l.stackTraces = false) {v1 : Nat} {v3 : Nat} {v4 : Int32} {w : LW} {x : Sum (Int32 × LW) (Int32)} {r : Int32} (h : fL_law_b1067 L xs v1 v3 v4 w = some x)  (k23 : ∀ (v4' : Int32) (w' : LW), x = (.inl (v4', w')) → ∀ (H : Heap) (locs : List Loc) (ls : Array Slot), RepL G o w' H → Cu (gFr G) s w0 w'.2 H locs → lv_has ls 8 [(0, .ref b), (1, .ref v1), (2, .ref o), (3, .ref v3), (4, .int v4')] → W p l e room_1 s m args below meth c H locs (wC w0 - wC w'.2) (wS w0 - wS w'.2) (Q r) (F0 m 23 ls [])) (kR : ∀ q, x = (.inr q) → q = r) (hR : RepL G o w H) (hS : Cu (gFr G) s w0 w.2 H locs) (hl : lv_has ls 8 [(0, .ref b), (1, .ref v1), (2, .ref o), (3, .ref v3), (4, .int v4)]) : W p l e room_1 s m args below meth c H locs (wC w0 - wC w.2) (wS w0 - wS w.2) (Q r) (F0 m 1067 ls []) := by
  have B0 := B
  obtain ⟨⟨hx, hb, hml, hown, hts, hr, hlk, hK⟩, hX, hbl, hbA, hRc, hRs⟩ := B0
  unfold fL_law_b1067 at h
  refine lv_aload_n hx hb dL_law_1067 rfl (lv_at hl 1 rfl) ?_
  refine lv_aload_n hx hb dL_law_1068 rfl (lv_at hl 0 rfl) ?_
  refine lv_iload hx hb dL_law_1069 (lv_at hl 4 rfl) ?_
  refine lv_iconst (v := 1) hx hb dL_law_1071 (by decide) ?_
  refine lv_iadd hx hb dL_law_1072 ?_
  replace h := bo_o h
  obtain ⟨x1, e2, h⟩ := h
  refine l_sld (w := w) hx hb hX hbl hbA hS e2 dL_law_1073 ?_
  refine lv_aload_n hx hb dL_law_1074 rfl (lv_at hl 0 rfl) ?_
  refine lv_iload hx hb dL_law_1075 (lv_at hl 4 rfl) ?_
  refine lv_iconst (v := 2) hx hb dL_law_1077 (by decide) ?_
  refine lv_iadd hx hb dL_law_1078 ?_
  replace h := bo_o h
  obtain ⟨x3, e4, h⟩ := h
  refine l_sld (w := w) hx hb hX hbl hbA hS e4 dL_law_1079 ?_
  refine lv_aload_n hx hb dL_law_1080 rfl (lv_at hl 3 rfl) ?_
  replace h := b2_o h
  obtain ⟨x5, w7, e6, h⟩ := h
  refine l_callSW 4 (As := [.ref v1, .int x1, .int x3, .ref v3]) (rest := []) (v := (some (.int x5))) (w' := w7) (st1 := [.int x5]) hx hb hml hown hts hK hR hS hRc hRs (mX0_pathArc hl0 e6) (lw_SW q2078 q2079 q111 q2080) (by decide +kernel) (Nat.le_of_ble_eq_true rfl) (Nat.le_of_ble_eq_true rfl) rfl hl.1 (Nat.le_of_ble_eq_true rfl) dL_law_1081 rfl rfl (fun H locs hR hS => ?_)
  refine lv_istore (lv' := [(5, .int x5), (0, .ref b), (1, .ref v1), (2, .ref o), (3, .ref v3), (4, .int v4)]) hx hb dL_law_1084 hl (by decide) rfl (fun ls hl => ?_)
  refine lv_aload_n hx hb dL_law_1086 rfl (lv_at hl 3 rfl) ?_
  refine lv_aload_n hx hb dL_law_1087 rfl (lv_at hl 1 rfl) ?_
  refine lv_iload hx hb dL_law_1088 (lv_at hl 5 rfl) ?_
  refine lv_iconst (v := 1) hx hb dL_law_1090 (by decide) ?_
  refine lv_iadd hx hb dL_law_1091 ?_
  replace h := bo_o h
  obtain ⟨x8, e9, h⟩ := h
  refine l_sld (w := (w.1, w7)) hx hb hX hbl hbA hS e9 dL_law_1092 ?_
  refine lv_aload_n hx hb dL_law_1093 rfl (lv_at hl 1 rfl) ?_
  refine lv_iload hx hb dL_law_1094 (lv_at hl 5 rfl) ?_
  refine lv_iconst (v := 2) hx hb dL_law_1096 (by decide) ?_
  refine lv_iadd hx hb dL_law_1097 ?_
  replace h := bo_o h
  obtain ⟨x10, e11, h⟩ := h
  refine l_sld (w := (w.1, w7)) hx hb hX hbl hbA hS e11 dL_law_1098 ?_
  replace h := b2_o h
  obtain ⟨x12, t14, e13, h⟩ := h
  refine l_callT 2 (As := [.int x8, .int x10]) (rest := []) (v := (some (.int x12))) (T' := t14) (st1 := [.int x12]) hx hb hml hown hts hK hR hS hRc hRs (mX5_pathArc e13) (lw_V q2761 q2762 q2763 q137 q2764) (by decide +kernel) (Nat.le_of_ble_eq_true rfl) (Nat.le_of_ble_eq_true rfl) rfl hl.1 (Nat.le_of_ble_eq_true rfl) dL_law_1099 rfl rfl (fun H locs hR hS => ?_)
  refine lv_istore (lv' := [(6, .int x12), (5, .int x5), (0, .ref b), (1, .ref v1), (2, .ref o), (3, .ref v3), (4, .int v4)]) hx hb dL_law_1102 hl (by decide) rfl (fun ls hl => ?_)
  refine lv_aload_n hx hb dL_law_1104 rfl (lv_at hl 4 rfl) ?_
  replace h := b2_o h
  obtain ⟨x15, t17, e16, h⟩ := h
  refine l_callT 0 (As := []) (rest := []) (v := (some (.int x15))) (T' := t17) (st1 := [.int x15]) hx hb hml hown hts hK hR hS hRc hRs (mX5_thrown e16) (lw_V q2534 q2535 q2536 q137 q2537) (by decide +kernel) (Nat.le_of_ble_eq_true rfl) (Nat.le_of_ble_eq_true rfl) rfl hl.1 (Nat.le_of_ble_eq_true rfl) dL_law_1105 rfl rfl (fun H locs hR hS => ?_)
  refine lv_iload hx hb dL_law_1108 (lv_at hl 1 rfl) ?_
  refine lv_icmp_eq (tgt := 1115) hx hb dL_law_1110 (by decide) (fun c18 => ?_) (fun c18 => ?_)
  · replace h := it_o c18 h
    exact bL_law_1115 (w := (t17, w7)) B hE hl0 h k23 kR hR hS (lv_sub hl [2, 3, 4, 5, 6, 1, 0] rfl)
  · replace h := if_o c18 h
    refine lv_iconst (v := 0) hx hb dL_law_1113 (by decide) ?_
    have eR := kR _ (Option.some.inj h).symm
    subst eR
    exact hE _ ls H locs w7 _ dL_law_1114 hS
noncomputable def fL_law_b1188 (L : Nat) (xs : Nat → Int32) (v1 : Nat) (v3 : Nat) (v4 : Int32) (w : LW) : Option (Sum (Int32 × LW) (Int32)) :=
  fL_law_b3008 L xs v1 v3 v4 w
theorem bL_law_1188 {p : Program} {l : Launch} {e : Env} {s : State} {m : MethodId} {args : Array Value} {below : List Frame} {meth : Method} {c : Code} {H : Heap} {locs : List Loc} {ls : Array Slot} {G : gE} {w0 : WH} {o b L : Nat} {xs : Nat → Int32} {Q : Int32 → State → Prop} (B : lB G b L xs w0 p s m args meth c) (hE : lE l G w0 p e s m args below meth c Q) (hl0 : l.stackTraces = false) {v1 : Nat} {v3 : Nat} {v4 : Int32} {w : LW} {x : Sum (Int32 × LW) (Int32)} {r : Int32} (h : fL_law_b1188 L xs v1 v3 v4 w = some x)  (k23 : ∀ (v4' : Int32) (w' : LW), x = (.inl (v4', w')) → ∀ (H : Heap) (locs : List Loc) (ls : Array Slot), RepL G o w' H → Cu (gFr G) s w0 w'.2 H locs → lv_has ls 8 [(0, .ref b), (1, .ref v1), (2, .ref o), (3, .ref v3), (4, .int v4')] → W p l e room_1 s m args below meth c H locs (wC w0 - wC w'.2) (wS w0 - wS w'.2) (Q r) (F0 m 23 ls [])) (kR : ∀ q, x = (.inr q) → q = r) (hR : RepL G o w H) (hS : Cu (gFr G) s w0 w.2 H locs) (hl : lv_has ls 8 [(0, .ref b), (1, .ref v1), (2, .ref o), (3, .ref v3), (4, .int v4)]) : W p l e room_1 s m args below meth c H locs (wC w0 - wC w.2) (wS w0 - wS w.2) (Q r) (F0 m 1188 ls []) := by
  have B0 := B
  obtain ⟨⟨hx, hb, hml, hown, hts, hr, hlk, hK⟩, hX, hbl, hbA, hRc, hRs⟩ := B0
  unfold fL_law_b1188 at h
  refine lv_goto (tgt := 3008) hx hb dL_law_1188 (by decide) ?_
  exact bL_law_3008 (w := w) B hE hl0 h k23 kR hR hS (lv_sub hl [0, 1, 2, 3, 4] rfl)
noncomputable def fL_law_b1135 (L : Nat) (xs : Nat → Int32) (v1 : Nat) (v3 : Nat) (v4 : Int32) (w : LW) : Option (Sum (Int32 × LW) (Int32)) :=
  (sld L xs (v4 + 1)).bind fun x1 =>
  b2_ (fX0_pathCost v1 x1 v3 w.2) fun x3 w5 =>
  (sld L xs (v4 + 1)).bind fun x6 =>
  b2_ (fX5_pathCost x6 w.1) fun x8 t10 =>
  b2_ (fX5_thrown  t10) fun x11 t13 =>
  if x11 = x3 then (
    if x3 = 0 then (
      (ldJ w5 v3 0).bind fun x16 =>
      if lg_cmp x16 (x8.toInt64) = 0 then (
        fL_law_b1188 L xs v1 v3 v4 (t13, w5)
      ) else (
        some (.inr 0)
      )
    ) else (
      fL_law_b1188 L xs v1 v3 v4 (t13, w5)
    )
  ) else (
    some (.inr 0)
  )
theorem bL_law_1135 {p : Program} {l : Launch} {e : Env} {s : State} {m : MethodId} {args : Array Value} {below : List Frame} {meth : Method} {c : Code} {H : Heap} {locs : List Loc} {ls : Array Slot} {G : gE} {w0 : WH} {o b L : Nat} {xs : Nat → Int32} {Q : Int32 → State → Prop} (B : lB G b L xs w0 p s m args meth c) (hE : lE l G w0 p e s m args below meth c Q) (hl0 : l.stackTraces = false) {v1 : Nat} {v3 : Nat} {v4 : Int32} {w : LW} {x : Sum (Int32 × LW) (Int32)} {r : Int32} (h : fL_law_b1135 L xs v1 v3 v4 w = some x)  (k23 : ∀ (v4' : Int32) (w' : LW), x = (.inl (v4', w')) → ∀ (H : Heap) (locs : List Loc) (ls : Array Slot), RepL G o w' H → Cu (gFr G) s w0 w'.2 H locs → lv_has ls 8 [(0, .ref b), (1, .ref v1), (2, .ref o), (3, .ref v3), (4, .int v4')] → W p l e room_1 s m args below meth c H locs (wC w0 - wC w'.2) (wS w0 - wS w'.2) (Q r) (F0 m 23 ls [])) (kR : ∀ q, x = (.inr q) → q = r) (hR : RepL G o w H) (hS : Cu (gFr G) s w0 w.2 H locs) (hl : lv_has ls 8 [(0, .ref b), (1, .ref v1), (2, .ref o), (3, .ref v3), (4, .int v4)]) : W p l e room_1 s m args below meth c H locs (wC w0 - wC w.2) (wS w0 - wS w.2) (Q r) (F0 m 1135 ls []) := by
  have B0 := B
  obtain ⟨⟨hx, hb, hml, hown, hts, hr, hlk, hK⟩, hX, hbl, hbA, hRc, hRs⟩ := B0
  unfold fL_law_b1135 at h
  refine lv_aload_n hx hb dL_law_1135 rfl (lv_at hl 1 rfl) ?_
  refine lv_aload_n hx hb dL_law_1136 rfl (lv_at hl 0 rfl) ?_
  refine lv_iload hx hb dL_law_1137 (lv_at hl 4 rfl) ?_
  refine lv_iconst (v := 1) hx hb dL_law_1139 (by decide) ?_
  refine lv_iadd hx hb dL_law_1140 ?_
  replace h := bo_o h
  obtain ⟨x1, e2, h⟩ := h
  refine l_sld (w := w) hx hb hX hbl hbA hS e2 dL_law_1141 ?_
  refine lv_aload_n hx hb dL_law_1142 rfl (lv_at hl 3 rfl) ?_
  replace h := b2_o h
  obtain ⟨x3, w5, e4, h⟩ := h
  refine l_callSW 3 (As := [.ref v1, .int x1, .ref v3]) (rest := []) (v := (some (.int x3))) (w' := w5) (st1 := [.int x3]) hx hb hml hown hts hK hR hS hRc hRs (mX0_pathCost hl0 e4) (lw_SW q2086 q2087 q111 q2088) (by decide +kernel) (Nat.le_of_ble_eq_true rfl) (Nat.le_of_ble_eq_true rfl) rfl hl.1 (Nat.le_of_ble_eq_true rfl) dL_law_1143 rfl rfl (fun H locs hR hS => ?_)
  refine lv_istore (lv' := [(5, .int x3), (0, .ref b), (1, .ref v1), (2, .ref o), (3, .ref v3), (4, .int v4)]) hx hb dL_law_1146 hl (by decide) rfl (fun ls hl => ?_)
  refine lv_aload_n hx hb dL_law_1148 rfl (lv_at hl 3 rfl) ?_
  refine lv_aload_n hx hb dL_law_1149 rfl (lv_at hl 1 rfl) ?_
  refine lv_iload hx hb dL_law_1150 (lv_at hl 5 rfl) ?_
  refine lv_iconst (v := 1) hx hb dL_law_1152 (by decide) ?_
  refine lv_iadd hx hb dL_law_1153 ?_
  replace h := bo_o h
  obtain ⟨x6, e7, h⟩ := h
  refine l_sld (w := (w.1, w5)) hx hb hX hbl hbA hS e7 dL_law_1154 ?_
  replace h := b2_o h
  obtain ⟨x8, t10, e9, h⟩ := h
  refine l_callT 1 (As := [.int x6]) (rest := []) (v := (some (.int x8))) (T' := t10) (st1 := [.int x8]) hx hb hml hown hts hK hR hS hRc hRs (mX5_pathCost e9) (lw_V q2765 q2766 q2767 q137 q2768) (by decide +kernel) (Nat.le_of_ble_eq_true rfl) (Nat.le_of_ble_eq_true rfl) rfl hl.1 (Nat.le_of_ble_eq_true rfl) dL_law_1155 rfl rfl (fun H locs hR hS => ?_)
  refine lv_istore (lv' := [(6, .int x8), (5, .int x3), (0, .ref b), (1, .ref v1), (2, .ref o), (3, .ref v3), (4, .int v4)]) hx hb dL_law_1158 hl (by decide) rfl (fun ls hl => ?_)
  refine lv_aload_n hx hb dL_law_1160 rfl (lv_at hl 4 rfl) ?_
  replace h := b2_o h
  obtain ⟨x11, t13, e12, h⟩ := h
  refine l_callT 0 (As := []) (rest := []) (v := (some (.int x11))) (T' := t13) (st1 := [.int x11]) hx hb hml hown hts hK hR hS hRc hRs (mX5_thrown e12) (lw_V q2534 q2535 q2536 q137 q2537) (by decide +kernel) (Nat.le_of_ble_eq_true rfl) (Nat.le_of_ble_eq_true rfl) rfl hl.1 (Nat.le_of_ble_eq_true rfl) dL_law_1161 rfl rfl (fun H locs hR hS => ?_)
  refine lv_iload hx hb dL_law_1164 (lv_at hl 1 rfl) ?_
  refine lv_icmp_eq (tgt := 1171) hx hb dL_law_1166 (by decide) (fun c14 => ?_) (fun c14 => ?_)
  · replace h := it_o c14 h
    refine lv_iload hx hb dL_law_1171 (lv_at hl 1 rfl) ?_
    refine lv_if_ne (tgt := 1188) hx hb dL_law_1173 (by decide) (fun c15 => ?_) (fun c15 => ?_)
    · replace h := if_o c15 h
      exact bL_law_1188 (w := (t13, w5)) B hE hl0 h k23 kR hR hS (lv_sub hl [2, 3, 4, 5, 6] rfl)
    · replace h := it_o c15 h
      refine lv_aload_n hx hb dL_law_1176 rfl (lv_at hl 5 rfl) ?_
      refine lv_iconst (v := 0) hx hb dL_law_1177 (by decide) ?_
      replace h := bo_o h
      obtain ⟨x16, e17, h⟩ := h
      refine h_lald hx hb hK hR.2.weak e17 dL_law_1178 ?_
      refine lv_iload hx hb dL_law_1179 (lv_at hl 0 rfl) ?_
      refine lv_i2l hx hb dL_law_1181 rfl ?_
      refine W.lcmp hx hb dL_law_1182 ?_
      refine lv_if_eq (tgt := 1188) hx hb dL_law_1183 (by decide) (fun c18 => ?_) (fun c18 => ?_)
      · replace h := it_o c18 h
        exact bL_law_1188 (w := (t13, w5)) B hE hl0 h k23 kR hR hS (lv_sub hl [2, 3, 4, 5, 6] rfl)
      · replace h := if_o c18 h
        refine lv_iconst (v := 0) hx hb dL_law_1186 (by decide) ?_
        have eR := kR _ (Option.some.inj h).symm
        subst eR
        exact hE _ ls H locs w5 _ dL_law_1187 hS
  · replace h := if_o c14 h
    refine lv_iconst (v := 0) hx hb dL_law_1169 (by decide) ?_
    have eR := kR _ (Option.some.inj h).symm
    subst eR
    exact hE _ ls H locs w5 _ dL_law_1170 hS
noncomputable def fL_law_b1244 (L : Nat) (xs : Nat → Int32) (v1 : Nat) (v3 : Nat) (v4 : Int32) (w : LW) : Option (Sum (Int32 × LW) (Int32)) :=
  fL_law_b3008 L xs v1 v3 v4 w
theorem bL_law_1244 {p : Program} {l : Launch} {e : Env} {s : State} {m : MethodId} {args : Array Value} {below : List Frame} {meth : Method} {c : Code} {H : Heap} {locs : List Loc} {ls : Array Slot} {G : gE} {w0 : WH} {o b L : Nat} {xs : Nat → Int32} {Q : Int32 → State → Prop} (B : lB G b L xs w0 p s m args meth c) (hE : lE l G w0 p e s m args below meth c Q) (hl0 : l.stackTraces = false) {v1 : Nat} {v3 : Nat} {v4 : Int32} {w : LW} {x : Sum (Int32 × LW) (Int32)} {r : Int32} (h : fL_law_b1244 L xs v1 v3 v4 w = some x)  (k23 : ∀ (v4' : Int32) (w' : LW), x = (.inl (v4', w')) → ∀ (H : Heap) (locs : List Loc) (ls : Array Slot), RepL G o w' H → Cu (gFr G) s w0 w'.2 H locs → lv_has ls 8 [(0, .ref b), (1, .ref v1), (2, .ref o), (3, .ref v3), (4, .int v4')] → W p l e room_1 s m args below meth c H locs (wC w0 - wC w'.2) (wS w0 - wS w'.2) (Q r) (F0 m 23 ls [])) (kR : ∀ q, x = (.inr q) → q = r) (hR : RepL G o w H) (hS : Cu (gFr G) s w0 w.2 H locs) (hl : lv_has ls 8 [(0, .ref b), (1, .ref v1), (2, .ref o), (3, .ref v3), (4, .int v4)]) : W p l e room_1 s m args below meth c H locs (wC w0 - wC w.2) (wS w0 - wS w.2) (Q r) (F0 m 1244 ls []) := by
  have B0 := B
  obtain ⟨⟨hx, hb, hml, hown, hts, hr, hlk, hK⟩, hX, hbl, hbA, hRc, hRs⟩ := B0
  unfold fL_law_b1244 at h
  refine lv_goto (tgt := 3008) hx hb dL_law_1244 (by decide) ?_
  exact bL_law_3008 (w := w) B hE hl0 h k23 kR hR hS (lv_sub hl [0, 1, 2, 3, 4] rfl)
noncomputable def fL_law_b1191 (L : Nat) (xs : Nat → Int32) (v1 : Nat) (v3 : Nat) (v4 : Int32) (w : LW) : Option (Sum (Int32 × LW) (Int32)) :=
  (sld L xs (v4 + 1)).bind fun x1 =>
  b2_ (fX0_pathToll v1 x1 v3 w.2) fun x3 w5 =>
  (sld L xs (v4 + 1)).bind fun x6 =>
  b2_ (fX5_pathToll x6 w.1) fun x8 t10 =>
  b2_ (fX5_thrown  t10) fun x11 t13 =>
  if x11 = x3 then (
    if x3 = 0 then (
      (ldJ w5 v3 0).bind fun x16 =>
      if lg_cmp x16 (x8.toInt64) = 0 then (
        fL_law_b1244 L xs v1 v3 v4 (t13, w5)
      ) else (
        some (.inr 0)
      )
    ) else (
      fL_law_b1244 L xs v1 v3 v4 (t13, w5)
    )
  ) else (
    some (.inr 0)
  )
theorem bL_law_1191 {p : Program} {l : Launch} {e : Env} {s : State} {m : MethodId} {args : Array Value} {below : List Frame} {meth : Method} {c : Code} {H : Heap} {locs : List Loc} {ls : Array Slot} {G : gE} {w0 : WH} {o b L : Nat} {xs : Nat → Int32} {Q : Int32 → State → Prop} (B : lB G b L xs w0 p s m args meth c) (hE : lE l G w0 p e s m args below meth c Q) (hl0 : l.stackTraces = false) {v1 : Nat} {v3 : Nat} {v4 : Int32} {w : LW} {x : Sum (Int32 × LW) (Int32)} {r : Int32} (h : fL_law_b1191 L xs v1 v3 v4 w = some x)  (k23 : ∀ (v4' : Int32) (w' : LW), x = (.inl (v4', w')) → ∀ (H : Heap) (locs : List Loc) (ls : Array Slot), RepL G o w' H → Cu (gFr G) s w0 w'.2 H locs → lv_has ls 8 [(0, .ref b), (1, .ref v1), (2, .ref o), (3, .ref v3), (4, .int v4')] → W p l e room_1 s m args below meth c H locs (wC w0 - wC w'.2) (wS w0 - wS w'.2) (Q r) (F0 m 23 ls [])) (kR : ∀ q, x = (.inr q) → q = r) (hR : RepL G o w H) (hS : Cu (gFr G) s w0 w.2 H locs) (hl : lv_has ls 8 [(0, .ref b), (1, .ref v1), (2, .ref o), (3, .ref v3), (4, .int v4)]) : W p l e room_1 s m args below meth c H locs (wC w0 - wC w.2) (wS w0 - wS w.2) (Q r) (F0 m 1191 ls []) := by
  have B0 := B
  obtain ⟨⟨hx, hb, hml, hown, hts, hr, hlk, hK⟩, hX, hbl, hbA, hRc, hRs⟩ := B0
  unfold fL_law_b1191 at h
  refine lv_aload_n hx hb dL_law_1191 rfl (lv_at hl 1 rfl) ?_
  refine lv_aload_n hx hb dL_law_1192 rfl (lv_at hl 0 rfl) ?_
  refine lv_iload hx hb dL_law_1193 (lv_at hl 4 rfl) ?_
  refine lv_iconst (v := 1) hx hb dL_law_1195 (by decide) ?_
  refine lv_iadd hx hb dL_law_1196 ?_
  replace h := bo_o h
  obtain ⟨x1, e2, h⟩ := h
  refine l_sld (w := w) hx hb hX hbl hbA hS e2 dL_law_1197 ?_
  refine lv_aload_n hx hb dL_law_1198 rfl (lv_at hl 3 rfl) ?_
  replace h := b2_o h
  obtain ⟨x3, w5, e4, h⟩ := h
  refine l_callSW 3 (As := [.ref v1, .int x1, .ref v3]) (rest := []) (v := (some (.int x3))) (w' := w5) (st1 := [.int x3]) hx hb hml hown hts hK hR hS hRc hRs (mX0_pathToll hl0 e4) (lw_SW q2098 q2099 q111 q2100) (by decide +kernel) (Nat.le_of_ble_eq_true rfl) (Nat.le_of_ble_eq_true rfl) rfl hl.1 (Nat.le_of_ble_eq_true rfl) dL_law_1199 rfl rfl (fun H locs hR hS => ?_)
  refine lv_istore (lv' := [(5, .int x3), (0, .ref b), (1, .ref v1), (2, .ref o), (3, .ref v3), (4, .int v4)]) hx hb dL_law_1202 hl (by decide) rfl (fun ls hl => ?_)
  refine lv_aload_n hx hb dL_law_1204 rfl (lv_at hl 3 rfl) ?_
  refine lv_aload_n hx hb dL_law_1205 rfl (lv_at hl 1 rfl) ?_
  refine lv_iload hx hb dL_law_1206 (lv_at hl 5 rfl) ?_
  refine lv_iconst (v := 1) hx hb dL_law_1208 (by decide) ?_
  refine lv_iadd hx hb dL_law_1209 ?_
  replace h := bo_o h
  obtain ⟨x6, e7, h⟩ := h
  refine l_sld (w := (w.1, w5)) hx hb hX hbl hbA hS e7 dL_law_1210 ?_
  replace h := b2_o h
  obtain ⟨x8, t10, e9, h⟩ := h
  refine l_callT 1 (As := [.int x6]) (rest := []) (v := (some (.int x8))) (T' := t10) (st1 := [.int x8]) hx hb hml hown hts hK hR hS hRc hRs (mX5_pathToll e9) (lw_V q2773 q2774 q2775 q137 q2776) (by decide +kernel) (Nat.le_of_ble_eq_true rfl) (Nat.le_of_ble_eq_true rfl) rfl hl.1 (Nat.le_of_ble_eq_true rfl) dL_law_1211 rfl rfl (fun H locs hR hS => ?_)
  refine lv_istore (lv' := [(6, .int x8), (5, .int x3), (0, .ref b), (1, .ref v1), (2, .ref o), (3, .ref v3), (4, .int v4)]) hx hb dL_law_1214 hl (by decide) rfl (fun ls hl => ?_)
  refine lv_aload_n hx hb dL_law_1216 rfl (lv_at hl 4 rfl) ?_
  replace h := b2_o h
  obtain ⟨x11, t13, e12, h⟩ := h
  refine l_callT 0 (As := []) (rest := []) (v := (some (.int x11))) (T' := t13) (st1 := [.int x11]) hx hb hml hown hts hK hR hS hRc hRs (mX5_thrown e12) (lw_V q2534 q2535 q2536 q137 q2537) (by decide +kernel) (Nat.le_of_ble_eq_true rfl) (Nat.le_of_ble_eq_true rfl) rfl hl.1 (Nat.le_of_ble_eq_true rfl) dL_law_1217 rfl rfl (fun H locs hR hS => ?_)
  refine lv_iload hx hb dL_law_1220 (lv_at hl 1 rfl) ?_
  refine lv_icmp_eq (tgt := 1227) hx hb dL_law_1222 (by decide) (fun c14 => ?_) (fun c14 => ?_)
  · replace h := it_o c14 h
    refine lv_iload hx hb dL_law_1227 (lv_at hl 1 rfl) ?_
    refine lv_if_ne (tgt := 1244) hx hb dL_law_1229 (by decide) (fun c15 => ?_) (fun c15 => ?_)
    · replace h := if_o c15 h
      exact bL_law_1244 (w := (t13, w5)) B hE hl0 h k23 kR hR hS (lv_sub hl [2, 3, 4, 5, 6] rfl)
    · replace h := it_o c15 h
      refine lv_aload_n hx hb dL_law_1232 rfl (lv_at hl 5 rfl) ?_
      refine lv_iconst (v := 0) hx hb dL_law_1233 (by decide) ?_
      replace h := bo_o h
      obtain ⟨x16, e17, h⟩ := h
      refine h_lald hx hb hK hR.2.weak e17 dL_law_1234 ?_
      refine lv_iload hx hb dL_law_1235 (lv_at hl 0 rfl) ?_
      refine lv_i2l hx hb dL_law_1237 rfl ?_
      refine W.lcmp hx hb dL_law_1238 ?_
      refine lv_if_eq (tgt := 1244) hx hb dL_law_1239 (by decide) (fun c18 => ?_) (fun c18 => ?_)
      · replace h := it_o c18 h
        exact bL_law_1244 (w := (t13, w5)) B hE hl0 h k23 kR hR hS (lv_sub hl [2, 3, 4, 5, 6] rfl)
      · replace h := if_o c18 h
        refine lv_iconst (v := 0) hx hb dL_law_1242 (by decide) ?_
        have eR := kR _ (Option.some.inj h).symm
        subst eR
        exact hE _ ls H locs w5 _ dL_law_1243 hS
  · replace h := if_o c14 h
    refine lv_iconst (v := 0) hx hb dL_law_1225 (by decide) ?_
    have eR := kR _ (Option.some.inj h).symm
    subst eR
    exact hE _ ls H locs w5 _ dL_law_1226 hS
noncomputable def fL_law_b1300 (L : Nat) (xs : Nat → Int32) (v1 : Nat) (v3 : Nat) (v4 : Int32) (w : LW) : Option (Sum (Int32 × LW) (Int32)) :=
  fL_law_b3008 L xs v1 v3 v4 w
theorem bL_law_1300 {p : Program} {l : Launch} {e : Env} {s : State} {m : MethodId} {args : Array Value} {below : List Frame} {meth : Method} {c : Code} {H : Heap} {locs : List Loc} {ls : Array Slot} {G : gE} {w0 : WH} {o b L : Nat} {xs : Nat → Int32} {Q : Int32 → State → Prop} (B : lB G b L xs w0 p s m args meth c) (hE : lE l G w0 p e s m args below meth c Q) (hl0 : l.stackTraces = false) {v1 : Nat} {v3 : Nat} {v4 : Int32} {w : LW} {x : Sum (Int32 × LW) (Int32)} {r : Int32} (h : fL_law_b1300 L xs v1 v3 v4 w = some x)  (k23 : ∀ (v4' : Int32) (w' : LW), x = (.inl (v4', w')) → ∀ (H : Heap) (locs : List Loc) (ls : Array Slot), RepL G o w' H → Cu (gFr G) s w0 w'.2 H locs → lv_has ls 8 [(0, .ref b), (1, .ref v1), (2, .ref o), (3, .ref v3), (4, .int v4')] → W p l e room_1 s m args below meth c H locs (wC w0 - wC w'.2) (wS w0 - wS w'.2) (Q r) (F0 m 23 ls [])) (kR : ∀ q, x = (.inr q) → q = r) (hR : RepL G o w H) (hS : Cu (gFr G) s w0 w.2 H locs) (hl : lv_has ls 8 [(0, .ref b), (1, .ref v1), (2, .ref o), (3, .ref v3), (4, .int v4)]) : W p l e room_1 s m args below meth c H locs (wC w0 - wC w.2) (wS w0 - wS w.2) (Q r) (F0 m 1300 ls []) := by
  have B0 := B
  obtain ⟨⟨hx, hb, hml, hown, hts, hr, hlk, hK⟩, hX, hbl, hbA, hRc, hRs⟩ := B0
  unfold fL_law_b1300 at h
  refine lv_goto (tgt := 3008) hx hb dL_law_1300 (by decide) ?_
  exact bL_law_3008 (w := w) B hE hl0 h k23 kR hR hS (lv_sub hl [0, 1, 2, 3, 4] rfl)
noncomputable def fL_law_b1247 (L : Nat) (xs : Nat → Int32) (v1 : Nat) (v3 : Nat) (v4 : Int32) (w : LW) : Option (Sum (Int32 × LW) (Int32)) :=
  (sld L xs (v4 + 1)).bind fun x1 =>
  b2_ (fX0_felt v1 x1 v3 w.2) fun x3 w5 =>
  (sld L xs (v4 + 1)).bind fun x6 =>
  b2_ (fX5_felt x6 w.1) fun x8 t10 =>
  b2_ (fX5_thrown  t10) fun x11 t13 =>
  if x11 = x3 then (
    if x3 = 0 then (
      (ldJ w5 v3 0).bind fun x16 =>
      if lg_cmp x16 (x8.toInt64) = 0 then (
        fL_law_b1300 L xs v1 v3 v4 (t13, w5)
      ) else (
        some (.inr 0)
      )
    ) else (
      fL_law_b1300 L xs v1 v3 v4 (t13, w5)
    )
  ) else (
    some (.inr 0)
  )
theorem bL_law_1247 {p : Program} {l : Launch} {e : Env} {s : State} {m : MethodId} {args : Array Value} {below : List Frame} {meth : Method} {c : Code} {H : Heap} {locs : List Loc} {ls : Array Slot} {G : gE} {w0 : WH} {o b L : Nat} {xs : Nat → Int32} {Q : Int32 → State → Prop} (B : lB G b L xs w0 p s m args meth c) (hE : lE l G w0 p e s m args below meth c Q) (hl0 : l.stackTraces = false) {v1 : Nat} {v3 : Nat} {v4 : Int32} {w : LW} {x : Sum (Int32 × LW) (Int32)} {r : Int32} (h : fL_law_b1247 L xs v1 v3 v4 w = some x)  (k23 : ∀ (v4' : Int32) (w' : LW), x = (.inl (v4', w')) → ∀ (H : Heap) (locs : List Loc) (ls : Array Slot), RepL G o w' H → Cu (gFr G) s w0 w'.2 H locs → lv_has ls 8 [(0, .ref b), (1, .ref v1), (2, .ref o), (3, .ref v3), (4, .int v4')] → W p l e room_1 s m args below meth c H locs (wC w0 - wC w'.2) (wS w0 - wS w'.2) (Q r) (F0 m 23 ls [])) (kR : ∀ q, x = (.inr q) → q = r) (hR : RepL G o w H) (hS : Cu (gFr G) s w0 w.2 H locs) (hl : lv_has ls 8 [(0, .ref b), (1, .ref v1), (2, .ref o), (3, .ref v3), (4, .int v4)]) : W p l e room_1 s m args below meth c H locs (wC w0 - wC w.2) (wS w0 - wS w.2) (Q r) (F0 m 1247 ls []) := by
  have B0 := B
  obtain ⟨⟨hx, hb, hml, hown, hts, hr, hlk, hK⟩, hX, hbl, hbA, hRc, hRs⟩ := B0
  unfold fL_law_b1247 at h
  refine lv_aload_n hx hb dL_law_1247 rfl (lv_at hl 1 rfl) ?_
  refine lv_aload_n hx hb dL_law_1248 rfl (lv_at hl 0 rfl) ?_
  refine lv_iload hx hb dL_law_1249 (lv_at hl 4 rfl) ?_
  refine lv_iconst (v := 1) hx hb dL_law_1251 (by decide) ?_
  refine lv_iadd hx hb dL_law_1252 ?_
  replace h := bo_o h
  obtain ⟨x1, e2, h⟩ := h
  refine l_sld (w := w) hx hb hX hbl hbA hS e2 dL_law_1253 ?_
  refine lv_aload_n hx hb dL_law_1254 rfl (lv_at hl 3 rfl) ?_
  replace h := b2_o h
  obtain ⟨x3, w5, e4, h⟩ := h
  refine l_callSW 3 (As := [.ref v1, .int x1, .ref v3]) (rest := []) (v := (some (.int x3))) (w' := w5) (st1 := [.int x3]) hx hb hml hown hts hK hR hS hRc hRs (mX0_felt hl0 e4) (lw_SW q2105 q2106 q111 q2107) (by decide +kernel) (Nat.le_of_ble_eq_true rfl) (Nat.le_of_ble_eq_true rfl) rfl hl.1 (Nat.le_of_ble_eq_true rfl) dL_law_1255 rfl rfl (fun H locs hR hS => ?_)
  refine lv_istore (lv' := [(5, .int x3), (0, .ref b), (1, .ref v1), (2, .ref o), (3, .ref v3), (4, .int v4)]) hx hb dL_law_1258 hl (by decide) rfl (fun ls hl => ?_)
  refine lv_aload_n hx hb dL_law_1260 rfl (lv_at hl 3 rfl) ?_
  refine lv_aload_n hx hb dL_law_1261 rfl (lv_at hl 1 rfl) ?_
  refine lv_iload hx hb dL_law_1262 (lv_at hl 5 rfl) ?_
  refine lv_iconst (v := 1) hx hb dL_law_1264 (by decide) ?_
  refine lv_iadd hx hb dL_law_1265 ?_
  replace h := bo_o h
  obtain ⟨x6, e7, h⟩ := h
  refine l_sld (w := (w.1, w5)) hx hb hX hbl hbA hS e7 dL_law_1266 ?_
  replace h := b2_o h
  obtain ⟨x8, t10, e9, h⟩ := h
  refine l_callT 1 (As := [.int x6]) (rest := []) (v := (some (.int x8))) (T' := t10) (st1 := [.int x8]) hx hb hml hown hts hK hR hS hRc hRs (mX5_felt e9) (lw_V q2777 q2778 q2779 q137 q2780) (by decide +kernel) (Nat.le_of_ble_eq_true rfl) (Nat.le_of_ble_eq_true rfl) rfl hl.1 (Nat.le_of_ble_eq_true rfl) dL_law_1267 rfl rfl (fun H locs hR hS => ?_)
  refine lv_istore (lv' := [(6, .int x8), (5, .int x3), (0, .ref b), (1, .ref v1), (2, .ref o), (3, .ref v3), (4, .int v4)]) hx hb dL_law_1270 hl (by decide) rfl (fun ls hl => ?_)
  refine lv_aload_n hx hb dL_law_1272 rfl (lv_at hl 4 rfl) ?_
  replace h := b2_o h
  obtain ⟨x11, t13, e12, h⟩ := h
  refine l_callT 0 (As := []) (rest := []) (v := (some (.int x11))) (T' := t13) (st1 := [.int x11]) hx hb hml hown hts hK hR hS hRc hRs (mX5_thrown e12) (lw_V q2534 q2535 q2536 q137 q2537) (by decide +kernel) (Nat.le_of_ble_eq_true rfl) (Nat.le_of_ble_eq_true rfl) rfl hl.1 (Nat.le_of_ble_eq_true rfl) dL_law_1273 rfl rfl (fun H locs hR hS => ?_)
  refine lv_iload hx hb dL_law_1276 (lv_at hl 1 rfl) ?_
  refine lv_icmp_eq (tgt := 1283) hx hb dL_law_1278 (by decide) (fun c14 => ?_) (fun c14 => ?_)
  · replace h := it_o c14 h
    refine lv_iload hx hb dL_law_1283 (lv_at hl 1 rfl) ?_
    refine lv_if_ne (tgt := 1300) hx hb dL_law_1285 (by decide) (fun c15 => ?_) (fun c15 => ?_)
    · replace h := if_o c15 h
      exact bL_law_1300 (w := (t13, w5)) B hE hl0 h k23 kR hR hS (lv_sub hl [2, 3, 4, 5, 6] rfl)
    · replace h := it_o c15 h
      refine lv_aload_n hx hb dL_law_1288 rfl (lv_at hl 5 rfl) ?_
      refine lv_iconst (v := 0) hx hb dL_law_1289 (by decide) ?_
      replace h := bo_o h
      obtain ⟨x16, e17, h⟩ := h
      refine h_lald hx hb hK hR.2.weak e17 dL_law_1290 ?_
      refine lv_iload hx hb dL_law_1291 (lv_at hl 0 rfl) ?_
      refine lv_i2l hx hb dL_law_1293 rfl ?_
      refine W.lcmp hx hb dL_law_1294 ?_
      refine lv_if_eq (tgt := 1300) hx hb dL_law_1295 (by decide) (fun c18 => ?_) (fun c18 => ?_)
      · replace h := it_o c18 h
        exact bL_law_1300 (w := (t13, w5)) B hE hl0 h k23 kR hR hS (lv_sub hl [2, 3, 4, 5, 6] rfl)
      · replace h := if_o c18 h
        refine lv_iconst (v := 0) hx hb dL_law_1298 (by decide) ?_
        have eR := kR _ (Option.some.inj h).symm
        subst eR
        exact hE _ ls H locs w5 _ dL_law_1299 hS
  · replace h := if_o c14 h
    refine lv_iconst (v := 0) hx hb dL_law_1281 (by decide) ?_
    have eR := kR _ (Option.some.inj h).symm
    subst eR
    exact hE _ ls H locs w5 _ dL_law_1282 hS
noncomputable def fL_law_b1375 (L : Nat) (xs : Nat → Int32) (v1 : Nat) (v3 : Nat) (v4 : Int32) (w : LW) : Option (Sum (Int32 × LW) (Int32)) :=
  fL_law_b3008 L xs v1 v3 v4 w
theorem bL_law_1375 {p : Program} {l : Launch} {e : Env} {s : State} {m : MethodId} {args : Array Value} {below : List Frame} {meth : Method} {c : Code} {H : Heap} {locs : List Loc} {ls : Array Slot} {G : gE} {w0 : WH} {o b L : Nat} {xs : Nat → Int32} {Q : Int32 → State → Prop} (B : lB G b L xs w0 p s m args meth c) (hE : lE l G w0 p e s m args below meth c Q) (hl0 : l.stackTraces = false) {v1 : Nat} {v3 : Nat} {v4 : Int32} {w : LW} {x : Sum (Int32 × LW) (Int32)} {r : Int32} (h : fL_law_b1375 L xs v1 v3 v4 w = some x)  (k23 : ∀ (v4' : Int32) (w' : LW), x = (.inl (v4', w')) → ∀ (H : Heap) (locs : List Loc) (ls : Array Slot), RepL G o w' H → Cu (gFr G) s w0 w'.2 H locs → lv_has ls 8 [(0, .ref b), (1, .ref v1), (2, .ref o), (3, .ref v3), (4, .int v4')] → W p l e room_1 s m args below meth c H locs (wC w0 - wC w'.2) (wS w0 - wS w'.2) (Q r) (F0 m 23 ls [])) (kR : ∀ q, x = (.inr q) → q = r) (hR : RepL G o w H) (hS : Cu (gFr G) s w0 w.2 H locs) (hl : lv_has ls 8 [(0, .ref b), (1, .ref v1), (2, .ref o), (3, .ref v3), (4, .int v4)]) : W p l e room_1 s m args below meth c H locs (wC w0 - wC w.2) (wS w0 - wS w.2) (Q r) (F0 m 1375 ls []) := by
  have B0 := B
  obtain ⟨⟨hx, hb, hml, hown, hts, hr, hlk, hK⟩, hX, hbl, hbA, hRc, hRs⟩ := B0
  unfold fL_law_b1375 at h
  refine lv_goto (tgt := 3008) hx hb dL_law_1375 (by decide) ?_
  exact bL_law_3008 (w := w) B hE hl0 h k23 kR hR hS (lv_sub hl [0, 1, 2, 3, 4] rfl)
noncomputable def fL_law_b1369 (L : Nat) (xs : Nat → Int32) (v1 : Nat) (v3 : Nat) (v4 : Int32) (s0 : Int64) (s1 : Int64) (w : LW) : Option (Sum (Int32 × LW) (Int32)) :=
  if lg_cmp s0 s1 = 0 then (
    fL_law_b1375 L xs v1 v3 v4 w
  ) else (
    some (.inr 0)
  )
theorem bL_law_1369 {p : Program} {l : Launch} {e : Env} {s : State} {m : MethodId} {args : Array Value} {below : List Frame} {meth : Method} {c : Code} {H : Heap} {locs : List Loc} {ls : Array Slot} {G : gE} {w0 : WH} {o b L : Nat} {xs : Nat → Int32} {Q : Int32 → State → Prop} (B : lB G b L xs w0 p s m args meth c) (hE : lE l G w0 p e s m args below meth c Q) (hl0 : l.stackTraces = false) {v1 : Nat} {v3 : Nat} {v4 : Int32} {s0 : Int64} {s1 : Int64} {w : LW} {x : Sum (Int32 × LW) (Int32)} {r : Int32} (h : fL_law_b1369 L xs v1 v3 v4 s0 s1 w = some x)  (k23 : ∀ (v4' : Int32) (w' : LW), x = (.inl (v4', w')) → ∀ (H : Heap) (locs : List Loc) (ls : Array Slot), RepL G o w' H → Cu (gFr G) s w0 w'.2 H locs → lv_has ls 8 [(0, .ref b), (1, .ref v1), (2, .ref o), (3, .ref v3), (4, .int v4')] → W p l e room_1 s m args below meth c H locs (wC w0 - wC w'.2) (wS w0 - wS w'.2) (Q r) (F0 m 23 ls [])) (kR : ∀ q, x = (.inr q) → q = r) (hR : RepL G o w H) (hS : Cu (gFr G) s w0 w.2 H locs) (hl : lv_has ls 8 [(0, .ref b), (1, .ref v1), (2, .ref o), (3, .ref v3), (4, .int v4)]) : W p l e room_1 s m args below meth c H locs (wC w0 - wC w.2) (wS w0 - wS w.2) (Q r) (F0 m 1369 ls [.long s1, .long s0]) := by
  have B0 := B
  obtain ⟨⟨hx, hb, hml, hown, hts, hr, hlk, hK⟩, hX, hbl, hbA, hRc, hRs⟩ := B0
  unfold fL_law_b1369 at h
  refine W.lcmp hx hb dL_law_1369 ?_
  refine lv_if_eq (tgt := 1375) hx hb dL_law_1370 (by decide) (fun c1 => ?_) (fun c1 => ?_)
  · replace h := it_o c1 h
    exact bL_law_1375 (w := w) B hE hl0 h k23 kR hR hS (lv_sub hl [0, 1, 2, 3, 4] rfl)
  · replace h := if_o c1 h
    refine lv_iconst (v := 0) hx hb dL_law_1373 (by decide) ?_
    have eR := kR _ (Option.some.inj h).symm
    subst eR
    exact hE _ ls H locs w.2 _ dL_law_1374 hS
noncomputable def fL_law_b1351 (L : Nat) (xs : Nat → Int32) (v1 : Nat) (v3 : Nat) (v4 : Int32) (v5 : Int32) (v6 : Int32) (w : LW) : Option (Sum (Int32 × LW) (Int32)) :=
  if v5 = 0 then (
    (ldJ w.2 v3 0).bind fun x2 =>
    if v6 = 0 then (
      fL_law_b1369 L xs v1 v3 v4 x2 0 w
    ) else (
      fL_law_b1369 L xs v1 v3 v4 x2 1 w
    )
  ) else (
    fL_law_b1375 L xs v1 v3 v4 w
  )
theorem bL_law_1351 {p : Program} {l : Launch} {e : Env} {s : State} {m : MethodId} {args : Array Value} {below : List Frame} {meth : Method} {c : Code} {H : Heap} {locs : List Loc} {ls : Array Slot} {G : gE} {w0 : WH} {o b L : Nat} {xs : Nat → Int32} {Q : Int32 → State → Prop} (B : lB G b L xs w0 p s m args meth c) (hE : lE l G w0 p e s m args below meth c Q) (hl0 : l.stackTraces = false) {v1 : Nat} {v3 : Nat} {v4 : Int32} {v5 : Int32} {v6 : Int32} {w : LW} {x : Sum (Int32 × LW) (Int32)} {r : Int32} (h : fL_law_b1351 L xs v1 v3 v4 v5 v6 w = some x)  (k23 : ∀ (v4' : Int32) (w' : LW), x = (.inl (v4', w')) → ∀ (H : Heap) (locs : List Loc) (ls : Array Slot), RepL G o w' H → Cu (gFr G) s w0 w'.2 H locs → lv_has ls 8 [(0, .ref b), (1, .ref v1), (2, .ref o), (3, .ref v3), (4, .int v4')] → W p l e room_1 s m args below meth c H locs (wC w0 - wC w'.2) (wS w0 - wS w'.2) (Q r) (F0 m 23 ls [])) (kR : ∀ q, x = (.inr q) → q = r) (hR : RepL G o w H) (hS : Cu (gFr G) s w0 w.2 H locs) (hl : lv_has ls 8 [(0, .ref b), (1, .ref v1), (2, .ref o), (3, .ref v3), (4, .int v4), (5, .int v5), (6, .int v6)]) : W p l e room_1 s m args below meth c H locs (wC w0 - wC w.2) (wS w0 - wS w.2) (Q r) (F0 m 1351 ls []) := by
  have B0 := B
  obtain ⟨⟨hx, hb, hml, hown, hts, hr, hlk, hK⟩, hX, hbl, hbA, hRc, hRs⟩ := B0
  unfold fL_law_b1351 at h
  refine lv_iload hx hb dL_law_1351 (lv_at hl 5 rfl) ?_
  refine lv_if_ne (tgt := 1375) hx hb dL_law_1353 (by decide) (fun c1 => ?_) (fun c1 => ?_)
  · replace h := if_o c1 h
    exact bL_law_1375 (w := w) B hE hl0 h k23 kR hR hS (lv_sub hl [0, 1, 2, 3, 4] rfl)
  · replace h := it_o c1 h
    refine lv_aload_n hx hb dL_law_1356 rfl (lv_at hl 3 rfl) ?_
    refine lv_iconst (v := 0) hx hb dL_law_1357 (by decide) ?_
    replace h := bo_o h
    obtain ⟨x2, e3, h⟩ := h
    refine h_lald hx hb hK hR.2.weak e3 dL_law_1358 ?_
    refine lv_iload hx hb dL_law_1359 (lv_at hl 6 rfl) ?_
    refine lv_if_eq (tgt := 1368) hx hb dL_law_1361 (by decide) (fun c4 => ?_) (fun c4 => ?_)
    · replace h := it_o c4 h
      refine lv_lconst (v := 0) hx hb dL_law_1368 (by decide) ?_
      exact bL_law_1369 (w := w) B hE hl0 h k23 kR hR hS (lv_sub hl [0, 1, 2, 3, 4] rfl)
    · replace h := if_o c4 h
      refine lv_lconst (v := 1) hx hb dL_law_1364 (by decide) ?_
      refine lv_goto (tgt := 1369) hx hb dL_law_1365 (by decide) ?_
      exact bL_law_1369 (w := w) B hE hl0 h k23 kR hR hS (lv_sub hl [0, 1, 2, 3, 4] rfl)
noncomputable def fL_law_b1303 (L : Nat) (xs : Nat → Int32) (v1 : Nat) (v3 : Nat) (v4 : Int32) (w : LW) : Option (Sum (Int32 × LW) (Int32)) :=
  (sld L xs (v4 + 1)).bind fun x1 =>
  (sld L xs (v4 + 2)).bind fun x3 =>
  b2_ (fX0_uses v1 x1 x3 v3 w.2) fun x5 w7 =>
  (sld L xs (v4 + 1)).bind fun x8 =>
  (sld L xs (v4 + 2)).bind fun x10 =>
  b2_ (fX5_uses x8 x10 w.1) fun x12 t14 =>
  b2_ (fX5_thrown  t14) fun x15 t17 =>
  if x15 = x5 then (
    fL_law_b1351 L xs v1 v3 v4 x5 x12 (t17, w7)
  ) else (
    some (.inr 0)
  )
theorem bL_law_1303 {p : Program} {l : Launch} {e : Env} {s : State} {m : MethodId} {args : Array Value} {below : List Frame} {meth : Method} {c : Code} {H : Heap} {locs : List Loc} {ls : Array Slot} {G : gE} {w0 : WH} {o b L : Nat} {xs : Nat → Int32} {Q : Int32 → State → Prop} (B : lB G b L xs w0 p s m args meth c) (hE : lE l G w0 p e s m args below meth c Q) (hl0 : l.stackTraces = false) {v1 : Nat} {v3 : Nat} {v4 : Int32} {w : LW} {x : Sum (Int32 × LW) (Int32)} {r : Int32} (h : fL_law_b1303 L xs v1 v3 v4 w = some x)  (k23 : ∀ (v4' : Int32) (w' : LW), x = (.inl (v4', w')) → ∀ (H : Heap) (locs : List Loc) (ls : Array Slot), RepL G o w' H → Cu (gFr G) s w0 w'.2 H locs → lv_has ls 8 [(0, .ref b), (1, .ref v1), (2, .ref o), (3, .ref v3), (4, .int v4')] → W p l e room_1 s m args below meth c H locs (wC w0 - wC w'.2) (wS w0 - wS w'.2) (Q r) (F0 m 23 ls [])) (kR : ∀ q, x = (.inr q) → q = r) (hR : RepL G o w H) (hS : Cu (gFr G) s w0 w.2 H locs) (hl : lv_has ls 8 [(0, .ref b), (1, .ref v1), (2, .ref o), (3, .ref v3), (4, .int v4)]) : W p l e room_1 s m args below meth c H locs (wC w0 - wC w.2) (wS w0 - wS w.2) (Q r) (F0 m 1303 ls []) := by
  have B0 := B
  obtain ⟨⟨hx, hb, hml, hown, hts, hr, hlk, hK⟩, hX, hbl, hbA, hRc, hRs⟩ := B0
  unfold fL_law_b1303 at h
  refine lv_aload_n hx hb dL_law_1303 rfl (lv_at hl 1 rfl) ?_
  refine lv_aload_n hx hb dL_law_1304 rfl (lv_at hl 0 rfl) ?_
  refine lv_iload hx hb dL_law_1305 (lv_at hl 4 rfl) ?_
  refine lv_iconst (v := 1) hx hb dL_law_1307 (by decide) ?_
  refine lv_iadd hx hb dL_law_1308 ?_
  replace h := bo_o h
  obtain ⟨x1, e2, h⟩ := h
  refine l_sld (w := w) hx hb hX hbl hbA hS e2 dL_law_1309 ?_
  refine lv_aload_n hx hb dL_law_1310 rfl (lv_at hl 0 rfl) ?_
  refine lv_iload hx hb dL_law_1311 (lv_at hl 4 rfl) ?_
  refine lv_iconst (v := 2) hx hb dL_law_1313 (by decide) ?_
  refine lv_iadd hx hb dL_law_1314 ?_
  replace h := bo_o h
  obtain ⟨x3, e4, h⟩ := h
  refine l_sld (w := w) hx hb hX hbl hbA hS e4 dL_law_1315 ?_
  refine lv_aload_n hx hb dL_law_1316 rfl (lv_at hl 3 rfl) ?_
  replace h := b2_o h
  obtain ⟨x5, w7, e6, h⟩ := h
  refine l_callSW 4 (As := [.ref v1, .int x1, .int x3, .ref v3]) (rest := []) (v := (some (.int x5))) (w' := w7) (st1 := [.int x5]) hx hb hml hown hts hK hR hS hRc hRs (mX0_uses hl0 e6) (lw_SW q2112 q2113 q111 q2114) (by decide +kernel) (Nat.le_of_ble_eq_true rfl) (Nat.le_of_ble_eq_true rfl) rfl hl.1 (Nat.le_of_ble_eq_true rfl) dL_law_1317 rfl rfl (fun H locs hR hS => ?_)
  refine lv_istore (lv' := [(5, .int x5), (0, .ref b), (1, .ref v1), (2, .ref o), (3, .ref v3), (4, .int v4)]) hx hb dL_law_1320 hl (by decide) rfl (fun ls hl => ?_)
  refine lv_aload_n hx hb dL_law_1322 rfl (lv_at hl 3 rfl) ?_
  refine lv_aload_n hx hb dL_law_1323 rfl (lv_at hl 1 rfl) ?_
  refine lv_iload hx hb dL_law_1324 (lv_at hl 5 rfl) ?_
  refine lv_iconst (v := 1) hx hb dL_law_1326 (by decide) ?_
  refine lv_iadd hx hb dL_law_1327 ?_
  replace h := bo_o h
  obtain ⟨x8, e9, h⟩ := h
  refine l_sld (w := (w.1, w7)) hx hb hX hbl hbA hS e9 dL_law_1328 ?_
  refine lv_aload_n hx hb dL_law_1329 rfl (lv_at hl 1 rfl) ?_
  refine lv_iload hx hb dL_law_1330 (lv_at hl 5 rfl) ?_
  refine lv_iconst (v := 2) hx hb dL_law_1332 (by decide) ?_
  refine lv_iadd hx hb dL_law_1333 ?_
  replace h := bo_o h
  obtain ⟨x10, e11, h⟩ := h
  refine l_sld (w := (w.1, w7)) hx hb hX hbl hbA hS e11 dL_law_1334 ?_
  replace h := b2_o h
  obtain ⟨x12, t14, e13, h⟩ := h
  refine l_callT 2 (As := [.int x8, .int x10]) (rest := []) (v := (some (.int x12))) (T' := t14) (st1 := [.int x12]) hx hb hml hown hts hK hR hS hRc hRs (mX5_uses e13) (lw_V q2789 q2790 q2791 q137 q2792) (by decide +kernel) (Nat.le_of_ble_eq_true rfl) (Nat.le_of_ble_eq_true rfl) rfl hl.1 (Nat.le_of_ble_eq_true rfl) dL_law_1335 rfl rfl (fun H locs hR hS => ?_)
  refine lv_istore (lv' := [(6, .int x12), (5, .int x5), (0, .ref b), (1, .ref v1), (2, .ref o), (3, .ref v3), (4, .int v4)]) hx hb dL_law_1338 hl (by decide) rfl (fun ls hl => ?_)
  refine lv_aload_n hx hb dL_law_1340 rfl (lv_at hl 4 rfl) ?_
  replace h := b2_o h
  obtain ⟨x15, t17, e16, h⟩ := h
  refine l_callT 0 (As := []) (rest := []) (v := (some (.int x15))) (T' := t17) (st1 := [.int x15]) hx hb hml hown hts hK hR hS hRc hRs (mX5_thrown e16) (lw_V q2534 q2535 q2536 q137 q2537) (by decide +kernel) (Nat.le_of_ble_eq_true rfl) (Nat.le_of_ble_eq_true rfl) rfl hl.1 (Nat.le_of_ble_eq_true rfl) dL_law_1341 rfl rfl (fun H locs hR hS => ?_)
  refine lv_iload hx hb dL_law_1344 (lv_at hl 1 rfl) ?_
  refine lv_icmp_eq (tgt := 1351) hx hb dL_law_1346 (by decide) (fun c18 => ?_) (fun c18 => ?_)
  · replace h := it_o c18 h
    exact bL_law_1351 (w := (t17, w7)) B hE hl0 h k23 kR hR hS (lv_sub hl [2, 3, 4, 5, 6, 1, 0] rfl)
  · replace h := if_o c18 h
    refine lv_iconst (v := 0) hx hb dL_law_1349 (by decide) ?_
    have eR := kR _ (Option.some.inj h).symm
    subst eR
    exact hE _ ls H locs w7 _ dL_law_1350 hS
noncomputable def fL_law_b1431 (L : Nat) (xs : Nat → Int32) (v1 : Nat) (v3 : Nat) (v4 : Int32) (w : LW) : Option (Sum (Int32 × LW) (Int32)) :=
  fL_law_b3008 L xs v1 v3 v4 w
theorem bL_law_1431 {p : Program} {l : Launch} {e : Env} {s : State} {m : MethodId} {args : Array Value} {below : List Frame} {meth : Method} {c : Code} {H : Heap} {locs : List Loc} {ls : Array Slot} {G : gE} {w0 : WH} {o b L : Nat} {xs : Nat → Int32} {Q : Int32 → State → Prop} (B : lB G b L xs w0 p s m args meth c) (hE : lE l G w0 p e s m args below meth c Q) (hl0 : l.stackTraces = false) {v1 : Nat} {v3 : Nat} {v4 : Int32} {w : LW} {x : Sum (Int32 × LW) (Int32)} {r : Int32} (h : fL_law_b1431 L xs v1 v3 v4 w = some x)  (k23 : ∀ (v4' : Int32) (w' : LW), x = (.inl (v4', w')) → ∀ (H : Heap) (locs : List Loc) (ls : Array Slot), RepL G o w' H → Cu (gFr G) s w0 w'.2 H locs → lv_has ls 8 [(0, .ref b), (1, .ref v1), (2, .ref o), (3, .ref v3), (4, .int v4')] → W p l e room_1 s m args below meth c H locs (wC w0 - wC w'.2) (wS w0 - wS w'.2) (Q r) (F0 m 23 ls [])) (kR : ∀ q, x = (.inr q) → q = r) (hR : RepL G o w H) (hS : Cu (gFr G) s w0 w.2 H locs) (hl : lv_has ls 8 [(0, .ref b), (1, .ref v1), (2, .ref o), (3, .ref v3), (4, .int v4)]) : W p l e room_1 s m args below meth c H locs (wC w0 - wC w.2) (wS w0 - wS w.2) (Q r) (F0 m 1431 ls []) := by
  have B0 := B
  obtain ⟨⟨hx, hb, hml, hown, hts, hr, hlk, hK⟩, hX, hbl, hbA, hRc, hRs⟩ := B0
  unfold fL_law_b1431 at h
  refine lv_goto (tgt := 3008) hx hb dL_law_1431 (by decide) ?_
  exact bL_law_3008 (w := w) B hE hl0 h k23 kR hR hS (lv_sub hl [0, 1, 2, 3, 4] rfl)
noncomputable def fL_law_b1378 (L : Nat) (xs : Nat → Int32) (v1 : Nat) (v3 : Nat) (v4 : Int32) (w : LW) : Option (Sum (Int32 × LW) (Int32)) :=
  (sld L xs (v4 + 1)).bind fun x1 =>
  b2_ (fX0_users v1 x1 v3 w.2) fun x3 w5 =>
  (sld L xs (v4 + 1)).bind fun x6 =>
  b2_ (fX5_users x6 w.1) fun x8 t10 =>
  b2_ (fX5_thrown  t10) fun x11 t13 =>
  if x11 = x3 then (
    if x3 = 0 then (
      (ldJ w5 v3 0).bind fun x16 =>
      if lg_cmp x16 (x8.toInt64) = 0 then (
        fL_law_b1431 L xs v1 v3 v4 (t13, w5)
      ) else (
        some (.inr 0)
      )
    ) else (
      fL_law_b1431 L xs v1 v3 v4 (t13, w5)
    )
  ) else (
    some (.inr 0)
  )
theorem bL_law_1378 {p : Program} {l : Launch} {e : Env} {s : State} {m : MethodId} {args : Array Value} {below : List Frame} {meth : Method} {c : Code} {H : Heap} {locs : List Loc} {ls : Array Slot} {G : gE} {w0 : WH} {o b L : Nat} {xs : Nat → Int32} {Q : Int32 → State → Prop} (B : lB G b L xs w0 p s m args meth c) (hE : lE l G w0 p e s m args below meth c Q) (hl0 : l.stackTraces = false) {v1 : Nat} {v3 : Nat} {v4 : Int32} {w : LW} {x : Sum (Int32 × LW) (Int32)} {r : Int32} (h : fL_law_b1378 L xs v1 v3 v4 w = some x)  (k23 : ∀ (v4' : Int32) (w' : LW), x = (.inl (v4', w')) → ∀ (H : Heap) (locs : List Loc) (ls : Array Slot), RepL G o w' H → Cu (gFr G) s w0 w'.2 H locs → lv_has ls 8 [(0, .ref b), (1, .ref v1), (2, .ref o), (3, .ref v3), (4, .int v4')] → W p l e room_1 s m args below meth c H locs (wC w0 - wC w'.2) (wS w0 - wS w'.2) (Q r) (F0 m 23 ls [])) (kR : ∀ q, x = (.inr q) → q = r) (hR : RepL G o w H) (hS : Cu (gFr G) s w0 w.2 H locs) (hl : lv_has ls 8 [(0, .ref b), (1, .ref v1), (2, .ref o), (3, .ref v3), (4, .int v4)]) : W p l e room_1 s m args below meth c H locs (wC w0 - wC w.2) (wS w0 - wS w.2) (Q r) (F0 m 1378 ls []) := by
  have B0 := B
  obtain ⟨⟨hx, hb, hml, hown, hts, hr, hlk, hK⟩, hX, hbl, hbA, hRc, hRs⟩ := B0
  unfold fL_law_b1378 at h
  refine lv_aload_n hx hb dL_law_1378 rfl (lv_at hl 1 rfl) ?_
  refine lv_aload_n hx hb dL_law_1379 rfl (lv_at hl 0 rfl) ?_
  refine lv_iload hx hb dL_law_1380 (lv_at hl 4 rfl) ?_
  refine lv_iconst (v := 1) hx hb dL_law_1382 (by decide) ?_
  refine lv_iadd hx hb dL_law_1383 ?_
  replace h := bo_o h
  obtain ⟨x1, e2, h⟩ := h
  refine l_sld (w := w) hx hb hX hbl hbA hS e2 dL_law_1384 ?_
  refine lv_aload_n hx hb dL_law_1385 rfl (lv_at hl 3 rfl) ?_
  replace h := b2_o h
  obtain ⟨x3, w5, e4, h⟩ := h
  refine l_callSW 3 (As := [.ref v1, .int x1, .ref v3]) (rest := []) (v := (some (.int x3))) (w' := w5) (st1 := [.int x3]) hx hb hml hown hts hK hR hS hRc hRs (mX0_users hl0 e4) (lw_SW q2119 q2120 q111 q2121) (by decide +kernel) (Nat.le_of_ble_eq_true rfl) (Nat.le_of_ble_eq_true rfl) rfl hl.1 (Nat.le_of_ble_eq_true rfl) dL_law_1386 rfl rfl (fun H locs hR hS => ?_)
  refine lv_istore (lv' := [(5, .int x3), (0, .ref b), (1, .ref v1), (2, .ref o), (3, .ref v3), (4, .int v4)]) hx hb dL_law_1389 hl (by decide) rfl (fun ls hl => ?_)
  refine lv_aload_n hx hb dL_law_1391 rfl (lv_at hl 3 rfl) ?_
  refine lv_aload_n hx hb dL_law_1392 rfl (lv_at hl 1 rfl) ?_
  refine lv_iload hx hb dL_law_1393 (lv_at hl 5 rfl) ?_
  refine lv_iconst (v := 1) hx hb dL_law_1395 (by decide) ?_
  refine lv_iadd hx hb dL_law_1396 ?_
  replace h := bo_o h
  obtain ⟨x6, e7, h⟩ := h
  refine l_sld (w := (w.1, w5)) hx hb hX hbl hbA hS e7 dL_law_1397 ?_
  replace h := b2_o h
  obtain ⟨x8, t10, e9, h⟩ := h
  refine l_callT 1 (As := [.int x6]) (rest := []) (v := (some (.int x8))) (T' := t10) (st1 := [.int x8]) hx hb hml hown hts hK hR hS hRc hRs (mX5_users e9) (lw_V q2801 q2802 q2803 q137 q2804) (by decide +kernel) (Nat.le_of_ble_eq_true rfl) (Nat.le_of_ble_eq_true rfl) rfl hl.1 (Nat.le_of_ble_eq_true rfl) dL_law_1398 rfl rfl (fun H locs hR hS => ?_)
  refine lv_istore (lv' := [(6, .int x8), (5, .int x3), (0, .ref b), (1, .ref v1), (2, .ref o), (3, .ref v3), (4, .int v4)]) hx hb dL_law_1401 hl (by decide) rfl (fun ls hl => ?_)
  refine lv_aload_n hx hb dL_law_1403 rfl (lv_at hl 4 rfl) ?_
  replace h := b2_o h
  obtain ⟨x11, t13, e12, h⟩ := h
  refine l_callT 0 (As := []) (rest := []) (v := (some (.int x11))) (T' := t13) (st1 := [.int x11]) hx hb hml hown hts hK hR hS hRc hRs (mX5_thrown e12) (lw_V q2534 q2535 q2536 q137 q2537) (by decide +kernel) (Nat.le_of_ble_eq_true rfl) (Nat.le_of_ble_eq_true rfl) rfl hl.1 (Nat.le_of_ble_eq_true rfl) dL_law_1404 rfl rfl (fun H locs hR hS => ?_)
  refine lv_iload hx hb dL_law_1407 (lv_at hl 1 rfl) ?_
  refine lv_icmp_eq (tgt := 1414) hx hb dL_law_1409 (by decide) (fun c14 => ?_) (fun c14 => ?_)
  · replace h := it_o c14 h
    refine lv_iload hx hb dL_law_1414 (lv_at hl 1 rfl) ?_
    refine lv_if_ne (tgt := 1431) hx hb dL_law_1416 (by decide) (fun c15 => ?_) (fun c15 => ?_)
    · replace h := if_o c15 h
      exact bL_law_1431 (w := (t13, w5)) B hE hl0 h k23 kR hR hS (lv_sub hl [2, 3, 4, 5, 6] rfl)
    · replace h := it_o c15 h
      refine lv_aload_n hx hb dL_law_1419 rfl (lv_at hl 5 rfl) ?_
      refine lv_iconst (v := 0) hx hb dL_law_1420 (by decide) ?_
      replace h := bo_o h
      obtain ⟨x16, e17, h⟩ := h
      refine h_lald hx hb hK hR.2.weak e17 dL_law_1421 ?_
      refine lv_iload hx hb dL_law_1422 (lv_at hl 0 rfl) ?_
      refine lv_i2l hx hb dL_law_1424 rfl ?_
      refine W.lcmp hx hb dL_law_1425 ?_
      refine lv_if_eq (tgt := 1431) hx hb dL_law_1426 (by decide) (fun c18 => ?_) (fun c18 => ?_)
      · replace h := it_o c18 h
        exact bL_law_1431 (w := (t13, w5)) B hE hl0 h k23 kR hR hS (lv_sub hl [2, 3, 4, 5, 6] rfl)
      · replace h := if_o c18 h
        refine lv_iconst (v := 0) hx hb dL_law_1429 (by decide) ?_
        have eR := kR _ (Option.some.inj h).symm
        subst eR
        exact hE _ ls H locs w5 _ dL_law_1430 hS
  · replace h := if_o c14 h
    refine lv_iconst (v := 0) hx hb dL_law_1412 (by decide) ?_
    have eR := kR _ (Option.some.inj h).symm
    subst eR
    exact hE _ ls H locs w5 _ dL_law_1413 hS
noncomputable def fL_law_b1487 (L : Nat) (xs : Nat → Int32) (v1 : Nat) (v3 : Nat) (v4 : Int32) (w : LW) : Option (Sum (Int32 × LW) (Int32)) :=
  fL_law_b3008 L xs v1 v3 v4 w
theorem bL_law_1487 {p : Program} {l : Launch} {e : Env} {s : State} {m : MethodId} {args : Array Value} {below : List Frame} {meth : Method} {c : Code} {H : Heap} {locs : List Loc} {ls : Array Slot} {G : gE} {w0 : WH} {o b L : Nat} {xs : Nat → Int32} {Q : Int32 → State → Prop} (B : lB G b L xs w0 p s m args meth c) (hE : lE l G w0 p e s m args below meth c Q) (hl0 : l.stackTraces = false) {v1 : Nat} {v3 : Nat} {v4 : Int32} {w : LW} {x : Sum (Int32 × LW) (Int32)} {r : Int32} (h : fL_law_b1487 L xs v1 v3 v4 w = some x)  (k23 : ∀ (v4' : Int32) (w' : LW), x = (.inl (v4', w')) → ∀ (H : Heap) (locs : List Loc) (ls : Array Slot), RepL G o w' H → Cu (gFr G) s w0 w'.2 H locs → lv_has ls 8 [(0, .ref b), (1, .ref v1), (2, .ref o), (3, .ref v3), (4, .int v4')] → W p l e room_1 s m args below meth c H locs (wC w0 - wC w'.2) (wS w0 - wS w'.2) (Q r) (F0 m 23 ls [])) (kR : ∀ q, x = (.inr q) → q = r) (hR : RepL G o w H) (hS : Cu (gFr G) s w0 w.2 H locs) (hl : lv_has ls 8 [(0, .ref b), (1, .ref v1), (2, .ref o), (3, .ref v3), (4, .int v4)]) : W p l e room_1 s m args below meth c H locs (wC w0 - wC w.2) (wS w0 - wS w.2) (Q r) (F0 m 1487 ls []) := by
  have B0 := B
  obtain ⟨⟨hx, hb, hml, hown, hts, hr, hlk, hK⟩, hX, hbl, hbA, hRc, hRs⟩ := B0
  unfold fL_law_b1487 at h
  refine lv_goto (tgt := 3008) hx hb dL_law_1487 (by decide) ?_
  exact bL_law_3008 (w := w) B hE hl0 h k23 kR hR hS (lv_sub hl [0, 1, 2, 3, 4] rfl)
noncomputable def fL_law_b1434 (L : Nat) (xs : Nat → Int32) (v1 : Nat) (v3 : Nat) (v4 : Int32) (w : LW) : Option (Sum (Int32 × LW) (Int32)) :=
  (sld L xs (v4 + 1)).bind fun x1 =>
  b2_ (fX0_flow v1 x1 v3 w.2) fun x3 w5 =>
  (sld L xs (v4 + 1)).bind fun x6 =>
  b2_ (fX5_flow x6 w.1) fun x8 t10 =>
  b2_ (fX5_thrown  t10) fun x11 t13 =>
  if x11 = x3 then (
    if x3 = 0 then (
      (ldJ w5 v3 0).bind fun x16 =>
      if lg_cmp x16 (x8.toInt64) = 0 then (
        fL_law_b1487 L xs v1 v3 v4 (t13, w5)
      ) else (
        some (.inr 0)
      )
    ) else (
      fL_law_b1487 L xs v1 v3 v4 (t13, w5)
    )
  ) else (
    some (.inr 0)
  )
theorem bL_law_1434 {p : Program} {l : Launch} {e : Env} {s : State} {m : MethodId} {args : Array Value} {below : List Frame} {meth : Method} {c : Code} {H : Heap} {locs : List Loc} {ls : Array Slot} {G : gE} {w0 : WH} {o b L : Nat} {xs : Nat → Int32} {Q : Int32 → State → Prop} (B : lB G b L xs w0 p s m args meth c) (hE : lE l G w0 p e s m args below meth c Q) (hl0 : l.stackTraces = false) {v1 : Nat} {v3 : Nat} {v4 : Int32} {w : LW} {x : Sum (Int32 × LW) (Int32)} {r : Int32} (h : fL_law_b1434 L xs v1 v3 v4 w = some x)  (k23 : ∀ (v4' : Int32) (w' : LW), x = (.inl (v4', w')) → ∀ (H : Heap) (locs : List Loc) (ls : Array Slot), RepL G o w' H → Cu (gFr G) s w0 w'.2 H locs → lv_has ls 8 [(0, .ref b), (1, .ref v1), (2, .ref o), (3, .ref v3), (4, .int v4')] → W p l e room_1 s m args below meth c H locs (wC w0 - wC w'.2) (wS w0 - wS w'.2) (Q r) (F0 m 23 ls [])) (kR : ∀ q, x = (.inr q) → q = r) (hR : RepL G o w H) (hS : Cu (gFr G) s w0 w.2 H locs) (hl : lv_has ls 8 [(0, .ref b), (1, .ref v1), (2, .ref o), (3, .ref v3), (4, .int v4)]) : W p l e room_1 s m args below meth c H locs (wC w0 - wC w.2) (wS w0 - wS w.2) (Q r) (F0 m 1434 ls []) := by
  have B0 := B
  obtain ⟨⟨hx, hb, hml, hown, hts, hr, hlk, hK⟩, hX, hbl, hbA, hRc, hRs⟩ := B0
  unfold fL_law_b1434 at h
  refine lv_aload_n hx hb dL_law_1434 rfl (lv_at hl 1 rfl) ?_
  refine lv_aload_n hx hb dL_law_1435 rfl (lv_at hl 0 rfl) ?_
  refine lv_iload hx hb dL_law_1436 (lv_at hl 4 rfl) ?_
  refine lv_iconst (v := 1) hx hb dL_law_1438 (by decide) ?_
  refine lv_iadd hx hb dL_law_1439 ?_
  replace h := bo_o h
  obtain ⟨x1, e2, h⟩ := h
  refine l_sld (w := w) hx hb hX hbl hbA hS e2 dL_law_1440 ?_
  refine lv_aload_n hx hb dL_law_1441 rfl (lv_at hl 3 rfl) ?_
  replace h := b2_o h
  obtain ⟨x3, w5, e4, h⟩ := h
  refine l_callSW 3 (As := [.ref v1, .int x1, .ref v3]) (rest := []) (v := (some (.int x3))) (w' := w5) (st1 := [.int x3]) hx hb hml hown hts hK hR hS hRc hRs (mX0_flow hl0 e4) (lw_SW q2126 q2127 q111 q2128) (by decide +kernel) (Nat.le_of_ble_eq_true rfl) (Nat.le_of_ble_eq_true rfl) rfl hl.1 (Nat.le_of_ble_eq_true rfl) dL_law_1442 rfl rfl (fun H locs hR hS => ?_)
  refine lv_istore (lv' := [(5, .int x3), (0, .ref b), (1, .ref v1), (2, .ref o), (3, .ref v3), (4, .int v4)]) hx hb dL_law_1445 hl (by decide) rfl (fun ls hl => ?_)
  refine lv_aload_n hx hb dL_law_1447 rfl (lv_at hl 3 rfl) ?_
  refine lv_aload_n hx hb dL_law_1448 rfl (lv_at hl 1 rfl) ?_
  refine lv_iload hx hb dL_law_1449 (lv_at hl 5 rfl) ?_
  refine lv_iconst (v := 1) hx hb dL_law_1451 (by decide) ?_
  refine lv_iadd hx hb dL_law_1452 ?_
  replace h := bo_o h
  obtain ⟨x6, e7, h⟩ := h
  refine l_sld (w := (w.1, w5)) hx hb hX hbl hbA hS e7 dL_law_1453 ?_
  replace h := b2_o h
  obtain ⟨x8, t10, e9, h⟩ := h
  refine l_callT 1 (As := [.int x6]) (rest := []) (v := (some (.int x8))) (T' := t10) (st1 := [.int x8]) hx hb hml hown hts hK hR hS hRc hRs (mX5_flow e9) (lw_V q2809 q2810 q2811 q137 q2812) (by decide +kernel) (Nat.le_of_ble_eq_true rfl) (Nat.le_of_ble_eq_true rfl) rfl hl.1 (Nat.le_of_ble_eq_true rfl) dL_law_1454 rfl rfl (fun H locs hR hS => ?_)
  refine lv_istore (lv' := [(6, .int x8), (5, .int x3), (0, .ref b), (1, .ref v1), (2, .ref o), (3, .ref v3), (4, .int v4)]) hx hb dL_law_1457 hl (by decide) rfl (fun ls hl => ?_)
  refine lv_aload_n hx hb dL_law_1459 rfl (lv_at hl 4 rfl) ?_
  replace h := b2_o h
  obtain ⟨x11, t13, e12, h⟩ := h
  refine l_callT 0 (As := []) (rest := []) (v := (some (.int x11))) (T' := t13) (st1 := [.int x11]) hx hb hml hown hts hK hR hS hRc hRs (mX5_thrown e12) (lw_V q2534 q2535 q2536 q137 q2537) (by decide +kernel) (Nat.le_of_ble_eq_true rfl) (Nat.le_of_ble_eq_true rfl) rfl hl.1 (Nat.le_of_ble_eq_true rfl) dL_law_1460 rfl rfl (fun H locs hR hS => ?_)
  refine lv_iload hx hb dL_law_1463 (lv_at hl 1 rfl) ?_
  refine lv_icmp_eq (tgt := 1470) hx hb dL_law_1465 (by decide) (fun c14 => ?_) (fun c14 => ?_)
  · replace h := it_o c14 h
    refine lv_iload hx hb dL_law_1470 (lv_at hl 1 rfl) ?_
    refine lv_if_ne (tgt := 1487) hx hb dL_law_1472 (by decide) (fun c15 => ?_) (fun c15 => ?_)
    · replace h := if_o c15 h
      exact bL_law_1487 (w := (t13, w5)) B hE hl0 h k23 kR hR hS (lv_sub hl [2, 3, 4, 5, 6] rfl)
    · replace h := it_o c15 h
      refine lv_aload_n hx hb dL_law_1475 rfl (lv_at hl 5 rfl) ?_
      refine lv_iconst (v := 0) hx hb dL_law_1476 (by decide) ?_
      replace h := bo_o h
      obtain ⟨x16, e17, h⟩ := h
      refine h_lald hx hb hK hR.2.weak e17 dL_law_1477 ?_
      refine lv_iload hx hb dL_law_1478 (lv_at hl 0 rfl) ?_
      refine lv_i2l hx hb dL_law_1480 rfl ?_
      refine W.lcmp hx hb dL_law_1481 ?_
      refine lv_if_eq (tgt := 1487) hx hb dL_law_1482 (by decide) (fun c18 => ?_) (fun c18 => ?_)
      · replace h := it_o c18 h
        exact bL_law_1487 (w := (t13, w5)) B hE hl0 h k23 kR hR hS (lv_sub hl [2, 3, 4, 5, 6] rfl)
      · replace h := if_o c18 h
        refine lv_iconst (v := 0) hx hb dL_law_1485 (by decide) ?_
        have eR := kR _ (Option.some.inj h).symm
        subst eR
        exact hE _ ls H locs w5 _ dL_law_1486 hS
  · replace h := if_o c14 h
    refine lv_iconst (v := 0) hx hb dL_law_1468 (by decide) ?_
    have eR := kR _ (Option.some.inj h).symm
    subst eR
    exact hE _ ls H locs w5 _ dL_law_1469 hS
noncomputable def fL_law_b1490 (L : Nat) (xs : Nat → Int32) (v1 : Nat) (v3 : Nat) (v4 : Int32) (w : LW) : Option (Sum (Int32 × LW) (Int32)) :=
  (hIs w.2 v1 17).bind fun _ =>
  b2_ (fX1_busiest v1 w.2) fun x1 w3 =>
  b2_ (fX5_busiest  w.1) fun x5 t7 =>
  if x1 = x5 then (
    fL_law_b3008 L xs v1 v3 v4 (t7, w3)
  ) else (
    some (.inr 0)
  )
theorem bL_law_1490 {p : Program} {l : Launch} {e : Env} {s : State} {m : MethodId} {args : Array Value} {below : List Frame} {meth : Method} {c : Code} {H : Heap} {locs : List Loc} {ls : Array Slot} {G : gE} {w0 : WH} {o b L : Nat} {xs : Nat → Int32} {Q : Int32 → State → Prop} (B : lB G b L xs w0 p s m args meth c) (hE : lE l G w0 p e s m args below meth c Q) (hl0 : l.stackTraces = false) {v1 : Nat} {v3 : Nat} {v4 : Int32} {w : LW} {x : Sum (Int32 × LW) (Int32)} {r : Int32} (h : fL_law_b1490 L xs v1 v3 v4 w = some x)  (k23 : ∀ (v4' : Int32) (w' : LW), x = (.inl (v4', w')) → ∀ (H : Heap) (locs : List Loc) (ls : Array Slot), RepL G o w' H → Cu (gFr G) s w0 w'.2 H locs → lv_has ls 8 [(0, .ref b), (1, .ref v1), (2, .ref o), (3, .ref v3), (4, .int v4')] → W p l e room_1 s m args below meth c H locs (wC w0 - wC w'.2) (wS w0 - wS w'.2) (Q r) (F0 m 23 ls [])) (kR : ∀ q, x = (.inr q) → q = r) (hR : RepL G o w H) (hS : Cu (gFr G) s w0 w.2 H locs) (hl : lv_has ls 8 [(0, .ref b), (1, .ref v1), (2, .ref o), (3, .ref v3), (4, .int v4)]) : W p l e room_1 s m args below meth c H locs (wC w0 - wC w.2) (wS w0 - wS w.2) (Q r) (F0 m 1490 ls []) := by
  have B0 := B
  obtain ⟨⟨hx, hb, hml, hown, hts, hr, hlk, hK⟩, hX, hbl, hbA, hRc, hRs⟩ := B0
  unfold fL_law_b1490 at h
  refine lv_aload_n hx hb dL_law_1490 rfl (lv_at hl 1 rfl) ?_
  replace h := bo_o h
  obtain ⟨_, e4, h⟩ := h
  replace h := b2_o h
  obtain ⟨x1, w3, e2, h⟩ := h
  refine l_callV 0 (ci := 17) (As := []) (rest := []) (v := (some (.int x1))) (w' := w3) (st1 := [.int x1]) hx hb hml hown hts hK hR hS hRc hRs rfl e4 (mX1_busiest e2) (lw_V q1188 q1189 q1190 q112 q1191) (by decide +kernel) (Nat.le_of_ble_eq_true rfl) (Nat.le_of_ble_eq_true rfl) rfl hl.1 (Nat.le_of_ble_eq_true rfl) dL_law_1491 rfl rfl (fun H locs hR hS => ?_)
  refine lv_aload_n hx hb dL_law_1494 rfl (lv_at hl 2 rfl) ?_
  replace h := b2_o h
  obtain ⟨x5, t7, e6, h⟩ := h
  refine l_callT 0 (As := []) (rest := [.int x1]) (v := (some (.int x5))) (T' := t7) (st1 := [.int x5, .int x1]) hx hb hml hown hts hK hR hS hRc hRs (mX5_busiest e6) (lw_V q2817 q2818 q2819 q137 q2820) (by decide +kernel) (Nat.le_of_ble_eq_true rfl) (Nat.le_of_ble_eq_true rfl) rfl hl.1 (Nat.le_of_ble_eq_true rfl) dL_law_1495 rfl rfl (fun H locs hR hS => ?_)
  refine lv_icmp_eq (tgt := 3008) hx hb dL_law_1498 (by decide) (fun c8 => ?_) (fun c8 => ?_)
  · replace h := it_o c8 h
    exact bL_law_3008 (w := (t7, w3)) B hE hl0 h k23 kR hR hS (lv_sub hl [0, 1, 2, 3, 4] rfl)
  · replace h := if_o c8 h
    refine lv_iconst (v := 0) hx hb dL_law_1501 (by decide) ?_
    have eR := kR _ (Option.some.inj h).symm
    subst eR
    exact hE _ ls H locs w3 _ dL_law_1502 hS
noncomputable def fL_law_b1503 (L : Nat) (xs : Nat → Int32) (v1 : Nat) (v3 : Nat) (v4 : Int32) (w : LW) : Option (Sum (Int32 × LW) (Int32)) :=
  (hIs w.2 v1 17).bind fun _ =>
  b2_ (fX1_unused v1 w.2) fun x1 w3 =>
  b2_ (fX5_unused  w.1) fun x5 t7 =>
  if x1 = x5 then (
    fL_law_b3008 L xs v1 v3 v4 (t7, w3)
  ) else (
    some (.inr 0)
  )
theorem bL_law_1503 {p : Program} {l : Launch} {e : Env} {s : State} {m : MethodId} {args : Array Value} {below : List Frame} {meth : Method} {c : Code} {H : Heap} {locs : List Loc} {ls : Array Slot} {G : gE} {w0 : WH} {o b L : Nat} {xs : Nat → Int32} {Q : Int32 → State → Prop} (B : lB G b L xs w0 p s m args meth c) (hE : lE l G w0 p e s m args below meth c Q) (hl0 : l.stackTraces = false) {v1 : Nat} {v3 : Nat} {v4 : Int32} {w : LW} {x : Sum (Int32 × LW) (Int32)} {r : Int32} (h : fL_law_b1503 L xs v1 v3 v4 w = some x)  (k23 : ∀ (v4' : Int32) (w' : LW), x = (.inl (v4', w')) → ∀ (H : Heap) (locs : List Loc) (ls : Array Slot), RepL G o w' H → Cu (gFr G) s w0 w'.2 H locs → lv_has ls 8 [(0, .ref b), (1, .ref v1), (2, .ref o), (3, .ref v3), (4, .int v4')] → W p l e room_1 s m args below meth c H locs (wC w0 - wC w'.2) (wS w0 - wS w'.2) (Q r) (F0 m 23 ls [])) (kR : ∀ q, x = (.inr q) → q = r) (hR : RepL G o w H) (hS : Cu (gFr G) s w0 w.2 H locs) (hl : lv_has ls 8 [(0, .ref b), (1, .ref v1), (2, .ref o), (3, .ref v3), (4, .int v4)]) : W p l e room_1 s m args below meth c H locs (wC w0 - wC w.2) (wS w0 - wS w.2) (Q r) (F0 m 1503 ls []) := by
  have B0 := B
  obtain ⟨⟨hx, hb, hml, hown, hts, hr, hlk, hK⟩, hX, hbl, hbA, hRc, hRs⟩ := B0
  unfold fL_law_b1503 at h
  refine lv_aload_n hx hb dL_law_1503 rfl (lv_at hl 1 rfl) ?_
  replace h := bo_o h
  obtain ⟨_, e4, h⟩ := h
  replace h := b2_o h
  obtain ⟨x1, w3, e2, h⟩ := h
  refine l_callV 0 (ci := 17) (As := []) (rest := []) (v := (some (.int x1))) (w' := w3) (st1 := [.int x1]) hx hb hml hown hts hK hR hS hRc hRs rfl e4 (mX1_unused e2) (lw_V q1409 q1410 q1411 q112 q1412) (by decide +kernel) (Nat.le_of_ble_eq_true rfl) (Nat.le_of_ble_eq_true rfl) rfl hl.1 (Nat.le_of_ble_eq_true rfl) dL_law_1504 rfl rfl (fun H locs hR hS => ?_)
  refine lv_aload_n hx hb dL_law_1507 rfl (lv_at hl 2 rfl) ?_
  replace h := b2_o h
  obtain ⟨x5, t7, e6, h⟩ := h
  refine l_callT 0 (As := []) (rest := [.int x1]) (v := (some (.int x5))) (T' := t7) (st1 := [.int x5, .int x1]) hx hb hml hown hts hK hR hS hRc hRs (mX5_unused e6) (lw_V q2821 q2822 q2823 q137 q2824) (by decide +kernel) (Nat.le_of_ble_eq_true rfl) (Nat.le_of_ble_eq_true rfl) rfl hl.1 (Nat.le_of_ble_eq_true rfl) dL_law_1508 rfl rfl (fun H locs hR hS => ?_)
  refine lv_icmp_eq (tgt := 3008) hx hb dL_law_1511 (by decide) (fun c8 => ?_) (fun c8 => ?_)
  · replace h := it_o c8 h
    exact bL_law_3008 (w := (t7, w3)) B hE hl0 h k23 kR hR hS (lv_sub hl [0, 1, 2, 3, 4] rfl)
  · replace h := if_o c8 h
    refine lv_iconst (v := 0) hx hb dL_law_1514 (by decide) ?_
    have eR := kR _ (Option.some.inj h).symm
    subst eR
    exact hE _ ls H locs w3 _ dL_law_1515 hS
noncomputable def fL_law_b1568 (L : Nat) (xs : Nat → Int32) (v1 : Nat) (v3 : Nat) (v4 : Int32) (w : LW) : Option (Sum (Int32 × LW) (Int32)) :=
  fL_law_b3008 L xs v1 v3 v4 w
theorem bL_law_1568 {p : Program} {l : Launch} {e : Env} {s : State} {m : MethodId} {args : Array Value} {below : List Frame} {meth : Method} {c : Code} {H : Heap} {locs : List Loc} {ls : Array Slot} {G : gE} {w0 : WH} {o b L : Nat} {xs : Nat → Int32} {Q : Int32 → State → Prop} (B : lB G b L xs w0 p s m args meth c) (hE : lE l G w0 p e s m args below meth c Q) (hl0 : l.stackTraces = false) {v1 : Nat} {v3 : Nat} {v4 : Int32} {w : LW} {x : Sum (Int32 × LW) (Int32)} {r : Int32} (h : fL_law_b1568 L xs v1 v3 v4 w = some x)  (k23 : ∀ (v4' : Int32) (w' : LW), x = (.inl (v4', w')) → ∀ (H : Heap) (locs : List Loc) (ls : Array Slot), RepL G o w' H → Cu (gFr G) s w0 w'.2 H locs → lv_has ls 8 [(0, .ref b), (1, .ref v1), (2, .ref o), (3, .ref v3), (4, .int v4')] → W p l e room_1 s m args below meth c H locs (wC w0 - wC w'.2) (wS w0 - wS w'.2) (Q r) (F0 m 23 ls [])) (kR : ∀ q, x = (.inr q) → q = r) (hR : RepL G o w H) (hS : Cu (gFr G) s w0 w.2 H locs) (hl : lv_has ls 8 [(0, .ref b), (1, .ref v1), (2, .ref o), (3, .ref v3), (4, .int v4)]) : W p l e room_1 s m args below meth c H locs (wC w0 - wC w.2) (wS w0 - wS w.2) (Q r) (F0 m 1568 ls []) := by
  have B0 := B
  obtain ⟨⟨hx, hb, hml, hown, hts, hr, hlk, hK⟩, hX, hbl, hbA, hRc, hRs⟩ := B0
  unfold fL_law_b1568 at h
  refine lv_goto (tgt := 3008) hx hb dL_law_1568 (by decide) ?_
  exact bL_law_3008 (w := w) B hE hl0 h k23 kR hR hS (lv_sub hl [0, 1, 2, 3, 4] rfl)
noncomputable def fL_law_b1516 (L : Nat) (xs : Nat → Int32) (v1 : Nat) (v3 : Nat) (v4 : Int32) (w : LW) : Option (Sum (Int32 × LW) (Int32)) :=
  (sld L xs (v4 + 1)).bind fun x1 =>
  b2_ (fX0_ties v1 x1 v3 w.2) fun x3 w5 =>
  (sld L xs (v4 + 1)).bind fun x6 =>
  b2_ (fX5_ties x6 w.1) fun x8 t10 =>
  b2_ (fX5_thrown  t10) fun x11 t13 =>
  if x11 = x3 then (
    if x3 = 0 then (
      (ldJ w5 v3 0).bind fun x16 =>
      if lg_cmp x16 x8 = 0 then (
        fL_law_b1568 L xs v1 v3 v4 (t13, w5)
      ) else (
        some (.inr 0)
      )
    ) else (
      fL_law_b1568 L xs v1 v3 v4 (t13, w5)
    )
  ) else (
    some (.inr 0)
  )
theorem bL_law_1516 {p : Program} {l : Launch} {e : Env} {s : State} {m : MethodId} {args : Array Value} {below : List Frame} {meth : Method} {c : Code} {H : Heap} {locs : List Loc} {ls : Array Slot} {G : gE} {w0 : WH} {o b L : Nat} {xs : Nat → Int32} {Q : Int32 → State → Prop} (B : lB G b L xs w0 p s m args meth c) (hE : lE l G w0 p e s m args below meth c Q) (hl0 : l.stackTraces = false) {v1 : Nat} {v3 : Nat} {v4 : Int32} {w : LW} {x : Sum (Int32 × LW) (Int32)} {r : Int32} (h : fL_law_b1516 L xs v1 v3 v4 w = some x)  (k23 : ∀ (v4' : Int32) (w' : LW), x = (.inl (v4', w')) → ∀ (H : Heap) (locs : List Loc) (ls : Array Slot), RepL G o w' H → Cu (gFr G) s w0 w'.2 H locs → lv_has ls 8 [(0, .ref b), (1, .ref v1), (2, .ref o), (3, .ref v3), (4, .int v4')] → W p l e room_1 s m args below meth c H locs (wC w0 - wC w'.2) (wS w0 - wS w'.2) (Q r) (F0 m 23 ls [])) (kR : ∀ q, x = (.inr q) → q = r) (hR : RepL G o w H) (hS : Cu (gFr G) s w0 w.2 H locs) (hl : lv_has ls 8 [(0, .ref b), (1, .ref v1), (2, .ref o), (3, .ref v3), (4, .int v4)]) : W p l e room_1 s m args below meth c H locs (wC w0 - wC w.2) (wS w0 - wS w.2) (Q r) (F0 m 1516 ls []) := by
  have B0 := B
  obtain ⟨⟨hx, hb, hml, hown, hts, hr, hlk, hK⟩, hX, hbl, hbA, hRc, hRs⟩ := B0
  unfold fL_law_b1516 at h
  refine lv_aload_n hx hb dL_law_1516 rfl (lv_at hl 1 rfl) ?_
  refine lv_aload_n hx hb dL_law_1517 rfl (lv_at hl 0 rfl) ?_
  refine lv_iload hx hb dL_law_1518 (lv_at hl 4 rfl) ?_
  refine lv_iconst (v := 1) hx hb dL_law_1520 (by decide) ?_
  refine lv_iadd hx hb dL_law_1521 ?_
  replace h := bo_o h
  obtain ⟨x1, e2, h⟩ := h
  refine l_sld (w := w) hx hb hX hbl hbA hS e2 dL_law_1522 ?_
  refine lv_aload_n hx hb dL_law_1523 rfl (lv_at hl 3 rfl) ?_
  replace h := b2_o h
  obtain ⟨x3, w5, e4, h⟩ := h
  refine l_callSW 3 (As := [.ref v1, .int x1, .ref v3]) (rest := []) (v := (some (.int x3))) (w' := w5) (st1 := [.int x3]) hx hb hml hown hts hK hR hS hRc hRs (mX0_ties hl0 e4) (lw_SW q2133 q2134 q111 q2135) (by decide +kernel) (Nat.le_of_ble_eq_true rfl) (Nat.le_of_ble_eq_true rfl) rfl hl.1 (Nat.le_of_ble_eq_true rfl) dL_law_1524 rfl rfl (fun H locs hR hS => ?_)
  refine lv_istore (lv' := [(5, .int x3), (0, .ref b), (1, .ref v1), (2, .ref o), (3, .ref v3), (4, .int v4)]) hx hb dL_law_1527 hl (by decide) rfl (fun ls hl => ?_)
  refine lv_aload_n hx hb dL_law_1529 rfl (lv_at hl 3 rfl) ?_
  refine lv_aload_n hx hb dL_law_1530 rfl (lv_at hl 1 rfl) ?_
  refine lv_iload hx hb dL_law_1531 (lv_at hl 5 rfl) ?_
  refine lv_iconst (v := 1) hx hb dL_law_1533 (by decide) ?_
  refine lv_iadd hx hb dL_law_1534 ?_
  replace h := bo_o h
  obtain ⟨x6, e7, h⟩ := h
  refine l_sld (w := (w.1, w5)) hx hb hX hbl hbA hS e7 dL_law_1535 ?_
  replace h := b2_o h
  obtain ⟨x8, t10, e9, h⟩ := h
  refine l_callT 1 (As := [.int x6]) (rest := []) (v := (some (.long x8))) (T' := t10) (st1 := [.long x8]) hx hb hml hown hts hK hR hS hRc hRs (mX5_ties e9) (lw_V q2825 q2826 q2827 q137 q2828) (by decide +kernel) (Nat.le_of_ble_eq_true rfl) (Nat.le_of_ble_eq_true rfl) rfl hl.1 (Nat.le_of_ble_eq_true rfl) dL_law_1536 rfl rfl (fun H locs hR hS => ?_)
  refine lv_lstore (lv' := [(6, .long x8), (5, .int x3), (0, .ref b), (1, .ref v1), (2, .ref o), (3, .ref v3), (4, .int v4)]) hx hb dL_law_1539 hl (by decide) rfl (fun ls hl => ?_)
  refine lv_aload_n hx hb dL_law_1541 rfl (lv_at hl 4 rfl) ?_
  replace h := b2_o h
  obtain ⟨x11, t13, e12, h⟩ := h
  refine l_callT 0 (As := []) (rest := []) (v := (some (.int x11))) (T' := t13) (st1 := [.int x11]) hx hb hml hown hts hK hR hS hRc hRs (mX5_thrown e12) (lw_V q2534 q2535 q2536 q137 q2537) (by decide +kernel) (Nat.le_of_ble_eq_true rfl) (Nat.le_of_ble_eq_true rfl) rfl hl.1 (Nat.le_of_ble_eq_true rfl) dL_law_1542 rfl rfl (fun H locs hR hS => ?_)
  refine lv_iload hx hb dL_law_1545 (lv_at hl 1 rfl) ?_
  refine lv_icmp_eq (tgt := 1552) hx hb dL_law_1547 (by decide) (fun c14 => ?_) (fun c14 => ?_)
  · replace h := it_o c14 h
    refine lv_iload hx hb dL_law_1552 (lv_at hl 1 rfl) ?_
    refine lv_if_ne (tgt := 1568) hx hb dL_law_1554 (by decide) (fun c15 => ?_) (fun c15 => ?_)
    · replace h := if_o c15 h
      exact bL_law_1568 (w := (t13, w5)) B hE hl0 h k23 kR hR hS (lv_sub hl [2, 3, 4, 5, 6] rfl)
    · replace h := it_o c15 h
      refine lv_aload_n hx hb dL_law_1557 rfl (lv_at hl 5 rfl) ?_
      refine lv_iconst (v := 0) hx hb dL_law_1558 (by decide) ?_
      replace h := bo_o h
      obtain ⟨x16, e17, h⟩ := h
      refine h_lald hx hb hK hR.2.weak e17 dL_law_1559 ?_
      refine lv_lload hx hb dL_law_1560 (lv_at hl 0 rfl) ?_
      refine W.lcmp hx hb dL_law_1562 ?_
      refine lv_if_eq (tgt := 1568) hx hb dL_law_1563 (by decide) (fun c18 => ?_) (fun c18 => ?_)
      · replace h := it_o c18 h
        exact bL_law_1568 (w := (t13, w5)) B hE hl0 h k23 kR hR hS (lv_sub hl [2, 3, 4, 5, 6] rfl)
      · replace h := if_o c18 h
        refine lv_iconst (v := 0) hx hb dL_law_1566 (by decide) ?_
        have eR := kR _ (Option.some.inj h).symm
        subst eR
        exact hE _ ls H locs w5 _ dL_law_1567 hS
  · replace h := if_o c14 h
    refine lv_iconst (v := 0) hx hb dL_law_1550 (by decide) ?_
    have eR := kR _ (Option.some.inj h).symm
    subst eR
    exact hE _ ls H locs w5 _ dL_law_1551 hS
noncomputable def fL_law_b1624 (L : Nat) (xs : Nat → Int32) (v1 : Nat) (v3 : Nat) (v4 : Int32) (w : LW) : Option (Sum (Int32 × LW) (Int32)) :=
  fL_law_b3008 L xs v1 v3 v4 w
theorem bL_law_1624 {p : Program} {l : Launch} {e : Env} {s : State} {m : MethodId} {args : Array Value} {below : List Frame} {meth : Method} {c : Code} {H : Heap} {locs : List Loc} {ls : Array Slot} {G : gE} {w0 : WH} {o b L : Nat} {xs : Nat → Int32} {Q : Int32 → State → Prop} (B : lB G b L xs w0 p s m args meth c) (hE : lE l G w0 p e s m args below meth c Q) (hl0 : l.stackTraces = false) {v1 : Nat} {v3 : Nat} {v4 : Int32} {w : LW} {x : Sum (Int32 × LW) (Int32)} {r : Int32} (h : fL_law_b1624 L xs v1 v3 v4 w = some x)  (k23 : ∀ (v4' : Int32) (w' : LW), x = (.inl (v4', w')) → ∀ (H : Heap) (locs : List Loc) (ls : Array Slot), RepL G o w' H → Cu (gFr G) s w0 w'.2 H locs → lv_has ls 8 [(0, .ref b), (1, .ref v1), (2, .ref o), (3, .ref v3), (4, .int v4')] → W p l e room_1 s m args below meth c H locs (wC w0 - wC w'.2) (wS w0 - wS w'.2) (Q r) (F0 m 23 ls [])) (kR : ∀ q, x = (.inr q) → q = r) (hR : RepL G o w H) (hS : Cu (gFr G) s w0 w.2 H locs) (hl : lv_has ls 8 [(0, .ref b), (1, .ref v1), (2, .ref o), (3, .ref v3), (4, .int v4)]) : W p l e room_1 s m args below meth c H locs (wC w0 - wC w.2) (wS w0 - wS w.2) (Q r) (F0 m 1624 ls []) := by
  have B0 := B
  obtain ⟨⟨hx, hb, hml, hown, hts, hr, hlk, hK⟩, hX, hbl, hbA, hRc, hRs⟩ := B0
  unfold fL_law_b1624 at h
  refine lv_goto (tgt := 3008) hx hb dL_law_1624 (by decide) ?_
  exact bL_law_3008 (w := w) B hE hl0 h k23 kR hR hS (lv_sub hl [0, 1, 2, 3, 4] rfl)
noncomputable def fL_law_b1571 (L : Nat) (xs : Nat → Int32) (v1 : Nat) (v3 : Nat) (v4 : Int32) (w : LW) : Option (Sum (Int32 × LW) (Int32)) :=
  (sld L xs (v4 + 1)).bind fun x1 =>
  b2_ (fX0_tieSpan v1 x1 v3 w.2) fun x3 w5 =>
  (sld L xs (v4 + 1)).bind fun x6 =>
  b2_ (fX5_tieSpan x6 w.1) fun x8 t10 =>
  b2_ (fX5_thrown  t10) fun x11 t13 =>
  if x11 = x3 then (
    if x3 = 0 then (
      (ldJ w5 v3 0).bind fun x16 =>
      if lg_cmp x16 (x8.toInt64) = 0 then (
        fL_law_b1624 L xs v1 v3 v4 (t13, w5)
      ) else (
        some (.inr 0)
      )
    ) else (
      fL_law_b1624 L xs v1 v3 v4 (t13, w5)
    )
  ) else (
    some (.inr 0)
  )
theorem bL_law_1571 {p : Program} {l : Launch} {e : Env} {s : State} {m : MethodId} {args : Array Value} {below : List Frame} {meth : Method} {c : Code} {H : Heap} {locs : List Loc} {ls : Array Slot} {G : gE} {w0 : WH} {o b L : Nat} {xs : Nat → Int32} {Q : Int32 → State → Prop} (B : lB G b L xs w0 p s m args meth c) (hE : lE l G w0 p e s m args below meth c Q) (hl0 : l.stackTraces = false) {v1 : Nat} {v3 : Nat} {v4 : Int32} {w : LW} {x : Sum (Int32 × LW) (Int32)} {r : Int32} (h : fL_law_b1571 L xs v1 v3 v4 w = some x)  (k23 : ∀ (v4' : Int32) (w' : LW), x = (.inl (v4', w')) → ∀ (H : Heap) (locs : List Loc) (ls : Array Slot), RepL G o w' H → Cu (gFr G) s w0 w'.2 H locs → lv_has ls 8 [(0, .ref b), (1, .ref v1), (2, .ref o), (3, .ref v3), (4, .int v4')] → W p l e room_1 s m args below meth c H locs (wC w0 - wC w'.2) (wS w0 - wS w'.2) (Q r) (F0 m 23 ls [])) (kR : ∀ q, x = (.inr q) → q = r) (hR : RepL G o w H) (hS : Cu (gFr G) s w0 w.2 H locs) (hl : lv_has ls 8 [(0, .ref b), (1, .ref v1), (2, .ref o), (3, .ref v3), (4, .int v4)]) : W p l e room_1 s m args below meth c H locs (wC w0 - wC w.2) (wS w0 - wS w.2) (Q r) (F0 m 1571 ls []) := by
  have B0 := B
  obtain ⟨⟨hx, hb, hml, hown, hts, hr, hlk, hK⟩, hX, hbl, hbA, hRc, hRs⟩ := B0
  unfold fL_law_b1571 at h
  refine lv_aload_n hx hb dL_law_1571 rfl (lv_at hl 1 rfl) ?_
  refine lv_aload_n hx hb dL_law_1572 rfl (lv_at hl 0 rfl) ?_
  refine lv_iload hx hb dL_law_1573 (lv_at hl 4 rfl) ?_
  refine lv_iconst (v := 1) hx hb dL_law_1575 (by decide) ?_
  refine lv_iadd hx hb dL_law_1576 ?_
  replace h := bo_o h
  obtain ⟨x1, e2, h⟩ := h
  refine l_sld (w := w) hx hb hX hbl hbA hS e2 dL_law_1577 ?_
  refine lv_aload_n hx hb dL_law_1578 rfl (lv_at hl 3 rfl) ?_
  replace h := b2_o h
  obtain ⟨x3, w5, e4, h⟩ := h
  refine l_callSW 3 (As := [.ref v1, .int x1, .ref v3]) (rest := []) (v := (some (.int x3))) (w' := w5) (st1 := [.int x3]) hx hb hml hown hts hK hR hS hRc hRs (mX0_tieSpan hl0 e4) (lw_SW q2153 q2154 q111 q2155) (by decide +kernel) (Nat.le_of_ble_eq_true rfl) (Nat.le_of_ble_eq_true rfl) rfl hl.1 (Nat.le_of_ble_eq_true rfl) dL_law_1579 rfl rfl (fun H locs hR hS => ?_)
  refine lv_istore (lv' := [(5, .int x3), (0, .ref b), (1, .ref v1), (2, .ref o), (3, .ref v3), (4, .int v4)]) hx hb dL_law_1582 hl (by decide) rfl (fun ls hl => ?_)
  refine lv_aload_n hx hb dL_law_1584 rfl (lv_at hl 3 rfl) ?_
  refine lv_aload_n hx hb dL_law_1585 rfl (lv_at hl 1 rfl) ?_
  refine lv_iload hx hb dL_law_1586 (lv_at hl 5 rfl) ?_
  refine lv_iconst (v := 1) hx hb dL_law_1588 (by decide) ?_
  refine lv_iadd hx hb dL_law_1589 ?_
  replace h := bo_o h
  obtain ⟨x6, e7, h⟩ := h
  refine l_sld (w := (w.1, w5)) hx hb hX hbl hbA hS e7 dL_law_1590 ?_
  replace h := b2_o h
  obtain ⟨x8, t10, e9, h⟩ := h
  refine l_callT 1 (As := [.int x6]) (rest := []) (v := (some (.int x8))) (T' := t10) (st1 := [.int x8]) hx hb hml hown hts hK hR hS hRc hRs (mX5_tieSpan e9) (lw_V q2848 q2849 q2850 q137 q2851) (by decide +kernel) (Nat.le_of_ble_eq_true rfl) (Nat.le_of_ble_eq_true rfl) rfl hl.1 (Nat.le_of_ble_eq_true rfl) dL_law_1591 rfl rfl (fun H locs hR hS => ?_)
  refine lv_istore (lv' := [(6, .int x8), (5, .int x3), (0, .ref b), (1, .ref v1), (2, .ref o), (3, .ref v3), (4, .int v4)]) hx hb dL_law_1594 hl (by decide) rfl (fun ls hl => ?_)
  refine lv_aload_n hx hb dL_law_1596 rfl (lv_at hl 4 rfl) ?_
  replace h := b2_o h
  obtain ⟨x11, t13, e12, h⟩ := h
  refine l_callT 0 (As := []) (rest := []) (v := (some (.int x11))) (T' := t13) (st1 := [.int x11]) hx hb hml hown hts hK hR hS hRc hRs (mX5_thrown e12) (lw_V q2534 q2535 q2536 q137 q2537) (by decide +kernel) (Nat.le_of_ble_eq_true rfl) (Nat.le_of_ble_eq_true rfl) rfl hl.1 (Nat.le_of_ble_eq_true rfl) dL_law_1597 rfl rfl (fun H locs hR hS => ?_)
  refine lv_iload hx hb dL_law_1600 (lv_at hl 1 rfl) ?_
  refine lv_icmp_eq (tgt := 1607) hx hb dL_law_1602 (by decide) (fun c14 => ?_) (fun c14 => ?_)
  · replace h := it_o c14 h
    refine lv_iload hx hb dL_law_1607 (lv_at hl 1 rfl) ?_
    refine lv_if_ne (tgt := 1624) hx hb dL_law_1609 (by decide) (fun c15 => ?_) (fun c15 => ?_)
    · replace h := if_o c15 h
      exact bL_law_1624 (w := (t13, w5)) B hE hl0 h k23 kR hR hS (lv_sub hl [2, 3, 4, 5, 6] rfl)
    · replace h := it_o c15 h
      refine lv_aload_n hx hb dL_law_1612 rfl (lv_at hl 5 rfl) ?_
      refine lv_iconst (v := 0) hx hb dL_law_1613 (by decide) ?_
      replace h := bo_o h
      obtain ⟨x16, e17, h⟩ := h
      refine h_lald hx hb hK hR.2.weak e17 dL_law_1614 ?_
      refine lv_iload hx hb dL_law_1615 (lv_at hl 0 rfl) ?_
      refine lv_i2l hx hb dL_law_1617 rfl ?_
      refine W.lcmp hx hb dL_law_1618 ?_
      refine lv_if_eq (tgt := 1624) hx hb dL_law_1619 (by decide) (fun c18 => ?_) (fun c18 => ?_)
      · replace h := it_o c18 h
        exact bL_law_1624 (w := (t13, w5)) B hE hl0 h k23 kR hR hS (lv_sub hl [2, 3, 4, 5, 6] rfl)
      · replace h := if_o c18 h
        refine lv_iconst (v := 0) hx hb dL_law_1622 (by decide) ?_
        have eR := kR _ (Option.some.inj h).symm
        subst eR
        exact hE _ ls H locs w5 _ dL_law_1623 hS
  · replace h := if_o c14 h
    refine lv_iconst (v := 0) hx hb dL_law_1605 (by decide) ?_
    have eR := kR _ (Option.some.inj h).symm
    subst eR
    exact hE _ ls H locs w5 _ dL_law_1606 hS
noncomputable def fL_law_b1627 (L : Nat) (xs : Nat → Int32) (v1 : Nat) (v3 : Nat) (v4 : Int32) (w : LW) : Option (Sum (Int32 × LW) (Int32)) :=
  (hIs w.2 v1 17).bind fun _ =>
  b2_ (fX1_revenue v1 w.2) fun x1 w3 =>
  b2_ (fX5_revenue  w.1) fun x5 t7 =>
  if lg_cmp x1 x5 = 0 then (
    fL_law_b3008 L xs v1 v3 v4 (t7, w3)
  ) else (
    some (.inr 0)
  )
theorem bL_law_1627 {p : Program} {l : Launch} {e : Env} {s : State} {m : MethodId} {args : Array Value} {below : List Frame} {meth : Method} {c : Code} {H : Heap} {locs : List Loc} {ls : Array Slot} {G : gE} {w0 : WH} {o b L : Nat} {xs : Nat → Int32} {Q : Int32 → State → Prop} (B : lB G b L xs w0 p s m args meth c) (hE : lE l G w0 p e s m args below meth c Q) (hl0 : l.stackTraces = false) {v1 : Nat} {v3 : Nat} {v4 : Int32} {w : LW} {x : Sum (Int32 × LW) (Int32)} {r : Int32} (h : fL_law_b1627 L xs v1 v3 v4 w = some x)  (k23 : ∀ (v4' : Int32) (w' : LW), x = (.inl (v4', w')) → ∀ (H : Heap) (locs : List Loc) (ls : Array Slot), RepL G o w' H → Cu (gFr G) s w0 w'.2 H locs → lv_has ls 8 [(0, .ref b), (1, .ref v1), (2, .ref o), (3, .ref v3), (4, .int v4')] → W p l e room_1 s m args below meth c H locs (wC w0 - wC w'.2) (wS w0 - wS w'.2) (Q r) (F0 m 23 ls [])) (kR : ∀ q, x = (.inr q) → q = r) (hR : RepL G o w H) (hS : Cu (gFr G) s w0 w.2 H locs) (hl : lv_has ls 8 [(0, .ref b), (1, .ref v1), (2, .ref o), (3, .ref v3), (4, .int v4)]) : W p l e room_1 s m args below meth c H locs (wC w0 - wC w.2) (wS w0 - wS w.2) (Q r) (F0 m 1627 ls []) := by
  have B0 := B
  obtain ⟨⟨hx, hb, hml, hown, hts, hr, hlk, hK⟩, hX, hbl, hbA, hRc, hRs⟩ := B0
  unfold fL_law_b1627 at h
  refine lv_aload_n hx hb dL_law_1627 rfl (lv_at hl 1 rfl) ?_
  replace h := bo_o h
  obtain ⟨_, e4, h⟩ := h
  replace h := b2_o h
  obtain ⟨x1, w3, e2, h⟩ := h
  refine l_callV 0 (ci := 17) (As := []) (rest := []) (v := (some (.long x1))) (w' := w3) (st1 := [.long x1]) hx hb hml hown hts hK hR hS hRc hRs rfl e4 (mX1_revenue e2) (lw_V q1723 q1724 q1725 q112 q1726) (by decide +kernel) (Nat.le_of_ble_eq_true rfl) (Nat.le_of_ble_eq_true rfl) rfl hl.1 (Nat.le_of_ble_eq_true rfl) dL_law_1628 rfl rfl (fun H locs hR hS => ?_)
  refine lv_aload_n hx hb dL_law_1631 rfl (lv_at hl 2 rfl) ?_
  replace h := b2_o h
  obtain ⟨x5, t7, e6, h⟩ := h
  refine l_callT 0 (As := []) (rest := [.long x1]) (v := (some (.long x5))) (T' := t7) (st1 := [.long x5, .long x1]) hx hb hml hown hts hK hR hS hRc hRs (mX5_revenue e6) (lw_V q2852 q2853 q2854 q137 q2855) (by decide +kernel) (Nat.le_of_ble_eq_true rfl) (Nat.le_of_ble_eq_true rfl) rfl hl.1 (Nat.le_of_ble_eq_true rfl) dL_law_1632 rfl rfl (fun H locs hR hS => ?_)
  refine W.lcmp hx hb dL_law_1635 ?_
  refine lv_if_eq (tgt := 3008) hx hb dL_law_1636 (by decide) (fun c8 => ?_) (fun c8 => ?_)
  · replace h := it_o c8 h
    exact bL_law_3008 (w := (t7, w3)) B hE hl0 h k23 kR hR hS (lv_sub hl [0, 1, 2, 3, 4] rfl)
  · replace h := if_o c8 h
    refine lv_iconst (v := 0) hx hb dL_law_1639 (by decide) ?_
    have eR := kR _ (Option.some.inj h).symm
    subst eR
    exact hE _ ls H locs w3 _ dL_law_1640 hS
noncomputable def fL_law_b1693 (L : Nat) (xs : Nat → Int32) (v1 : Nat) (v3 : Nat) (v4 : Int32) (w : LW) : Option (Sum (Int32 × LW) (Int32)) :=
  fL_law_b3008 L xs v1 v3 v4 w
theorem bL_law_1693 {p : Program} {l : Launch} {e : Env} {s : State} {m : MethodId} {args : Array Value} {below : List Frame} {meth : Method} {c : Code} {H : Heap} {locs : List Loc} {ls : Array Slot} {G : gE} {w0 : WH} {o b L : Nat} {xs : Nat → Int32} {Q : Int32 → State → Prop} (B : lB G b L xs w0 p s m args meth c) (hE : lE l G w0 p e s m args below meth c Q) (hl0 : l.stackTraces = false) {v1 : Nat} {v3 : Nat} {v4 : Int32} {w : LW} {x : Sum (Int32 × LW) (Int32)} {r : Int32} (h : fL_law_b1693 L xs v1 v3 v4 w = some x)  (k23 : ∀ (v4' : Int32) (w' : LW), x = (.inl (v4', w')) → ∀ (H : Heap) (locs : List Loc) (ls : Array Slot), RepL G o w' H → Cu (gFr G) s w0 w'.2 H locs → lv_has ls 8 [(0, .ref b), (1, .ref v1), (2, .ref o), (3, .ref v3), (4, .int v4')] → W p l e room_1 s m args below meth c H locs (wC w0 - wC w'.2) (wS w0 - wS w'.2) (Q r) (F0 m 23 ls [])) (kR : ∀ q, x = (.inr q) → q = r) (hR : RepL G o w H) (hS : Cu (gFr G) s w0 w.2 H locs) (hl : lv_has ls 8 [(0, .ref b), (1, .ref v1), (2, .ref o), (3, .ref v3), (4, .int v4)]) : W p l e room_1 s m args below meth c H locs (wC w0 - wC w.2) (wS w0 - wS w.2) (Q r) (F0 m 1693 ls []) := by
  have B0 := B
  obtain ⟨⟨hx, hb, hml, hown, hts, hr, hlk, hK⟩, hX, hbl, hbA, hRc, hRs⟩ := B0
  unfold fL_law_b1693 at h
  refine lv_goto (tgt := 3008) hx hb dL_law_1693 (by decide) ?_
  exact bL_law_3008 (w := w) B hE hl0 h k23 kR hR hS (lv_sub hl [0, 1, 2, 3, 4] rfl)
noncomputable def fL_law_b1641 (L : Nat) (xs : Nat → Int32) (v1 : Nat) (v3 : Nat) (v4 : Int32) (w : LW) : Option (Sum (Int32 × LW) (Int32)) :=
  (sld L xs (v4 + 1)).bind fun x1 =>
  b2_ (fX0_revenueOf v1 x1 v3 w.2) fun x3 w5 =>
  (sld L xs (v4 + 1)).bind fun x6 =>
  b2_ (fX5_revenueOf x6 w.1) fun x8 t10 =>
  b2_ (fX5_thrown  t10) fun x11 t13 =>
  if x11 = x3 then (
    if x3 = 0 then (
      (ldJ w5 v3 0).bind fun x16 =>
      if lg_cmp x16 x8 = 0 then (
        fL_law_b1693 L xs v1 v3 v4 (t13, w5)
      ) else (
        some (.inr 0)
      )
    ) else (
      fL_law_b1693 L xs v1 v3 v4 (t13, w5)
    )
  ) else (
    some (.inr 0)
  )
theorem bL_law_1641 {p : Program} {l : Launch} {e : Env} {s : State} {m : MethodId} {args : Array Value} {below : List Frame} {meth : Method} {c : Code} {H : Heap} {locs : List Loc} {ls : Array Slot} {G : gE} {w0 : WH} {o b L : Nat} {xs : Nat → Int32} {Q : Int32 → State → Prop} (B : lB G b L xs w0 p s m args meth c) (hE : lE l G w0 p e s m args below meth c Q) (hl0 : l.stackTraces = false) {v1 : Nat} {v3 : Nat} {v4 : Int32} {w : LW} {x : Sum (Int32 × LW) (Int32)} {r : Int32} (h : fL_law_b1641 L xs v1 v3 v4 w = some x)  (k23 : ∀ (v4' : Int32) (w' : LW), x = (.inl (v4', w')) → ∀ (H : Heap) (locs : List Loc) (ls : Array Slot), RepL G o w' H → Cu (gFr G) s w0 w'.2 H locs → lv_has ls 8 [(0, .ref b), (1, .ref v1), (2, .ref o), (3, .ref v3), (4, .int v4')] → W p l e room_1 s m args below meth c H locs (wC w0 - wC w'.2) (wS w0 - wS w'.2) (Q r) (F0 m 23 ls [])) (kR : ∀ q, x = (.inr q) → q = r) (hR : RepL G o w H) (hS : Cu (gFr G) s w0 w.2 H locs) (hl : lv_has ls 8 [(0, .ref b), (1, .ref v1), (2, .ref o), (3, .ref v3), (4, .int v4)]) : W p l e room_1 s m args below meth c H locs (wC w0 - wC w.2) (wS w0 - wS w.2) (Q r) (F0 m 1641 ls []) := by
  have B0 := B
  obtain ⟨⟨hx, hb, hml, hown, hts, hr, hlk, hK⟩, hX, hbl, hbA, hRc, hRs⟩ := B0
  unfold fL_law_b1641 at h
  refine lv_aload_n hx hb dL_law_1641 rfl (lv_at hl 1 rfl) ?_
  refine lv_aload_n hx hb dL_law_1642 rfl (lv_at hl 0 rfl) ?_
  refine lv_iload hx hb dL_law_1643 (lv_at hl 4 rfl) ?_
  refine lv_iconst (v := 1) hx hb dL_law_1645 (by decide) ?_
  refine lv_iadd hx hb dL_law_1646 ?_
  replace h := bo_o h
  obtain ⟨x1, e2, h⟩ := h
  refine l_sld (w := w) hx hb hX hbl hbA hS e2 dL_law_1647 ?_
  refine lv_aload_n hx hb dL_law_1648 rfl (lv_at hl 3 rfl) ?_
  replace h := b2_o h
  obtain ⟨x3, w5, e4, h⟩ := h
  refine l_callSW 3 (As := [.ref v1, .int x1, .ref v3]) (rest := []) (v := (some (.int x3))) (w' := w5) (st1 := [.int x3]) hx hb hml hown hts hK hR hS hRc hRs (mX0_revenueOf hl0 e4) (lw_SW q2164 q2165 q111 q2166) (by decide +kernel) (Nat.le_of_ble_eq_true rfl) (Nat.le_of_ble_eq_true rfl) rfl hl.1 (Nat.le_of_ble_eq_true rfl) dL_law_1649 rfl rfl (fun H locs hR hS => ?_)
  refine lv_istore (lv' := [(5, .int x3), (0, .ref b), (1, .ref v1), (2, .ref o), (3, .ref v3), (4, .int v4)]) hx hb dL_law_1652 hl (by decide) rfl (fun ls hl => ?_)
  refine lv_aload_n hx hb dL_law_1654 rfl (lv_at hl 3 rfl) ?_
  refine lv_aload_n hx hb dL_law_1655 rfl (lv_at hl 1 rfl) ?_
  refine lv_iload hx hb dL_law_1656 (lv_at hl 5 rfl) ?_
  refine lv_iconst (v := 1) hx hb dL_law_1658 (by decide) ?_
  refine lv_iadd hx hb dL_law_1659 ?_
  replace h := bo_o h
  obtain ⟨x6, e7, h⟩ := h
  refine l_sld (w := (w.1, w5)) hx hb hX hbl hbA hS e7 dL_law_1660 ?_
  replace h := b2_o h
  obtain ⟨x8, t10, e9, h⟩ := h
  refine l_callT 1 (As := [.int x6]) (rest := []) (v := (some (.long x8))) (T' := t10) (st1 := [.long x8]) hx hb hml hown hts hK hR hS hRc hRs (mX5_revenueOf e9) (lw_V q2864 q2865 q2866 q137 q2867) (by decide +kernel) (Nat.le_of_ble_eq_true rfl) (Nat.le_of_ble_eq_true rfl) rfl hl.1 (Nat.le_of_ble_eq_true rfl) dL_law_1661 rfl rfl (fun H locs hR hS => ?_)
  refine lv_lstore (lv' := [(6, .long x8), (5, .int x3), (0, .ref b), (1, .ref v1), (2, .ref o), (3, .ref v3), (4, .int v4)]) hx hb dL_law_1664 hl (by decide) rfl (fun ls hl => ?_)
  refine lv_aload_n hx hb dL_law_1666 rfl (lv_at hl 4 rfl) ?_
  replace h := b2_o h
  obtain ⟨x11, t13, e12, h⟩ := h
  refine l_callT 0 (As := []) (rest := []) (v := (some (.int x11))) (T' := t13) (st1 := [.int x11]) hx hb hml hown hts hK hR hS hRc hRs (mX5_thrown e12) (lw_V q2534 q2535 q2536 q137 q2537) (by decide +kernel) (Nat.le_of_ble_eq_true rfl) (Nat.le_of_ble_eq_true rfl) rfl hl.1 (Nat.le_of_ble_eq_true rfl) dL_law_1667 rfl rfl (fun H locs hR hS => ?_)
  refine lv_iload hx hb dL_law_1670 (lv_at hl 1 rfl) ?_
  refine lv_icmp_eq (tgt := 1677) hx hb dL_law_1672 (by decide) (fun c14 => ?_) (fun c14 => ?_)
  · replace h := it_o c14 h
    refine lv_iload hx hb dL_law_1677 (lv_at hl 1 rfl) ?_
    refine lv_if_ne (tgt := 1693) hx hb dL_law_1679 (by decide) (fun c15 => ?_) (fun c15 => ?_)
    · replace h := if_o c15 h
      exact bL_law_1693 (w := (t13, w5)) B hE hl0 h k23 kR hR hS (lv_sub hl [2, 3, 4, 5, 6] rfl)
    · replace h := it_o c15 h
      refine lv_aload_n hx hb dL_law_1682 rfl (lv_at hl 5 rfl) ?_
      refine lv_iconst (v := 0) hx hb dL_law_1683 (by decide) ?_
      replace h := bo_o h
      obtain ⟨x16, e17, h⟩ := h
      refine h_lald hx hb hK hR.2.weak e17 dL_law_1684 ?_
      refine lv_lload hx hb dL_law_1685 (lv_at hl 0 rfl) ?_
      refine W.lcmp hx hb dL_law_1687 ?_
      refine lv_if_eq (tgt := 1693) hx hb dL_law_1688 (by decide) (fun c18 => ?_) (fun c18 => ?_)
      · replace h := it_o c18 h
        exact bL_law_1693 (w := (t13, w5)) B hE hl0 h k23 kR hR hS (lv_sub hl [2, 3, 4, 5, 6] rfl)
      · replace h := if_o c18 h
        refine lv_iconst (v := 0) hx hb dL_law_1691 (by decide) ?_
        have eR := kR _ (Option.some.inj h).symm
        subst eR
        exact hE _ ls H locs w5 _ dL_law_1692 hS
  · replace h := if_o c14 h
    refine lv_iconst (v := 0) hx hb dL_law_1675 (by decide) ?_
    have eR := kR _ (Option.some.inj h).symm
    subst eR
    exact hE _ ls H locs w5 _ dL_law_1676 hS
noncomputable def fL_law_b1748 (L : Nat) (xs : Nat → Int32) (v1 : Nat) (v3 : Nat) (v4 : Int32) (w : LW) : Option (Sum (Int32 × LW) (Int32)) :=
  fL_law_b3008 L xs v1 v3 v4 w
theorem bL_law_1748 {p : Program} {l : Launch} {e : Env} {s : State} {m : MethodId} {args : Array Value} {below : List Frame} {meth : Method} {c : Code} {H : Heap} {locs : List Loc} {ls : Array Slot} {G : gE} {w0 : WH} {o b L : Nat} {xs : Nat → Int32} {Q : Int32 → State → Prop} (B : lB G b L xs w0 p s m args meth c) (hE : lE l G w0 p e s m args below meth c Q) (hl0 : l.stackTraces = false) {v1 : Nat} {v3 : Nat} {v4 : Int32} {w : LW} {x : Sum (Int32 × LW) (Int32)} {r : Int32} (h : fL_law_b1748 L xs v1 v3 v4 w = some x)  (k23 : ∀ (v4' : Int32) (w' : LW), x = (.inl (v4', w')) → ∀ (H : Heap) (locs : List Loc) (ls : Array Slot), RepL G o w' H → Cu (gFr G) s w0 w'.2 H locs → lv_has ls 8 [(0, .ref b), (1, .ref v1), (2, .ref o), (3, .ref v3), (4, .int v4')] → W p l e room_1 s m args below meth c H locs (wC w0 - wC w'.2) (wS w0 - wS w'.2) (Q r) (F0 m 23 ls [])) (kR : ∀ q, x = (.inr q) → q = r) (hR : RepL G o w H) (hS : Cu (gFr G) s w0 w.2 H locs) (hl : lv_has ls 8 [(0, .ref b), (1, .ref v1), (2, .ref o), (3, .ref v3), (4, .int v4)]) : W p l e room_1 s m args below meth c H locs (wC w0 - wC w.2) (wS w0 - wS w.2) (Q r) (F0 m 1748 ls []) := by
  have B0 := B
  obtain ⟨⟨hx, hb, hml, hown, hts, hr, hlk, hK⟩, hX, hbl, hbA, hRc, hRs⟩ := B0
  unfold fL_law_b1748 at h
  refine lv_goto (tgt := 3008) hx hb dL_law_1748 (by decide) ?_
  exact bL_law_3008 (w := w) B hE hl0 h k23 kR hR hS (lv_sub hl [0, 1, 2, 3, 4] rfl)
noncomputable def fL_law_b1696 (L : Nat) (xs : Nat → Int32) (v1 : Nat) (v3 : Nat) (v4 : Int32) (w : LW) : Option (Sum (Int32 × LW) (Int32)) :=
  (sld L xs (v4 + 1)).bind fun x1 =>
  b2_ (fX0_arcRevenue v1 x1 v3 w.2) fun x3 w5 =>
  (sld L xs (v4 + 1)).bind fun x6 =>
  b2_ (fX5_arcRevenue x6 w.1) fun x8 t10 =>
  b2_ (fX5_thrown  t10) fun x11 t13 =>
  if x11 = x3 then (
    if x3 = 0 then (
      (ldJ w5 v3 0).bind fun x16 =>
      if lg_cmp x16 x8 = 0 then (
        fL_law_b1748 L xs v1 v3 v4 (t13, w5)
      ) else (
        some (.inr 0)
      )
    ) else (
      fL_law_b1748 L xs v1 v3 v4 (t13, w5)
    )
  ) else (
    some (.inr 0)
  )
theorem bL_law_1696 {p : Program} {l : Launch} {e : Env} {s : State} {m : MethodId} {args : Array Value} {below : List Frame} {meth : Method} {c : Code} {H : Heap} {locs : List Loc} {ls : Array Slot} {G : gE} {w0 : WH} {o b L : Nat} {xs : Nat → Int32} {Q : Int32 → State → Prop} (B : lB G b L xs w0 p s m args meth c) (hE : lE l G w0 p e s m args below meth c Q) (hl0 : l.stackTraces = false) {v1 : Nat} {v3 : Nat} {v4 : Int32} {w : LW} {x : Sum (Int32 × LW) (Int32)} {r : Int32} (h : fL_law_b1696 L xs v1 v3 v4 w = some x)  (k23 : ∀ (v4' : Int32) (w' : LW), x = (.inl (v4', w')) → ∀ (H : Heap) (locs : List Loc) (ls : Array Slot), RepL G o w' H → Cu (gFr G) s w0 w'.2 H locs → lv_has ls 8 [(0, .ref b), (1, .ref v1), (2, .ref o), (3, .ref v3), (4, .int v4')] → W p l e room_1 s m args below meth c H locs (wC w0 - wC w'.2) (wS w0 - wS w'.2) (Q r) (F0 m 23 ls [])) (kR : ∀ q, x = (.inr q) → q = r) (hR : RepL G o w H) (hS : Cu (gFr G) s w0 w.2 H locs) (hl : lv_has ls 8 [(0, .ref b), (1, .ref v1), (2, .ref o), (3, .ref v3), (4, .int v4)]) : W p l e room_1 s m args below meth c H locs (wC w0 - wC w.2) (wS w0 - wS w.2) (Q r) (F0 m 1696 ls []) := by
  have B0 := B
  obtain ⟨⟨hx, hb, hml, hown, hts, hr, hlk, hK⟩, hX, hbl, hbA, hRc, hRs⟩ := B0
  unfold fL_law_b1696 at h
  refine lv_aload_n hx hb dL_law_1696 rfl (lv_at hl 1 rfl) ?_
  refine lv_aload_n hx hb dL_law_1697 rfl (lv_at hl 0 rfl) ?_
  refine lv_iload hx hb dL_law_1698 (lv_at hl 4 rfl) ?_
  refine lv_iconst (v := 1) hx hb dL_law_1700 (by decide) ?_
  refine lv_iadd hx hb dL_law_1701 ?_
  replace h := bo_o h
  obtain ⟨x1, e2, h⟩ := h
  refine l_sld (w := w) hx hb hX hbl hbA hS e2 dL_law_1702 ?_
  refine lv_aload_n hx hb dL_law_1703 rfl (lv_at hl 3 rfl) ?_
  replace h := b2_o h
  obtain ⟨x3, w5, e4, h⟩ := h
  refine l_callSW 3 (As := [.ref v1, .int x1, .ref v3]) (rest := []) (v := (some (.int x3))) (w' := w5) (st1 := [.int x3]) hx hb hml hown hts hK hR hS hRc hRs (mX0_arcRevenue hl0 e4) (lw_SW q2171 q2172 q111 q2173) (by decide +kernel) (Nat.le_of_ble_eq_true rfl) (Nat.le_of_ble_eq_true rfl) rfl hl.1 (Nat.le_of_ble_eq_true rfl) dL_law_1704 rfl rfl (fun H locs hR hS => ?_)
  refine lv_istore (lv' := [(5, .int x3), (0, .ref b), (1, .ref v1), (2, .ref o), (3, .ref v3), (4, .int v4)]) hx hb dL_law_1707 hl (by decide) rfl (fun ls hl => ?_)
  refine lv_aload_n hx hb dL_law_1709 rfl (lv_at hl 3 rfl) ?_
  refine lv_aload_n hx hb dL_law_1710 rfl (lv_at hl 1 rfl) ?_
  refine lv_iload hx hb dL_law_1711 (lv_at hl 5 rfl) ?_
  refine lv_iconst (v := 1) hx hb dL_law_1713 (by decide) ?_
  refine lv_iadd hx hb dL_law_1714 ?_
  replace h := bo_o h
  obtain ⟨x6, e7, h⟩ := h
  refine l_sld (w := (w.1, w5)) hx hb hX hbl hbA hS e7 dL_law_1715 ?_
  replace h := b2_o h
  obtain ⟨x8, t10, e9, h⟩ := h
  refine l_callT 1 (As := [.int x6]) (rest := []) (v := (some (.long x8))) (T' := t10) (st1 := [.long x8]) hx hb hml hown hts hK hR hS hRc hRs (mX5_arcRevenue e9) (lw_V q2868 q2869 q2870 q137 q2871) (by decide +kernel) (Nat.le_of_ble_eq_true rfl) (Nat.le_of_ble_eq_true rfl) rfl hl.1 (Nat.le_of_ble_eq_true rfl) dL_law_1716 rfl rfl (fun H locs hR hS => ?_)
  refine lv_lstore (lv' := [(6, .long x8), (5, .int x3), (0, .ref b), (1, .ref v1), (2, .ref o), (3, .ref v3), (4, .int v4)]) hx hb dL_law_1719 hl (by decide) rfl (fun ls hl => ?_)
  refine lv_aload_n hx hb dL_law_1721 rfl (lv_at hl 4 rfl) ?_
  replace h := b2_o h
  obtain ⟨x11, t13, e12, h⟩ := h
  refine l_callT 0 (As := []) (rest := []) (v := (some (.int x11))) (T' := t13) (st1 := [.int x11]) hx hb hml hown hts hK hR hS hRc hRs (mX5_thrown e12) (lw_V q2534 q2535 q2536 q137 q2537) (by decide +kernel) (Nat.le_of_ble_eq_true rfl) (Nat.le_of_ble_eq_true rfl) rfl hl.1 (Nat.le_of_ble_eq_true rfl) dL_law_1722 rfl rfl (fun H locs hR hS => ?_)
  refine lv_iload hx hb dL_law_1725 (lv_at hl 1 rfl) ?_
  refine lv_icmp_eq (tgt := 1732) hx hb dL_law_1727 (by decide) (fun c14 => ?_) (fun c14 => ?_)
  · replace h := it_o c14 h
    refine lv_iload hx hb dL_law_1732 (lv_at hl 1 rfl) ?_
    refine lv_if_ne (tgt := 1748) hx hb dL_law_1734 (by decide) (fun c15 => ?_) (fun c15 => ?_)
    · replace h := if_o c15 h
      exact bL_law_1748 (w := (t13, w5)) B hE hl0 h k23 kR hR hS (lv_sub hl [2, 3, 4, 5, 6] rfl)
    · replace h := it_o c15 h
      refine lv_aload_n hx hb dL_law_1737 rfl (lv_at hl 5 rfl) ?_
      refine lv_iconst (v := 0) hx hb dL_law_1738 (by decide) ?_
      replace h := bo_o h
      obtain ⟨x16, e17, h⟩ := h
      refine h_lald hx hb hK hR.2.weak e17 dL_law_1739 ?_
      refine lv_lload hx hb dL_law_1740 (lv_at hl 0 rfl) ?_
      refine W.lcmp hx hb dL_law_1742 ?_
      refine lv_if_eq (tgt := 1748) hx hb dL_law_1743 (by decide) (fun c18 => ?_) (fun c18 => ?_)
      · replace h := it_o c18 h
        exact bL_law_1748 (w := (t13, w5)) B hE hl0 h k23 kR hR hS (lv_sub hl [2, 3, 4, 5, 6] rfl)
      · replace h := if_o c18 h
        refine lv_iconst (v := 0) hx hb dL_law_1746 (by decide) ?_
        have eR := kR _ (Option.some.inj h).symm
        subst eR
        exact hE _ ls H locs w5 _ dL_law_1747 hS
  · replace h := if_o c14 h
    refine lv_iconst (v := 0) hx hb dL_law_1730 (by decide) ?_
    have eR := kR _ (Option.some.inj h).symm
    subst eR
    exact hE _ ls H locs w5 _ dL_law_1731 hS
noncomputable def fL_law_b1803 (L : Nat) (xs : Nat → Int32) (v1 : Nat) (v3 : Nat) (v4 : Int32) (w : LW) : Option (Sum (Int32 × LW) (Int32)) :=
  fL_law_b3008 L xs v1 v3 v4 w
theorem bL_law_1803 {p : Program} {l : Launch} {e : Env} {s : State} {m : MethodId} {args : Array Value} {below : List Frame} {meth : Method} {c : Code} {H : Heap} {locs : List Loc} {ls : Array Slot} {G : gE} {w0 : WH} {o b L : Nat} {xs : Nat → Int32} {Q : Int32 → State → Prop} (B : lB G b L xs w0 p s m args meth c) (hE : lE l G w0 p e s m args below meth c Q) (hl0 : l.stackTraces = false) {v1 : Nat} {v3 : Nat} {v4 : Int32} {w : LW} {x : Sum (Int32 × LW) (Int32)} {r : Int32} (h : fL_law_b1803 L xs v1 v3 v4 w = some x)  (k23 : ∀ (v4' : Int32) (w' : LW), x = (.inl (v4', w')) → ∀ (H : Heap) (locs : List Loc) (ls : Array Slot), RepL G o w' H → Cu (gFr G) s w0 w'.2 H locs → lv_has ls 8 [(0, .ref b), (1, .ref v1), (2, .ref o), (3, .ref v3), (4, .int v4')] → W p l e room_1 s m args below meth c H locs (wC w0 - wC w'.2) (wS w0 - wS w'.2) (Q r) (F0 m 23 ls [])) (kR : ∀ q, x = (.inr q) → q = r) (hR : RepL G o w H) (hS : Cu (gFr G) s w0 w.2 H locs) (hl : lv_has ls 8 [(0, .ref b), (1, .ref v1), (2, .ref o), (3, .ref v3), (4, .int v4)]) : W p l e room_1 s m args below meth c H locs (wC w0 - wC w.2) (wS w0 - wS w.2) (Q r) (F0 m 1803 ls []) := by
  have B0 := B
  obtain ⟨⟨hx, hb, hml, hown, hts, hr, hlk, hK⟩, hX, hbl, hbA, hRc, hRs⟩ := B0
  unfold fL_law_b1803 at h
  refine lv_goto (tgt := 3008) hx hb dL_law_1803 (by decide) ?_
  exact bL_law_3008 (w := w) B hE hl0 h k23 kR hR hS (lv_sub hl [0, 1, 2, 3, 4] rfl)
noncomputable def fL_law_b1751 (L : Nat) (xs : Nat → Int32) (v1 : Nat) (v3 : Nat) (v4 : Int32) (w : LW) : Option (Sum (Int32 × LW) (Int32)) :=
  (sld L xs (v4 + 1)).bind fun x1 =>
  b2_ (fX0_pledge v1 x1 v3 w.2) fun x3 w5 =>
  (sld L xs (v4 + 1)).bind fun x6 =>
  b2_ (fX5_pledge x6 w.1) fun x8 t10 =>
  b2_ (fX5_thrown  t10) fun x11 t13 =>
  if x11 = x3 then (
    if x3 = 0 then (
      (ldJ w5 v3 0).bind fun x16 =>
      if lg_cmp x16 x8 = 0 then (
        fL_law_b1803 L xs v1 v3 v4 (t13, w5)
      ) else (
        some (.inr 0)
      )
    ) else (
      fL_law_b1803 L xs v1 v3 v4 (t13, w5)
    )
  ) else (
    some (.inr 0)
  )
theorem bL_law_1751 {p : Program} {l : Launch} {e : Env} {s : State} {m : MethodId} {args : Array Value} {below : List Frame} {meth : Method} {c : Code} {H : Heap} {locs : List Loc} {ls : Array Slot} {G : gE} {w0 : WH} {o b L : Nat} {xs : Nat → Int32} {Q : Int32 → State → Prop} (B : lB G b L xs w0 p s m args meth c) (hE : lE l G w0 p e s m args below meth c Q) (hl0 : l.stackTraces = false) {v1 : Nat} {v3 : Nat} {v4 : Int32} {w : LW} {x : Sum (Int32 × LW) (Int32)} {r : Int32} (h : fL_law_b1751 L xs v1 v3 v4 w = some x)  (k23 : ∀ (v4' : Int32) (w' : LW), x = (.inl (v4', w')) → ∀ (H : Heap) (locs : List Loc) (ls : Array Slot), RepL G o w' H → Cu (gFr G) s w0 w'.2 H locs → lv_has ls 8 [(0, .ref b), (1, .ref v1), (2, .ref o), (3, .ref v3), (4, .int v4')] → W p l e room_1 s m args below meth c H locs (wC w0 - wC w'.2) (wS w0 - wS w'.2) (Q r) (F0 m 23 ls [])) (kR : ∀ q, x = (.inr q) → q = r) (hR : RepL G o w H) (hS : Cu (gFr G) s w0 w.2 H locs) (hl : lv_has ls 8 [(0, .ref b), (1, .ref v1), (2, .ref o), (3, .ref v3), (4, .int v4)]) : W p l e room_1 s m args below meth c H locs (wC w0 - wC w.2) (wS w0 - wS w.2) (Q r) (F0 m 1751 ls []) := by
  have B0 := B
  obtain ⟨⟨hx, hb, hml, hown, hts, hr, hlk, hK⟩, hX, hbl, hbA, hRc, hRs⟩ := B0
  unfold fL_law_b1751 at h
  refine lv_aload_n hx hb dL_law_1751 rfl (lv_at hl 1 rfl) ?_
  refine lv_aload_n hx hb dL_law_1752 rfl (lv_at hl 0 rfl) ?_
  refine lv_iload hx hb dL_law_1753 (lv_at hl 4 rfl) ?_
  refine lv_iconst (v := 1) hx hb dL_law_1755 (by decide) ?_
  refine lv_iadd hx hb dL_law_1756 ?_
  replace h := bo_o h
  obtain ⟨x1, e2, h⟩ := h
  refine l_sld (w := w) hx hb hX hbl hbA hS e2 dL_law_1757 ?_
  refine lv_aload_n hx hb dL_law_1758 rfl (lv_at hl 3 rfl) ?_
  replace h := b2_o h
  obtain ⟨x3, w5, e4, h⟩ := h
  refine l_callSW 3 (As := [.ref v1, .int x1, .ref v3]) (rest := []) (v := (some (.int x3))) (w' := w5) (st1 := [.int x3]) hx hb hml hown hts hK hR hS hRc hRs (mX0_pledge hl0 e4) (lw_SW q2178 q2179 q111 q2180) (by decide +kernel) (Nat.le_of_ble_eq_true rfl) (Nat.le_of_ble_eq_true rfl) rfl hl.1 (Nat.le_of_ble_eq_true rfl) dL_law_1759 rfl rfl (fun H locs hR hS => ?_)
  refine lv_istore (lv' := [(5, .int x3), (0, .ref b), (1, .ref v1), (2, .ref o), (3, .ref v3), (4, .int v4)]) hx hb dL_law_1762 hl (by decide) rfl (fun ls hl => ?_)
  refine lv_aload_n hx hb dL_law_1764 rfl (lv_at hl 3 rfl) ?_
  refine lv_aload_n hx hb dL_law_1765 rfl (lv_at hl 1 rfl) ?_
  refine lv_iload hx hb dL_law_1766 (lv_at hl 5 rfl) ?_
  refine lv_iconst (v := 1) hx hb dL_law_1768 (by decide) ?_
  refine lv_iadd hx hb dL_law_1769 ?_
  replace h := bo_o h
  obtain ⟨x6, e7, h⟩ := h
  refine l_sld (w := (w.1, w5)) hx hb hX hbl hbA hS e7 dL_law_1770 ?_
  replace h := b2_o h
  obtain ⟨x8, t10, e9, h⟩ := h
  refine l_callT 1 (As := [.int x6]) (rest := []) (v := (some (.long x8))) (T' := t10) (st1 := [.long x8]) hx hb hml hown hts hK hR hS hRc hRs (mX5_pledge e9) (lw_V q2872 q2873 q2874 q137 q2875) (by decide +kernel) (Nat.le_of_ble_eq_true rfl) (Nat.le_of_ble_eq_true rfl) rfl hl.1 (Nat.le_of_ble_eq_true rfl) dL_law_1771 rfl rfl (fun H locs hR hS => ?_)
  refine lv_lstore (lv' := [(6, .long x8), (5, .int x3), (0, .ref b), (1, .ref v1), (2, .ref o), (3, .ref v3), (4, .int v4)]) hx hb dL_law_1774 hl (by decide) rfl (fun ls hl => ?_)
  refine lv_aload_n hx hb dL_law_1776 rfl (lv_at hl 4 rfl) ?_
  replace h := b2_o h
  obtain ⟨x11, t13, e12, h⟩ := h
  refine l_callT 0 (As := []) (rest := []) (v := (some (.int x11))) (T' := t13) (st1 := [.int x11]) hx hb hml hown hts hK hR hS hRc hRs (mX5_thrown e12) (lw_V q2534 q2535 q2536 q137 q2537) (by decide +kernel) (Nat.le_of_ble_eq_true rfl) (Nat.le_of_ble_eq_true rfl) rfl hl.1 (Nat.le_of_ble_eq_true rfl) dL_law_1777 rfl rfl (fun H locs hR hS => ?_)
  refine lv_iload hx hb dL_law_1780 (lv_at hl 1 rfl) ?_
  refine lv_icmp_eq (tgt := 1787) hx hb dL_law_1782 (by decide) (fun c14 => ?_) (fun c14 => ?_)
  · replace h := it_o c14 h
    refine lv_iload hx hb dL_law_1787 (lv_at hl 1 rfl) ?_
    refine lv_if_ne (tgt := 1803) hx hb dL_law_1789 (by decide) (fun c15 => ?_) (fun c15 => ?_)
    · replace h := if_o c15 h
      exact bL_law_1803 (w := (t13, w5)) B hE hl0 h k23 kR hR hS (lv_sub hl [2, 3, 4, 5, 6] rfl)
    · replace h := it_o c15 h
      refine lv_aload_n hx hb dL_law_1792 rfl (lv_at hl 5 rfl) ?_
      refine lv_iconst (v := 0) hx hb dL_law_1793 (by decide) ?_
      replace h := bo_o h
      obtain ⟨x16, e17, h⟩ := h
      refine h_lald hx hb hK hR.2.weak e17 dL_law_1794 ?_
      refine lv_lload hx hb dL_law_1795 (lv_at hl 0 rfl) ?_
      refine W.lcmp hx hb dL_law_1797 ?_
      refine lv_if_eq (tgt := 1803) hx hb dL_law_1798 (by decide) (fun c18 => ?_) (fun c18 => ?_)
      · replace h := it_o c18 h
        exact bL_law_1803 (w := (t13, w5)) B hE hl0 h k23 kR hR hS (lv_sub hl [2, 3, 4, 5, 6] rfl)
      · replace h := if_o c18 h
        refine lv_iconst (v := 0) hx hb dL_law_1801 (by decide) ?_
        have eR := kR _ (Option.some.inj h).symm
        subst eR
        exact hE _ ls H locs w5 _ dL_law_1802 hS
  · replace h := if_o c14 h
    refine lv_iconst (v := 0) hx hb dL_law_1785 (by decide) ?_
    have eR := kR _ (Option.some.inj h).symm
    subst eR
    exact hE _ ls H locs w5 _ dL_law_1786 hS
noncomputable def fL_law_b1806 (L : Nat) (xs : Nat → Int32) (v1 : Nat) (v3 : Nat) (v4 : Int32) (w : LW) : Option (Sum (Int32 × LW) (Int32)) :=
  (hIs w.2 v1 17).bind fun _ =>
  b2_ (fX1_bound v1 w.2) fun x1 w3 =>
  b2_ (fX5_bound  w.1) fun x5 t7 =>
  if lg_cmp x1 x5 = 0 then (
    fL_law_b3008 L xs v1 v3 v4 (t7, w3)
  ) else (
    some (.inr 0)
  )
theorem bL_law_1806 {p : Program} {l : Launch} {e : Env} {s : State} {m : MethodId} {args : Array Value} {below : List Frame} {meth : Method} {c : Code} {H : Heap} {locs : List Loc} {ls : Array Slot} {G : gE} {w0 : WH} {o b L : Nat} {xs : Nat → Int32} {Q : Int32 → State → Prop} (B : lB G b L xs w0 p s m args meth c) (hE : lE l G w0 p e s m args below meth c Q) (hl0 : l.stackTraces = false) {v1 : Nat} {v3 : Nat} {v4 : Int32} {w : LW} {x : Sum (Int32 × LW) (Int32)} {r : Int32} (h : fL_law_b1806 L xs v1 v3 v4 w = some x)  (k23 : ∀ (v4' : Int32) (w' : LW), x = (.inl (v4', w')) → ∀ (H : Heap) (locs : List Loc) (ls : Array Slot), RepL G o w' H → Cu (gFr G) s w0 w'.2 H locs → lv_has ls 8 [(0, .ref b), (1, .ref v1), (2, .ref o), (3, .ref v3), (4, .int v4')] → W p l e room_1 s m args below meth c H locs (wC w0 - wC w'.2) (wS w0 - wS w'.2) (Q r) (F0 m 23 ls [])) (kR : ∀ q, x = (.inr q) → q = r) (hR : RepL G o w H) (hS : Cu (gFr G) s w0 w.2 H locs) (hl : lv_has ls 8 [(0, .ref b), (1, .ref v1), (2, .ref o), (3, .ref v3), (4, .int v4)]) : W p l e room_1 s m args below meth c H locs (wC w0 - wC w.2) (wS w0 - wS w.2) (Q r) (F0 m 1806 ls []) := by
  have B0 := B
  obtain ⟨⟨hx, hb, hml, hown, hts, hr, hlk, hK⟩, hX, hbl, hbA, hRc, hRs⟩ := B0
  unfold fL_law_b1806 at h
  refine lv_aload_n hx hb dL_law_1806 rfl (lv_at hl 1 rfl) ?_
  replace h := bo_o h
  obtain ⟨_, e4, h⟩ := h
  replace h := b2_o h
  obtain ⟨x1, w3, e2, h⟩ := h
  refine l_callV 0 (ci := 17) (As := []) (rest := []) (v := (some (.long x1))) (w' := w3) (st1 := [.long x1]) hx hb hml hown hts hK hR hS hRc hRs rfl e4 (mX1_bound e2) (lw_V q1739 q1740 q1741 q112 q1742) (by decide +kernel) (Nat.le_of_ble_eq_true rfl) (Nat.le_of_ble_eq_true rfl) rfl hl.1 (Nat.le_of_ble_eq_true rfl) dL_law_1807 rfl rfl (fun H locs hR hS => ?_)
  refine lv_aload_n hx hb dL_law_1810 rfl (lv_at hl 2 rfl) ?_
  replace h := b2_o h
  obtain ⟨x5, t7, e6, h⟩ := h
  refine l_callT 0 (As := []) (rest := [.long x1]) (v := (some (.long x5))) (T' := t7) (st1 := [.long x5, .long x1]) hx hb hml hown hts hK hR hS hRc hRs (mX5_bound e6) (lw_V q2889 q2890 q2891 q137 q2892) (by decide +kernel) (Nat.le_of_ble_eq_true rfl) (Nat.le_of_ble_eq_true rfl) rfl hl.1 (Nat.le_of_ble_eq_true rfl) dL_law_1811 rfl rfl (fun H locs hR hS => ?_)
  refine W.lcmp hx hb dL_law_1814 ?_
  refine lv_if_eq (tgt := 3008) hx hb dL_law_1815 (by decide) (fun c8 => ?_) (fun c8 => ?_)
  · replace h := it_o c8 h
    exact bL_law_3008 (w := (t7, w3)) B hE hl0 h k23 kR hR hS (lv_sub hl [0, 1, 2, 3, 4] rfl)
  · replace h := if_o c8 h
    refine lv_iconst (v := 0) hx hb dL_law_1818 (by decide) ?_
    have eR := kR _ (Option.some.inj h).symm
    subst eR
    exact hE _ ls H locs w3 _ dL_law_1819 hS
noncomputable def fL_law_b1885 (L : Nat) (xs : Nat → Int32) (v1 : Nat) (v3 : Nat) (v4 : Int32) (w : LW) : Option (Sum (Int32 × LW) (Int32)) :=
  fL_law_b3008 L xs v1 v3 v4 w
theorem bL_law_1885 {p : Program} {l : Launch} {e : Env} {s : State} {m : MethodId} {args : Array Value} {below : List Frame} {meth : Method} {c : Code} {H : Heap} {locs : List Loc} {ls : Array Slot} {G : gE} {w0 : WH} {o b L : Nat} {xs : Nat → Int32} {Q : Int32 → State → Prop} (B : lB G b L xs w0 p s m args meth c) (hE : lE l G w0 p e s m args below meth c Q) (hl0 : l.stackTraces = false) {v1 : Nat} {v3 : Nat} {v4 : Int32} {w : LW} {x : Sum (Int32 × LW) (Int32)} {r : Int32} (h : fL_law_b1885 L xs v1 v3 v4 w = some x)  (k23 : ∀ (v4' : Int32) (w' : LW), x = (.inl (v4', w')) → ∀ (H : Heap) (locs : List Loc) (ls : Array Slot), RepL G o w' H → Cu (gFr G) s w0 w'.2 H locs → lv_has ls 8 [(0, .ref b), (1, .ref v1), (2, .ref o), (3, .ref v3), (4, .int v4')] → W p l e room_1 s m args below meth c H locs (wC w0 - wC w'.2) (wS w0 - wS w'.2) (Q r) (F0 m 23 ls [])) (kR : ∀ q, x = (.inr q) → q = r) (hR : RepL G o w H) (hS : Cu (gFr G) s w0 w.2 H locs) (hl : lv_has ls 8 [(0, .ref b), (1, .ref v1), (2, .ref o), (3, .ref v3), (4, .int v4)]) : W p l e room_1 s m args below meth c H locs (wC w0 - wC w.2) (wS w0 - wS w.2) (Q r) (F0 m 1885 ls []) := by
  have B0 := B
  obtain ⟨⟨hx, hb, hml, hown, hts, hr, hlk, hK⟩, hX, hbl, hbA, hRc, hRs⟩ := B0
  unfold fL_law_b1885 at h
  refine lv_goto (tgt := 3008) hx hb dL_law_1885 (by decide) ?_
  exact bL_law_3008 (w := w) B hE hl0 h k23 kR hR hS (lv_sub hl [0, 1, 2, 3, 4] rfl)
noncomputable def fL_law_b1868 (L : Nat) (xs : Nat → Int32) (v1 : Nat) (v3 : Nat) (v4 : Int32) (v5 : Int32) (v6 : Int32) (w : LW) : Option (Sum (Int32 × LW) (Int32)) :=
  if v5 = 0 then (
    (ldJ w.2 v3 0).bind fun x2 =>
    if lg_cmp x2 (v6.toInt64) = 0 then (
      fL_law_b1885 L xs v1 v3 v4 w
    ) else (
      some (.inr 0)
    )
  ) else (
    fL_law_b1885 L xs v1 v3 v4 w
  )
theorem bL_law_1868 {p : Program} {l : Launch} {e : Env} {s : State} {m : MethodId} {args : Array Value} {below : List Frame} {meth : Method} {c : Code} {H : Heap} {locs : List Loc} {ls : Array Slot} {G : gE} {w0 : WH} {o b L : Nat} {xs : Nat → Int32} {Q : Int32 → State → Prop} (B : lB G b L xs w0 p s m args meth c) (hE : lE l G w0 p e s m args below meth c Q) (hl0 : l.stackTraces = false) {v1 : Nat} {v3 : Nat} {v4 : Int32} {v5 : Int32} {v6 : Int32} {w : LW} {x : Sum (Int32 × LW) (Int32)} {r : Int32} (h : fL_law_b1868 L xs v1 v3 v4 v5 v6 w = some x)  (k23 : ∀ (v4' : Int32) (w' : LW), x = (.inl (v4', w')) → ∀ (H : Heap) (locs : List Loc) (ls : Array Slot), RepL G o w' H → Cu (gFr G) s w0 w'.2 H locs → lv_has ls 8 [(0, .ref b), (1, .ref v1), (2, .ref o), (3, .ref v3), (4, .int v4')] → W p l e room_1 s m args below meth c H locs (wC w0 - wC w'.2) (wS w0 - wS w'.2) (Q r) (F0 m 23 ls [])) (kR : ∀ q, x = (.inr q) → q = r) (hR : RepL G o w H) (hS : Cu (gFr G) s w0 w.2 H locs) (hl : lv_has ls 8 [(0, .ref b), (1, .ref v1), (2, .ref o), (3, .ref v3), (4, .int v4), (5, .int v5), (6, .int v6)]) : W p l e room_1 s m args below meth c H locs (wC w0 - wC w.2) (wS w0 - wS w.2) (Q r) (F0 m 1868 ls []) := by
  have B0 := B
  obtain ⟨⟨hx, hb, hml, hown, hts, hr, hlk, hK⟩, hX, hbl, hbA, hRc, hRs⟩ := B0
  unfold fL_law_b1868 at h
  refine lv_iload hx hb dL_law_1868 (lv_at hl 5 rfl) ?_
  refine lv_if_ne (tgt := 1885) hx hb dL_law_1870 (by decide) (fun c1 => ?_) (fun c1 => ?_)
  · replace h := if_o c1 h
    exact bL_law_1885 (w := w) B hE hl0 h k23 kR hR hS (lv_sub hl [0, 1, 2, 3, 4] rfl)
  · replace h := it_o c1 h
    refine lv_aload_n hx hb dL_law_1873 rfl (lv_at hl 3 rfl) ?_
    refine lv_iconst (v := 0) hx hb dL_law_1874 (by decide) ?_
    replace h := bo_o h
    obtain ⟨x2, e3, h⟩ := h
    refine h_lald hx hb hK hR.2.weak e3 dL_law_1875 ?_
    refine lv_iload hx hb dL_law_1876 (lv_at hl 6 rfl) ?_
    refine lv_i2l hx hb dL_law_1878 rfl ?_
    refine W.lcmp hx hb dL_law_1879 ?_
    refine lv_if_eq (tgt := 1885) hx hb dL_law_1880 (by decide) (fun c4 => ?_) (fun c4 => ?_)
    · replace h := it_o c4 h
      exact bL_law_1885 (w := w) B hE hl0 h k23 kR hR hS (lv_sub hl [0, 1, 2, 3, 4] rfl)
    · replace h := if_o c4 h
      refine lv_iconst (v := 0) hx hb dL_law_1883 (by decide) ?_
      have eR := kR _ (Option.some.inj h).symm
      subst eR
      exact hE _ ls H locs w.2 _ dL_law_1884 hS
