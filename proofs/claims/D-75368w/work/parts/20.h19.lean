set_option maxRecDepth 100000
set_option maxHeartbeats 4000000

noncomputable def fX0_writePath (v0 : Nat) (v1 : Int32) (v2 : Nat) (w : WH) : Option ((Int32 × WH)) :=
  (hIs w v0 17).bind fun _ =>
  b2_ (fX1_writePath v0 v1 w) fun o3 w1 => ex_ o3 (fun x5 =>
    (stJ w1 v2 0 (x5.toInt64)).bind fun w7 =>
    some (0, w7)) (fun q6 =>
    if q6.1 = 0 then (
      some (1, w1)
    ) else (
      none
    ))
theorem bX0_writePath_0 {p : Program} {l : Launch} {e : Env} {s : State} {m : MethodId} {args : Array Value} {below : List Frame} {meth : Method} {c : Code} {H : Heap} {locs : List Loc} {ls : Array Slot} {G : gE} {A : Nat → Prop} {w0 : WH} (B : gB G RX0 cX0_writePath 4 (some .int) p s m args meth c) (hTb : c.exceptionTable.toList = tableOf [(0, 9, 12, 19)]) (hl0 : l.stackTraces = false) {v0 : Nat} {v1 : Int32} {v2 : Nat} {w : WH} {r : (Int32 × WH)} (h : fX0_writePath v0 v1 v2 w = some r)   (hR : RepH G A w H) (hS : Cu A s w0 w H locs) (hl : lv_has ls 4 [(0, .ref v0), (1, .int v1), (2, .ref v2)]) : W p l e (hRm 20 457 w0) s m args below meth c H locs (wC w0 - wC w) (wS w0 - wS w) (hZ below args s G A w0 (some (.int r.1)) r.2) (F0 m 0 ls []) := by
  have B0 := B
  obtain ⟨hx, hb, hml, hown, hts, hr, hlk, hK⟩ := B0
  unfold fX0_writePath at h
  refine lv_aload_n hx hb dX0_writePath_0 rfl (lv_at hl 2 rfl) ?_
  refine lv_iconst (v := 0) hx hb dX0_writePath_1 (by decide) ?_
  refine lv_aload_n hx hb dX0_writePath_2 rfl (lv_at hl 0 rfl) ?_
  refine lv_iload_n hx hb dX0_writePath_3 rfl (lv_at hl 1 rfl) ?_
  replace h := bo_o h
  obtain ⟨_, e2, h⟩ := h
  replace h := b2_o h
  obtain ⟨o3, w1, e4, h⟩ := h
  refine h_callVX 1 (ci := 17) (As := [.int v1]) (rest := [.int 0, .ref v2]) (o := oI o3) (w' := w1) hx hb hml hown hts hK hR hS (Nat.le_refl _) (Nat.le_refl _) rfl e2 (mX1_writePath hl0 e4) (lw_V q2393 q2394 q2395 q112 q2396) (by decide +kernel) (Nat.le_of_ble_eq_true rfl) (Nat.le_of_ble_eq_true rfl) rfl hl.1 (Nat.le_of_ble_eq_true rfl) dX0_writePath_4 rfl (fun v9 hv9 H locs hR hS => ?_) (fun E9 q9 hq9 H locs hR hS hce => ?_)
  · cases o3 with
    | inr q => cases hv9
    | inl x5 =>
      cases hv9
      replace h := exl_o h
      refine W.eq (g2 := F0 m 7 ls [.int x5, .int 0, .ref v2]) rfl ?_
      refine lv_i2l hx hb dX0_writePath_7 rfl ?_
      replace h := bo_o h
      obtain ⟨w7, e8, h⟩ := h
      refine h_last hx hb hK hR hS e8 dX0_writePath_8 (fun H locs hR hS => ?_)
      refine lv_goto (tgt := 15) hx hb dX0_writePath_9 (by decide) ?_
      refine lv_iconst (v := 0) hx hb dX0_writePath_15 (by decide) ?_
      have eR := Option.some.inj h
      subst eR
      exact h_ifin hx hb hr hlk hR hS dX0_writePath_16
  · cases o3 with
    | inl q => cases hq9
    | inr q6 =>
      cases hq9
      replace h := exr_o h
      by_cases c9 : q6.1 = 0
      · replace h := it_o c9 h
        have hce : ∃ ce : Cell, H[q6.2]? = some ce ∧ ce.vm = .none ∧ s.vm.findClass "java/lang/IndexOutOfBoundsException" = some ce.cls := by rw [c9] at hce; exact hce
        refine h_catch (E := "java/lang/IndexOutOfBoundsException") hown hTb rfl (by decide) (by decide) rfl (hts _ q1941) (hK.ca 7 rfl) hce ?_
        refine lv_astore_n (lv' := [(3, .ref (q6.2)), (0, .ref v0), (1, .int v1), (2, .ref v2)]) hx hb dX0_writePath_12 rfl hl (by decide) rfl (fun ls hl => ?_)
        refine lv_iconst (v := 1) hx hb dX0_writePath_13 (by decide) ?_
        have eR := Option.some.inj h
        subst eR
        exact h_ifin hx hb hr hlk hR hS dX0_writePath_14
      · replace h := if_o c9 h
        exact (nomatch h)
theorem mX0_writePath {l : Launch} {G : gE} {A : Nat → Prop} {v0 : Nat} {v1 : Int32} {v2 : Nat} {w : WH} {r : (Int32 × WH)} (hl0 : l.stackTraces = false) (h : fX0_writePath v0 v1 v2 w = some r) : hMW l G A yX0_writePath cX0_writePath 4 (some .int) [(0, 9, 12, 19)] 20 457 [.ref v0, .int v1, .ref v2] w (some (.int r.1)) r.2 :=
  h_ofW (by decide +kernel) (Nat.le_of_ble_eq_true rfl) (fun p e s m args below meth c ls B hnm hTb hR hS hl => bX0_writePath_0 B hTb hl0 h hR hS hl)
noncomputable def fX0_saveSnapshot (v0 : Nat) (v1 : Int32) (v2 : Nat) (w : WH) : Option ((Int32 × WH)) :=
  (hIs w v0 17).bind fun _ =>
  b2_ (fX1_saveSnapshot v0 v1 w) fun o3 w1 => ex_ o3 (fun x5 =>
    (stJ w1 v2 0 (x5.toInt64)).bind fun w7 =>
    some (0, w7)) (fun q6 =>
    if q6.1 = 1 then (
      some (1, w1)
    ) else (
      none
    ))
theorem bX0_saveSnapshot_0 {p : Program} {l : Launch} {e : Env} {s : State} {m : MethodId} {args : Array Value} {below : List Frame} {meth : Method} {c : Code} {H : Heap} {locs : List Loc} {ls : Array Slot} {G : gE} {A : Nat → Prop} {w0 : WH} (B : gB G RX0 cX0_saveSnapshot 4 (some .int) p s m args meth c) (hTb : c.exceptionTable.toList = tableOf [(0, 9, 12, 13)]) (hl0 : l.stackTraces = false) {v0 : Nat} {v1 : Int32} {v2 : Nat} {w : WH} {r : (Int32 × WH)} (h : fX0_saveSnapshot v0 v1 v2 w = some r)   (hR : RepH G A w H) (hS : Cu A s w0 w H locs) (hl : lv_has ls 4 [(0, .ref v0), (1, .int v1), (2, .ref v2)]) : W p l e (hRm 15 332 w0) s m args below meth c H locs (wC w0 - wC w) (wS w0 - wS w) (hZ below args s G A w0 (some (.int r.1)) r.2) (F0 m 0 ls []) := by
  have B0 := B
  obtain ⟨hx, hb, hml, hown, hts, hr, hlk, hK⟩ := B0
  unfold fX0_saveSnapshot at h
  refine lv_aload_n hx hb dX0_saveSnapshot_0 rfl (lv_at hl 2 rfl) ?_
  refine lv_iconst (v := 0) hx hb dX0_saveSnapshot_1 (by decide) ?_
  refine lv_aload_n hx hb dX0_saveSnapshot_2 rfl (lv_at hl 0 rfl) ?_
  refine lv_iload_n hx hb dX0_saveSnapshot_3 rfl (lv_at hl 1 rfl) ?_
  replace h := bo_o h
  obtain ⟨_, e2, h⟩ := h
  replace h := b2_o h
  obtain ⟨o3, w1, e4, h⟩ := h
  refine h_callVX 1 (ci := 17) (As := [.int v1]) (rest := [.int 0, .ref v2]) (o := oI o3) (w' := w1) hx hb hml hown hts hK hR hS (Nat.le_refl _) (Nat.le_refl _) rfl e2 (mX1_saveSnapshot hl0 e4) (lw_V q2410 q2411 q2412 q112 q2413) (by decide +kernel) (Nat.le_of_ble_eq_true rfl) (Nat.le_of_ble_eq_true rfl) rfl hl.1 (Nat.le_of_ble_eq_true rfl) dX0_saveSnapshot_4 rfl (fun v9 hv9 H locs hR hS => ?_) (fun E9 q9 hq9 H locs hR hS hce => ?_)
  · cases o3 with
    | inr q => cases hv9
    | inl x5 =>
      cases hv9
      replace h := exl_o h
      refine W.eq (g2 := F0 m 7 ls [.int x5, .int 0, .ref v2]) rfl ?_
      refine lv_i2l hx hb dX0_saveSnapshot_7 rfl ?_
      replace h := bo_o h
      obtain ⟨w7, e8, h⟩ := h
      refine h_last hx hb hK hR hS e8 dX0_saveSnapshot_8 (fun H locs hR hS => ?_)
      refine lv_goto (tgt := 15) hx hb dX0_saveSnapshot_9 (by decide) ?_
      refine lv_iconst (v := 0) hx hb dX0_saveSnapshot_15 (by decide) ?_
      have eR := Option.some.inj h
      subst eR
      exact h_ifin hx hb hr hlk hR hS dX0_saveSnapshot_16
  · cases o3 with
    | inl q => cases hq9
    | inr q6 =>
      cases hq9
      replace h := exr_o h
      by_cases c9 : q6.1 = 1
      · replace h := it_o c9 h
        have hce : ∃ ce : Cell, H[q6.2]? = some ce ∧ ce.vm = .none ∧ s.vm.findClass "java/lang/IllegalArgumentException" = some ce.cls := by rw [c9] at hce; exact hce
        refine h_catch (E := "java/lang/IllegalArgumentException") hown hTb rfl (by decide) (by decide) rfl (hts _ q1914) (hK.ca 0 rfl) hce ?_
        refine lv_astore_n (lv' := [(3, .ref (q6.2)), (0, .ref v0), (1, .int v1), (2, .ref v2)]) hx hb dX0_saveSnapshot_12 rfl hl (by decide) rfl (fun ls hl => ?_)
        refine lv_iconst (v := 1) hx hb dX0_saveSnapshot_13 (by decide) ?_
        have eR := Option.some.inj h
        subst eR
        exact h_ifin hx hb hr hlk hR hS dX0_saveSnapshot_14
      · replace h := if_o c9 h
        exact (nomatch h)
theorem mX0_saveSnapshot {l : Launch} {G : gE} {A : Nat → Prop} {v0 : Nat} {v1 : Int32} {v2 : Nat} {w : WH} {r : (Int32 × WH)} (hl0 : l.stackTraces = false) (h : fX0_saveSnapshot v0 v1 v2 w = some r) : hMW l G A yX0_saveSnapshot cX0_saveSnapshot 4 (some .int) [(0, 9, 12, 13)] 15 332 [.ref v0, .int v1, .ref v2] w (some (.int r.1)) r.2 :=
  h_ofW (by decide +kernel) (Nat.le_of_ble_eq_true rfl) (fun p e s m args below meth c ls B hnm hTb hR hS hl => bX0_saveSnapshot_0 B hTb hl0 h hR hS hl)
noncomputable def fX0_restoreSnapshot (v0 : Nat) (v1 : Int32) (v2 : Nat) (w : WH) : Option ((Int32 × WH)) :=
  (hIs w v0 17).bind fun _ =>
  b2_ (fX1_restoreSnapshot v0 v1 w) fun o3 w1 => ex_ o3 (fun x5 =>
    (stJ w1 v2 0 (x5.toInt64)).bind fun w7 =>
    some (0, w7)) (fun q6 =>
    if q6.1 = 1 then (
      some (1, w1)
    ) else (
      none
    ))
theorem bX0_restoreSnapshot_0 {p : Program} {l : Launch} {e : Env} {s : State} {m : MethodId} {args : Array Value} {below : List Frame} {meth : Method} {c : Code} {H : Heap} {locs : List Loc} {ls : Array Slot} {G : gE} {A : Nat → Prop} {w0 : WH} (B : gB G RX0 cX0_restoreSnapshot 4 (some .int) p s m args meth c) (hTb : c.exceptionTable.toList = tableOf [(0, 9, 12, 13)]) (hl0 : l.stackTraces = false) {v0 : Nat} {v1 : Int32} {v2 : Nat} {w : WH} {r : (Int32 × WH)} (h : fX0_restoreSnapshot v0 v1 v2 w = some r)   (hR : RepH G A w H) (hS : Cu A s w0 w H locs) (hl : lv_has ls 4 [(0, .ref v0), (1, .int v1), (2, .ref v2)]) : W p l e (hRm 15 332 w0) s m args below meth c H locs (wC w0 - wC w) (wS w0 - wS w) (hZ below args s G A w0 (some (.int r.1)) r.2) (F0 m 0 ls []) := by
  have B0 := B
  obtain ⟨hx, hb, hml, hown, hts, hr, hlk, hK⟩ := B0
  unfold fX0_restoreSnapshot at h
  refine lv_aload_n hx hb dX0_restoreSnapshot_0 rfl (lv_at hl 2 rfl) ?_
  refine lv_iconst (v := 0) hx hb dX0_restoreSnapshot_1 (by decide) ?_
  refine lv_aload_n hx hb dX0_restoreSnapshot_2 rfl (lv_at hl 0 rfl) ?_
  refine lv_iload_n hx hb dX0_restoreSnapshot_3 rfl (lv_at hl 1 rfl) ?_
  replace h := bo_o h
  obtain ⟨_, e2, h⟩ := h
  replace h := b2_o h
  obtain ⟨o3, w1, e4, h⟩ := h
  refine h_callVX 1 (ci := 17) (As := [.int v1]) (rest := [.int 0, .ref v2]) (o := oI o3) (w' := w1) hx hb hml hown hts hK hR hS (Nat.le_refl _) (Nat.le_refl _) rfl e2 (mX1_restoreSnapshot hl0 e4) (lw_V q2420 q2421 q2422 q112 q2423) (by decide +kernel) (Nat.le_of_ble_eq_true rfl) (Nat.le_of_ble_eq_true rfl) rfl hl.1 (Nat.le_of_ble_eq_true rfl) dX0_restoreSnapshot_4 rfl (fun v9 hv9 H locs hR hS => ?_) (fun E9 q9 hq9 H locs hR hS hce => ?_)
  · cases o3 with
    | inr q => cases hv9
    | inl x5 =>
      cases hv9
      replace h := exl_o h
      refine W.eq (g2 := F0 m 7 ls [.int x5, .int 0, .ref v2]) rfl ?_
      refine lv_i2l hx hb dX0_restoreSnapshot_7 rfl ?_
      replace h := bo_o h
      obtain ⟨w7, e8, h⟩ := h
      refine h_last hx hb hK hR hS e8 dX0_restoreSnapshot_8 (fun H locs hR hS => ?_)
      refine lv_goto (tgt := 15) hx hb dX0_restoreSnapshot_9 (by decide) ?_
      refine lv_iconst (v := 0) hx hb dX0_restoreSnapshot_15 (by decide) ?_
      have eR := Option.some.inj h
      subst eR
      exact h_ifin hx hb hr hlk hR hS dX0_restoreSnapshot_16
  · cases o3 with
    | inl q => cases hq9
    | inr q6 =>
      cases hq9
      replace h := exr_o h
      by_cases c9 : q6.1 = 1
      · replace h := it_o c9 h
        have hce : ∃ ce : Cell, H[q6.2]? = some ce ∧ ce.vm = .none ∧ s.vm.findClass "java/lang/IllegalArgumentException" = some ce.cls := by rw [c9] at hce; exact hce
        refine h_catch (E := "java/lang/IllegalArgumentException") hown hTb rfl (by decide) (by decide) rfl (hts _ q1914) (hK.ca 0 rfl) hce ?_
        refine lv_astore_n (lv' := [(3, .ref (q6.2)), (0, .ref v0), (1, .int v1), (2, .ref v2)]) hx hb dX0_restoreSnapshot_12 rfl hl (by decide) rfl (fun ls hl => ?_)
        refine lv_iconst (v := 1) hx hb dX0_restoreSnapshot_13 (by decide) ?_
        have eR := Option.some.inj h
        subst eR
        exact h_ifin hx hb hr hlk hR hS dX0_restoreSnapshot_14
      · replace h := if_o c9 h
        exact (nomatch h)
theorem mX0_restoreSnapshot {l : Launch} {G : gE} {A : Nat → Prop} {v0 : Nat} {v1 : Int32} {v2 : Nat} {w : WH} {r : (Int32 × WH)} (hl0 : l.stackTraces = false) (h : fX0_restoreSnapshot v0 v1 v2 w = some r) : hMW l G A yX0_restoreSnapshot cX0_restoreSnapshot 4 (some .int) [(0, 9, 12, 13)] 15 332 [.ref v0, .int v1, .ref v2] w (some (.int r.1)) r.2 :=
  h_ofW (by decide +kernel) (Nat.le_of_ble_eq_true rfl) (fun p e s m args below meth c ls B hnm hTb hR hS hl => bX0_restoreSnapshot_0 B hTb hl0 h hR hS hl)

