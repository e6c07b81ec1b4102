set_option maxRecDepth 100000
set_option maxHeartbeats 4000000

noncomputable def fX0_ties (v0 : Nat) (v1 : Int32) (v2 : Nat) (w : WH) : Option ((Int32 × WH)) :=
  (hIs w v0 17).bind fun _ =>
  b2_ (fX1_ties v0 v1 w) fun o3 w1 => ex_ o3 (fun x5 =>
    (stJ w1 v2 0 x5).bind fun w7 =>
    some (0, w7)) (fun q6 =>
    if q6.1 = 0 then (
      some (1, w1)
    ) else (
      none
    ))
theorem bX0_ties_0 {p : Program} {l : Launch} {e : Env} {s : State} {m : MethodId} {args : Array Value} {below : List Frame} {meth : Method} {c : Code} {H : Heap} {locs : List Loc} {ls : Array Slot} {G : gE} {A : Nat → Prop} {w0 : WH} (B : gB G RX0 cX0_ties 4 (some .int) p s m args meth c) (hTb : c.exceptionTable.toList = tableOf [(0, 8, 11, 19)]) (hl0 : l.stackTraces = false) {v0 : Nat} {v1 : Int32} {v2 : Nat} {w : WH} {r : (Int32 × WH)} (h : fX0_ties v0 v1 v2 w = some r)   (hR : RepH G A w H) (hS : Cu A s w0 w H locs) (hl : lv_has ls 4 [(0, .ref v0), (1, .int v1), (2, .ref v2)]) : W p l e (hRm 33 1556 w0) s m args below meth c H locs (wC w0 - wC w) (wS w0 - wS w) (hZ below args s G A w0 (some (.int r.1)) r.2) (F0 m 0 ls []) := by
  have B0 := B
  obtain ⟨hx, hb, hml, hown, hts, hr, hlk, hK⟩ := B0
  unfold fX0_ties at h
  refine lv_aload_n hx hb dX0_ties_0 rfl (lv_at hl 2 rfl) ?_
  refine lv_iconst (v := 0) hx hb dX0_ties_1 (by decide) ?_
  refine lv_aload_n hx hb dX0_ties_2 rfl (lv_at hl 0 rfl) ?_
  refine lv_iload_n hx hb dX0_ties_3 rfl (lv_at hl 1 rfl) ?_
  replace h := bo_o h
  obtain ⟨_, e2, h⟩ := h
  replace h := b2_o h
  obtain ⟨o3, w1, e4, h⟩ := h
  refine h_callVX 1 (ci := 17) (As := [.int v1]) (rest := [.int 0, .ref v2]) (o := oJ o3) (w' := w1) hx hb hml hown hts hK hR hS (Nat.le_refl _) (Nat.le_refl _) rfl e2 (mX1_ties hl0 e4) (lw_V q2136 q2137 q2138 q112 q2139) (by decide +kernel) (Nat.le_of_ble_eq_true rfl) (Nat.le_of_ble_eq_true rfl) rfl hl.1 (Nat.le_of_ble_eq_true rfl) dX0_ties_4 rfl (fun v9 hv9 H locs hR hS => ?_) (fun E9 q9 hq9 H locs hR hS hce => ?_)
  · cases o3 with
    | inr q => cases hv9
    | inl x5 =>
      cases hv9
      replace h := exl_o h
      refine W.eq (g2 := F0 m 7 ls [.long x5, .int 0, .ref v2]) rfl ?_
      replace h := bo_o h
      obtain ⟨w7, e8, h⟩ := h
      refine h_last hx hb hK hR hS e8 dX0_ties_7 (fun H locs hR hS => ?_)
      refine lv_goto (tgt := 14) hx hb dX0_ties_8 (by decide) ?_
      refine lv_iconst (v := 0) hx hb dX0_ties_14 (by decide) ?_
      have eR := Option.some.inj h
      subst eR
      exact h_ifin hx hb hr hlk hR hS dX0_ties_15
  · cases o3 with
    | inl q => cases hq9
    | inr q6 =>
      cases hq9
      replace h := exr_o h
      by_cases c9 : q6.1 = 0
      · replace h := it_o c9 h
        have hce : ∃ ce : Cell, H[q6.2]? = some ce ∧ ce.vm = .none ∧ s.vm.findClass "java/lang/IndexOutOfBoundsException" = some ce.cls := by rw [c9] at hce; exact hce
        refine h_catch (E := "java/lang/IndexOutOfBoundsException") hown hTb rfl (by decide) (by decide) rfl (hts _ q1941) (hK.ca 7 rfl) hce ?_
        refine lv_astore_n (lv' := [(3, .ref (q6.2)), (0, .ref v0), (1, .int v1), (2, .ref v2)]) hx hb dX0_ties_11 rfl hl (by decide) rfl (fun ls hl => ?_)
        refine lv_iconst (v := 1) hx hb dX0_ties_12 (by decide) ?_
        have eR := Option.some.inj h
        subst eR
        exact h_ifin hx hb hr hlk hR hS dX0_ties_13
      · replace h := if_o c9 h
        exact (nomatch h)
theorem mX0_ties {l : Launch} {G : gE} {A : Nat → Prop} {v0 : Nat} {v1 : Int32} {v2 : Nat} {w : WH} {r : (Int32 × WH)} (hl0 : l.stackTraces = false) (h : fX0_ties v0 v1 v2 w = some r) : hMW l G A yX0_ties cX0_ties 4 (some .int) [(0, 8, 11, 19)] 33 1556 [.ref v0, .int v1, .ref v2] w (some (.int r.1)) r.2 :=
  h_ofW (by decide +kernel) (Nat.le_of_ble_eq_true rfl) (fun p e s m args below meth c ls B hnm hTb hR hS hl => bX0_ties_0 B hTb hl0 h hR hS hl)
noncomputable def fX0_tieSpan (v0 : Nat) (v1 : Int32) (v2 : Nat) (w : WH) : Option ((Int32 × WH)) :=
  (hIs w v0 17).bind fun _ =>
  b2_ (fX1_tieSpan v0 v1 w) fun o3 w1 => ex_ o3 (fun x5 =>
    (stJ w1 v2 0 (x5.toInt64)).bind fun w7 =>
    some (0, w7)) (fun q6 =>
    if q6.1 = 0 then (
      some (1, w1)
    ) else (
      none
    ))
theorem bX0_tieSpan_0 {p : Program} {l : Launch} {e : Env} {s : State} {m : MethodId} {args : Array Value} {below : List Frame} {meth : Method} {c : Code} {H : Heap} {locs : List Loc} {ls : Array Slot} {G : gE} {A : Nat → Prop} {w0 : WH} (B : gB G RX0 cX0_tieSpan 4 (some .int) p s m args meth c) (hTb : c.exceptionTable.toList = tableOf [(0, 9, 12, 19)]) (hl0 : l.stackTraces = false) {v0 : Nat} {v1 : Int32} {v2 : Nat} {w : WH} {r : (Int32 × WH)} (h : fX0_tieSpan v0 v1 v2 w = some r)   (hR : RepH G A w H) (hS : Cu A s w0 w H locs) (hl : lv_has ls 4 [(0, .ref v0), (1, .int v1), (2, .ref v2)]) : W p l e (hRm 33 1557 w0) s m args below meth c H locs (wC w0 - wC w) (wS w0 - wS w) (hZ below args s G A w0 (some (.int r.1)) r.2) (F0 m 0 ls []) := by
  have B0 := B
  obtain ⟨hx, hb, hml, hown, hts, hr, hlk, hK⟩ := B0
  unfold fX0_tieSpan at h
  refine lv_aload_n hx hb dX0_tieSpan_0 rfl (lv_at hl 2 rfl) ?_
  refine lv_iconst (v := 0) hx hb dX0_tieSpan_1 (by decide) ?_
  refine lv_aload_n hx hb dX0_tieSpan_2 rfl (lv_at hl 0 rfl) ?_
  refine lv_iload_n hx hb dX0_tieSpan_3 rfl (lv_at hl 1 rfl) ?_
  replace h := bo_o h
  obtain ⟨_, e2, h⟩ := h
  replace h := b2_o h
  obtain ⟨o3, w1, e4, h⟩ := h
  refine h_callVX 1 (ci := 17) (As := [.int v1]) (rest := [.int 0, .ref v2]) (o := oI o3) (w' := w1) hx hb hml hown hts hK hR hS (Nat.le_refl _) (Nat.le_refl _) rfl e2 (mX1_tieSpan hl0 e4) (lw_V q2156 q2157 q2158 q112 q2159) (by decide +kernel) (Nat.le_of_ble_eq_true rfl) (Nat.le_of_ble_eq_true rfl) rfl hl.1 (Nat.le_of_ble_eq_true rfl) dX0_tieSpan_4 rfl (fun v9 hv9 H locs hR hS => ?_) (fun E9 q9 hq9 H locs hR hS hce => ?_)
  · cases o3 with
    | inr q => cases hv9
    | inl x5 =>
      cases hv9
      replace h := exl_o h
      refine W.eq (g2 := F0 m 7 ls [.int x5, .int 0, .ref v2]) rfl ?_
      refine lv_i2l hx hb dX0_tieSpan_7 rfl ?_
      replace h := bo_o h
      obtain ⟨w7, e8, h⟩ := h
      refine h_last hx hb hK hR hS e8 dX0_tieSpan_8 (fun H locs hR hS => ?_)
      refine lv_goto (tgt := 15) hx hb dX0_tieSpan_9 (by decide) ?_
      refine lv_iconst (v := 0) hx hb dX0_tieSpan_15 (by decide) ?_
      have eR := Option.some.inj h
      subst eR
      exact h_ifin hx hb hr hlk hR hS dX0_tieSpan_16
  · cases o3 with
    | inl q => cases hq9
    | inr q6 =>
      cases hq9
      replace h := exr_o h
      by_cases c9 : q6.1 = 0
      · replace h := it_o c9 h
        have hce : ∃ ce : Cell, H[q6.2]? = some ce ∧ ce.vm = .none ∧ s.vm.findClass "java/lang/IndexOutOfBoundsException" = some ce.cls := by rw [c9] at hce; exact hce
        refine h_catch (E := "java/lang/IndexOutOfBoundsException") hown hTb rfl (by decide) (by decide) rfl (hts _ q1941) (hK.ca 7 rfl) hce ?_
        refine lv_astore_n (lv' := [(3, .ref (q6.2)), (0, .ref v0), (1, .int v1), (2, .ref v2)]) hx hb dX0_tieSpan_12 rfl hl (by decide) rfl (fun ls hl => ?_)
        refine lv_iconst (v := 1) hx hb dX0_tieSpan_13 (by decide) ?_
        have eR := Option.some.inj h
        subst eR
        exact h_ifin hx hb hr hlk hR hS dX0_tieSpan_14
      · replace h := if_o c9 h
        exact (nomatch h)
theorem mX0_tieSpan {l : Launch} {G : gE} {A : Nat → Prop} {v0 : Nat} {v1 : Int32} {v2 : Nat} {w : WH} {r : (Int32 × WH)} (hl0 : l.stackTraces = false) (h : fX0_tieSpan v0 v1 v2 w = some r) : hMW l G A yX0_tieSpan cX0_tieSpan 4 (some .int) [(0, 9, 12, 19)] 33 1557 [.ref v0, .int v1, .ref v2] w (some (.int r.1)) r.2 :=
  h_ofW (by decide +kernel) (Nat.le_of_ble_eq_true rfl) (fun p e s m args below meth c ls B hnm hTb hR hS hl => bX0_tieSpan_0 B hTb hl0 h hR hS hl)
noncomputable def fX0_revenueOf (v0 : Nat) (v1 : Int32) (v2 : Nat) (w : WH) : Option ((Int32 × WH)) :=
  (hIs w v0 17).bind fun _ =>
  b2_ (fX1_revenueOf v0 v1 w) fun o3 w1 => ex_ o3 (fun x5 =>
    (stJ w1 v2 0 x5).bind fun w7 =>
    some (0, w7)) (fun q6 =>
    if q6.1 = 0 then (
      some (1, w1)
    ) else (
      none
    ))
theorem bX0_revenueOf_0 {p : Program} {l : Launch} {e : Env} {s : State} {m : MethodId} {args : Array Value} {below : List Frame} {meth : Method} {c : Code} {H : Heap} {locs : List Loc} {ls : Array Slot} {G : gE} {A : Nat → Prop} {w0 : WH} (B : gB G RX0 cX0_revenueOf 4 (some .int) p s m args meth c) (hTb : c.exceptionTable.toList = tableOf [(0, 8, 11, 19)]) (hl0 : l.stackTraces = false) {v0 : Nat} {v1 : Int32} {v2 : Nat} {w : WH} {r : (Int32 × WH)} (h : fX0_revenueOf v0 v1 v2 w = some r)   (hR : RepH G A w H) (hS : Cu A s w0 w H locs) (hl : lv_has ls 4 [(0, .ref v0), (1, .int v1), (2, .ref v2)]) : W p l e (hRm 20 452 w0) s m args below meth c H locs (wC w0 - wC w) (wS w0 - wS w) (hZ below args s G A w0 (some (.int r.1)) r.2) (F0 m 0 ls []) := by
  have B0 := B
  obtain ⟨hx, hb, hml, hown, hts, hr, hlk, hK⟩ := B0
  unfold fX0_revenueOf at h
  refine lv_aload_n hx hb dX0_revenueOf_0 rfl (lv_at hl 2 rfl) ?_
  refine lv_iconst (v := 0) hx hb dX0_revenueOf_1 (by decide) ?_
  refine lv_aload_n hx hb dX0_revenueOf_2 rfl (lv_at hl 0 rfl) ?_
  refine lv_iload_n hx hb dX0_revenueOf_3 rfl (lv_at hl 1 rfl) ?_
  replace h := bo_o h
  obtain ⟨_, e2, h⟩ := h
  replace h := b2_o h
  obtain ⟨o3, w1, e4, h⟩ := h
  refine h_callVX 1 (ci := 17) (As := [.int v1]) (rest := [.int 0, .ref v2]) (o := oJ o3) (w' := w1) hx hb hml hown hts hK hR hS (Nat.le_refl _) (Nat.le_refl _) rfl e2 (mX1_revenueOf hl0 e4) (lw_V q2167 q2168 q2169 q112 q2170) (by decide +kernel) (Nat.le_of_ble_eq_true rfl) (Nat.le_of_ble_eq_true rfl) rfl hl.1 (Nat.le_of_ble_eq_true rfl) dX0_revenueOf_4 rfl (fun v9 hv9 H locs hR hS => ?_) (fun E9 q9 hq9 H locs hR hS hce => ?_)
  · cases o3 with
    | inr q => cases hv9
    | inl x5 =>
      cases hv9
      replace h := exl_o h
      refine W.eq (g2 := F0 m 7 ls [.long x5, .int 0, .ref v2]) rfl ?_
      replace h := bo_o h
      obtain ⟨w7, e8, h⟩ := h
      refine h_last hx hb hK hR hS e8 dX0_revenueOf_7 (fun H locs hR hS => ?_)
      refine lv_goto (tgt := 14) hx hb dX0_revenueOf_8 (by decide) ?_
      refine lv_iconst (v := 0) hx hb dX0_revenueOf_14 (by decide) ?_
      have eR := Option.some.inj h
      subst eR
      exact h_ifin hx hb hr hlk hR hS dX0_revenueOf_15
  · cases o3 with
    | inl q => cases hq9
    | inr q6 =>
      cases hq9
      replace h := exr_o h
      by_cases c9 : q6.1 = 0
      · replace h := it_o c9 h
        have hce : ∃ ce : Cell, H[q6.2]? = some ce ∧ ce.vm = .none ∧ s.vm.findClass "java/lang/IndexOutOfBoundsException" = some ce.cls := by rw [c9] at hce; exact hce
        refine h_catch (E := "java/lang/IndexOutOfBoundsException") hown hTb rfl (by decide) (by decide) rfl (hts _ q1941) (hK.ca 7 rfl) hce ?_
        refine lv_astore_n (lv' := [(3, .ref (q6.2)), (0, .ref v0), (1, .int v1), (2, .ref v2)]) hx hb dX0_revenueOf_11 rfl hl (by decide) rfl (fun ls hl => ?_)
        refine lv_iconst (v := 1) hx hb dX0_revenueOf_12 (by decide) ?_
        have eR := Option.some.inj h
        subst eR
        exact h_ifin hx hb hr hlk hR hS dX0_revenueOf_13
      · replace h := if_o c9 h
        exact (nomatch h)
theorem mX0_revenueOf {l : Launch} {G : gE} {A : Nat → Prop} {v0 : Nat} {v1 : Int32} {v2 : Nat} {w : WH} {r : (Int32 × WH)} (hl0 : l.stackTraces = false) (h : fX0_revenueOf v0 v1 v2 w = some r) : hMW l G A yX0_revenueOf cX0_revenueOf 4 (some .int) [(0, 8, 11, 19)] 20 452 [.ref v0, .int v1, .ref v2] w (some (.int r.1)) r.2 :=
  h_ofW (by decide +kernel) (Nat.le_of_ble_eq_true rfl) (fun p e s m args below meth c ls B hnm hTb hR hS hl => bX0_revenueOf_0 B hTb hl0 h hR hS hl)
noncomputable def fX0_arcRevenue (v0 : Nat) (v1 : Int32) (v2 : Nat) (w : WH) : Option ((Int32 × WH)) :=
  (hIs w v0 17).bind fun _ =>
  b2_ (fX1_arcRevenue v0 v1 w) fun o3 w1 => ex_ o3 (fun x5 =>
    (stJ w1 v2 0 x5).bind fun w7 =>
    some (0, w7)) (fun q6 =>
    if q6.1 = 0 then (
      some (1, w1)
    ) else (
      none
    ))
theorem bX0_arcRevenue_0 {p : Program} {l : Launch} {e : Env} {s : State} {m : MethodId} {args : Array Value} {below : List Frame} {meth : Method} {c : Code} {H : Heap} {locs : List Loc} {ls : Array Slot} {G : gE} {A : Nat → Prop} {w0 : WH} (B : gB G RX0 cX0_arcRevenue 4 (some .int) p s m args meth c) (hTb : c.exceptionTable.toList = tableOf [(0, 8, 11, 19)]) (hl0 : l.stackTraces = false) {v0 : Nat} {v1 : Int32} {v2 : Nat} {w : WH} {r : (Int32 × WH)} (h : fX0_arcRevenue v0 v1 v2 w = some r)   (hR : RepH G A w H) (hS : Cu A s w0 w H locs) (hl : lv_has ls 4 [(0, .ref v0), (1, .int v1), (2, .ref v2)]) : W p l e (hRm 22 500 w0) s m args below meth c H locs (wC w0 - wC w) (wS w0 - wS w) (hZ below args s G A w0 (some (.int r.1)) r.2) (F0 m 0 ls []) := by
  have B0 := B
  obtain ⟨hx, hb, hml, hown, hts, hr, hlk, hK⟩ := B0
  unfold fX0_arcRevenue at h
  refine lv_aload_n hx hb dX0_arcRevenue_0 rfl (lv_at hl 2 rfl) ?_
  refine lv_iconst (v := 0) hx hb dX0_arcRevenue_1 (by decide) ?_
  refine lv_aload_n hx hb dX0_arcRevenue_2 rfl (lv_at hl 0 rfl) ?_
  refine lv_iload_n hx hb dX0_arcRevenue_3 rfl (lv_at hl 1 rfl) ?_
  replace h := bo_o h
  obtain ⟨_, e2, h⟩ := h
  replace h := b2_o h
  obtain ⟨o3, w1, e4, h⟩ := h
  refine h_callVX 1 (ci := 17) (As := [.int v1]) (rest := [.int 0, .ref v2]) (o := oJ o3) (w' := w1) hx hb hml hown hts hK hR hS (Nat.le_refl _) (Nat.le_refl _) rfl e2 (mX1_arcRevenue hl0 e4) (lw_V q2174 q2175 q2176 q112 q2177) (by decide +kernel) (Nat.le_of_ble_eq_true rfl) (Nat.le_of_ble_eq_true rfl) rfl hl.1 (Nat.le_of_ble_eq_true rfl) dX0_arcRevenue_4 rfl (fun v9 hv9 H locs hR hS => ?_) (fun E9 q9 hq9 H locs hR hS hce => ?_)
  · cases o3 with
    | inr q => cases hv9
    | inl x5 =>
      cases hv9
      replace h := exl_o h
      refine W.eq (g2 := F0 m 7 ls [.long x5, .int 0, .ref v2]) rfl ?_
      replace h := bo_o h
      obtain ⟨w7, e8, h⟩ := h
      refine h_last hx hb hK hR hS e8 dX0_arcRevenue_7 (fun H locs hR hS => ?_)
      refine lv_goto (tgt := 14) hx hb dX0_arcRevenue_8 (by decide) ?_
      refine lv_iconst (v := 0) hx hb dX0_arcRevenue_14 (by decide) ?_
      have eR := Option.some.inj h
      subst eR
      exact h_ifin hx hb hr hlk hR hS dX0_arcRevenue_15
  · cases o3 with
    | inl q => cases hq9
    | inr q6 =>
      cases hq9
      replace h := exr_o h
      by_cases c9 : q6.1 = 0
      · replace h := it_o c9 h
        have hce : ∃ ce : Cell, H[q6.2]? = some ce ∧ ce.vm = .none ∧ s.vm.findClass "java/lang/IndexOutOfBoundsException" = some ce.cls := by rw [c9] at hce; exact hce
        refine h_catch (E := "java/lang/IndexOutOfBoundsException") hown hTb rfl (by decide) (by decide) rfl (hts _ q1941) (hK.ca 7 rfl) hce ?_
        refine lv_astore_n (lv' := [(3, .ref (q6.2)), (0, .ref v0), (1, .int v1), (2, .ref v2)]) hx hb dX0_arcRevenue_11 rfl hl (by decide) rfl (fun ls hl => ?_)
        refine lv_iconst (v := 1) hx hb dX0_arcRevenue_12 (by decide) ?_
        have eR := Option.some.inj h
        subst eR
        exact h_ifin hx hb hr hlk hR hS dX0_arcRevenue_13
      · replace h := if_o c9 h
        exact (nomatch h)
theorem mX0_arcRevenue {l : Launch} {G : gE} {A : Nat → Prop} {v0 : Nat} {v1 : Int32} {v2 : Nat} {w : WH} {r : (Int32 × WH)} (hl0 : l.stackTraces = false) (h : fX0_arcRevenue v0 v1 v2 w = some r) : hMW l G A yX0_arcRevenue cX0_arcRevenue 4 (some .int) [(0, 8, 11, 19)] 22 500 [.ref v0, .int v1, .ref v2] w (some (.int r.1)) r.2 :=
  h_ofW (by decide +kernel) (Nat.le_of_ble_eq_true rfl) (fun p e s m args below meth c ls B hnm hTb hR hS hl => bX0_arcRevenue_0 B hTb hl0 h hR hS hl)
noncomputable def fX0_pledge (v0 : Nat) (v1 : Int32) (v2 : Nat) (w : WH) : Option ((Int32 × WH)) :=
  (hIs w v0 17).bind fun _ =>
  b2_ (fX1_pledge v0 v1 w) fun o3 w1 => ex_ o3 (fun x5 =>
    (stJ w1 v2 0 x5).bind fun w7 =>
    some (0, w7)) (fun q6 =>
    if q6.1 = 0 then (
      some (1, w1)
    ) else (
      none
    ))
theorem bX0_pledge_0 {p : Program} {l : Launch} {e : Env} {s : State} {m : MethodId} {args : Array Value} {below : List Frame} {meth : Method} {c : Code} {H : Heap} {locs : List Loc} {ls : Array Slot} {G : gE} {A : Nat → Prop} {w0 : WH} (B : gB G RX0 cX0_pledge 4 (some .int) p s m args meth c) (hTb : c.exceptionTable.toList = tableOf [(0, 8, 11, 19)]) (hl0 : l.stackTraces = false) {v0 : Nat} {v1 : Int32} {v2 : Nat} {w : WH} {r : (Int32 × WH)} (h : fX0_pledge v0 v1 v2 w = some r)   (hR : RepH G A w H) (hS : Cu A s w0 w H locs) (hl : lv_has ls 4 [(0, .ref v0), (1, .int v1), (2, .ref v2)]) : W p l e (hRm 19 431 w0) s m args below meth c H locs (wC w0 - wC w) (wS w0 - wS w) (hZ below args s G A w0 (some (.int r.1)) r.2) (F0 m 0 ls []) := by
  have B0 := B
  obtain ⟨hx, hb, hml, hown, hts, hr, hlk, hK⟩ := B0
  unfold fX0_pledge at h
  refine lv_aload_n hx hb dX0_pledge_0 rfl (lv_at hl 2 rfl) ?_
  refine lv_iconst (v := 0) hx hb dX0_pledge_1 (by decide) ?_
  refine lv_aload_n hx hb dX0_pledge_2 rfl (lv_at hl 0 rfl) ?_
  refine lv_iload_n hx hb dX0_pledge_3 rfl (lv_at hl 1 rfl) ?_
  replace h := bo_o h
  obtain ⟨_, e2, h⟩ := h
  replace h := b2_o h
  obtain ⟨o3, w1, e4, h⟩ := h
  refine h_callVX 1 (ci := 17) (As := [.int v1]) (rest := [.int 0, .ref v2]) (o := oJ o3) (w' := w1) hx hb hml hown hts hK hR hS (Nat.le_refl _) (Nat.le_refl _) rfl e2 (mX1_pledge hl0 e4) (lw_V q2181 q2182 q2183 q112 q2184) (by decide +kernel) (Nat.le_of_ble_eq_true rfl) (Nat.le_of_ble_eq_true rfl) rfl hl.1 (Nat.le_of_ble_eq_true rfl) dX0_pledge_4 rfl (fun v9 hv9 H locs hR hS => ?_) (fun E9 q9 hq9 H locs hR hS hce => ?_)
  · cases o3 with
    | inr q => cases hv9
    | inl x5 =>
      cases hv9
      replace h := exl_o h
      refine W.eq (g2 := F0 m 7 ls [.long x5, .int 0, .ref v2]) rfl ?_
      replace h := bo_o h
      obtain ⟨w7, e8, h⟩ := h
      refine h_last hx hb hK hR hS e8 dX0_pledge_7 (fun H locs hR hS => ?_)
      refine lv_goto (tgt := 14) hx hb dX0_pledge_8 (by decide) ?_
      refine lv_iconst (v := 0) hx hb dX0_pledge_14 (by decide) ?_
      have eR := Option.some.inj h
      subst eR
      exact h_ifin hx hb hr hlk hR hS dX0_pledge_15
  · cases o3 with
    | inl q => cases hq9
    | inr q6 =>
      cases hq9
      replace h := exr_o h
      by_cases c9 : q6.1 = 0
      · replace h := it_o c9 h
        have hce : ∃ ce : Cell, H[q6.2]? = some ce ∧ ce.vm = .none ∧ s.vm.findClass "java/lang/IndexOutOfBoundsException" = some ce.cls := by rw [c9] at hce; exact hce
        refine h_catch (E := "java/lang/IndexOutOfBoundsException") hown hTb rfl (by decide) (by decide) rfl (hts _ q1941) (hK.ca 7 rfl) hce ?_
        refine lv_astore_n (lv' := [(3, .ref (q6.2)), (0, .ref v0), (1, .int v1), (2, .ref v2)]) hx hb dX0_pledge_11 rfl hl (by decide) rfl (fun ls hl => ?_)
        refine lv_iconst (v := 1) hx hb dX0_pledge_12 (by decide) ?_
        have eR := Option.some.inj h
        subst eR
        exact h_ifin hx hb hr hlk hR hS dX0_pledge_13
      · replace h := if_o c9 h
        exact (nomatch h)
theorem mX0_pledge {l : Launch} {G : gE} {A : Nat → Prop} {v0 : Nat} {v1 : Int32} {v2 : Nat} {w : WH} {r : (Int32 × WH)} (hl0 : l.stackTraces = false) (h : fX0_pledge v0 v1 v2 w = some r) : hMW l G A yX0_pledge cX0_pledge 4 (some .int) [(0, 8, 11, 19)] 19 431 [.ref v0, .int v1, .ref v2] w (some (.int r.1)) r.2 :=
  h_ofW (by decide +kernel) (Nat.le_of_ble_eq_true rfl) (fun p e s m args below meth c ls B hnm hTb hR hS hl => bX0_pledge_0 B hTb hl0 h hR hS hl)
noncomputable def fX0_keepToll (v0 : Nat) (v1 : Int32) (v2 : Int32) (v3 : Nat) (w : WH) : Option ((Int32 × WH)) :=
  (hIs w v0 17).bind fun _ =>
  b2_ (fX1_keepToll v0 v1 v2 w) fun o3 w1 => ex_ o3 (fun x5 =>
    (stJ w1 v3 0 (x5.toInt64)).bind fun w7 =>
    some (0, w7)) (fun q6 =>
    if q6.1 = 0 then (
      some (1, w1)
    ) else (
      none
    ))
theorem bX0_keepToll_0 {p : Program} {l : Launch} {e : Env} {s : State} {m : MethodId} {args : Array Value} {below : List Frame} {meth : Method} {c : Code} {H : Heap} {locs : List Loc} {ls : Array Slot} {G : gE} {A : Nat → Prop} {w0 : WH} (B : gB G RX0 cX0_keepToll 5 (some .int) p s m args meth c) (hTb : c.exceptionTable.toList = tableOf [(0, 10, 13, 19)]) (hl0 : l.stackTraces = false) {v0 : Nat} {v1 : Int32} {v2 : Int32} {v3 : Nat} {w : WH} {r : (Int32 × WH)} (h : fX0_keepToll v0 v1 v2 v3 w = some r)   (hR : RepH G A w H) (hS : Cu A s w0 w H locs) (hl : lv_has ls 5 [(0, .ref v0), (1, .int v1), (2, .int v2), (3, .ref v3)]) : W p l e (hRm 22 504 w0) s m args below meth c H locs (wC w0 - wC w) (wS w0 - wS w) (hZ below args s G A w0 (some (.int r.1)) r.2) (F0 m 0 ls []) := by
  have B0 := B
  obtain ⟨hx, hb, hml, hown, hts, hr, hlk, hK⟩ := B0
  unfold fX0_keepToll at h
  refine lv_aload_n hx hb dX0_keepToll_0 rfl (lv_at hl 3 rfl) ?_
  refine lv_iconst (v := 0) hx hb dX0_keepToll_1 (by decide) ?_
  refine lv_aload_n hx hb dX0_keepToll_2 rfl (lv_at hl 0 rfl) ?_
  refine lv_iload_n hx hb dX0_keepToll_3 rfl (lv_at hl 1 rfl) ?_
  refine lv_iload_n hx hb dX0_keepToll_4 rfl (lv_at hl 2 rfl) ?_
  replace h := bo_o h
  obtain ⟨_, e2, h⟩ := h
  replace h := b2_o h
  obtain ⟨o3, w1, e4, h⟩ := h
  refine h_callVX 2 (ci := 17) (As := [.int v1, .int v2]) (rest := [.int 0, .ref v3]) (o := oI o3) (w' := w1) hx hb hml hown hts hK hR hS (Nat.le_refl _) (Nat.le_refl _) rfl e2 (mX1_keepToll hl0 e4) (lw_V q2188 q2189 q2190 q112 q2191) (by decide +kernel) (Nat.le_of_ble_eq_true rfl) (Nat.le_of_ble_eq_true rfl) rfl hl.1 (Nat.le_of_ble_eq_true rfl) dX0_keepToll_5 rfl (fun v9 hv9 H locs hR hS => ?_) (fun E9 q9 hq9 H locs hR hS hce => ?_)
  · cases o3 with
    | inr q => cases hv9
    | inl x5 =>
      cases hv9
      replace h := exl_o h
      refine W.eq (g2 := F0 m 8 ls [.int x5, .int 0, .ref v3]) rfl ?_
      refine lv_i2l hx hb dX0_keepToll_8 rfl ?_
      replace h := bo_o h
      obtain ⟨w7, e8, h⟩ := h
      refine h_last hx hb hK hR hS e8 dX0_keepToll_9 (fun H locs hR hS => ?_)
      refine lv_goto (tgt := 17) hx hb dX0_keepToll_10 (by decide) ?_
      refine lv_iconst (v := 0) hx hb dX0_keepToll_17 (by decide) ?_
      have eR := Option.some.inj h
      subst eR
      exact h_ifin hx hb hr hlk hR hS dX0_keepToll_18
  · cases o3 with
    | inl q => cases hq9
    | inr q6 =>
      cases hq9
      replace h := exr_o h
      by_cases c9 : q6.1 = 0
      · replace h := it_o c9 h
        have hce : ∃ ce : Cell, H[q6.2]? = some ce ∧ ce.vm = .none ∧ s.vm.findClass "java/lang/IndexOutOfBoundsException" = some ce.cls := by rw [c9] at hce; exact hce
        refine h_catch (E := "java/lang/IndexOutOfBoundsException") hown hTb rfl (by decide) (by decide) rfl (hts _ q1941) (hK.ca 7 rfl) hce ?_
        refine lv_astore (lv' := [(4, .ref (q6.2)), (0, .ref v0), (1, .int v1), (2, .int v2), (3, .ref v3)]) hx hb dX0_keepToll_13 hl (by decide) rfl (fun ls hl => ?_)
        refine lv_iconst (v := 1) hx hb dX0_keepToll_15 (by decide) ?_
        have eR := Option.some.inj h
        subst eR
        exact h_ifin hx hb hr hlk hR hS dX0_keepToll_16
      · replace h := if_o c9 h
        exact (nomatch h)
theorem mX0_keepToll {l : Launch} {G : gE} {A : Nat → Prop} {v0 : Nat} {v1 : Int32} {v2 : Int32} {v3 : Nat} {w : WH} {r : (Int32 × WH)} (hl0 : l.stackTraces = false) (h : fX0_keepToll v0 v1 v2 v3 w = some r) : hMW l G A yX0_keepToll cX0_keepToll 5 (some .int) [(0, 10, 13, 19)] 22 504 [.ref v0, .int v1, .int v2, .ref v3] w (some (.int r.1)) r.2 :=
  h_ofW (by decide +kernel) (Nat.le_of_ble_eq_true rfl) (fun p e s m args below meth c ls B hnm hTb hR hS hl => bX0_keepToll_0 B hTb hl0 h hR hS hl)
noncomputable def fX0_bestToll (v0 : Nat) (v1 : Int32) (v2 : Nat) (w : WH) : Option ((Int32 × WH)) :=
  (hIs w v0 17).bind fun _ =>
  b2_ (fX1_bestToll v0 v1 w) fun o3 w1 => ex_ o3 (fun x5 =>
    (stJ w1 v2 0 (x5.toInt64)).bind fun w7 =>
    some (0, w7)) (fun q6 =>
    if q6.1 = 0 then (
      some (1, w1)
    ) else (
      none
    ))
theorem bX0_bestToll_0 {p : Program} {l : Launch} {e : Env} {s : State} {m : MethodId} {args : Array Value} {below : List Frame} {meth : Method} {c : Code} {H : Heap} {locs : List Loc} {ls : Array Slot} {G : gE} {A : Nat → Prop} {w0 : WH} (B : gB G RX0 cX0_bestToll 4 (some .int) p s m args meth c) (hTb : c.exceptionTable.toList = tableOf [(0, 9, 12, 19)]) (hl0 : l.stackTraces = false) {v0 : Nat} {v1 : Int32} {v2 : Nat} {w : WH} {r : (Int32 × WH)} (h : fX0_bestToll v0 v1 v2 w = some r)   (hR : RepH G A w H) (hS : Cu A s w0 w H locs) (hl : lv_has ls 4 [(0, .ref v0), (1, .int v1), (2, .ref v2)]) : W p l e (hRm 23 527 w0) s m args below meth c H locs (wC w0 - wC w) (wS w0 - wS w) (hZ below args s G A w0 (some (.int r.1)) r.2) (F0 m 0 ls []) := by
  have B0 := B
  obtain ⟨hx, hb, hml, hown, hts, hr, hlk, hK⟩ := B0
  unfold fX0_bestToll at h
  refine lv_aload_n hx hb dX0_bestToll_0 rfl (lv_at hl 2 rfl) ?_
  refine lv_iconst (v := 0) hx hb dX0_bestToll_1 (by decide) ?_
  refine lv_aload_n hx hb dX0_bestToll_2 rfl (lv_at hl 0 rfl) ?_
  refine lv_iload_n hx hb dX0_bestToll_3 rfl (lv_at hl 1 rfl) ?_
  replace h := bo_o h
  obtain ⟨_, e2, h⟩ := h
  replace h := b2_o h
  obtain ⟨o3, w1, e4, h⟩ := h
  refine h_callVX 1 (ci := 17) (As := [.int v1]) (rest := [.int 0, .ref v2]) (o := oI o3) (w' := w1) hx hb hml hown hts hK hR hS (Nat.le_refl _) (Nat.le_refl _) rfl e2 (mX1_bestToll hl0 e4) (lw_V q2196 q2197 q2198 q112 q2199) (by decide +kernel) (Nat.le_of_ble_eq_true rfl) (Nat.le_of_ble_eq_true rfl) rfl hl.1 (Nat.le_of_ble_eq_true rfl) dX0_bestToll_4 rfl (fun v9 hv9 H locs hR hS => ?_) (fun E9 q9 hq9 H locs hR hS hce => ?_)
  · cases o3 with
    | inr q => cases hv9
    | inl x5 =>
      cases hv9
      replace h := exl_o h
      refine W.eq (g2 := F0 m 7 ls [.int x5, .int 0, .ref v2]) rfl ?_
      refine lv_i2l hx hb dX0_bestToll_7 rfl ?_
      replace h := bo_o h
      obtain ⟨w7, e8, h⟩ := h
      refine h_last hx hb hK hR hS e8 dX0_bestToll_8 (fun H locs hR hS => ?_)
      refine lv_goto (tgt := 15) hx hb dX0_bestToll_9 (by decide) ?_
      refine lv_iconst (v := 0) hx hb dX0_bestToll_15 (by decide) ?_
      have eR := Option.some.inj h
      subst eR
      exact h_ifin hx hb hr hlk hR hS dX0_bestToll_16
  · cases o3 with
    | inl q => cases hq9
    | inr q6 =>
      cases hq9
      replace h := exr_o h
      by_cases c9 : q6.1 = 0
      · replace h := it_o c9 h
        have hce : ∃ ce : Cell, H[q6.2]? = some ce ∧ ce.vm = .none ∧ s.vm.findClass "java/lang/IndexOutOfBoundsException" = some ce.cls := by rw [c9] at hce; exact hce
        refine h_catch (E := "java/lang/IndexOutOfBoundsException") hown hTb rfl (by decide) (by decide) rfl (hts _ q1941) (hK.ca 7 rfl) hce ?_
        refine lv_astore_n (lv' := [(3, .ref (q6.2)), (0, .ref v0), (1, .int v1), (2, .ref v2)]) hx hb dX0_bestToll_12 rfl hl (by decide) rfl (fun ls hl => ?_)
        refine lv_iconst (v := 1) hx hb dX0_bestToll_13 (by decide) ?_
        have eR := Option.some.inj h
        subst eR
        exact h_ifin hx hb hr hlk hR hS dX0_bestToll_14
      · replace h := if_o c9 h
        exact (nomatch h)
theorem mX0_bestToll {l : Launch} {G : gE} {A : Nat → Prop} {v0 : Nat} {v1 : Int32} {v2 : Nat} {w : WH} {r : (Int32 × WH)} (hl0 : l.stackTraces = false) (h : fX0_bestToll v0 v1 v2 w = some r) : hMW l G A yX0_bestToll cX0_bestToll 4 (some .int) [(0, 9, 12, 19)] 23 527 [.ref v0, .int v1, .ref v2] w (some (.int r.1)) r.2 :=
  h_ofW (by decide +kernel) (Nat.le_of_ble_eq_true rfl) (fun p e s m args below meth c ls B hnm hTb hR hS hl => bX0_bestToll_0 B hTb hl0 h hR hS hl)
noncomputable def fX0_optimize (v0 : Nat) (v1 : Int32) (v2 : Nat) (w : WH) : Option ((Int32 × WH)) :=
  (hIs w v0 17).bind fun _ =>
  b2_ (fX1_optimize v0 v1 w) fun o3 w1 => ex_ o3 (fun x5 =>
    (stJ w1 v2 0 (x5.toInt64)).bind fun w7 =>
    some (0, w7)) (fun q6 =>
    if q6.1 = 1 then (
      some (1, w1)
    ) else (
      none
    ))
theorem bX0_optimize_0 {p : Program} {l : Launch} {e : Env} {s : State} {m : MethodId} {args : Array Value} {below : List Frame} {meth : Method} {c : Code} {H : Heap} {locs : List Loc} {ls : Array Slot} {G : gE} {A : Nat → Prop} {w0 : WH} (B : gB G RX0 cX0_optimize 4 (some .int) p s m args meth c) (hTb : c.exceptionTable.toList = tableOf [(0, 9, 12, 13)]) (hl0 : l.stackTraces = false) {v0 : Nat} {v1 : Int32} {v2 : Nat} {w : WH} {r : (Int32 × WH)} (h : fX0_optimize v0 v1 v2 w = some r)   (hR : RepH G A w H) (hS : Cu A s w0 w H locs) (hl : lv_has ls 4 [(0, .ref v0), (1, .int v1), (2, .ref v2)]) : W p l e (hRm 24 552 w0) s m args below meth c H locs (wC w0 - wC w) (wS w0 - wS w) (hZ below args s G A w0 (some (.int r.1)) r.2) (F0 m 0 ls []) := by
  have B0 := B
  obtain ⟨hx, hb, hml, hown, hts, hr, hlk, hK⟩ := B0
  unfold fX0_optimize at h
  refine lv_aload_n hx hb dX0_optimize_0 rfl (lv_at hl 2 rfl) ?_
  refine lv_iconst (v := 0) hx hb dX0_optimize_1 (by decide) ?_
  refine lv_aload_n hx hb dX0_optimize_2 rfl (lv_at hl 0 rfl) ?_
  refine lv_iload_n hx hb dX0_optimize_3 rfl (lv_at hl 1 rfl) ?_
  replace h := bo_o h
  obtain ⟨_, e2, h⟩ := h
  replace h := b2_o h
  obtain ⟨o3, w1, e4, h⟩ := h
  refine h_callVX 1 (ci := 17) (As := [.int v1]) (rest := [.int 0, .ref v2]) (o := oI o3) (w' := w1) hx hb hml hown hts hK hR hS (Nat.le_refl _) (Nat.le_refl _) rfl e2 (mX1_optimize hl0 e4) (lw_V q2203 q2204 q2205 q112 q2206) (by decide +kernel) (Nat.le_of_ble_eq_true rfl) (Nat.le_of_ble_eq_true rfl) rfl hl.1 (Nat.le_of_ble_eq_true rfl) dX0_optimize_4 rfl (fun v9 hv9 H locs hR hS => ?_) (fun E9 q9 hq9 H locs hR hS hce => ?_)
  · cases o3 with
    | inr q => cases hv9
    | inl x5 =>
      cases hv9
      replace h := exl_o h
      refine W.eq (g2 := F0 m 7 ls [.int x5, .int 0, .ref v2]) rfl ?_
      refine lv_i2l hx hb dX0_optimize_7 rfl ?_
      replace h := bo_o h
      obtain ⟨w7, e8, h⟩ := h
      refine h_last hx hb hK hR hS e8 dX0_optimize_8 (fun H locs hR hS => ?_)
      refine lv_goto (tgt := 15) hx hb dX0_optimize_9 (by decide) ?_
      refine lv_iconst (v := 0) hx hb dX0_optimize_15 (by decide) ?_
      have eR := Option.some.inj h
      subst eR
      exact h_ifin hx hb hr hlk hR hS dX0_optimize_16
  · cases o3 with
    | inl q => cases hq9
    | inr q6 =>
      cases hq9
      replace h := exr_o h
      by_cases c9 : q6.1 = 1
      · replace h := it_o c9 h
        have hce : ∃ ce : Cell, H[q6.2]? = some ce ∧ ce.vm = .none ∧ s.vm.findClass "java/lang/IllegalArgumentException" = some ce.cls := by rw [c9] at hce; exact hce
        refine h_catch (E := "java/lang/IllegalArgumentException") hown hTb rfl (by decide) (by decide) rfl (hts _ q1914) (hK.ca 0 rfl) hce ?_
        refine lv_astore_n (lv' := [(3, .ref (q6.2)), (0, .ref v0), (1, .int v1), (2, .ref v2)]) hx hb dX0_optimize_12 rfl hl (by decide) rfl (fun ls hl => ?_)
        refine lv_iconst (v := 1) hx hb dX0_optimize_13 (by decide) ?_
        have eR := Option.some.inj h
        subst eR
        exact h_ifin hx hb hr hlk hR hS dX0_optimize_14
      · replace h := if_o c9 h
        exact (nomatch h)
theorem mX0_optimize {l : Launch} {G : gE} {A : Nat → Prop} {v0 : Nat} {v1 : Int32} {v2 : Nat} {w : WH} {r : (Int32 × WH)} (hl0 : l.stackTraces = false) (h : fX0_optimize v0 v1 v2 w = some r) : hMW l G A yX0_optimize cX0_optimize 4 (some .int) [(0, 9, 12, 13)] 24 552 [.ref v0, .int v1, .ref v2] w (some (.int r.1)) r.2 :=
  h_ofW (by decide +kernel) (Nat.le_of_ble_eq_true rfl) (fun p e s m args below meth c ls B hnm hTb hR hS hl => bX0_optimize_0 B hTb hl0 h hR hS hl)
noncomputable def fX0_bestPair (v0 : Nat) (v1 : Int32) (v2 : Int32) (v3 : Int32) (v4 : Nat) (w : WH) : Option ((Int32 × WH)) :=
  (hIs w v0 17).bind fun _ =>
  b2_ (fX1_bestPair v0 v1 v2 v3 w) fun o3 w1 => ex_ o3 (fun x5 =>
    (stJ w1 v4 0 (x5.toInt64)).bind fun w7 =>
    some (0, w7)) (fun q6 =>
    if q6.1 = 0 then (
      some (1, w1)
    ) else (
      if q6.1 = 1 then (
        some (2, w1)
      ) else (
        none
      )
    ))
theorem bX0_bestPair_0 {p : Program} {l : Launch} {e : Env} {s : State} {m : MethodId} {args : Array Value} {below : List Frame} {meth : Method} {c : Code} {H : Heap} {locs : List Loc} {ls : Array Slot} {G : gE} {A : Nat → Prop} {w0 : WH} (B : gB G RX0 cX0_bestPair 6 (some .int) p s m args meth c) (hTb : c.exceptionTable.toList = tableOf [(0, 12, 15, 19), (0, 12, 19, 13)]) (hl0 : l.stackTraces = false) {v0 : Nat} {v1 : Int32} {v2 : Int32} {v3 : Int32} {v4 : Nat} {w : WH} {r : (Int32 × WH)} (h : fX0_bestPair v0 v1 v2 v3 v4 w = some r)   (hR : RepH G A w H) (hS : Cu A s w0 w H locs) (hl : lv_has ls 6 [(0, .ref v0), (1, .int v1), (2, .int v2), (3, .int v3), (4, .ref v4)]) : W p l e (hRm 21 486 w0) s m args below meth c H locs (wC w0 - wC w) (wS w0 - wS w) (hZ below args s G A w0 (some (.int r.1)) r.2) (F0 m 0 ls []) := by
  have B0 := B
  obtain ⟨hx, hb, hml, hown, hts, hr, hlk, hK⟩ := B0
  unfold fX0_bestPair at h
  refine lv_aload hx hb dX0_bestPair_0 (lv_at hl 4 rfl) ?_
  refine lv_iconst (v := 0) hx hb dX0_bestPair_2 (by decide) ?_
  refine lv_aload_n hx hb dX0_bestPair_3 rfl (lv_at hl 0 rfl) ?_
  refine lv_iload_n hx hb dX0_bestPair_4 rfl (lv_at hl 1 rfl) ?_
  refine lv_iload_n hx hb dX0_bestPair_5 rfl (lv_at hl 2 rfl) ?_
  refine lv_iload_n hx hb dX0_bestPair_6 rfl (lv_at hl 3 rfl) ?_
  replace h := bo_o h
  obtain ⟨_, e2, h⟩ := h
  replace h := b2_o h
  obtain ⟨o3, w1, e4, h⟩ := h
  refine h_callVX 3 (ci := 17) (As := [.int v1, .int v2, .int v3]) (rest := [.int 0, .ref v4]) (o := oI o3) (w' := w1) hx hb hml hown hts hK hR hS (Nat.le_refl _) (Nat.le_refl _) rfl e2 (mX1_bestPair hl0 e4) (lw_V q2211 q2212 q2213 q112 q2214) (by decide +kernel) (Nat.le_of_ble_eq_true rfl) (Nat.le_of_ble_eq_true rfl) rfl hl.1 (Nat.le_of_ble_eq_true rfl) dX0_bestPair_7 rfl (fun v9 hv9 H locs hR hS => ?_) (fun E9 q9 hq9 H locs hR hS hce => ?_)
  · cases o3 with
    | inr q => cases hv9
    | inl x5 =>
      cases hv9
      replace h := exl_o h
      refine W.eq (g2 := F0 m 10 ls [.int x5, .int 0, .ref v4]) rfl ?_
      refine lv_i2l hx hb dX0_bestPair_10 rfl ?_
      replace h := bo_o h
      obtain ⟨w7, e8, h⟩ := h
      refine h_last hx hb hK hR hS e8 dX0_bestPair_11 (fun H locs hR hS => ?_)
      refine lv_goto (tgt := 23) hx hb dX0_bestPair_12 (by decide) ?_
      refine lv_iconst (v := 0) hx hb dX0_bestPair_23 (by decide) ?_
      have eR := Option.some.inj h
      subst eR
      exact h_ifin hx hb hr hlk hR hS dX0_bestPair_24
  · cases o3 with
    | inl q => cases hq9
    | inr q6 =>
      cases hq9
      replace h := exr_o h
      by_cases c9 : q6.1 = 0
      · replace h := it_o c9 h
        have hce : ∃ ce : Cell, H[q6.2]? = some ce ∧ ce.vm = .none ∧ s.vm.findClass "java/lang/IndexOutOfBoundsException" = some ce.cls := by rw [c9] at hce; exact hce
        refine h_catch (E := "java/lang/IndexOutOfBoundsException") hown hTb rfl (by decide) (by decide) rfl (hts _ q1941) (hK.ca 7 rfl) hce ?_
        refine lv_astore (lv' := [(5, .ref (q6.2)), (0, .ref v0), (1, .int v1), (2, .int v2), (3, .int v3), (4, .ref v4)]) hx hb dX0_bestPair_15 hl (by decide) rfl (fun ls hl => ?_)
        refine lv_iconst (v := 1) hx hb dX0_bestPair_17 (by decide) ?_
        have eR := Option.some.inj h
        subst eR
        exact h_ifin hx hb hr hlk hR hS dX0_bestPair_18
      · replace h := if_o c9 h
        by_cases c10 : q6.1 = 1
        · replace h := it_o c10 h
          have hce : ∃ ce : Cell, H[q6.2]? = some ce ∧ ce.vm = .none ∧ s.vm.findClass "java/lang/IllegalArgumentException" = some ce.cls := by rw [c10] at hce; exact hce
          refine h_catch2 (E := "java/lang/IllegalArgumentException") hown hTb rfl (by decide) (hts _ q1941) (hK.nc 0 rfl) (by decide) (by decide) rfl (hts _ q1914) (hK.ca 0 rfl) hce ?_
          refine lv_astore (lv' := [(5, .ref (q6.2)), (0, .ref v0), (1, .int v1), (2, .int v2), (3, .int v3), (4, .ref v4)]) hx hb dX0_bestPair_19 hl (by decide) rfl (fun ls hl => ?_)
          refine lv_iconst (v := 2) hx hb dX0_bestPair_21 (by decide) ?_
          have eR := Option.some.inj h
          subst eR
          exact h_ifin hx hb hr hlk hR hS dX0_bestPair_22
        · replace h := if_o c10 h
          exact (nomatch h)
theorem mX0_bestPair {l : Launch} {G : gE} {A : Nat → Prop} {v0 : Nat} {v1 : Int32} {v2 : Int32} {v3 : Int32} {v4 : Nat} {w : WH} {r : (Int32 × WH)} (hl0 : l.stackTraces = false) (h : fX0_bestPair v0 v1 v2 v3 v4 w = some r) : hMW l G A yX0_bestPair cX0_bestPair 6 (some .int) [(0, 12, 15, 19), (0, 12, 19, 13)] 21 486 [.ref v0, .int v1, .int v2, .int v3, .ref v4] w (some (.int r.1)) r.2 :=
  h_ofW (by decide +kernel) (Nat.le_of_ble_eq_true rfl) (fun p e s m args below meth c ls B hnm hTb hR hS hl => bX0_bestPair_0 B hTb hl0 h hR hS hl)
noncomputable def fX0_detour (v0 : Nat) (v1 : Int32) (v2 : Int32) (v3 : Nat) (w : WH) : Option ((Int32 × WH)) :=
  (hIs w v0 17).bind fun _ =>
  b2_ (fX1_detour v0 v1 v2 w) fun o3 w1 => ex_ o3 (fun x5 =>
    (stJ w1 v3 0 (x5.toInt64)).bind fun w7 =>
    some (0, w7)) (fun q6 =>
    if q6.1 = 0 then (
      some (1, w1)
    ) else (
      none
    ))
theorem bX0_detour_0 {p : Program} {l : Launch} {e : Env} {s : State} {m : MethodId} {args : Array Value} {below : List Frame} {meth : Method} {c : Code} {H : Heap} {locs : List Loc} {ls : Array Slot} {G : gE} {A : Nat → Prop} {w0 : WH} (B : gB G RX0 cX0_detour 5 (some .int) p s m args meth c) (hTb : c.exceptionTable.toList = tableOf [(0, 10, 13, 19)]) (hl0 : l.stackTraces = false) {v0 : Nat} {v1 : Int32} {v2 : Int32} {v3 : Nat} {w : WH} {r : (Int32 × WH)} (h : fX0_detour v0 v1 v2 v3 w = some r)   (hR : RepH G A w H) (hS : Cu A s w0 w H locs) (hl : lv_has ls 5 [(0, .ref v0), (1, .int v1), (2, .int v2), (3, .ref v3)]) : W p l e (hRm 20 457 w0) s m args below meth c H locs (wC w0 - wC w) (wS w0 - wS w) (hZ below args s G A w0 (some (.int r.1)) r.2) (F0 m 0 ls []) := by
  have B0 := B
  obtain ⟨hx, hb, hml, hown, hts, hr, hlk, hK⟩ := B0
  unfold fX0_detour at h
  refine lv_aload_n hx hb dX0_detour_0 rfl (lv_at hl 3 rfl) ?_
  refine lv_iconst (v := 0) hx hb dX0_detour_1 (by decide) ?_
  refine lv_aload_n hx hb dX0_detour_2 rfl (lv_at hl 0 rfl) ?_
  refine lv_iload_n hx hb dX0_detour_3 rfl (lv_at hl 1 rfl) ?_
  refine lv_iload_n hx hb dX0_detour_4 rfl (lv_at hl 2 rfl) ?_
  replace h := bo_o h
  obtain ⟨_, e2, h⟩ := h
  replace h := b2_o h
  obtain ⟨o3, w1, e4, h⟩ := h
  refine h_callVX 2 (ci := 17) (As := [.int v1, .int v2]) (rest := [.int 0, .ref v3]) (o := oI o3) (w' := w1) hx hb hml hown hts hK hR hS (Nat.le_refl _) (Nat.le_refl _) rfl e2 (mX1_detour hl0 e4) (lw_V q2218 q2219 q2220 q112 q2221) (by decide +kernel) (Nat.le_of_ble_eq_true rfl) (Nat.le_of_ble_eq_true rfl) rfl hl.1 (Nat.le_of_ble_eq_true rfl) dX0_detour_5 rfl (fun v9 hv9 H locs hR hS => ?_) (fun E9 q9 hq9 H locs hR hS hce => ?_)
  · cases o3 with
    | inr q => cases hv9
    | inl x5 =>
      cases hv9
      replace h := exl_o h
      refine W.eq (g2 := F0 m 8 ls [.int x5, .int 0, .ref v3]) rfl ?_
      refine lv_i2l hx hb dX0_detour_8 rfl ?_
      replace h := bo_o h
      obtain ⟨w7, e8, h⟩ := h
      refine h_last hx hb hK hR hS e8 dX0_detour_9 (fun H locs hR hS => ?_)
      refine lv_goto (tgt := 17) hx hb dX0_detour_10 (by decide) ?_
      refine lv_iconst (v := 0) hx hb dX0_detour_17 (by decide) ?_
      have eR := Option.some.inj h
      subst eR
      exact h_ifin hx hb hr hlk hR hS dX0_detour_18
  · cases o3 with
    | inl q => cases hq9
    | inr q6 =>
      cases hq9
      replace h := exr_o h
      by_cases c9 : q6.1 = 0
      · replace h := it_o c9 h
        have hce : ∃ ce : Cell, H[q6.2]? = some ce ∧ ce.vm = .none ∧ s.vm.findClass "java/lang/IndexOutOfBoundsException" = some ce.cls := by rw [c9] at hce; exact hce
        refine h_catch (E := "java/lang/IndexOutOfBoundsException") hown hTb rfl (by decide) (by decide) rfl (hts _ q1941) (hK.ca 7 rfl) hce ?_
        refine lv_astore (lv' := [(4, .ref (q6.2)), (0, .ref v0), (1, .int v1), (2, .int v2), (3, .ref v3)]) hx hb dX0_detour_13 hl (by decide) rfl (fun ls hl => ?_)
        refine lv_iconst (v := 1) hx hb dX0_detour_15 (by decide) ?_
        have eR := Option.some.inj h
        subst eR
        exact h_ifin hx hb hr hlk hR hS dX0_detour_16
      · replace h := if_o c9 h
        exact (nomatch h)
theorem mX0_detour {l : Launch} {G : gE} {A : Nat → Prop} {v0 : Nat} {v1 : Int32} {v2 : Int32} {v3 : Nat} {w : WH} {r : (Int32 × WH)} (hl0 : l.stackTraces = false) (h : fX0_detour v0 v1 v2 v3 w = some r) : hMW l G A yX0_detour cX0_detour 5 (some .int) [(0, 10, 13, 19)] 20 457 [.ref v0, .int v1, .int v2, .ref v3] w (some (.int r.1)) r.2 :=
  h_ofW (by decide +kernel) (Nat.le_of_ble_eq_true rfl) (fun p e s m args below meth c ls B hnm hTb hR hS hl => bX0_detour_0 B hTb hl0 h hR hS hl)
noncomputable def fX0_captives (v0 : Nat) (v1 : Int32) (v2 : Nat) (w : WH) : Option ((Int32 × WH)) :=
  (hIs w v0 17).bind fun _ =>
  b2_ (fX1_captives v0 v1 w) fun o3 w1 => ex_ o3 (fun x5 =>
    (stJ w1 v2 0 (x5.toInt64)).bind fun w7 =>
    some (0, w7)) (fun q6 =>
    if q6.1 = 0 then (
      some (1, w1)
    ) else (
      none
    ))
theorem bX0_captives_0 {p : Program} {l : Launch} {e : Env} {s : State} {m : MethodId} {args : Array Value} {below : List Frame} {meth : Method} {c : Code} {H : Heap} {locs : List Loc} {ls : Array Slot} {G : gE} {A : Nat → Prop} {w0 : WH} (B : gB G RX0 cX0_captives 4 (some .int) p s m args meth c) (hTb : c.exceptionTable.toList = tableOf [(0, 9, 12, 19)]) (hl0 : l.stackTraces = false) {v0 : Nat} {v1 : Int32} {v2 : Nat} {w : WH} {r : (Int32 × WH)} (h : fX0_captives v0 v1 v2 w = some r)   (hR : RepH G A w H) (hS : Cu A s w0 w H locs) (hl : lv_has ls 4 [(0, .ref v0), (1, .int v1), (2, .ref v2)]) : W p l e (hRm 20 456 w0) s m args below meth c H locs (wC w0 - wC w) (wS w0 - wS w) (hZ below args s G A w0 (some (.int r.1)) r.2) (F0 m 0 ls []) := by
  have B0 := B
  obtain ⟨hx, hb, hml, hown, hts, hr, hlk, hK⟩ := B0
  unfold fX0_captives at h
  refine lv_aload_n hx hb dX0_captives_0 rfl (lv_at hl 2 rfl) ?_
  refine lv_iconst (v := 0) hx hb dX0_captives_1 (by decide) ?_
  refine lv_aload_n hx hb dX0_captives_2 rfl (lv_at hl 0 rfl) ?_
  refine lv_iload_n hx hb dX0_captives_3 rfl (lv_at hl 1 rfl) ?_
  replace h := bo_o h
  obtain ⟨_, e2, h⟩ := h
  replace h := b2_o h
  obtain ⟨o3, w1, e4, h⟩ := h
  refine h_callVX 1 (ci := 17) (As := [.int v1]) (rest := [.int 0, .ref v2]) (o := oI o3) (w' := w1) hx hb hml hown hts hK hR hS (Nat.le_refl _) (Nat.le_refl _) rfl e2 (mX1_captives hl0 e4) (lw_V q2230 q2231 q2232 q112 q2233) (by decide +kernel) (Nat.le_of_ble_eq_true rfl) (Nat.le_of_ble_eq_true rfl) rfl hl.1 (Nat.le_of_ble_eq_true rfl) dX0_captives_4 rfl (fun v9 hv9 H locs hR hS => ?_) (fun E9 q9 hq9 H locs hR hS hce => ?_)
  · cases o3 with
    | inr q => cases hv9
    | inl x5 =>
      cases hv9
      replace h := exl_o h
      refine W.eq (g2 := F0 m 7 ls [.int x5, .int 0, .ref v2]) rfl ?_
      refine lv_i2l hx hb dX0_captives_7 rfl ?_
      replace h := bo_o h
      obtain ⟨w7, e8, h⟩ := h
      refine h_last hx hb hK hR hS e8 dX0_captives_8 (fun H locs hR hS => ?_)
      refine lv_goto (tgt := 15) hx hb dX0_captives_9 (by decide) ?_
      refine lv_iconst (v := 0) hx hb dX0_captives_15 (by decide) ?_
      have eR := Option.some.inj h
      subst eR
      exact h_ifin hx hb hr hlk hR hS dX0_captives_16
  · cases o3 with
    | inl q => cases hq9
    | inr q6 =>
      cases hq9
      replace h := exr_o h
      by_cases c9 : q6.1 = 0
      · replace h := it_o c9 h
        have hce : ∃ ce : Cell, H[q6.2]? = some ce ∧ ce.vm = .none ∧ s.vm.findClass "java/lang/IndexOutOfBoundsException" = some ce.cls := by rw [c9] at hce; exact hce
        refine h_catch (E := "java/lang/IndexOutOfBoundsException") hown hTb rfl (by decide) (by decide) rfl (hts _ q1941) (hK.ca 7 rfl) hce ?_
        refine lv_astore_n (lv' := [(3, .ref (q6.2)), (0, .ref v0), (1, .int v1), (2, .ref v2)]) hx hb dX0_captives_12 rfl hl (by decide) rfl (fun ls hl => ?_)
        refine lv_iconst (v := 1) hx hb dX0_captives_13 (by decide) ?_
        have eR := Option.some.inj h
        subst eR
        exact h_ifin hx hb hr hlk hR hS dX0_captives_14
      · replace h := if_o c9 h
        exact (nomatch h)
theorem mX0_captives {l : Launch} {G : gE} {A : Nat → Prop} {v0 : Nat} {v1 : Int32} {v2 : Nat} {w : WH} {r : (Int32 × WH)} (hl0 : l.stackTraces = false) (h : fX0_captives v0 v1 v2 w = some r) : hMW l G A yX0_captives cX0_captives 4 (some .int) [(0, 9, 12, 19)] 20 456 [.ref v0, .int v1, .ref v2] w (some (.int r.1)) r.2 :=
  h_ofW (by decide +kernel) (Nat.le_of_ble_eq_true rfl) (fun p e s m args below meth c ls B hnm hTb hR hS hl => bX0_captives_0 B hTb hl0 h hR hS hl)
noncomputable def fX0_reachable (v0 : Nat) (v1 : Int32) (v2 : Nat) (w : WH) : Option ((Int32 × WH)) :=
  (hIs w v0 17).bind fun _ =>
  b2_ (fX1_reachable v0 v1 w) fun o3 w1 => ex_ o3 (fun x5 =>
    (stJ w1 v2 0 (x5.toInt64)).bind fun w7 =>
    some (0, w7)) (fun q6 =>
    if q6.1 = 1 then (
      some (1, w1)
    ) else (
      none
    ))
theorem bX0_reachable_0 {p : Program} {l : Launch} {e : Env} {s : State} {m : MethodId} {args : Array Value} {below : List Frame} {meth : Method} {c : Code} {H : Heap} {locs : List Loc} {ls : Array Slot} {G : gE} {A : Nat → Prop} {w0 : WH} (B : gB G RX0 cX0_reachable 4 (some .int) p s m args meth c) (hTb : c.exceptionTable.toList = tableOf [(0, 9, 12, 13)]) (hl0 : l.stackTraces = false) {v0 : Nat} {v1 : Int32} {v2 : Nat} {w : WH} {r : (Int32 × WH)} (h : fX0_reachable v0 v1 v2 w = some r)   (hR : RepH G A w H) (hS : Cu A s w0 w H locs) (hl : lv_has ls 4 [(0, .ref v0), (1, .int v1), (2, .ref v2)]) : W p l e (hRm 18 401 w0) s m args below meth c H locs (wC w0 - wC w) (wS w0 - wS w) (hZ below args s G A w0 (some (.int r.1)) r.2) (F0 m 0 ls []) := by
  have B0 := B
  obtain ⟨hx, hb, hml, hown, hts, hr, hlk, hK⟩ := B0
  unfold fX0_reachable at h
  refine lv_aload_n hx hb dX0_reachable_0 rfl (lv_at hl 2 rfl) ?_
  refine lv_iconst (v := 0) hx hb dX0_reachable_1 (by decide) ?_
  refine lv_aload_n hx hb dX0_reachable_2 rfl (lv_at hl 0 rfl) ?_
  refine lv_iload_n hx hb dX0_reachable_3 rfl (lv_at hl 1 rfl) ?_
  replace h := bo_o h
  obtain ⟨_, e2, h⟩ := h
  replace h := b2_o h
  obtain ⟨o3, w1, e4, h⟩ := h
  refine h_callVX 1 (ci := 17) (As := [.int v1]) (rest := [.int 0, .ref v2]) (o := oI o3) (w' := w1) hx hb hml hown hts hK hR hS (Nat.le_refl _) (Nat.le_refl _) rfl e2 (mX1_reachable hl0 e4) (lw_V q2237 q2238 q2239 q112 q2240) (by decide +kernel) (Nat.le_of_ble_eq_true rfl) (Nat.le_of_ble_eq_true rfl) rfl hl.1 (Nat.le_of_ble_eq_true rfl) dX0_reachable_4 rfl (fun v9 hv9 H locs hR hS => ?_) (fun E9 q9 hq9 H locs hR hS hce => ?_)
  · cases o3 with
    | inr q => cases hv9
    | inl x5 =>
      cases hv9
      replace h := exl_o h
      refine W.eq (g2 := F0 m 7 ls [.int x5, .int 0, .ref v2]) rfl ?_
      refine lv_i2l hx hb dX0_reachable_7 rfl ?_
      replace h := bo_o h
      obtain ⟨w7, e8, h⟩ := h
      refine h_last hx hb hK hR hS e8 dX0_reachable_8 (fun H locs hR hS => ?_)
      refine lv_goto (tgt := 15) hx hb dX0_reachable_9 (by decide) ?_
      refine lv_iconst (v := 0) hx hb dX0_reachable_15 (by decide) ?_
      have eR := Option.some.inj h
      subst eR
      exact h_ifin hx hb hr hlk hR hS dX0_reachable_16
  · cases o3 with
    | inl q => cases hq9
    | inr q6 =>
      cases hq9
      replace h := exr_o h
      by_cases c9 : q6.1 = 1
      · replace h := it_o c9 h
        have hce : ∃ ce : Cell, H[q6.2]? = some ce ∧ ce.vm = .none ∧ s.vm.findClass "java/lang/IllegalArgumentException" = some ce.cls := by rw [c9] at hce; exact hce
        refine h_catch (E := "java/lang/IllegalArgumentException") hown hTb rfl (by decide) (by decide) rfl (hts _ q1914) (hK.ca 0 rfl) hce ?_
        refine lv_astore_n (lv' := [(3, .ref (q6.2)), (0, .ref v0), (1, .int v1), (2, .ref v2)]) hx hb dX0_reachable_12 rfl hl (by decide) rfl (fun ls hl => ?_)
        refine lv_iconst (v := 1) hx hb dX0_reachable_13 (by decide) ?_
        have eR := Option.some.inj h
        subst eR
        exact h_ifin hx hb hr hlk hR hS dX0_reachable_14
      · replace h := if_o c9 h
        exact (nomatch h)
theorem mX0_reachable {l : Launch} {G : gE} {A : Nat → Prop} {v0 : Nat} {v1 : Int32} {v2 : Nat} {w : WH} {r : (Int32 × WH)} (hl0 : l.stackTraces = false) (h : fX0_reachable v0 v1 v2 w = some r) : hMW l G A yX0_reachable cX0_reachable 4 (some .int) [(0, 9, 12, 13)] 18 401 [.ref v0, .int v1, .ref v2] w (some (.int r.1)) r.2 :=
  h_ofW (by decide +kernel) (Nat.le_of_ble_eq_true rfl) (fun p e s m args below meth c ls B hnm hTb hR hS hl => bX0_reachable_0 B hTb hl0 h hR hS hl)
noncomputable def fX0_judge (v0 : Nat) (v1 : Int32) (v2 : Nat) (w : WH) : Option ((Int32 × WH)) :=
  (hIs w v0 17).bind fun _ =>
  b2_ (fX1_judge v0 v1 w) fun o3 w1 => ex_ o3 (fun x5 =>
    (stJ w1 v2 0 (x5.toInt64)).bind fun w7 =>
    some (0, w7)) (fun q6 =>
    if q6.1 = 0 then (
      some (1, w1)
    ) else (
      none
    ))
theorem bX0_judge_0 {p : Program} {l : Launch} {e : Env} {s : State} {m : MethodId} {args : Array Value} {below : List Frame} {meth : Method} {c : Code} {H : Heap} {locs : List Loc} {ls : Array Slot} {G : gE} {A : Nat → Prop} {w0 : WH} (B : gB G RX0 cX0_judge 4 (some .int) p s m args meth c) (hTb : c.exceptionTable.toList = tableOf [(0, 9, 12, 19)]) (hl0 : l.stackTraces = false) {v0 : Nat} {v1 : Int32} {v2 : Nat} {w : WH} {r : (Int32 × WH)} (h : fX0_judge v0 v1 v2 w = some r)   (hR : RepH G A w H) (hS : Cu A s w0 w H locs) (hl : lv_has ls 4 [(0, .ref v0), (1, .int v1), (2, .ref v2)]) : W p l e (hRm 19 431 w0) s m args below meth c H locs (wC w0 - wC w) (wS w0 - wS w) (hZ below args s G A w0 (some (.int r.1)) r.2) (F0 m 0 ls []) := by
  have B0 := B
  obtain ⟨hx, hb, hml, hown, hts, hr, hlk, hK⟩ := B0
  unfold fX0_judge at h
  refine lv_aload_n hx hb dX0_judge_0 rfl (lv_at hl 2 rfl) ?_
  refine lv_iconst (v := 0) hx hb dX0_judge_1 (by decide) ?_
  refine lv_aload_n hx hb dX0_judge_2 rfl (lv_at hl 0 rfl) ?_
  refine lv_iload_n hx hb dX0_judge_3 rfl (lv_at hl 1 rfl) ?_
  replace h := bo_o h
  obtain ⟨_, e2, h⟩ := h
  replace h := b2_o h
  obtain ⟨o3, w1, e4, h⟩ := h
  refine h_callVX 1 (ci := 17) (As := [.int v1]) (rest := [.int 0, .ref v2]) (o := oI o3) (w' := w1) hx hb hml hown hts hK hR hS (Nat.le_refl _) (Nat.le_refl _) rfl e2 (mX1_judge hl0 e4) (lw_V q2320 q2321 q2322 q112 q2323) (by decide +kernel) (Nat.le_of_ble_eq_true rfl) (Nat.le_of_ble_eq_true rfl) rfl hl.1 (Nat.le_of_ble_eq_true rfl) dX0_judge_4 rfl (fun v9 hv9 H locs hR hS => ?_) (fun E9 q9 hq9 H locs hR hS hce => ?_)
  · cases o3 with
    | inr q => cases hv9
    | inl x5 =>
      cases hv9
      replace h := exl_o h
      refine W.eq (g2 := F0 m 7 ls [.int x5, .int 0, .ref v2]) rfl ?_
      refine lv_i2l hx hb dX0_judge_7 rfl ?_
      replace h := bo_o h
      obtain ⟨w7, e8, h⟩ := h
      refine h_last hx hb hK hR hS e8 dX0_judge_8 (fun H locs hR hS => ?_)
      refine lv_goto (tgt := 15) hx hb dX0_judge_9 (by decide) ?_
      refine lv_iconst (v := 0) hx hb dX0_judge_15 (by decide) ?_
      have eR := Option.some.inj h
      subst eR
      exact h_ifin hx hb hr hlk hR hS dX0_judge_16
  · cases o3 with
    | inl q => cases hq9
    | inr q6 =>
      cases hq9
      replace h := exr_o h
      by_cases c9 : q6.1 = 0
      · replace h := it_o c9 h
        have hce : ∃ ce : Cell, H[q6.2]? = some ce ∧ ce.vm = .none ∧ s.vm.findClass "java/lang/IndexOutOfBoundsException" = some ce.cls := by rw [c9] at hce; exact hce
        refine h_catch (E := "java/lang/IndexOutOfBoundsException") hown hTb rfl (by decide) (by decide) rfl (hts _ q1941) (hK.ca 7 rfl) hce ?_
        refine lv_astore_n (lv' := [(3, .ref (q6.2)), (0, .ref v0), (1, .int v1), (2, .ref v2)]) hx hb dX0_judge_12 rfl hl (by decide) rfl (fun ls hl => ?_)
        refine lv_iconst (v := 1) hx hb dX0_judge_13 (by decide) ?_
        have eR := Option.some.inj h
        subst eR
        exact h_ifin hx hb hr hlk hR hS dX0_judge_14
      · replace h := if_o c9 h
        exact (nomatch h)
theorem mX0_judge {l : Launch} {G : gE} {A : Nat → Prop} {v0 : Nat} {v1 : Int32} {v2 : Nat} {w : WH} {r : (Int32 × WH)} (hl0 : l.stackTraces = false) (h : fX0_judge v0 v1 v2 w = some r) : hMW l G A yX0_judge cX0_judge 4 (some .int) [(0, 9, 12, 19)] 19 431 [.ref v0, .int v1, .ref v2] w (some (.int r.1)) r.2 :=
  h_ofW (by decide +kernel) (Nat.le_of_ble_eq_true rfl) (fun p e s m args below meth c ls B hnm hTb hR hS hl => bX0_judge_0 B hTb hl0 h hR hS hl)
noncomputable def fX0_margin (v0 : Nat) (v1 : Int32) (v2 : Nat) (w : WH) : Option ((Int32 × WH)) :=
  (hIs w v0 17).bind fun _ =>
  b2_ (fX1_margin v0 v1 w) fun o3 w1 => ex_ o3 (fun x5 =>
    (stJ w1 v2 0 (x5.toInt64)).bind fun w7 =>
    some (0, w7)) (fun q6 =>
    if q6.1 = 0 then (
      some (1, w1)
    ) else (
      none
    ))
theorem bX0_margin_0 {p : Program} {l : Launch} {e : Env} {s : State} {m : MethodId} {args : Array Value} {below : List Frame} {meth : Method} {c : Code} {H : Heap} {locs : List Loc} {ls : Array Slot} {G : gE} {A : Nat → Prop} {w0 : WH} (B : gB G RX0 cX0_margin 4 (some .int) p s m args meth c) (hTb : c.exceptionTable.toList = tableOf [(0, 9, 12, 19)]) (hl0 : l.stackTraces = false) {v0 : Nat} {v1 : Int32} {v2 : Nat} {w : WH} {r : (Int32 × WH)} (h : fX0_margin v0 v1 v2 w = some r)   (hR : RepH G A w H) (hS : Cu A s w0 w H locs) (hl : lv_has ls 4 [(0, .ref v0), (1, .int v1), (2, .ref v2)]) : W p l e (hRm 20 458 w0) s m args below meth c H locs (wC w0 - wC w) (wS w0 - wS w) (hZ below args s G A w0 (some (.int r.1)) r.2) (F0 m 0 ls []) := by
  have B0 := B
  obtain ⟨hx, hb, hml, hown, hts, hr, hlk, hK⟩ := B0
  unfold fX0_margin at h
  refine lv_aload_n hx hb dX0_margin_0 rfl (lv_at hl 2 rfl) ?_
  refine lv_iconst (v := 0) hx hb dX0_margin_1 (by decide) ?_
  refine lv_aload_n hx hb dX0_margin_2 rfl (lv_at hl 0 rfl) ?_
  refine lv_iload_n hx hb dX0_margin_3 rfl (lv_at hl 1 rfl) ?_
  replace h := bo_o h
  obtain ⟨_, e2, h⟩ := h
  replace h := b2_o h
  obtain ⟨o3, w1, e4, h⟩ := h
  refine h_callVX 1 (ci := 17) (As := [.int v1]) (rest := [.int 0, .ref v2]) (o := oI o3) (w' := w1) hx hb hml hown hts hK hR hS (Nat.le_refl _) (Nat.le_refl _) rfl e2 (mX1_margin hl0 e4) (lw_V q2333 q2334 q2335 q112 q2336) (by decide +kernel) (Nat.le_of_ble_eq_true rfl) (Nat.le_of_ble_eq_true rfl) rfl hl.1 (Nat.le_of_ble_eq_true rfl) dX0_margin_4 rfl (fun v9 hv9 H locs hR hS => ?_) (fun E9 q9 hq9 H locs hR hS hce => ?_)
  · cases o3 with
    | inr q => cases hv9
    | inl x5 =>
      cases hv9
      replace h := exl_o h
      refine W.eq (g2 := F0 m 7 ls [.int x5, .int 0, .ref v2]) rfl ?_
      refine lv_i2l hx hb dX0_margin_7 rfl ?_
      replace h := bo_o h
      obtain ⟨w7, e8, h⟩ := h
      refine h_last hx hb hK hR hS e8 dX0_margin_8 (fun H locs hR hS => ?_)
      refine lv_goto (tgt := 15) hx hb dX0_margin_9 (by decide) ?_
      refine lv_iconst (v := 0) hx hb dX0_margin_15 (by decide) ?_
      have eR := Option.some.inj h
      subst eR
      exact h_ifin hx hb hr hlk hR hS dX0_margin_16
  · cases o3 with
    | inl q => cases hq9
    | inr q6 =>
      cases hq9
      replace h := exr_o h
      by_cases c9 : q6.1 = 0
      · replace h := it_o c9 h
        have hce : ∃ ce : Cell, H[q6.2]? = some ce ∧ ce.vm = .none ∧ s.vm.findClass "java/lang/IndexOutOfBoundsException" = some ce.cls := by rw [c9] at hce; exact hce
        refine h_catch (E := "java/lang/IndexOutOfBoundsException") hown hTb rfl (by decide) (by decide) rfl (hts _ q1941) (hK.ca 7 rfl) hce ?_
        refine lv_astore_n (lv' := [(3, .ref (q6.2)), (0, .ref v0), (1, .int v1), (2, .ref v2)]) hx hb dX0_margin_12 rfl hl (by decide) rfl (fun ls hl => ?_)
        refine lv_iconst (v := 1) hx hb dX0_margin_13 (by decide) ?_
        have eR := Option.some.inj h
        subst eR
        exact h_ifin hx hb hr hlk hR hS dX0_margin_14
      · replace h := if_o c9 h
        exact (nomatch h)
theorem mX0_margin {l : Launch} {G : gE} {A : Nat → Prop} {v0 : Nat} {v1 : Int32} {v2 : Nat} {w : WH} {r : (Int32 × WH)} (hl0 : l.stackTraces = false) (h : fX0_margin v0 v1 v2 w = some r) : hMW l G A yX0_margin cX0_margin 4 (some .int) [(0, 9, 12, 19)] 20 458 [.ref v0, .int v1, .ref v2] w (some (.int r.1)) r.2 :=
  h_ofW (by decide +kernel) (Nat.le_of_ble_eq_true rfl) (fun p e s m args below meth c ls B hnm hTb hR hS hl => bX0_margin_0 B hTb hl0 h hR hS hl)
noncomputable def fX0_revenueWith (v0 : Nat) (v1 : Int32) (v2 : Int32) (v3 : Nat) (w : WH) : Option ((Int32 × WH)) :=
  (hIs w v0 17).bind fun _ =>
  b2_ (fX1_revenueWith v0 v1 v2 w) fun o3 w1 => ex_ o3 (fun x5 =>
    (stJ w1 v3 0 x5).bind fun w7 =>
    some (0, w7)) (fun q6 =>
    if q6.1 = 0 then (
      some (1, w1)
    ) else (
      if q6.1 = 1 then (
        some (2, w1)
      ) else (
        none
      )
    ))
theorem bX0_revenueWith_0 {p : Program} {l : Launch} {e : Env} {s : State} {m : MethodId} {args : Array Value} {below : List Frame} {meth : Method} {c : Code} {H : Heap} {locs : List Loc} {ls : Array Slot} {G : gE} {A : Nat → Prop} {w0 : WH} (B : gB G RX0 cX0_revenueWith 5 (some .int) p s m args meth c) (hTb : c.exceptionTable.toList = tableOf [(0, 9, 12, 19), (0, 9, 16, 13)]) (hl0 : l.stackTraces = false) {v0 : Nat} {v1 : Int32} {v2 : Int32} {v3 : Nat} {w : WH} {r : (Int32 × WH)} (h : fX0_revenueWith v0 v1 v2 v3 w = some r)   (hR : RepH G A w H) (hS : Cu A s w0 w H locs) (hl : lv_has ls 5 [(0, .ref v0), (1, .int v1), (2, .int v2), (3, .ref v3)]) : W p l e (hRm 21 479 w0) s m args below meth c H locs (wC w0 - wC w) (wS w0 - wS w) (hZ below args s G A w0 (some (.int r.1)) r.2) (F0 m 0 ls []) := by
  have B0 := B
  obtain ⟨hx, hb, hml, hown, hts, hr, hlk, hK⟩ := B0
  unfold fX0_revenueWith at h
  refine lv_aload_n hx hb dX0_revenueWith_0 rfl (lv_at hl 3 rfl) ?_
  refine lv_iconst (v := 0) hx hb dX0_revenueWith_1 (by decide) ?_
  refine lv_aload_n hx hb dX0_revenueWith_2 rfl (lv_at hl 0 rfl) ?_
  refine lv_iload_n hx hb dX0_revenueWith_3 rfl (lv_at hl 1 rfl) ?_
  refine lv_iload_n hx hb dX0_revenueWith_4 rfl (lv_at hl 2 rfl) ?_
  replace h := bo_o h
  obtain ⟨_, e2, h⟩ := h
  replace h := b2_o h
  obtain ⟨o3, w1, e4, h⟩ := h
  refine h_callVX 2 (ci := 17) (As := [.int v1, .int v2]) (rest := [.int 0, .ref v3]) (o := oJ o3) (w' := w1) hx hb hml hown hts hK hR hS (Nat.le_refl _) (Nat.le_refl _) rfl e2 (mX1_revenueWith hl0 e4) (lw_V q2343 q2344 q2345 q112 q2346) (by decide +kernel) (Nat.le_of_ble_eq_true rfl) (Nat.le_of_ble_eq_true rfl) rfl hl.1 (Nat.le_of_ble_eq_true rfl) dX0_revenueWith_5 rfl (fun v9 hv9 H locs hR hS => ?_) (fun E9 q9 hq9 H locs hR hS hce => ?_)
  · cases o3 with
    | inr q => cases hv9
    | inl x5 =>
      cases hv9
      replace h := exl_o h
      refine W.eq (g2 := F0 m 8 ls [.long x5, .int 0, .ref v3]) rfl ?_
      replace h := bo_o h
      obtain ⟨w7, e8, h⟩ := h
      refine h_last hx hb hK hR hS e8 dX0_revenueWith_8 (fun H locs hR hS => ?_)
      refine lv_goto (tgt := 20) hx hb dX0_revenueWith_9 (by decide) ?_
      refine lv_iconst (v := 0) hx hb dX0_revenueWith_20 (by decide) ?_
      have eR := Option.some.inj h
      subst eR
      exact h_ifin hx hb hr hlk hR hS dX0_revenueWith_21
  · cases o3 with
    | inl q => cases hq9
    | inr q6 =>
      cases hq9
      replace h := exr_o h
      by_cases c9 : q6.1 = 0
      · replace h := it_o c9 h
        have hce : ∃ ce : Cell, H[q6.2]? = some ce ∧ ce.vm = .none ∧ s.vm.findClass "java/lang/IndexOutOfBoundsException" = some ce.cls := by rw [c9] at hce; exact hce
        refine h_catch (E := "java/lang/IndexOutOfBoundsException") hown hTb rfl (by decide) (by decide) rfl (hts _ q1941) (hK.ca 7 rfl) hce ?_
        refine lv_astore (lv' := [(4, .ref (q6.2)), (0, .ref v0), (1, .int v1), (2, .int v2), (3, .ref v3)]) hx hb dX0_revenueWith_12 hl (by decide) rfl (fun ls hl => ?_)
        refine lv_iconst (v := 1) hx hb dX0_revenueWith_14 (by decide) ?_
        have eR := Option.some.inj h
        subst eR
        exact h_ifin hx hb hr hlk hR hS dX0_revenueWith_15
      · replace h := if_o c9 h
        by_cases c10 : q6.1 = 1
        · replace h := it_o c10 h
          have hce : ∃ ce : Cell, H[q6.2]? = some ce ∧ ce.vm = .none ∧ s.vm.findClass "java/lang/IllegalArgumentException" = some ce.cls := by rw [c10] at hce; exact hce
          refine h_catch2 (E := "java/lang/IllegalArgumentException") hown hTb rfl (by decide) (hts _ q1941) (hK.nc 0 rfl) (by decide) (by decide) rfl (hts _ q1914) (hK.ca 0 rfl) hce ?_
          refine lv_astore (lv' := [(4, .ref (q6.2)), (0, .ref v0), (1, .int v1), (2, .int v2), (3, .ref v3)]) hx hb dX0_revenueWith_16 hl (by decide) rfl (fun ls hl => ?_)
          refine lv_iconst (v := 2) hx hb dX0_revenueWith_18 (by decide) ?_
          have eR := Option.some.inj h
          subst eR
          exact h_ifin hx hb hr hlk hR hS dX0_revenueWith_19
        · replace h := if_o c10 h
          exact (nomatch h)
theorem mX0_revenueWith {l : Launch} {G : gE} {A : Nat → Prop} {v0 : Nat} {v1 : Int32} {v2 : Int32} {v3 : Nat} {w : WH} {r : (Int32 × WH)} (hl0 : l.stackTraces = false) (h : fX0_revenueWith v0 v1 v2 v3 w = some r) : hMW l G A yX0_revenueWith cX0_revenueWith 5 (some .int) [(0, 9, 12, 19), (0, 9, 16, 13)] 21 479 [.ref v0, .int v1, .int v2, .ref v3] w (some (.int r.1)) r.2 :=
  h_ofW (by decide +kernel) (Nat.le_of_ble_eq_true rfl) (fun p e s m args below meth c ls B hnm hTb hR hS hl => bX0_revenueWith_0 B hTb hl0 h hR hS hl)
noncomputable def fX0_stepCount (v0 : Nat) (v1 : Int32) (v2 : Nat) (w : WH) : Option ((Int32 × WH)) :=
  (hIs w v0 17).bind fun _ =>
  b2_ (fX1_stepCount v0 v1 w) fun o3 w1 => ex_ o3 (fun x5 =>
    (stJ w1 v2 0 (x5.toInt64)).bind fun w7 =>
    some (0, w7)) (fun q6 =>
    if q6.1 = 0 then (
      some (1, w1)
    ) else (
      none
    ))
theorem bX0_stepCount_0 {p : Program} {l : Launch} {e : Env} {s : State} {m : MethodId} {args : Array Value} {below : List Frame} {meth : Method} {c : Code} {H : Heap} {locs : List Loc} {ls : Array Slot} {G : gE} {A : Nat → Prop} {w0 : WH} (B : gB G RX0 cX0_stepCount 4 (some .int) p s m args meth c) (hTb : c.exceptionTable.toList = tableOf [(0, 9, 12, 19)]) (hl0 : l.stackTraces = false) {v0 : Nat} {v1 : Int32} {v2 : Nat} {w : WH} {r : (Int32 × WH)} (h : fX0_stepCount v0 v1 v2 w = some r)   (hR : RepH G A w H) (hS : Cu A s w0 w H locs) (hl : lv_has ls 4 [(0, .ref v0), (1, .int v1), (2, .ref v2)]) : W p l e (hRm 23 527 w0) s m args below meth c H locs (wC w0 - wC w) (wS w0 - wS w) (hZ below args s G A w0 (some (.int r.1)) r.2) (F0 m 0 ls []) := by
  have B0 := B
  obtain ⟨hx, hb, hml, hown, hts, hr, hlk, hK⟩ := B0
  unfold fX0_stepCount at h
  refine lv_aload_n hx hb dX0_stepCount_0 rfl (lv_at hl 2 rfl) ?_
  refine lv_iconst (v := 0) hx hb dX0_stepCount_1 (by decide) ?_
  refine lv_aload_n hx hb dX0_stepCount_2 rfl (lv_at hl 0 rfl) ?_
  refine lv_iload_n hx hb dX0_stepCount_3 rfl (lv_at hl 1 rfl) ?_
  replace h := bo_o h
  obtain ⟨_, e2, h⟩ := h
  replace h := b2_o h
  obtain ⟨o3, w1, e4, h⟩ := h
  refine h_callVX 1 (ci := 17) (As := [.int v1]) (rest := [.int 0, .ref v2]) (o := oI o3) (w' := w1) hx hb hml hown hts hK hR hS (Nat.le_refl _) (Nat.le_refl _) rfl e2 (mX1_stepCount hl0 e4) (lw_V q2350 q2351 q2352 q112 q2353) (by decide +kernel) (Nat.le_of_ble_eq_true rfl) (Nat.le_of_ble_eq_true rfl) rfl hl.1 (Nat.le_of_ble_eq_true rfl) dX0_stepCount_4 rfl (fun v9 hv9 H locs hR hS => ?_) (fun E9 q9 hq9 H locs hR hS hce => ?_)
  · cases o3 with
    | inr q => cases hv9
    | inl x5 =>
      cases hv9
      replace h := exl_o h
      refine W.eq (g2 := F0 m 7 ls [.int x5, .int 0, .ref v2]) rfl ?_
      refine lv_i2l hx hb dX0_stepCount_7 rfl ?_
      replace h := bo_o h
      obtain ⟨w7, e8, h⟩ := h
      refine h_last hx hb hK hR hS e8 dX0_stepCount_8 (fun H locs hR hS => ?_)
      refine lv_goto (tgt := 15) hx hb dX0_stepCount_9 (by decide) ?_
      refine lv_iconst (v := 0) hx hb dX0_stepCount_15 (by decide) ?_
      have eR := Option.some.inj h
      subst eR
      exact h_ifin hx hb hr hlk hR hS dX0_stepCount_16
  · cases o3 with
    | inl q => cases hq9
    | inr q6 =>
      cases hq9
      replace h := exr_o h
      by_cases c9 : q6.1 = 0
      · replace h := it_o c9 h
        have hce : ∃ ce : Cell, H[q6.2]? = some ce ∧ ce.vm = .none ∧ s.vm.findClass "java/lang/IndexOutOfBoundsException" = some ce.cls := by rw [c9] at hce; exact hce
        refine h_catch (E := "java/lang/IndexOutOfBoundsException") hown hTb rfl (by decide) (by decide) rfl (hts _ q1941) (hK.ca 7 rfl) hce ?_
        refine lv_astore_n (lv' := [(3, .ref (q6.2)), (0, .ref v0), (1, .int v1), (2, .ref v2)]) hx hb dX0_stepCount_12 rfl hl (by decide) rfl (fun ls hl => ?_)
        refine lv_iconst (v := 1) hx hb dX0_stepCount_13 (by decide) ?_
        have eR := Option.some.inj h
        subst eR
        exact h_ifin hx hb hr hlk hR hS dX0_stepCount_14
      · replace h := if_o c9 h
        exact (nomatch h)
theorem mX0_stepCount {l : Launch} {G : gE} {A : Nat → Prop} {v0 : Nat} {v1 : Int32} {v2 : Nat} {w : WH} {r : (Int32 × WH)} (hl0 : l.stackTraces = false) (h : fX0_stepCount v0 v1 v2 w = some r) : hMW l G A yX0_stepCount cX0_stepCount 4 (some .int) [(0, 9, 12, 19)] 23 527 [.ref v0, .int v1, .ref v2] w (some (.int r.1)) r.2 :=
  h_ofW (by decide +kernel) (Nat.le_of_ble_eq_true rfl) (fun p e s m args below meth c ls B hnm hTb hR hS hl => bX0_stepCount_0 B hTb hl0 h hR hS hl)
noncomputable def fX0_step (v0 : Nat) (v1 : Int32) (v2 : Int32) (v3 : Nat) (w : WH) : Option ((Int32 × WH)) :=
  (hIs w v0 17).bind fun _ =>
  b2_ (fX1_step v0 v1 v2 w) fun o3 w1 => ex_ o3 (fun x5 =>
    (stJ w1 v3 0 (x5.toInt64)).bind fun w7 =>
    some (0, w7)) (fun q6 =>
    if q6.1 = 0 then (
      some (1, w1)
    ) else (
      none
    ))
theorem bX0_step_0 {p : Program} {l : Launch} {e : Env} {s : State} {m : MethodId} {args : Array Value} {below : List Frame} {meth : Method} {c : Code} {H : Heap} {locs : List Loc} {ls : Array Slot} {G : gE} {A : Nat → Prop} {w0 : WH} (B : gB G RX0 cX0_step 5 (some .int) p s m args meth c) (hTb : c.exceptionTable.toList = tableOf [(0, 10, 13, 19)]) (hl0 : l.stackTraces = false) {v0 : Nat} {v1 : Int32} {v2 : Int32} {v3 : Nat} {w : WH} {r : (Int32 × WH)} (h : fX0_step v0 v1 v2 v3 w = some r)   (hR : RepH G A w H) (hS : Cu A s w0 w H locs) (hl : lv_has ls 5 [(0, .ref v0), (1, .int v1), (2, .int v2), (3, .ref v3)]) : W p l e (hRm 23 531 w0) s m args below meth c H locs (wC w0 - wC w) (wS w0 - wS w) (hZ below args s G A w0 (some (.int r.1)) r.2) (F0 m 0 ls []) := by
  have B0 := B
  obtain ⟨hx, hb, hml, hown, hts, hr, hlk, hK⟩ := B0
  unfold fX0_step at h
  refine lv_aload_n hx hb dX0_step_0 rfl (lv_at hl 3 rfl) ?_
  refine lv_iconst (v := 0) hx hb dX0_step_1 (by decide) ?_
  refine lv_aload_n hx hb dX0_step_2 rfl (lv_at hl 0 rfl) ?_
  refine lv_iload_n hx hb dX0_step_3 rfl (lv_at hl 1 rfl) ?_
  refine lv_iload_n hx hb dX0_step_4 rfl (lv_at hl 2 rfl) ?_
  replace h := bo_o h
  obtain ⟨_, e2, h⟩ := h
  replace h := b2_o h
  obtain ⟨o3, w1, e4, h⟩ := h
  refine h_callVX 2 (ci := 17) (As := [.int v1, .int v2]) (rest := [.int 0, .ref v3]) (o := oI o3) (w' := w1) hx hb hml hown hts hK hR hS (Nat.le_refl _) (Nat.le_refl _) rfl e2 (mX1_step hl0 e4) (lw_V q2364 q2365 q2366 q112 q2367) (by decide +kernel) (Nat.le_of_ble_eq_true rfl) (Nat.le_of_ble_eq_true rfl) rfl hl.1 (Nat.le_of_ble_eq_true rfl) dX0_step_5 rfl (fun v9 hv9 H locs hR hS => ?_) (fun E9 q9 hq9 H locs hR hS hce => ?_)
  · cases o3 with
    | inr q => cases hv9
    | inl x5 =>
      cases hv9
      replace h := exl_o h
      refine W.eq (g2 := F0 m 8 ls [.int x5, .int 0, .ref v3]) rfl ?_
      refine lv_i2l hx hb dX0_step_8 rfl ?_
      replace h := bo_o h
      obtain ⟨w7, e8, h⟩ := h
      refine h_last hx hb hK hR hS e8 dX0_step_9 (fun H locs hR hS => ?_)
      refine lv_goto (tgt := 17) hx hb dX0_step_10 (by decide) ?_
      refine lv_iconst (v := 0) hx hb dX0_step_17 (by decide) ?_
      have eR := Option.some.inj h
      subst eR
      exact h_ifin hx hb hr hlk hR hS dX0_step_18
  · cases o3 with
    | inl q => cases hq9
    | inr q6 =>
      cases hq9
      replace h := exr_o h
      by_cases c9 : q6.1 = 0
      · replace h := it_o c9 h
        have hce : ∃ ce : Cell, H[q6.2]? = some ce ∧ ce.vm = .none ∧ s.vm.findClass "java/lang/IndexOutOfBoundsException" = some ce.cls := by rw [c9] at hce; exact hce
        refine h_catch (E := "java/lang/IndexOutOfBoundsException") hown hTb rfl (by decide) (by decide) rfl (hts _ q1941) (hK.ca 7 rfl) hce ?_
        refine lv_astore (lv' := [(4, .ref (q6.2)), (0, .ref v0), (1, .int v1), (2, .int v2), (3, .ref v3)]) hx hb dX0_step_13 hl (by decide) rfl (fun ls hl => ?_)
        refine lv_iconst (v := 1) hx hb dX0_step_15 (by decide) ?_
        have eR := Option.some.inj h
        subst eR
        exact h_ifin hx hb hr hlk hR hS dX0_step_16
      · replace h := if_o c9 h
        exact (nomatch h)
theorem mX0_step {l : Launch} {G : gE} {A : Nat → Prop} {v0 : Nat} {v1 : Int32} {v2 : Int32} {v3 : Nat} {w : WH} {r : (Int32 × WH)} (hl0 : l.stackTraces = false) (h : fX0_step v0 v1 v2 v3 w = some r) : hMW l G A yX0_step cX0_step 5 (some .int) [(0, 10, 13, 19)] 23 531 [.ref v0, .int v1, .int v2, .ref v3] w (some (.int r.1)) r.2 :=
  h_ofW (by decide +kernel) (Nat.le_of_ble_eq_true rfl) (fun p e s m args below meth c ls B hnm hTb hR hS hl => bX0_step_0 B hTb hl0 h hR hS hl)
noncomputable def fX0_scaleTolls (v0 : Nat) (v1 : Int32) (v2 : Nat) (w : WH) : Option ((Int32 × WH)) :=
  (hIs w v0 17).bind fun _ =>
  b2_ (fX1_scaleTolls v0 v1 w) fun o3 w1 => ex_ o3 (fun x5 =>
    (stJ w1 v2 0 (x5.toInt64)).bind fun w7 =>
    some (0, w7)) (fun q6 =>
    if q6.1 = 1 then (
      some (1, w1)
    ) else (
      none
    ))
theorem bX0_scaleTolls_0 {p : Program} {l : Launch} {e : Env} {s : State} {m : MethodId} {args : Array Value} {below : List Frame} {meth : Method} {c : Code} {H : Heap} {locs : List Loc} {ls : Array Slot} {G : gE} {A : Nat → Prop} {w0 : WH} (B : gB G RX0 cX0_scaleTolls 4 (some .int) p s m args meth c) (hTb : c.exceptionTable.toList = tableOf [(0, 9, 12, 13)]) (hl0 : l.stackTraces = false) {v0 : Nat} {v1 : Int32} {v2 : Nat} {w : WH} {r : (Int32 × WH)} (h : fX0_scaleTolls v0 v1 v2 w = some r)   (hR : RepH G A w H) (hS : Cu A s w0 w H locs) (hl : lv_has ls 4 [(0, .ref v0), (1, .int v1), (2, .ref v2)]) : W p l e (hRm 16 357 w0) s m args below meth c H locs (wC w0 - wC w) (wS w0 - wS w) (hZ below args s G A w0 (some (.int r.1)) r.2) (F0 m 0 ls []) := by
  have B0 := B
  obtain ⟨hx, hb, hml, hown, hts, hr, hlk, hK⟩ := B0
  unfold fX0_scaleTolls at h
  refine lv_aload_n hx hb dX0_scaleTolls_0 rfl (lv_at hl 2 rfl) ?_
  refine lv_iconst (v := 0) hx hb dX0_scaleTolls_1 (by decide) ?_
  refine lv_aload_n hx hb dX0_scaleTolls_2 rfl (lv_at hl 0 rfl) ?_
  refine lv_iload_n hx hb dX0_scaleTolls_3 rfl (lv_at hl 1 rfl) ?_
  replace h := bo_o h
  obtain ⟨_, e2, h⟩ := h
  replace h := b2_o h
  obtain ⟨o3, w1, e4, h⟩ := h
  refine h_callVX 1 (ci := 17) (As := [.int v1]) (rest := [.int 0, .ref v2]) (o := oI o3) (w' := w1) hx hb hml hown hts hK hR hS (Nat.le_refl _) (Nat.le_refl _) rfl e2 (mX1_scaleTolls hl0 e4) (lw_V q2371 q2372 q2373 q112 q2374) (by decide +kernel) (Nat.le_of_ble_eq_true rfl) (Nat.le_of_ble_eq_true rfl) rfl hl.1 (Nat.le_of_ble_eq_true rfl) dX0_scaleTolls_4 rfl (fun v9 hv9 H locs hR hS => ?_) (fun E9 q9 hq9 H locs hR hS hce => ?_)
  · cases o3 with
    | inr q => cases hv9
    | inl x5 =>
      cases hv9
      replace h := exl_o h
      refine W.eq (g2 := F0 m 7 ls [.int x5, .int 0, .ref v2]) rfl ?_
      refine lv_i2l hx hb dX0_scaleTolls_7 rfl ?_
      replace h := bo_o h
      obtain ⟨w7, e8, h⟩ := h
      refine h_last hx hb hK hR hS e8 dX0_scaleTolls_8 (fun H locs hR hS => ?_)
      refine lv_goto (tgt := 15) hx hb dX0_scaleTolls_9 (by decide) ?_
      refine lv_iconst (v := 0) hx hb dX0_scaleTolls_15 (by decide) ?_
      have eR := Option.some.inj h
      subst eR
      exact h_ifin hx hb hr hlk hR hS dX0_scaleTolls_16
  · cases o3 with
    | inl q => cases hq9
    | inr q6 =>
      cases hq9
      replace h := exr_o h
      by_cases c9 : q6.1 = 1
      · replace h := it_o c9 h
        have hce : ∃ ce : Cell, H[q6.2]? = some ce ∧ ce.vm = .none ∧ s.vm.findClass "java/lang/IllegalArgumentException" = some ce.cls := by rw [c9] at hce; exact hce
        refine h_catch (E := "java/lang/IllegalArgumentException") hown hTb rfl (by decide) (by decide) rfl (hts _ q1914) (hK.ca 0 rfl) hce ?_
        refine lv_astore_n (lv' := [(3, .ref (q6.2)), (0, .ref v0), (1, .int v1), (2, .ref v2)]) hx hb dX0_scaleTolls_12 rfl hl (by decide) rfl (fun ls hl => ?_)
        refine lv_iconst (v := 1) hx hb dX0_scaleTolls_13 (by decide) ?_
        have eR := Option.some.inj h
        subst eR
        exact h_ifin hx hb hr hlk hR hS dX0_scaleTolls_14
      · replace h := if_o c9 h
        exact (nomatch h)
theorem mX0_scaleTolls {l : Launch} {G : gE} {A : Nat → Prop} {v0 : Nat} {v1 : Int32} {v2 : Nat} {w : WH} {r : (Int32 × WH)} (hl0 : l.stackTraces = false) (h : fX0_scaleTolls v0 v1 v2 w = some r) : hMW l G A yX0_scaleTolls cX0_scaleTolls 4 (some .int) [(0, 9, 12, 13)] 16 357 [.ref v0, .int v1, .ref v2] w (some (.int r.1)) r.2 :=
  h_ofW (by decide +kernel) (Nat.le_of_ble_eq_true rfl) (fun p e s m args below meth c ls B hnm hTb hR hS hl => bX0_scaleTolls_0 B hTb hl0 h hR hS hl)
noncomputable def fX0_swapTolls_b16 (s0 : Nat) (s1 : Int32) (s2 : Int64) (w : WH) : Option ((Int32 × WH)) :=
  (stJ w s0 s1 s2).bind fun w1 =>
  some (0, w1)
theorem bX0_swapTolls_16 {p : Program} {l : Launch} {e : Env} {s : State} {m : MethodId} {args : Array Value} {below : List Frame} {meth : Method} {c : Code} {H : Heap} {locs : List Loc} {ls : Array Slot} {G : gE} {A : Nat → Prop} {w0 : WH} (B : gB G RX0 cX0_swapTolls 5 (some .int) p s m args meth c) (hTb : c.exceptionTable.toList = tableOf [(0, 17, 20, 19)]) (hl0 : l.stackTraces = false) {s0 : Nat} {s1 : Int32} {s2 : Int64} {w : WH} {r : (Int32 × WH)} (h : fX0_swapTolls_b16 s0 s1 s2 w = some r)   (hR : RepH G A w H) (hS : Cu A s w0 w H locs) (hl : lv_has ls 5 []) : W p l e (hRm 16 356 w0) s m args below meth c H locs (wC w0 - wC w) (wS w0 - wS w) (hZ below args s G A w0 (some (.int r.1)) r.2) (F0 m 16 ls [.long s2, .int s1, .ref s0]) := by
  have B0 := B
  obtain ⟨hx, hb, hml, hown, hts, hr, hlk, hK⟩ := B0
  unfold fX0_swapTolls_b16 at h
  replace h := bo_o h
  obtain ⟨w1, e2, h⟩ := h
  refine h_last hx hb hK hR hS e2 dX0_swapTolls_16 (fun H locs hR hS => ?_)
  refine lv_goto (tgt := 24) hx hb dX0_swapTolls_17 (by decide) ?_
  refine lv_iconst (v := 0) hx hb dX0_swapTolls_24 (by decide) ?_
  have eR := Option.some.inj h
  subst eR
  exact h_ifin hx hb hr hlk hR hS dX0_swapTolls_25
noncomputable def fX0_swapTolls (v0 : Nat) (v1 : Int32) (v2 : Int32) (v3 : Nat) (w : WH) : Option ((Int32 × WH)) :=
  (hIs w v0 17).bind fun _ =>
  b2_ (fX1_swapTolls v0 v1 v2 w) fun o3 w1 => ex_ o3 (fun x5 =>
    if x5 = 0 then (
      fX0_swapTolls_b16 v3 0 0 w1
    ) else (
      fX0_swapTolls_b16 v3 0 1 w1
    )) (fun q6 =>
    if q6.1 = 0 then (
      some (1, w1)
    ) else (
      none
    ))
theorem bX0_swapTolls_0 {p : Program} {l : Launch} {e : Env} {s : State} {m : MethodId} {args : Array Value} {below : List Frame} {meth : Method} {c : Code} {H : Heap} {locs : List Loc} {ls : Array Slot} {G : gE} {A : Nat → Prop} {w0 : WH} (B : gB G RX0 cX0_swapTolls 5 (some .int) p s m args meth c) (hTb : c.exceptionTable.toList = tableOf [(0, 17, 20, 19)]) (hl0 : l.stackTraces = false) {v0 : Nat} {v1 : Int32} {v2 : Int32} {v3 : Nat} {w : WH} {r : (Int32 × WH)} (h : fX0_swapTolls v0 v1 v2 v3 w = some r)   (hR : RepH G A w H) (hS : Cu A s w0 w H locs) (hl : lv_has ls 5 [(0, .ref v0), (1, .int v1), (2, .int v2), (3, .ref v3)]) : W p l e (hRm 16 356 w0) s m args below meth c H locs (wC w0 - wC w) (wS w0 - wS w) (hZ below args s G A w0 (some (.int r.1)) r.2) (F0 m 0 ls []) := by
  have B0 := B
  obtain ⟨hx, hb, hml, hown, hts, hr, hlk, hK⟩ := B0
  unfold fX0_swapTolls at h
  refine lv_aload_n hx hb dX0_swapTolls_0 rfl (lv_at hl 3 rfl) ?_
  refine lv_iconst (v := 0) hx hb dX0_swapTolls_1 (by decide) ?_
  refine lv_aload_n hx hb dX0_swapTolls_2 rfl (lv_at hl 0 rfl) ?_
  refine lv_iload_n hx hb dX0_swapTolls_3 rfl (lv_at hl 1 rfl) ?_
  refine lv_iload_n hx hb dX0_swapTolls_4 rfl (lv_at hl 2 rfl) ?_
  replace h := bo_o h
  obtain ⟨_, e2, h⟩ := h
  replace h := b2_o h
  obtain ⟨o3, w1, e4, h⟩ := h
  refine h_callVX 2 (ci := 17) (As := [.int v1, .int v2]) (rest := [.int 0, .ref v3]) (o := oI o3) (w' := w1) hx hb hml hown hts hK hR hS (Nat.le_refl _) (Nat.le_refl _) rfl e2 (mX1_swapTolls hl0 e4) (lw_V q2379 q2380 q2381 q112 q2382) (by decide +kernel) (Nat.le_of_ble_eq_true rfl) (Nat.le_of_ble_eq_true rfl) rfl hl.1 (Nat.le_of_ble_eq_true rfl) dX0_swapTolls_5 rfl (fun v9 hv9 H locs hR hS => ?_) (fun E9 q9 hq9 H locs hR hS hce => ?_)
  · cases o3 with
    | inr q => cases hv9
    | inl x5 =>
      cases hv9
      replace h := exl_o h
      refine W.eq (g2 := F0 m 8 ls [.int x5, .int 0, .ref v3]) rfl ?_
      refine lv_if_eq (tgt := 15) hx hb dX0_swapTolls_8 (by decide) (fun c7 => ?_) (fun c7 => ?_)
      · replace h := it_o c7 h
        refine lv_lconst (v := 0) hx hb dX0_swapTolls_15 (by decide) ?_
        exact bX0_swapTolls_16 B hTb hl0 h  hR hS (lv_sub hl [] rfl)
      · replace h := if_o c7 h
        refine lv_lconst (v := 1) hx hb dX0_swapTolls_11 (by decide) ?_
        refine lv_goto (tgt := 16) hx hb dX0_swapTolls_12 (by decide) ?_
        exact bX0_swapTolls_16 B hTb hl0 h  hR hS (lv_sub hl [] rfl)
  · cases o3 with
    | inl q => cases hq9
    | inr q6 =>
      cases hq9
      replace h := exr_o h
      by_cases c8 : q6.1 = 0
      · replace h := it_o c8 h
        have hce : ∃ ce : Cell, H[q6.2]? = some ce ∧ ce.vm = .none ∧ s.vm.findClass "java/lang/IndexOutOfBoundsException" = some ce.cls := by rw [c8] at hce; exact hce
        refine h_catch (E := "java/lang/IndexOutOfBoundsException") hown hTb rfl (by decide) (by decide) rfl (hts _ q1941) (hK.ca 7 rfl) hce ?_
        refine lv_astore (lv' := [(4, .ref (q6.2)), (0, .ref v0), (1, .int v1), (2, .int v2), (3, .ref v3)]) hx hb dX0_swapTolls_20 hl (by decide) rfl (fun ls hl => ?_)
        refine lv_iconst (v := 1) hx hb dX0_swapTolls_22 (by decide) ?_
        have eR := Option.some.inj h
        subst eR
        exact h_ifin hx hb hr hlk hR hS dX0_swapTolls_23
      · replace h := if_o c8 h
        exact (nomatch h)
theorem mX0_swapTolls {l : Launch} {G : gE} {A : Nat → Prop} {v0 : Nat} {v1 : Int32} {v2 : Int32} {v3 : Nat} {w : WH} {r : (Int32 × WH)} (hl0 : l.stackTraces = false) (h : fX0_swapTolls v0 v1 v2 v3 w = some r) : hMW l G A yX0_swapTolls cX0_swapTolls 5 (some .int) [(0, 17, 20, 19)] 16 356 [.ref v0, .int v1, .int v2, .ref v3] w (some (.int r.1)) r.2 :=
  h_ofW (by decide +kernel) (Nat.le_of_ble_eq_true rfl) (fun p e s m args below meth c ls B hnm hTb hR hS hl => bX0_swapTolls_0 B hTb hl0 h hR hS hl)
noncomputable def fX0_worth (v0 : Nat) (v1 : Int32) (v2 : Nat) (w : WH) : Option ((Int32 × WH)) :=
  (hIs w v0 17).bind fun _ =>
  b2_ (fX1_worth v0 v1 w) fun o3 w1 => ex_ o3 (fun x5 =>
    (stJ w1 v2 0 x5).bind fun w7 =>
    some (0, w7)) (fun q6 =>
    if q6.1 = 0 then (
      some (1, w1)
    ) else (
      none
    ))
theorem bX0_worth_0 {p : Program} {l : Launch} {e : Env} {s : State} {m : MethodId} {args : Array Value} {below : List Frame} {meth : Method} {c : Code} {H : Heap} {locs : List Loc} {ls : Array Slot} {G : gE} {A : Nat → Prop} {w0 : WH} (B : gB G RX0 cX0_worth 4 (some .int) p s m args meth c) (hTb : c.exceptionTable.toList = tableOf [(0, 8, 11, 19)]) (hl0 : l.stackTraces = false) {v0 : Nat} {v1 : Int32} {v2 : Nat} {w : WH} {r : (Int32 × WH)} (h : fX0_worth v0 v1 v2 w = some r)   (hR : RepH G A w H) (hS : Cu A s w0 w H locs) (hl : lv_has ls 4 [(0, .ref v0), (1, .int v1), (2, .ref v2)]) : W p l e (hRm 21 480 w0) s m args below meth c H locs (wC w0 - wC w) (wS w0 - wS w) (hZ below args s G A w0 (some (.int r.1)) r.2) (F0 m 0 ls []) := by
  have B0 := B
  obtain ⟨hx, hb, hml, hown, hts, hr, hlk, hK⟩ := B0
  unfold fX0_worth at h
  refine lv_aload_n hx hb dX0_worth_0 rfl (lv_at hl 2 rfl) ?_
  refine lv_iconst (v := 0) hx hb dX0_worth_1 (by decide) ?_
  refine lv_aload_n hx hb dX0_worth_2 rfl (lv_at hl 0 rfl) ?_
  refine lv_iload_n hx hb dX0_worth_3 rfl (lv_at hl 1 rfl) ?_
  replace h := bo_o h
  obtain ⟨_, e2, h⟩ := h
  replace h := b2_o h
  obtain ⟨o3, w1, e4, h⟩ := h
  refine h_callVX 1 (ci := 17) (As := [.int v1]) (rest := [.int 0, .ref v2]) (o := oJ o3) (w' := w1) hx hb hml hown hts hK hR hS (Nat.le_refl _) (Nat.le_refl _) rfl e2 (mX1_worth hl0 e4) (lw_V q2386 q2387 q2388 q112 q2389) (by decide +kernel) (Nat.le_of_ble_eq_true rfl) (Nat.le_of_ble_eq_true rfl) rfl hl.1 (Nat.le_of_ble_eq_true rfl) dX0_worth_4 rfl (fun v9 hv9 H locs hR hS => ?_) (fun E9 q9 hq9 H locs hR hS hce => ?_)
  · cases o3 with
    | inr q => cases hv9
    | inl x5 =>
      cases hv9
      replace h := exl_o h
      refine W.eq (g2 := F0 m 7 ls [.long x5, .int 0, .ref v2]) rfl ?_
      replace h := bo_o h
      obtain ⟨w7, e8, h⟩ := h
      refine h_last hx hb hK hR hS e8 dX0_worth_7 (fun H locs hR hS => ?_)
      refine lv_goto (tgt := 14) hx hb dX0_worth_8 (by decide) ?_
      refine lv_iconst (v := 0) hx hb dX0_worth_14 (by decide) ?_
      have eR := Option.some.inj h
      subst eR
      exact h_ifin hx hb hr hlk hR hS dX0_worth_15
  · cases o3 with
    | inl q => cases hq9
    | inr q6 =>
      cases hq9
      replace h := exr_o h
      by_cases c9 : q6.1 = 0
      · replace h := it_o c9 h
        have hce : ∃ ce : Cell, H[q6.2]? = some ce ∧ ce.vm = .none ∧ s.vm.findClass "java/lang/IndexOutOfBoundsException" = some ce.cls := by rw [c9] at hce; exact hce
        refine h_catch (E := "java/lang/IndexOutOfBoundsException") hown hTb rfl (by decide) (by decide) rfl (hts _ q1941) (hK.ca 7 rfl) hce ?_
        refine lv_astore_n (lv' := [(3, .ref (q6.2)), (0, .ref v0), (1, .int v1), (2, .ref v2)]) hx hb dX0_worth_11 rfl hl (by decide) rfl (fun ls hl => ?_)
        refine lv_iconst (v := 1) hx hb dX0_worth_12 (by decide) ?_
        have eR := Option.some.inj h
        subst eR
        exact h_ifin hx hb hr hlk hR hS dX0_worth_13
      · replace h := if_o c9 h
        exact (nomatch h)
theorem mX0_worth {l : Launch} {G : gE} {A : Nat → Prop} {v0 : Nat} {v1 : Int32} {v2 : Nat} {w : WH} {r : (Int32 × WH)} (hl0 : l.stackTraces = false) (h : fX0_worth v0 v1 v2 w = some r) : hMW l G A yX0_worth cX0_worth 4 (some .int) [(0, 8, 11, 19)] 21 480 [.ref v0, .int v1, .ref v2] w (some (.int r.1)) r.2 :=
  h_ofW (by decide +kernel) (Nat.le_of_ble_eq_true rfl) (fun p e s m args below meth c ls B hnm hTb hR hS hl => bX0_worth_0 B hTb hl0 h hR hS hl)
