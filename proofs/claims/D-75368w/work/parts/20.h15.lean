set_option maxRecDepth 100000
set_option maxHeartbeats 4000000

noncomputable def fX12_iterator (v0 : Nat) (w : WH) : Option ((Option Nat × WH)) :=
  (gR w v0 19 1).bind fun x1 =>
  (gR w v0 19 0).bind fun x3 =>
  x1.bind fun a5 =>
  x3.bind fun a7 =>
  (hIs w a5 22).bind fun _ =>
  b2_ (fX3_leading a5 a7 w) fun x12 w9 =>
  some (x12, w9)
theorem bX12_iterator_0 {p : Program} {l : Launch} {e : Env} {s : State} {m : MethodId} {args : Array Value} {below : List Frame} {meth : Method} {c : Code} {H : Heap} {locs : List Loc} {ls : Array Slot} {G : gE} {A : Nat → Prop} {w0 : WH} (B : gB G RX12 cX12_iterator 1 (some (.object "java/util/Iterator")) p s m args meth c) {v0 : Nat} {w : WH} {r : (Option Nat × WH)} (h : fX12_iterator v0 w = some r)   (hR : RepH G A w H) (hS : Cu A s w0 w H locs) (hl : lv_has ls 1 [(0, .ref v0)]) : W p l e (hRm 16 356 w0) s m args below meth c H locs (wC w0 - wC w) (wS w0 - wS w) (hZ below args s G A w0 (some (va_rf r.1)) r.2) (F0 m 0 ls []) := by
  have B0 := B
  obtain ⟨hx, hb, hml, hown, hts, hr, hlk, hK⟩ := B0
  unfold fX12_iterator at h
  refine lv_aload_n hx hb dX12_iterator_0 rfl (lv_at hl 0 rfl) ?_
  replace h := bo_o h
  obtain ⟨x1, e2, h⟩ := h
  refine h_get (ci := 19) (k := 1) (v := va_rf x1) hx hb hts hown hK hR in_X12 rfl (by decide) (fun _ _ => rfl) q2252 (fun _ h9 => h9) (gR_o e2) dX12_iterator_1 ?_
  refine lv_aload_n hx hb dX12_iterator_4 rfl (lv_at hl 0 rfl) ?_
  replace h := bo_o h
  obtain ⟨x3, e4, h⟩ := h
  refine h_get (ci := 19) (k := 0) (v := va_rf x3) hx hb hts hown hK hR in_X12 rfl (by decide) (fun _ _ => rfl) q2251 (fun _ h9 => h9) (gR_o e4) dX12_iterator_5 ?_
  replace h := bo_o h
  obtain ⟨a5, e6, h⟩ := h
  subst e6
  replace h := bo_o h
  obtain ⟨a7, e8, h⟩ := h
  subst e8
  replace h := bo_o h
  obtain ⟨_, e10, h⟩ := h
  replace h := b2_o h
  obtain ⟨x12, w9, e11, h⟩ := h
  refine h_callVN 1 (ci := 22) (As := [.ref a7]) (rest := []) (v := (some (va_rf x12))) (w' := w9) (st1 := [va_rf x12]) hx hb hml hown hts hK hR hS (Nat.le_refl _) (Nat.le_refl _) rfl e10 (mX3_leading e11) (lw_meth q2271) (hK.mn 7 rfl) q114 q2270 qs54 (by decide +kernel) (Nat.le_of_ble_eq_true rfl) (Nat.le_of_ble_eq_true rfl) rfl hl.1 (Nat.le_of_ble_eq_true rfl) dX12_iterator_8 rfl rfl (fun H locs hR hS => ?_)
  have eR := Option.some.inj h
  subst eR
  exact h_afin (x := x12) hx hb hr hlk (by first | exact Or.inl ⟨_, rfl⟩ | exact Or.inr ⟨_, rfl⟩) hR hS dX12_iterator_11
theorem mX12_iterator {l : Launch} {G : gE} {A : Nat → Prop} {v0 : Nat} {w : WH} {r : (Option Nat × WH)} (h : fX12_iterator v0 w = some r) : hM l G A yX12_iterator cX12_iterator 1 (some (.object "java/util/Iterator")) 16 356 [.ref v0] w (some (va_rf r.1)) r.2 :=
  h_of (by decide +kernel) (Nat.le_of_ble_eq_true rfl) (fun p e s m args below meth c ls B hnm hR hS hl => bX12_iterator_0 B h hR hS hl)
noncomputable def fX13_hasNext (v0 : Nat) (w : WH) : Option ((Int32 × WH)) :=
  (gI w v0 20 0).bind fun x1 =>
  (gR w v0 20 2).bind fun x3 =>
  x3.bind fun a5 =>
  (gR w a5 22 1).bind fun x7 =>
  x7.bind fun a9 =>
  (hIs w a9 2).bind fun _ =>
  b2_ (fJ2_size a9 w) fun x14 w11 =>
  if x14 ≤ x1 then (
    some (0, w11)
  ) else (
    some (1, w11)
  )
theorem bX13_hasNext_0 {p : Program} {l : Launch} {e : Env} {s : State} {m : MethodId} {args : Array Value} {below : List Frame} {meth : Method} {c : Code} {H : Heap} {locs : List Loc} {ls : Array Slot} {G : gE} {A : Nat → Prop} {w0 : WH} (B : gB G RX13 cX13_hasNext 1 (some .boolean) p s m args meth c) {v0 : Nat} {w : WH} {r : (Int32 × WH)} (h : fX13_hasNext v0 w = some r)   (hR : RepH G A w H) (hS : Cu A s w0 w H locs) (hl : lv_has ls 1 [(0, .ref v0)]) : W p l e (hRm 1 20 w0) s m args below meth c H locs (wC w0 - wC w) (wS w0 - wS w) (hZ below args s G A w0 (some (.int r.1)) r.2) (F0 m 0 ls []) := by
  have B0 := B
  obtain ⟨hx, hb, hml, hown, hts, hr, hlk, hK⟩ := B0
  unfold fX13_hasNext at h
  refine lv_aload_n hx hb dX13_hasNext_0 rfl (lv_at hl 0 rfl) ?_
  replace h := bo_o h
  obtain ⟨x1, e2, h⟩ := h
  refine h_get (ci := 20) (k := 0) (v := .int x1) hx hb hts hown hK hR in_X13 rfl (by decide) (fun _ _ => rfl) q2277 (fun _ h9 => h9) (gI_o e2) dX13_hasNext_1 ?_
  refine lv_aload_n hx hb dX13_hasNext_4 rfl (lv_at hl 0 rfl) ?_
  replace h := bo_o h
  obtain ⟨x3, e4, h⟩ := h
  refine h_get (ci := 20) (k := 2) (v := va_rf x3) hx hb hts hown hK hR in_X13 rfl (by decide) (fun _ _ => rfl) q2279 (fun _ h9 => h9) (gR_o e4) dX13_hasNext_5 ?_
  replace h := bo_o h
  obtain ⟨a5, e6, h⟩ := h
  subst e6
  replace h := bo_o h
  obtain ⟨x7, e8, h⟩ := h
  refine h_getN (ci := 22) (k := 1) (v := va_rf x7) hx hb hts hown hK hR in_X3 rfl (by decide) (fun _ _ => rfl) (hK.fn 4 rfl) (fun _ h9 => h9) (gR_o e8) dX13_hasNext_8 ?_
  replace h := bo_o h
  obtain ⟨a9, e10, h⟩ := h
  subst e10
  replace h := bo_o h
  obtain ⟨_, e12, h⟩ := h
  replace h := b2_o h
  obtain ⟨x14, w11, e13, h⟩ := h
  refine h_callF 0  (As := []) (rest := [.int x1]) (v := (some (.int x14))) (w' := w11) (st1 := [.int x14, .int x1]) hx hb hml hown hts hK hR hS (Nat.le_refl _) (Nat.le_refl _) (h_recv (ci := 2) hK hR hS rfl e12) (mJ2_size e13) (lw_app (a := [.methodLink _ _ _, .selects _ _ _, .instanceMethod _, .initialized _]) (lw_4 q1550 q903 q905 q117) (lw_meth q907)) (hK.fw 0 rfl) (by decide +kernel) (Nat.le_of_ble_eq_true rfl) (Nat.le_of_ble_eq_true rfl) rfl hl.1 (Nat.le_of_ble_eq_true rfl) dX13_hasNext_11 rfl rfl (fun H locs hR hS => ?_)
  refine lv_icmp_ge (tgt := 23) hx hb dX13_hasNext_16 (by decide) (fun c15 => ?_) (fun c15 => ?_)
  · replace h := it_o c15 h
    refine lv_iconst (v := 0) hx hb dX13_hasNext_23 (by decide) ?_
    have eR := Option.some.inj h
    subst eR
    exact h_zfin hx hb hr hlk (by show narrow .boolean (.int 0) = .int 0; decide) hR hS dX13_hasNext_24
  · replace h := if_o c15 h
    refine lv_iconst (v := 1) hx hb dX13_hasNext_19 (by decide) ?_
    refine lv_goto (tgt := 24) hx hb dX13_hasNext_20 (by decide) ?_
    have eR := Option.some.inj h
    subst eR
    exact h_zfin hx hb hr hlk (by show narrow .boolean (.int 1) = .int 1; decide) hR hS dX13_hasNext_24
theorem mX13_hasNext {l : Launch} {G : gE} {A : Nat → Prop} {v0 : Nat} {w : WH} {r : (Int32 × WH)} (h : fX13_hasNext v0 w = some r) : hM l G A yX13_hasNext cX13_hasNext 1 (some .boolean) 1 20 [.ref v0] w (some (.int r.1)) r.2 :=
  h_of (by decide +kernel) (Nat.le_of_ble_eq_true rfl) (fun p e s m args below meth c ls B hnm hR hS hl => bX13_hasNext_0 B h hR hS hl)
noncomputable def fX13_next_2_b61 (v1 : Nat) (w : WH) : Option ((Option Nat × WH)) :=
  some (some v1, w)
theorem bX13_next_2_61 {p : Program} {l : Launch} {e : Env} {s : State} {m : MethodId} {args : Array Value} {below : List Frame} {meth : Method} {c : Code} {H : Heap} {locs : List Loc} {ls : Array Slot} {G : gE} {A : Nat → Prop} {w0 : WH} (B : gB G RX13 cX13_next_2 2 (some (.object "TollLeader$Arc")) p s m args meth c) {v1 : Nat} {w : WH} {r : (Option Nat × WH)} (h : fX13_next_2_b61 v1 w = some r)   (hR : RepH G A w H) (hS : Cu A s w0 w H locs) (hl : lv_has ls 2 [(1, .ref v1)]) : W p l e (hRm 14 313 w0) s m args below meth c H locs (wC w0 - wC w) (wS w0 - wS w) (hZ below args s G A w0 (some (va_rf r.1)) r.2) (F0 m 61 ls []) := by
  have B0 := B
  obtain ⟨hx, hb, hml, hown, hts, hr, hlk, hK⟩ := B0
  unfold fX13_next_2_b61 at h
  refine lv_aload_n hx hb dX13_next_2_61 rfl (lv_at hl 0 rfl) ?_
  have eR := Option.some.inj h
  subst eR
  exact h_afin (x := some v1) hx hb hr hlk (by first | exact Or.inl ⟨_, rfl⟩ | exact Or.inr ⟨_, rfl⟩) hR hS dX13_next_2_62
noncomputable def fX13_next_2_b19  (w : WH) : Option ((Option Nat × WH)) :=
  none
theorem bX13_next_2_19 {p : Program} {l : Launch} {e : Env} {s : State} {m : MethodId} {args : Array Value} {below : List Frame} {meth : Method} {c : Code} {H : Heap} {locs : List Loc} {ls : Array Slot} {G : gE} {A : Nat → Prop} {w0 : WH} (B : gB G RX13 cX13_next_2 2 (some (.object "TollLeader$Arc")) p s m args meth c)  {w : WH} {r : (Option Nat × WH)} (h : fX13_next_2_b19 w = some r)   (hR : RepH G A w H) (hS : Cu A s w0 w H locs) (hl : lv_has ls 2 []) : W p l e (hRm 14 313 w0) s m args below meth c H locs (wC w0 - wC w) (wS w0 - wS w) (hZ below args s G A w0 (some (va_rf r.1)) r.2) (F0 m 19 ls []) := by
  have B0 := B
  obtain ⟨hx, hb, hml, hown, hts, hr, hlk, hK⟩ := B0
  unfold fX13_next_2_b19 at h
  exact (nomatch h)
noncomputable def fX13_next_2 (v0 : Nat) (w : WH) : Option ((Option Nat × WH)) :=
  (gI w v0 20 0).bind fun x1 =>
  (gR w v0 20 2).bind fun x3 =>
  x3.bind fun a5 =>
  (gR w a5 22 1).bind fun x7 =>
  x7.bind fun a9 =>
  (hIs w a9 2).bind fun _ =>
  b2_ (fJ2_size a9 w) fun x14 w11 =>
  if x1 < x14 then (
    (gR w11 v0 20 2).bind fun x16 =>
    x16.bind fun a18 =>
    (gR w11 a18 22 1).bind fun x20 =>
    (gI w11 v0 20 0).bind fun x22 =>
    x20.bind fun a24 =>
    (hIs w11 a24 2).bind fun _ =>
    b2_ (fJ2_get a24 x22 w11) fun x29 w26 =>
    x29.bind fun a30 =>
    (hIs w26 a30 27).bind fun _ =>
    (gI w26 v0 20 0).bind fun x33 =>
    (hIs w26 v0 20).bind fun _ =>
    b2_ (fX13_behind v0 (x33 + 1) w26) fun x38 w35 =>
    (hPut w35 v0 20 0 (.int x38)).bind fun w39 =>
    fX13_next_2_b61 a30 w39
  ) else (
    fX13_next_2_b19 w11
  )
theorem bX13_next_2_0 {p : Program} {l : Launch} {e : Env} {s : State} {m : MethodId} {args : Array Value} {below : List Frame} {meth : Method} {c : Code} {H : Heap} {locs : List Loc} {ls : Array Slot} {G : gE} {A : Nat → Prop} {w0 : WH} (B : gB G RX13 cX13_next_2 2 (some (.object "TollLeader$Arc")) p s m args meth c) {v0 : Nat} {w : WH} {r : (Option Nat × WH)} (h : fX13_next_2 v0 w = some r)   (hR : RepH G A w H) (hS : Cu A s w0 w H locs) (hl : lv_has ls 2 [(0, .ref v0)]) : W p l e (hRm 14 313 w0) s m args below meth c H locs (wC w0 - wC w) (wS w0 - wS w) (hZ below args s G A w0 (some (va_rf r.1)) r.2) (F0 m 0 ls []) := by
  have B0 := B
  obtain ⟨hx, hb, hml, hown, hts, hr, hlk, hK⟩ := B0
  unfold fX13_next_2 at h
  refine lv_aload_n hx hb dX13_next_2_0 rfl (lv_at hl 0 rfl) ?_
  replace h := bo_o h
  obtain ⟨x1, e2, h⟩ := h
  refine h_get (ci := 20) (k := 0) (v := .int x1) hx hb hts hown hK hR in_X13 rfl (by decide) (fun _ _ => rfl) q2277 (fun _ h9 => h9) (gI_o e2) dX13_next_2_1 ?_
  refine lv_aload_n hx hb dX13_next_2_4 rfl (lv_at hl 0 rfl) ?_
  replace h := bo_o h
  obtain ⟨x3, e4, h⟩ := h
  refine h_get (ci := 20) (k := 2) (v := va_rf x3) hx hb hts hown hK hR in_X13 rfl (by decide) (fun _ _ => rfl) q2279 (fun _ h9 => h9) (gR_o e4) dX13_next_2_5 ?_
  replace h := bo_o h
  obtain ⟨a5, e6, h⟩ := h
  subst e6
  replace h := bo_o h
  obtain ⟨x7, e8, h⟩ := h
  refine h_getN (ci := 22) (k := 1) (v := va_rf x7) hx hb hts hown hK hR in_X3 rfl (by decide) (fun _ _ => rfl) (hK.fn 4 rfl) (fun _ h9 => h9) (gR_o e8) dX13_next_2_8 ?_
  replace h := bo_o h
  obtain ⟨a9, e10, h⟩ := h
  subst e10
  replace h := bo_o h
  obtain ⟨_, e12, h⟩ := h
  replace h := b2_o h
  obtain ⟨x14, w11, e13, h⟩ := h
  refine h_callF 0  (As := []) (rest := [.int x1]) (v := (some (.int x14))) (w' := w11) (st1 := [.int x14, .int x1]) hx hb hml hown hts hK hR hS (Nat.le_refl _) (Nat.le_refl _) (h_recv (ci := 2) hK hR hS rfl e12) (mJ2_size e13) (lw_app (a := [.methodLink _ _ _, .selects _ _ _, .instanceMethod _, .initialized _]) (lw_4 q1550 q903 q905 q117) (lw_meth q907)) (hK.fw 0 rfl) (by decide +kernel) (Nat.le_of_ble_eq_true rfl) (Nat.le_of_ble_eq_true rfl) rfl hl.1 (Nat.le_of_ble_eq_true rfl) dX13_next_2_11 rfl rfl (fun H locs hR hS => ?_)
  refine lv_icmp_lt (tgt := 27) hx hb dX13_next_2_16 (by decide) (fun c15 => ?_) (fun c15 => ?_)
  · replace h := it_o c15 h
    refine lv_aload_n hx hb dX13_next_2_27 rfl (lv_at hl 0 rfl) ?_
    replace h := bo_o h
    obtain ⟨x16, e17, h⟩ := h
    refine h_get (ci := 20) (k := 2) (v := va_rf x16) hx hb hts hown hK hR in_X13 rfl (by decide) (fun _ _ => rfl) q2279 (fun _ h9 => h9) (gR_o e17) dX13_next_2_28 ?_
    replace h := bo_o h
    obtain ⟨a18, e19, h⟩ := h
    subst e19
    replace h := bo_o h
    obtain ⟨x20, e21, h⟩ := h
    refine h_getN (ci := 22) (k := 1) (v := va_rf x20) hx hb hts hown hK hR in_X3 rfl (by decide) (fun _ _ => rfl) (hK.fn 4 rfl) (fun _ h9 => h9) (gR_o e21) dX13_next_2_31 ?_
    refine lv_aload_n hx hb dX13_next_2_34 rfl (lv_at hl 0 rfl) ?_
    replace h := bo_o h
    obtain ⟨x22, e23, h⟩ := h
    refine h_get (ci := 20) (k := 0) (v := .int x22) hx hb hts hown hK hR in_X13 rfl (by decide) (fun _ _ => rfl) q2277 (fun _ h9 => h9) (gI_o e23) dX13_next_2_35 ?_
    replace h := bo_o h
    obtain ⟨a24, e25, h⟩ := h
    subst e25
    replace h := bo_o h
    obtain ⟨_, e27, h⟩ := h
    replace h := b2_o h
    obtain ⟨x29, w26, e28, h⟩ := h
    refine h_callF 1  (As := [.int x22]) (rest := []) (v := (some (va_rf x29))) (w' := w26) (st1 := [va_rf x29]) hx hb hml hown hts hK hR hS (Nat.le_refl _) (Nat.le_refl _) (h_recv (ci := 2) hK hR hS rfl e27) (mJ2_get e28) (lw_app (a := [.methodLink _ _ _, .selects _ _ _, .instanceMethod _, .initialized _]) (lw_4 q1599 q1208 q1210 q117) (lw_meth q1212)) (hK.fw 1 rfl) (by decide +kernel) (Nat.le_of_ble_eq_true rfl) (Nat.le_of_ble_eq_true rfl) rfl hl.1 (Nat.le_of_ble_eq_true rfl) dX13_next_2_38 rfl rfl (fun H locs hR hS => ?_)
    replace h := bo_o h
    obtain ⟨a30, e31, h⟩ := h
    subst e31
    replace h := bo_o h
    obtain ⟨_, e32, h⟩ := h
    refine h_castS (ci := 27) hx hb hts hown hK hR hS rfl e32 q1600 dX13_next_2_43 ?_
    refine lv_astore_n (lv' := [(1, .ref a30), (0, .ref v0)]) hx hb dX13_next_2_46 rfl hl (by decide) rfl (fun ls hl => ?_)
    refine lv_aload_n hx hb dX13_next_2_47 rfl (lv_at hl 1 rfl) ?_
    refine lv_aload_n hx hb dX13_next_2_48 rfl (lv_at hl 1 rfl) ?_
    refine lv_aload_n hx hb dX13_next_2_49 rfl (lv_at hl 1 rfl) ?_
    replace h := bo_o h
    obtain ⟨x33, e34, h⟩ := h
    refine h_get (ci := 20) (k := 0) (v := .int x33) hx hb hts hown hK hR in_X13 rfl (by decide) (fun _ _ => rfl) q2277 (fun _ h9 => h9) (gI_o e34) dX13_next_2_50 ?_
    refine lv_iconst (v := 1) hx hb dX13_next_2_53 (by decide) ?_
    refine lv_iadd hx hb dX13_next_2_54 ?_
    replace h := bo_o h
    obtain ⟨_, e36, h⟩ := h
    replace h := b2_o h
    obtain ⟨x38, w35, e37, h⟩ := h
    refine h_callV 1 (ci := 20) (As := [.int (x33 + 1)]) (rest := [.ref v0]) (v := (some (.int x38))) (w' := w35) (st1 := [.int x38, .ref v0]) hx hb hml hown hts hK hR hS (Nat.le_refl _) (Nat.le_refl _) rfl e36 (mX13_behind e37) (lw_V q1601 q1603 qs35 q159 q1605) (by decide +kernel) (Nat.le_of_ble_eq_true rfl) (Nat.le_of_ble_eq_true rfl) rfl hl.1 (Nat.le_of_ble_eq_true rfl) dX13_next_2_55 rfl rfl (fun H locs hR hS => ?_)
    replace h := bo_o h
    obtain ⟨w39, e40, h⟩ := h
    refine h_put (ci := 20) (k := 0) (ty := tyX13 0) hx hb hts hown hK hR hS in_X13 tyX13 tyX13_ok nmX13 rfl (by decide) q2277 (fun _ h9 => h9) rfl (tyX13_ok 0 (by decide)) rfl rfl e40 dX13_next_2_58 (fun H locs hR hS => ?_)
    exact bX13_next_2_61 B h  hR hS (lv_sub hl [0] rfl)
  · replace h := if_o c15 h
    exact bX13_next_2_19 B h  hR hS (lv_sub hl [] rfl)
theorem mX13_next_2 {l : Launch} {G : gE} {A : Nat → Prop} {v0 : Nat} {w : WH} {r : (Option Nat × WH)} (h : fX13_next_2 v0 w = some r) : hM l G A yX13_next_2 cX13_next_2 2 (some (.object "TollLeader$Arc")) 14 313 [.ref v0] w (some (va_rf r.1)) r.2 :=
  h_of (by decide +kernel) (Nat.le_of_ble_eq_true rfl) (fun p e s m args below meth c ls B hnm hR hS hl => bX13_next_2_0 B h hR hS hl)
noncomputable def fX13_next (v0 : Nat) (w : WH) : Option ((Option Nat × WH)) :=
  (hIs w v0 20).bind fun _ =>
  b2_ (fX13_next_2 v0 w) fun x4 w1 =>
  some (x4, w1)
theorem bX13_next_0 {p : Program} {l : Launch} {e : Env} {s : State} {m : MethodId} {args : Array Value} {below : List Frame} {meth : Method} {c : Code} {H : Heap} {locs : List Loc} {ls : Array Slot} {G : gE} {A : Nat → Prop} {w0 : WH} (B : gB G RX13 cX13_next 1 (some (.object "java/lang/Object")) p s m args meth c) {v0 : Nat} {w : WH} {r : (Option Nat × WH)} (h : fX13_next v0 w = some r)   (hR : RepH G A w H) (hS : Cu A s w0 w H locs) (hl : lv_has ls 1 [(0, .ref v0)]) : W p l e (hRm 15 334 w0) s m args below meth c H locs (wC w0 - wC w) (wS w0 - wS w) (hZ below args s G A w0 (some (va_rf r.1)) r.2) (F0 m 0 ls []) := by
  have B0 := B
  obtain ⟨hx, hb, hml, hown, hts, hr, hlk, hK⟩ := B0
  unfold fX13_next at h
  refine lv_aload_n hx hb dX13_next_0 rfl (lv_at hl 0 rfl) ?_
  replace h := bo_o h
  obtain ⟨_, e2, h⟩ := h
  replace h := b2_o h
  obtain ⟨x4, w1, e3, h⟩ := h
  refine h_callV 0 (ci := 20) (As := []) (rest := []) (v := (some (va_rf x4))) (w' := w1) (st1 := [va_rf x4]) hx hb hml hown hts hK hR hS (Nat.le_refl _) (Nat.le_refl _) rfl e2 (mX13_next_2 e3) (lw_V q1592 q1593 q1594 q159 q1595) (by decide +kernel) (Nat.le_of_ble_eq_true rfl) (Nat.le_of_ble_eq_true rfl) rfl hl.1 (Nat.le_of_ble_eq_true rfl) dX13_next_1 rfl rfl (fun H locs hR hS => ?_)
  have eR := Option.some.inj h
  subst eR
  exact h_afin (x := x4) hx hb hr hlk (by first | exact Or.inl ⟨_, rfl⟩ | exact Or.inr ⟨_, rfl⟩) hR hS dX13_next_4
theorem mX13_next {l : Launch} {G : gE} {A : Nat → Prop} {v0 : Nat} {w : WH} {r : (Option Nat × WH)} (h : fX13_next v0 w = some r) : hM l G A yX13_next cX13_next 1 (some (.object "java/lang/Object")) 15 334 [.ref v0] w (some (va_rf r.1)) r.2 :=
  h_of (by decide +kernel) (Nat.le_of_ble_eq_true rfl) (fun p e s m args below meth c ls B hnm hR hS hl => bX13_next_0 B h hR hS hl)
noncomputable def fX1_reachable_b129 (v2 : Nat) (v4 : Int32) (v5 : Int32) (w : WH) : Option (Sum (Int32 × Int32 × WH) (((Sum (Int32) (Nat × Nat)) × WH))) :=
  if v5 < 0 then (
    some (.inr (.inl v4, w))
  ) else (
    nm_ (v4 ||| ((1 : Int32) <<< (v5 &&& 31))) fun x2 =>
    (hIs w v2 0).bind fun _ =>
    b2_ (fJ17_nextSetBit v2 (v5 + 1) w) fun x7 w4 =>
    some (.inl (x2, x7, w4))
  )
theorem bX1_reachable_129 {p : Program} {l : Launch} {e : Env} {s : State} {m : MethodId} {args : Array Value} {below : List Frame} {meth : Method} {c : Code} {H : Heap} {locs : List Loc} {ls : Array Slot} {G : gE} {A : Nat → Prop} {w0 : WH} (B : gB G RX1 cX1_reachable 6 (some .int) p s m args meth c) (hT : ∀ x ∈ c.exceptionTable.toList, False) (hl0 : l.stackTraces = false) {v2 : Nat} {v4 : Int32} {v5 : Int32} {w : WH} {x : Sum (Int32 × Int32 × WH) (((Sum (Int32) (Nat × Nat)) × WH))} {r : ((Sum (Int32) (Nat × Nat)) × WH)} (h : fX1_reachable_b129 v2 v4 v5 w = some x)  (k129 : ∀ (v4' : Int32) (v5' : Int32) (w' : WH), x = (.inl (v4', v5', w')) → ∀ (H : Heap) (locs : List Loc) (ls : Array Slot), RepH G A w' H → Cu A s w0 w' H locs → lv_has ls 6 [(2, .ref v2), (4, .int v4'), (5, .int v5')] → W p l e (hRm 17 376 w0) s m args below meth c H locs (wC w0 - wC w') (wS w0 - wS w') (hZX below args s G A w0 (oI r.1) r.2) (F0 m 129 ls [])) (kR : ∀ q, x = (.inr q) → q = r) (hR : RepH G A w H) (hS : Cu A s w0 w H locs) (hl : lv_has ls 6 [(2, .ref v2), (4, .int v4), (5, .int v5)]) : W p l e (hRm 17 376 w0) s m args below meth c H locs (wC w0 - wC w) (wS w0 - wS w) (hZX below args s G A w0 (oI r.1) r.2) (F0 m 129 ls []) := by
  have B0 := B
  obtain ⟨hx, hb, hml, hown, hts, hr, hlk, hK⟩ := B0
  unfold fX1_reachable_b129 at h
  refine lv_iload hx hb dX1_reachable_129 (lv_at hl 2 rfl) ?_
  refine lv_if_lt (tgt := 156) hx hb dX1_reachable_131 (by decide) (fun c1 => ?_) (fun c1 => ?_)
  · replace h := it_o c1 h
    refine lv_iload hx hb dX1_reachable_156 (lv_at hl 1 rfl) ?_
    have eR := kR _ (Option.some.inj h).symm
    subst eR
    exact h_ifinX hx hb hr hlk hR hS dX1_reachable_158
  · replace h := if_o c1 h
    refine lv_iload hx hb dX1_reachable_134 (lv_at hl 1 rfl) ?_
    refine lv_iconst (v := 1) hx hb dX1_reachable_136 (by decide) ?_
    refine lv_iload hx hb dX1_reachable_137 (lv_at hl 2 rfl) ?_
    refine lv_ishl hx hb dX1_reachable_139 ?_
    refine lv_ior hx hb dX1_reachable_140 ?_
    replace h := nm_o h
    obtain ⟨x2, e3, h⟩ := h
    refine lv_istore (lv' := [(4, .int x2), (2, .ref v2), (5, .int v5)]) hx hb dX1_reachable_141 hl (by decide) (by subst e3; rfl) (fun ls hl => ?_)
    refine lv_aload_n hx hb dX1_reachable_143 rfl (lv_at hl 1 rfl) ?_
    refine lv_iload hx hb dX1_reachable_144 (lv_at hl 2 rfl) ?_
    refine lv_iconst (v := 1) hx hb dX1_reachable_146 (by decide) ?_
    refine lv_iadd hx hb dX1_reachable_147 ?_
    replace h := bo_o h
    obtain ⟨_, e5, h⟩ := h
    replace h := b2_o h
    obtain ⟨x7, w4, e6, h⟩ := h
    refine h_callV 1 (ci := 0) (As := [.int (v5 + 1)]) (rest := []) (v := (some (.int x7))) (w' := w4) (st1 := [.int x7]) hx hb hml hown hts hK hR hS (Nat.le_refl _) (Nat.le_refl _) rfl e5 (mJ17_nextSetBit e6) (lw_V q1712 q1713 q1714 q134 q1715) (by decide +kernel) (Nat.le_of_ble_eq_true rfl) (Nat.le_of_ble_eq_true rfl) rfl hl.1 (Nat.le_of_ble_eq_true rfl) dX1_reachable_148 rfl rfl (fun H locs hR hS => ?_)
    refine lv_istore (lv' := [(5, .int x7), (4, .int x2), (2, .ref v2)]) hx hb dX1_reachable_151 hl (by decide) rfl (fun ls hl => ?_)
    refine lv_goto (tgt := 129) hx hb dX1_reachable_153 (by decide) ?_
    exact k129 _ _ _ (Option.some.inj h).symm H locs ls hR hS (lv_sub hl [2, 1, 0] rfl)
noncomputable def fX1_reachable_l129 (v2 : Nat) (v4 : Int32) (v5 : Int32) (w : WH) : Option (((Sum (Int32) (Nat × Nat)) × WH)) := whileO (fun q => fX1_reachable_b129 v2 q.1 q.2.1 q.2.2) (v4, v5, w)
theorem lX1_reachable_129 {p : Program} {l : Launch} {e : Env} {s : State} {m : MethodId} {args : Array Value} {below : List Frame} {meth : Method} {c : Code} {G : gE} {A : Nat → Prop} {w0 : WH} (B : gB G RX1 cX1_reachable 6 (some .int) p s m args meth c) (hT : ∀ x ∈ c.exceptionTable.toList, False) (hl0 : l.stackTraces = false) {v2 : Nat} {r : ((Sum (Int32) (Nat × Nat)) × WH)}   : ∀ (v4 : Int32) (v5 : Int32) (w : WH), fX1_reachable_l129 v2 v4 v5 w = some r → ∀ (H : Heap) (locs : List Loc) (ls : Array Slot), RepH G A w H → Cu A s w0 w H locs → lv_has ls 6 [(2, .ref v2), (4, .int v4), (5, .int v5)] → W p l e (hRm 17 376 w0) s m args below meth c H locs (wC w0 - wC w) (wS w0 - wS w) (hZX below args s G A w0 (oI r.1) r.2) (F0 m 129 ls []) := by
  intro v4 v5 w h
  refine wh_walk (body := (fun q => fX1_reachable_b129 v2 q.1 q.2.1 q.2.2)) (P := (fun q : (Int32 × Int32 × WH) => ∀ (H : Heap) (locs : List Loc) (ls : Array Slot), RepH G A (q.2.2) H → Cu A s w0 (q.2.2) H locs → lv_has ls 6 [(2, .ref v2), (4, .int (q.1)), (5, .int (q.2.1))] → W p l e (hRm 17 376 w0) s m args below meth c H locs (wC w0 - wC (q.2.2)) (wS w0 - wS (q.2.2)) (hZX below args s G A w0 (oI r.1) r.2) (F0 m 129 ls []))) (r := r) ?_ (v4, v5, w) h
  intro q y hy hL hr H locs ls hR hS hl
  exact bX1_reachable_129 (r := r) B hT hl0 hy (fun a0 a1 a2 e => hL (a0, a1, a2) e) (fun q e => hr q e) hR hS hl
noncomputable def fX1_reachable_b119 (v2 : Nat) (w : WH) : Option (((Sum (Int32) (Nat × Nat)) × WH)) :=
  (hIs w v2 0).bind fun _ =>
  b2_ (fJ17_nextSetBit v2 0 w) fun x4 w1 =>
  fX1_reachable_l129 v2 0 x4 w1
theorem bX1_reachable_119 {p : Program} {l : Launch} {e : Env} {s : State} {m : MethodId} {args : Array Value} {below : List Frame} {meth : Method} {c : Code} {H : Heap} {locs : List Loc} {ls : Array Slot} {G : gE} {A : Nat → Prop} {w0 : WH} (B : gB G RX1 cX1_reachable 6 (some .int) p s m args meth c) (hT : ∀ x ∈ c.exceptionTable.toList, False) (hl0 : l.stackTraces = false) {v2 : Nat} {w : WH} {r : ((Sum (Int32) (Nat × Nat)) × WH)} (h : fX1_reachable_b119 v2 w = some r)   (hR : RepH G A w H) (hS : Cu A s w0 w H locs) (hl : lv_has ls 6 [(2, .ref v2)]) : W p l e (hRm 17 376 w0) s m args below meth c H locs (wC w0 - wC w) (wS w0 - wS w) (hZX below args s G A w0 (oI r.1) r.2) (F0 m 119 ls []) := by
  have B0 := B
  obtain ⟨hx, hb, hml, hown, hts, hr, hlk, hK⟩ := B0
  unfold fX1_reachable_b119 at h
  refine lv_iconst (v := 0) hx hb dX1_reachable_119 (by decide) ?_
  refine lv_istore (lv' := [(4, .int 0), (2, .ref v2)]) hx hb dX1_reachable_120 hl (by decide) rfl (fun ls hl => ?_)
  refine lv_aload_n hx hb dX1_reachable_122 rfl (lv_at hl 1 rfl) ?_
  refine lv_iconst (v := 0) hx hb dX1_reachable_123 (by decide) ?_
  replace h := bo_o h
  obtain ⟨_, e2, h⟩ := h
  replace h := b2_o h
  obtain ⟨x4, w1, e3, h⟩ := h
  refine h_callV 1 (ci := 0) (As := [.int 0]) (rest := []) (v := (some (.int x4))) (w' := w1) (st1 := [.int x4]) hx hb hml hown hts hK hR hS (Nat.le_refl _) (Nat.le_refl _) rfl e2 (mJ17_nextSetBit e3) (lw_V q1712 q1713 q1714 q134 q1715) (by decide +kernel) (Nat.le_of_ble_eq_true rfl) (Nat.le_of_ble_eq_true rfl) rfl hl.1 (Nat.le_of_ble_eq_true rfl) dX1_reachable_124 rfl rfl (fun H locs hR hS => ?_)
  refine lv_istore (lv' := [(5, .int x4), (4, .int 0), (2, .ref v2)]) hx hb dX1_reachable_127 hl (by decide) rfl (fun ls hl => ?_)
  exact lX1_reachable_129 B hT hl0 _ _ _ h H locs ls hR hS (lv_sub hl [2, 1, 0] rfl)
noncomputable def fX1_reachable_b116 (v0 : Nat) (v2 : Nat) (v3 : Int32) (w : WH) : Option (Sum (Int32 × WH) (((Sum (Int32) (Nat × Nat)) × WH))) :=
  some (.inl (v3, w))
theorem bX1_reachable_116 {p : Program} {l : Launch} {e : Env} {s : State} {m : MethodId} {args : Array Value} {below : List Frame} {meth : Method} {c : Code} {H : Heap} {locs : List Loc} {ls : Array Slot} {G : gE} {A : Nat → Prop} {w0 : WH} (B : gB G RX1 cX1_reachable 6 (some .int) p s m args meth c) (hT : ∀ x ∈ c.exceptionTable.toList, False) (hl0 : l.stackTraces = false) {v0 : Nat} {v2 : Nat} {v3 : Int32} {w : WH} {x : Sum (Int32 × WH) (((Sum (Int32) (Nat × Nat)) × WH))} {r : ((Sum (Int32) (Nat × Nat)) × WH)} (h : fX1_reachable_b116 v0 v2 v3 w = some x)  (k39 : ∀ (v3' : Int32) (w' : WH), x = (.inl (v3', w')) → ∀ (H : Heap) (locs : List Loc) (ls : Array Slot), RepH G A w' H → Cu A s w0 w' H locs → lv_has ls 6 [(0, .ref v0), (2, .ref v2), (3, .int v3')] → W p l e (hRm 17 376 w0) s m args below meth c H locs (wC w0 - wC w') (wS w0 - wS w') (hZX below args s G A w0 (oI r.1) r.2) (F0 m 39 ls [])) (kR : ∀ q, x = (.inr q) → q = r) (hR : RepH G A w H) (hS : Cu A s w0 w H locs) (hl : lv_has ls 6 [(0, .ref v0), (2, .ref v2), (3, .int v3)]) : W p l e (hRm 17 376 w0) s m args below meth c H locs (wC w0 - wC w) (wS w0 - wS w) (hZX below args s G A w0 (oI r.1) r.2) (F0 m 116 ls []) := by
  have B0 := B
  obtain ⟨hx, hb, hml, hown, hts, hr, hlk, hK⟩ := B0
  unfold fX1_reachable_b116 at h
  refine lv_goto (tgt := 39) hx hb dX1_reachable_116 (by decide) ?_
  exact k39 _ _ (Option.some.inj h).symm H locs ls hR hS (lv_sub hl [0, 1, 2] rfl)
noncomputable def fX1_reachable_b113 (v0 : Nat) (v2 : Nat) (v3 : Int32) (v4 : Nat) (w : WH) : Option (Sum (WH) (Sum (Int32 × WH) (((Sum (Int32) (Nat × Nat)) × WH)))) :=
  some (.inl w)
theorem bX1_reachable_113 {p : Program} {l : Launch} {e : Env} {s : State} {m : MethodId} {args : Array Value} {below : List Frame} {meth : Method} {c : Code} {H : Heap} {locs : List Loc} {ls : Array Slot} {G : gE} {A : Nat → Prop} {w0 : WH} (B : gB G RX1 cX1_reachable 6 (some .int) p s m args meth c) (hT : ∀ x ∈ c.exceptionTable.toList, False) (hl0 : l.stackTraces = false) {v0 : Nat} {v2 : Nat} {v3 : Int32} {v4 : Nat} {w : WH} {x : Sum (WH) (Sum (Int32 × WH) (((Sum (Int32) (Nat × Nat)) × WH)))} {r : ((Sum (Int32) (Nat × Nat)) × WH)} (h : fX1_reachable_b113 v0 v2 v3 v4 w = some x)  (k70 : ∀  (w' : WH), x = (.inl w') → ∀ (H : Heap) (locs : List Loc) (ls : Array Slot), RepH G A w' H → Cu A s w0 w' H locs → lv_has ls 6 [(0, .ref v0), (2, .ref v2), (3, .int v3), (4, va_rf v4)] → W p l e (hRm 17 376 w0) s m args below meth c H locs (wC w0 - wC w') (wS w0 - wS w') (hZX below args s G A w0 (oI r.1) r.2) (F0 m 70 ls [])) (k39 : ∀ (v3' : Int32) (w' : WH), x = (.inr (.inl (v3', w'))) → ∀ (H : Heap) (locs : List Loc) (ls : Array Slot), RepH G A w' H → Cu A s w0 w' H locs → lv_has ls 6 [(0, .ref v0), (2, .ref v2), (3, .int v3')] → W p l e (hRm 17 376 w0) s m args below meth c H locs (wC w0 - wC w') (wS w0 - wS w') (hZX below args s G A w0 (oI r.1) r.2) (F0 m 39 ls [])) (kR : ∀ q, x = (.inr (.inr q)) → q = r) (hR : RepH G A w H) (hS : Cu A s w0 w H locs) (hl : lv_has ls 6 [(0, .ref v0), (2, .ref v2), (3, .int v3), (4, .ref v4)]) : W p l e (hRm 17 376 w0) s m args below meth c H locs (wC w0 - wC w) (wS w0 - wS w) (hZX below args s G A w0 (oI r.1) r.2) (F0 m 113 ls []) := by
  have B0 := B
  obtain ⟨hx, hb, hml, hown, hts, hr, hlk, hK⟩ := B0
  unfold fX1_reachable_b113 at h
  refine lv_goto (tgt := 70) hx hb dX1_reachable_113 (by decide) ?_
  exact k70 _ (Option.some.inj h).symm H locs ls hR hS (lv_sub hl [0, 1, 2, 3] rfl)
noncomputable def fX1_reachable_b70 (v0 : Nat) (v2 : Nat) (v3 : Int32) (v4 : Option Nat) (w : WH) : Option (Sum (WH) (Sum (Int32 × WH) (((Sum (Int32) (Nat × Nat)) × WH)))) :=
  v4.bind fun a1 =>
  (hIs w a1 20).bind fun _ =>
  b2_ (fX13_hasNext a1 w) fun x6 w3 =>
  if x6 = 0 then (
    (fX1_reachable_b116 v0 v2 v3 w3).map (fun y => (.inr y))
  ) else (
    (hIs w3 a1 20).bind fun _ =>
    b2_ (fX13_next a1 w3) fun x11 w8 =>
    x11.bind fun a12 =>
    (hIs w8 a12 27).bind fun _ =>
    (gR w8 v0 17 0).bind fun x15 =>
    x15.bind fun a17 =>
    (hIs w8 a17 21).bind fun _ =>
    b2_ (fX2_isOpen a17 a12 w8) fun x22 w19 =>
    if x22 = 0 then (
      fX1_reachable_b113 v0 v2 v3 a1 w19
    ) else (
      (hIs w19 a12 27).bind fun _ =>
      b2_ (fX8_to a12 w19) fun x27 w24 =>
      (hIs w24 v2 0).bind fun _ =>
      (fJ17_set_3 v2 x27 w24).bind fun w28 =>
      fX1_reachable_b113 v0 v2 v3 a1 w28
    )
  )
theorem bX1_reachable_70 {p : Program} {l : Launch} {e : Env} {s : State} {m : MethodId} {args : Array Value} {below : List Frame} {meth : Method} {c : Code} {H : Heap} {locs : List Loc} {ls : Array Slot} {G : gE} {A : Nat → Prop} {w0 : WH} (B : gB G RX1 cX1_reachable 6 (some .int) p s m args meth c) (hT : ∀ x ∈ c.exceptionTable.toList, False) (hl0 : l.stackTraces = false) {v0 : Nat} {v2 : Nat} {v3 : Int32} {v4 : Option Nat} {w : WH} {x : Sum (WH) (Sum (Int32 × WH) (((Sum (Int32) (Nat × Nat)) × WH)))} {r : ((Sum (Int32) (Nat × Nat)) × WH)} (h : fX1_reachable_b70 v0 v2 v3 v4 w = some x)  (k70 : ∀  (w' : WH), x = (.inl w') → ∀ (H : Heap) (locs : List Loc) (ls : Array Slot), RepH G A w' H → Cu A s w0 w' H locs → lv_has ls 6 [(0, .ref v0), (2, .ref v2), (3, .int v3), (4, va_rf v4)] → W p l e (hRm 17 376 w0) s m args below meth c H locs (wC w0 - wC w') (wS w0 - wS w') (hZX below args s G A w0 (oI r.1) r.2) (F0 m 70 ls [])) (k39 : ∀ (v3' : Int32) (w' : WH), x = (.inr (.inl (v3', w'))) → ∀ (H : Heap) (locs : List Loc) (ls : Array Slot), RepH G A w' H → Cu A s w0 w' H locs → lv_has ls 6 [(0, .ref v0), (2, .ref v2), (3, .int v3')] → W p l e (hRm 17 376 w0) s m args below meth c H locs (wC w0 - wC w') (wS w0 - wS w') (hZX below args s G A w0 (oI r.1) r.2) (F0 m 39 ls [])) (kR : ∀ q, x = (.inr (.inr q)) → q = r) (hR : RepH G A w H) (hS : Cu A s w0 w H locs) (hl : lv_has ls 6 [(0, .ref v0), (2, .ref v2), (3, .int v3), (4, va_rf v4)]) : W p l e (hRm 17 376 w0) s m args below meth c H locs (wC w0 - wC w) (wS w0 - wS w) (hZX below args s G A w0 (oI r.1) r.2) (F0 m 70 ls []) := by
  have B0 := B
  obtain ⟨hx, hb, hml, hown, hts, hr, hlk, hK⟩ := B0
  unfold fX1_reachable_b70 at h
  refine lv_aloadq hx hb dX1_reachable_70 (lv_at hl 3 rfl) ?_
  replace h := bo_o h
  obtain ⟨a1, e2, h⟩ := h
  subst e2
  replace h := bo_o h
  obtain ⟨_, e4, h⟩ := h
  replace h := b2_o h
  obtain ⟨x6, w3, e5, h⟩ := h
  refine h_callF 0  (As := []) (rest := []) (v := (some (.int x6))) (w' := w3) (st1 := [.int x6]) hx hb hml hown hts hK hR hS (Nat.le_refl _) (Nat.le_refl _) (h_recv (ci := 20) hK hR hS rfl e4) (mX13_hasNext e5) (lw_app (a := [.methodLink _ _ _, .selects _ _ _, .instanceMethod _, .initialized _]) (lw_4 q1540 q1544 q1546 q159) (lw_meth q1548)) (hK.fw 6 rfl) (by decide +kernel) (Nat.le_of_ble_eq_true rfl) (Nat.le_of_ble_eq_true rfl) rfl hl.1 (Nat.le_of_ble_eq_true rfl) dX1_reachable_72 rfl rfl (fun H locs hR hS => ?_)
  refine lv_if_eq (tgt := 116) hx hb dX1_reachable_77 (by decide) (fun c7 => ?_) (fun c7 => ?_)
  · replace h := it_o c7 h
    obtain ⟨y, h, ey⟩ := mp_o h
    exact bX1_reachable_116 B hT hl0 h (fun _ _ e => k39 _ _ (by rw [← ey, e])) (fun q e => kR q (by rw [← ey, e])) hR hS (lv_sub hl [0, 1, 2] rfl)
  · replace h := if_o c7 h
    refine lv_aload hx hb dX1_reachable_80 (lv_at hl 3 rfl) ?_
    replace h := bo_o h
    obtain ⟨_, e9, h⟩ := h
    replace h := b2_o h
    obtain ⟨x11, w8, e10, h⟩ := h
    refine h_callF 0  (As := []) (rest := []) (v := (some (va_rf x11))) (w' := w8) (st1 := [va_rf x11]) hx hb hml hown hts hK hR hS (Nat.le_refl _) (Nat.le_refl _) (h_recv (ci := 20) hK hR hS rfl e9) (mX13_next e10) (lw_app (a := [.methodLink _ _ _, .selects _ _ _, .instanceMethod _, .initialized _]) (lw_4 q1584 q1587 q1589 q159) (lw_meth q1591)) (hK.fw 7 rfl) (by decide +kernel) (Nat.le_of_ble_eq_true rfl) (Nat.le_of_ble_eq_true rfl) rfl hl.1 (Nat.le_of_ble_eq_true rfl) dX1_reachable_82 rfl rfl (fun H locs hR hS => ?_)
    replace h := bo_o h
    obtain ⟨a12, e13, h⟩ := h
    subst e13
    replace h := bo_o h
    obtain ⟨_, e14, h⟩ := h
    refine h_castS (ci := 27) hx hb hts hown hK hR hS rfl e14 q1768 dX1_reachable_87 ?_
    refine lv_astore (lv' := [(5, .ref a12), (0, .ref v0), (2, .ref v2), (3, .int v3), (4, .ref a1)]) hx hb dX1_reachable_90 hl (by decide) rfl (fun ls hl => ?_)
    refine lv_aload_n hx hb dX1_reachable_92 rfl (lv_at hl 1 rfl) ?_
    replace h := bo_o h
    obtain ⟨x15, e16, h⟩ := h
    refine h_get (ci := 17) (k := 0) (v := va_rf x15) hx hb hts hown hK hR in_X1 rfl (by decide) (fun _ _ => rfl) q662 (fun _ h9 => h9) (gR_o e16) dX1_reachable_93 ?_
    refine lv_aload hx hb dX1_reachable_96 (lv_at hl 0 rfl) ?_
    replace h := bo_o h
    obtain ⟨a17, e18, h⟩ := h
    subst e18
    replace h := bo_o h
    obtain ⟨_, e20, h⟩ := h
    replace h := b2_o h
    obtain ⟨x22, w19, e21, h⟩ := h
    refine h_callV 1 (ci := 21) (As := [.ref a12]) (rest := []) (v := (some (.int x22))) (w' := w19) (st1 := [.int x22]) hx hb hml hown hts hK hR hS (Nat.le_refl _) (Nat.le_refl _) rfl e20 (mX2_isOpen e21) (lw_V q1967 q1301 q1302 q113 q1303) (by decide +kernel) (Nat.le_of_ble_eq_true rfl) (Nat.le_of_ble_eq_true rfl) rfl hl.1 (Nat.le_of_ble_eq_true rfl) dX1_reachable_98 rfl rfl (fun H locs hR hS => ?_)
    refine lv_if_eq (tgt := 113) hx hb dX1_reachable_101 (by decide) (fun c23 => ?_) (fun c23 => ?_)
    · replace h := it_o c23 h
      exact bX1_reachable_113 B hT hl0 h k70 k39 kR hR hS (lv_sub hl [1, 2, 3, 4] rfl)
    · replace h := if_o c23 h
      refine lv_aload_n hx hb dX1_reachable_104 rfl (lv_at hl 2 rfl) ?_
      refine lv_aload hx hb dX1_reachable_105 (lv_at hl 0 rfl) ?_
      replace h := bo_o h
      obtain ⟨_, e25, h⟩ := h
      replace h := b2_o h
      obtain ⟨x27, w24, e26, h⟩ := h
      refine h_callV 0 (ci := 27) (As := []) (rest := [.ref v2]) (v := (some (.int x27))) (w' := w24) (st1 := [.int x27, .ref v2]) hx hb hml hown hts hK hR hS (Nat.le_refl _) (Nat.le_refl _) rfl e25 (mX8_to e26) (lw_V q1965 q1363 q1364 q141 q1365) (by decide +kernel) (Nat.le_of_ble_eq_true rfl) (Nat.le_of_ble_eq_true rfl) rfl hl.1 (Nat.le_of_ble_eq_true rfl) dX1_reachable_107 rfl rfl (fun H locs hR hS => ?_)
      replace h := bo_o h
      obtain ⟨_, e29, h⟩ := h
      replace h := bo_o h
      obtain ⟨w28, e30, h⟩ := h
      refine h_callV 1 (ci := 0) (As := [.int x27]) (rest := []) (v := none) (w' := w28) (st1 := []) hx hb hml hown hts hK hR hS (Nat.le_refl _) (Nat.le_refl _) rfl e29 (mJ17_set_3 e30) (lw_V q2226 q2027 q2028 q134 q2029) (by decide +kernel) (Nat.le_of_ble_eq_true rfl) (Nat.le_of_ble_eq_true rfl) rfl hl.1 (Nat.le_of_ble_eq_true rfl) dX1_reachable_110 rfl rfl (fun H locs hR hS => ?_)
      exact bX1_reachable_113 B hT hl0 h k70 k39 kR hR hS (lv_sub hl [1, 2, 3, 4] rfl)
noncomputable def fX1_reachable_l70 (v0 : Nat) (v2 : Nat) (v3 : Int32) (v4 : Option Nat) (w : WH) : Option (Sum (Int32 × WH) (((Sum (Int32) (Nat × Nat)) × WH))) := whileO (fun q => fX1_reachable_b70 v0 v2 v3 v4 q) w
theorem lX1_reachable_70 {p : Program} {l : Launch} {e : Env} {s : State} {m : MethodId} {args : Array Value} {below : List Frame} {meth : Method} {c : Code} {G : gE} {A : Nat → Prop} {w0 : WH} (B : gB G RX1 cX1_reachable 6 (some .int) p s m args meth c) (hT : ∀ x ∈ c.exceptionTable.toList, False) (hl0 : l.stackTraces = false) {v0 : Nat} {v2 : Nat} {v3 : Int32} {v4 : Option Nat} {x : Sum (Int32 × WH) (((Sum (Int32) (Nat × Nat)) × WH))} {r : ((Sum (Int32) (Nat × Nat)) × WH)}  (k39 : ∀ (v3' : Int32) (w' : WH), x = (.inl (v3', w')) → ∀ (H : Heap) (locs : List Loc) (ls : Array Slot), RepH G A w' H → Cu A s w0 w' H locs → lv_has ls 6 [(0, .ref v0), (2, .ref v2), (3, .int v3')] → W p l e (hRm 17 376 w0) s m args below meth c H locs (wC w0 - wC w') (wS w0 - wS w') (hZX below args s G A w0 (oI r.1) r.2) (F0 m 39 ls [])) (kR : ∀ q, x = (.inr q) → q = r) : ∀ (w : WH), fX1_reachable_l70 v0 v2 v3 v4 w = some x → ∀ (H : Heap) (locs : List Loc) (ls : Array Slot), RepH G A w H → Cu A s w0 w H locs → lv_has ls 6 [(0, .ref v0), (2, .ref v2), (3, .int v3), (4, va_rf v4)] → W p l e (hRm 17 376 w0) s m args below meth c H locs (wC w0 - wC w) (wS w0 - wS w) (hZX below args s G A w0 (oI r.1) r.2) (F0 m 70 ls []) := by
  intro  w h
  refine wh_walk (body := (fun q => fX1_reachable_b70 v0 v2 v3 v4 q)) (P := (fun q : (WH) => ∀ (H : Heap) (locs : List Loc) (ls : Array Slot), RepH G A q H → Cu A s w0 q H locs → lv_has ls 6 [(0, .ref v0), (2, .ref v2), (3, .int v3), (4, va_rf v4)] → W p l e (hRm 17 376 w0) s m args below meth c H locs (wC w0 - wC q) (wS w0 - wS q) (hZX below args s G A w0 (oI r.1) r.2) (F0 m 70 ls []))) (r := x) ?_ w h
  intro q y hy hL hr H locs ls hR hS hl
  exact bX1_reachable_70 (r := r) B hT hl0 hy (fun a0 e => hL a0 e) (fun a0 a1 e H locs ls hR hS hl => k39 _ _ ((hr _ e).symm) H locs ls hR hS hl) (fun q e => kR q ((hr _ e).symm)) hR hS hl
noncomputable def fX1_reachable_b39 (v0 : Nat) (v2 : Nat) (v3 : Int32) (w : WH) : Option (Sum (Int32 × WH) (((Sum (Int32) (Nat × Nat)) × WH))) :=
  (hIs w v2 0).bind fun _ =>
  b2_ (fJ17_cardinality v2 w) fun x4 w1 =>
  if x4 ≤ v3 then (
    (fX1_reachable_b119 v2 w1).map (fun y => (.inr y))
  ) else (
    (hIs w1 v2 0).bind fun _ =>
    b2_ (fJ17_cardinality v2 w1) fun x9 w6 =>
    (gR w6 v0 17 0).bind fun x10 =>
    x10.bind fun a12 =>
    (gR w6 a12 21 0).bind fun x14 =>
    x14.bind fun a16 =>
    (hIs w6 a16 22).bind fun _ =>
    b2_ (fX3_from a16 v2 w6) fun x21 w18 =>
    x21.bind fun a22 =>
    (hIs w18 a22 19).bind fun _ =>
    b2_ (fX12_iterator a22 w18) fun x27 w24 =>
    fX1_reachable_l70 v0 v2 x9 x27 w24
  )
theorem bX1_reachable_39 {p : Program} {l : Launch} {e : Env} {s : State} {m : MethodId} {args : Array Value} {below : List Frame} {meth : Method} {c : Code} {H : Heap} {locs : List Loc} {ls : Array Slot} {G : gE} {A : Nat → Prop} {w0 : WH} (B : gB G RX1 cX1_reachable 6 (some .int) p s m args meth c) (hT : ∀ x ∈ c.exceptionTable.toList, False) (hl0 : l.stackTraces = false) {v0 : Nat} {v2 : Nat} {v3 : Int32} {w : WH} {x : Sum (Int32 × WH) (((Sum (Int32) (Nat × Nat)) × WH))} {r : ((Sum (Int32) (Nat × Nat)) × WH)} (h : fX1_reachable_b39 v0 v2 v3 w = some x)  (k39 : ∀ (v3' : Int32) (w' : WH), x = (.inl (v3', w')) → ∀ (H : Heap) (locs : List Loc) (ls : Array Slot), RepH G A w' H → Cu A s w0 w' H locs → lv_has ls 6 [(0, .ref v0), (2, .ref v2), (3, .int v3')] → W p l e (hRm 17 376 w0) s m args below meth c H locs (wC w0 - wC w') (wS w0 - wS w') (hZX below args s G A w0 (oI r.1) r.2) (F0 m 39 ls [])) (kR : ∀ q, x = (.inr q) → q = r) (hR : RepH G A w H) (hS : Cu A s w0 w H locs) (hl : lv_has ls 6 [(0, .ref v0), (2, .ref v2), (3, .int v3)]) : W p l e (hRm 17 376 w0) s m args below meth c H locs (wC w0 - wC w) (wS w0 - wS w) (hZX below args s G A w0 (oI r.1) r.2) (F0 m 39 ls []) := by
  have B0 := B
  obtain ⟨hx, hb, hml, hown, hts, hr, hlk, hK⟩ := B0
  unfold fX1_reachable_b39 at h
  refine lv_iload_n hx hb dX1_reachable_39 rfl (lv_at hl 2 rfl) ?_
  refine lv_aload_n hx hb dX1_reachable_40 rfl (lv_at hl 1 rfl) ?_
  replace h := bo_o h
  obtain ⟨_, e2, h⟩ := h
  replace h := b2_o h
  obtain ⟨x4, w1, e3, h⟩ := h
  refine h_callV 0 (ci := 0) (As := []) (rest := [.int v3]) (v := (some (.int x4))) (w' := w1) (st1 := [.int x4, .int v3]) hx hb hml hown hts hK hR hS (Nat.le_refl _) (Nat.le_refl _) rfl e2 (mJ17_cardinality e3) (lw_V q1923 q1924 q1925 q134 q1926) (by decide +kernel) (Nat.le_of_ble_eq_true rfl) (Nat.le_of_ble_eq_true rfl) rfl hl.1 (Nat.le_of_ble_eq_true rfl) dX1_reachable_41 rfl rfl (fun H locs hR hS => ?_)
  refine lv_icmp_ge (tgt := 119) hx hb dX1_reachable_44 (by decide) (fun c5 => ?_) (fun c5 => ?_)
  · replace h := it_o c5 h
    obtain ⟨y, h, ey⟩ := mp_o h
    have ey := kR _ ey.symm
    subst ey
    exact bX1_reachable_119 B hT hl0 h  hR hS (lv_sub hl [1] rfl)
  · replace h := if_o c5 h
    refine lv_aload_n hx hb dX1_reachable_47 rfl (lv_at hl 1 rfl) ?_
    replace h := bo_o h
    obtain ⟨_, e7, h⟩ := h
    replace h := b2_o h
    obtain ⟨x9, w6, e8, h⟩ := h
    refine h_callV 0 (ci := 0) (As := []) (rest := []) (v := (some (.int x9))) (w' := w6) (st1 := [.int x9]) hx hb hml hown hts hK hR hS (Nat.le_refl _) (Nat.le_refl _) rfl e7 (mJ17_cardinality e8) (lw_V q1923 q1924 q1925 q134 q1926) (by decide +kernel) (Nat.le_of_ble_eq_true rfl) (Nat.le_of_ble_eq_true rfl) rfl hl.1 (Nat.le_of_ble_eq_true rfl) dX1_reachable_48 rfl rfl (fun H locs hR hS => ?_)
    refine lv_istore_n (lv' := [(3, .int x9), (0, .ref v0), (2, .ref v2)]) hx hb dX1_reachable_51 rfl hl (by decide) rfl (fun ls hl => ?_)
    refine lv_aload_n hx hb dX1_reachable_52 rfl (lv_at hl 1 rfl) ?_
    replace h := bo_o h
    obtain ⟨x10, e11, h⟩ := h
    refine h_get (ci := 17) (k := 0) (v := va_rf x10) hx hb hts hown hK hR in_X1 rfl (by decide) (fun _ _ => rfl) q662 (fun _ h9 => h9) (gR_o e11) dX1_reachable_53 ?_
    replace h := bo_o h
    obtain ⟨a12, e13, h⟩ := h
    subst e13
    replace h := bo_o h
    obtain ⟨x14, e15, h⟩ := h
    refine h_getN (ci := 21) (k := 0) (v := va_rf x14) hx hb hts hown hK hR in_X2 rfl (by decide) (fun _ _ => rfl) (hK.fn 15 rfl) (fun _ h9 => h9) (gR_o e15) dX1_reachable_56 ?_
    refine lv_aload_n hx hb dX1_reachable_59 rfl (lv_at hl 2 rfl) ?_
    replace h := bo_o h
    obtain ⟨a16, e17, h⟩ := h
    subst e17
    replace h := bo_o h
    obtain ⟨_, e19, h⟩ := h
    replace h := b2_o h
    obtain ⟨x21, w18, e20, h⟩ := h
    refine h_callV 1 (ci := 22) (As := [.ref v2]) (rest := []) (v := (some (va_rf x21))) (w' := w18) (st1 := [va_rf x21]) hx hb hml hown hts hK hR hS (Nat.le_refl _) (Nat.le_refl _) rfl e19 (mX3_from e20) (lw_V q2241 q2242 q2243 q114 q2244) (by decide +kernel) (Nat.le_of_ble_eq_true rfl) (Nat.le_of_ble_eq_true rfl) rfl hl.1 (Nat.le_of_ble_eq_true rfl) dX1_reachable_60 rfl rfl (fun H locs hR hS => ?_)
    replace h := bo_o h
    obtain ⟨a22, e23, h⟩ := h
    subst e23
    replace h := bo_o h
    obtain ⟨_, e25, h⟩ := h
    replace h := b2_o h
    obtain ⟨x27, w24, e26, h⟩ := h
    refine h_callF 0  (As := []) (rest := []) (v := (some (va_rf x27))) (w' := w24) (st1 := [va_rf x27]) hx hb hml hown hts hK hR hS (Nat.le_refl _) (Nat.le_refl _) (h_recv (ci := 19) hK hR hS rfl e25) (mX12_iterator e26) (lw_app (a := [.methodLink _ _ _, .selects _ _ _, .instanceMethod _, .initialized _]) (lw_4 q2259 q2263 q2265 q158) (lw_meth q2267)) (hK.fw 10 rfl) (by decide +kernel) (Nat.le_of_ble_eq_true rfl) (Nat.le_of_ble_eq_true rfl) rfl hl.1 (Nat.le_of_ble_eq_true rfl) dX1_reachable_63 rfl rfl (fun H locs hR hS => ?_)
    refine lv_astoreq (lv' := [(4, va_rf x27), (3, .int x9), (0, .ref v0), (2, .ref v2)]) hx hb dX1_reachable_68 hl (by decide) rfl (fun ls hl => ?_)
    exact lX1_reachable_70 (x := x) (r := r) B hT hl0 k39 kR _ h H locs ls hR hS (lv_sub hl [2, 3, 1, 0] rfl)
noncomputable def fX1_reachable_l39 (v0 : Nat) (v2 : Nat) (v3 : Int32) (w : WH) : Option (((Sum (Int32) (Nat × Nat)) × WH)) := whileO (fun q => fX1_reachable_b39 v0 v2 q.1 q.2) (v3, w)
theorem lX1_reachable_39 {p : Program} {l : Launch} {e : Env} {s : State} {m : MethodId} {args : Array Value} {below : List Frame} {meth : Method} {c : Code} {G : gE} {A : Nat → Prop} {w0 : WH} (B : gB G RX1 cX1_reachable 6 (some .int) p s m args meth c) (hT : ∀ x ∈ c.exceptionTable.toList, False) (hl0 : l.stackTraces = false) {v0 : Nat} {v2 : Nat} {r : ((Sum (Int32) (Nat × Nat)) × WH)}   : ∀ (v3 : Int32) (w : WH), fX1_reachable_l39 v0 v2 v3 w = some r → ∀ (H : Heap) (locs : List Loc) (ls : Array Slot), RepH G A w H → Cu A s w0 w H locs → lv_has ls 6 [(0, .ref v0), (2, .ref v2), (3, .int v3)] → W p l e (hRm 17 376 w0) s m args below meth c H locs (wC w0 - wC w) (wS w0 - wS w) (hZX below args s G A w0 (oI r.1) r.2) (F0 m 39 ls []) := by
  intro v3 w h
  refine wh_walk (body := (fun q => fX1_reachable_b39 v0 v2 q.1 q.2)) (P := (fun q : (Int32 × WH) => ∀ (H : Heap) (locs : List Loc) (ls : Array Slot), RepH G A (q.2) H → Cu A s w0 (q.2) H locs → lv_has ls 6 [(0, .ref v0), (2, .ref v2), (3, .int (q.1))] → W p l e (hRm 17 376 w0) s m args below meth c H locs (wC w0 - wC (q.2)) (wS w0 - wS (q.2)) (hZX below args s G A w0 (oI r.1) r.2) (F0 m 39 ls []))) (r := r) ?_ (v3, w) h
  intro q y hy hL hr H locs ls hR hS hl
  exact bX1_reachable_39 (r := r) B hT hl0 hy (fun a0 a1 e => hL (a0, a1) e) (fun q e => hr q e) hR hS hl
noncomputable def fX1_reachable (v0 : Nat) (v1 : Int32) (w : WH) : Option (((Sum (Int32) (Nat × Nat)) × WH)) :=
  (gR w v0 17 0).bind fun x1 =>
  x1.bind fun a3 =>
  (gR w a3 21 0).bind fun x5 =>
  x5.bind fun a7 =>
  (gI w a7 22 0).bind fun x9 =>
  b2_ (fX1_inRange (v1.toInt64) 0 ((x9 - 1).toInt64) w) fun x13 w11 =>
  b2_ (fX1_requireArgument x13 w11) fun o15 w14 => ex_ o15 (fun _ =>
    b2_ (hNw w14 3 0 [.null, .int 0, .int 0]) fun a19 w20 =>
    (fJ17_init a19 10 w20).bind fun w22 =>
    (hIs w22 a19 0).bind fun _ =>
    (fJ17_set_3 a19 v1 w22).bind fun w24 =>
    fX1_reachable_l39 v0 a19 0 w24) (fun q18 =>
    some (.inr q18, w14))
theorem bX1_reachable_0 {p : Program} {l : Launch} {e : Env} {s : State} {m : MethodId} {args : Array Value} {below : List Frame} {meth : Method} {c : Code} {H : Heap} {locs : List Loc} {ls : Array Slot} {G : gE} {A : Nat → Prop} {w0 : WH} (B : gB G RX1 cX1_reachable 6 (some .int) p s m args meth c) (hT : ∀ x ∈ c.exceptionTable.toList, False) (hl0 : l.stackTraces = false) {v0 : Nat} {v1 : Int32} {w : WH} {r : ((Sum (Int32) (Nat × Nat)) × WH)} (h : fX1_reachable v0 v1 w = some r)   (hR : RepH G A w H) (hS : Cu A s w0 w H locs) (hl : lv_has ls 6 [(0, .ref v0), (1, .int v1)]) : W p l e (hRm 17 376 w0) s m args below meth c H locs (wC w0 - wC w) (wS w0 - wS w) (hZX below args s G A w0 (oI r.1) r.2) (F0 m 0 ls []) := by
  have B0 := B
  obtain ⟨hx, hb, hml, hown, hts, hr, hlk, hK⟩ := B0
  unfold fX1_reachable at h
  refine lv_iload_n hx hb dX1_reachable_0 rfl (lv_at hl 1 rfl) ?_
  refine lv_i2l hx hb dX1_reachable_1 rfl ?_
  refine lv_lconst (v := 0) hx hb dX1_reachable_2 (by decide) ?_
  refine lv_aload_n hx hb dX1_reachable_3 rfl (lv_at hl 0 rfl) ?_
  replace h := bo_o h
  obtain ⟨x1, e2, h⟩ := h
  refine h_get (ci := 17) (k := 0) (v := va_rf x1) hx hb hts hown hK hR in_X1 rfl (by decide) (fun _ _ => rfl) q662 (fun _ h9 => h9) (gR_o e2) dX1_reachable_4 ?_
  replace h := bo_o h
  obtain ⟨a3, e4, h⟩ := h
  subst e4
  replace h := bo_o h
  obtain ⟨x5, e6, h⟩ := h
  refine h_getN (ci := 21) (k := 0) (v := va_rf x5) hx hb hts hown hK hR in_X2 rfl (by decide) (fun _ _ => rfl) (hK.fn 15 rfl) (fun _ h9 => h9) (gR_o e6) dX1_reachable_7 ?_
  replace h := bo_o h
  obtain ⟨a7, e8, h⟩ := h
  subst e8
  replace h := bo_o h
  obtain ⟨x9, e10, h⟩ := h
  refine h_getN (ci := 22) (k := 0) (v := .int x9) hx hb hts hown hK hR in_X3 rfl (by decide) (fun _ _ => rfl) (hK.fn 3 rfl) (fun _ h9 => h9) (gI_o e10) dX1_reachable_10 ?_
  refine lv_iconst (v := 1) hx hb dX1_reachable_13 (by decide) ?_
  refine lv_isub hx hb dX1_reachable_14 ?_
  refine lv_i2l hx hb dX1_reachable_15 rfl ?_
  replace h := b2_o h
  obtain ⟨x13, w11, e12, h⟩ := h
  refine h_callS 3  (As := [.long (v1.toInt64), .long 0, .long ((x9 - 1).toInt64)]) (rest := []) (v := (some (.int x13))) (w' := w11) (st1 := [.int x13]) hx hb hml hown hts hK hR hS (Nat.le_refl _) (Nat.le_refl _) (mX1_inRange e12) (lw_S q1900 q743 q112 q744) (by decide +kernel) (Nat.le_of_ble_eq_true rfl) (Nat.le_of_ble_eq_true rfl) rfl hl.1 (Nat.le_of_ble_eq_true rfl) dX1_reachable_16 rfl rfl (fun H locs hR hS => ?_)
  replace h := b2_o h
  obtain ⟨o15, w14, e16, h⟩ := h
  refine h_callSX 1 (As := [.int x13]) (rest := []) (o := oV o15) (w' := w14)  hx hb hml hown hts hK hR hS (Nat.le_refl _) (Nat.le_refl _) (mX1_requireArgument hl0 e16) (lw_S q1993 q1994 q112 q1995) (by decide +kernel) (Nat.le_of_ble_eq_true rfl) (Nat.le_of_ble_eq_true rfl) rfl hl.1 (Nat.le_of_ble_eq_true rfl) dX1_reachable_19 rfl (fun v9 hv9 H locs hR hS => ?_) (fun E9 q9 hq9 H locs hR hS hce => ?_)
  · cases o15 with
    | inr q => cases hv9
    | inl x17 =>
      cases hv9
      replace h := exl_o h
      refine W.eq (g2 := F0 m 22 ls []) rfl ?_
      replace h := b2_o h
      obtain ⟨a19, w20, e21, h⟩ := h
      refine h_new (ci := 0) (fs := [.null, .int 0, .int 0]) hx hb hts hown hK hR hS (Nat.le_refl _) (Nat.le_refl _) in_J17 tyJ17 tyJ17_ok rfl (by decide +kernel) q1413 q562 q134 e21 dX1_reachable_22 (fun H locs hR hS => ?_)
      refine lv_dup hx hb dX1_reachable_25 rfl ?_
      refine lv_bipush (v := 10) hx hb dX1_reachable_26 (by decide) ?_
      replace h := bo_o h
      obtain ⟨w22, e23, h⟩ := h
      refine h_callI 1  (As := [.int 10]) (rest := [.ref a19]) (w' := w22) hx hb hml hown hts hK hR hS (Nat.le_refl _) (Nat.le_refl _) (mJ17_init e23) (lw_meth q565) q134 q1414 q564 rfl (by decide +kernel) (Nat.le_of_ble_eq_true rfl) (Nat.le_of_ble_eq_true rfl) rfl hl.1 (Nat.le_of_ble_eq_true rfl) dX1_reachable_28 rfl (fun H locs hR hS => ?_)
      refine lv_astore_n (lv' := [(2, .ref a19), (0, .ref v0), (1, .int v1)]) hx hb dX1_reachable_31 rfl hl (by decide) rfl (fun ls hl => ?_)
      refine lv_aload_n hx hb dX1_reachable_32 rfl (lv_at hl 0 rfl) ?_
      refine lv_iload_n hx hb dX1_reachable_33 rfl (lv_at hl 2 rfl) ?_
      replace h := bo_o h
      obtain ⟨_, e25, h⟩ := h
      replace h := bo_o h
      obtain ⟨w24, e26, h⟩ := h
      refine h_callV 1 (ci := 0) (As := [.int v1]) (rest := []) (v := none) (w' := w24) (st1 := []) hx hb hml hown hts hK hR hS (Nat.le_refl _) (Nat.le_refl _) rfl e25 (mJ17_set_3 e26) (lw_V q2226 q2027 q2028 q134 q2029) (by decide +kernel) (Nat.le_of_ble_eq_true rfl) (Nat.le_of_ble_eq_true rfl) rfl hl.1 (Nat.le_of_ble_eq_true rfl) dX1_reachable_34 rfl rfl (fun H locs hR hS => ?_)
      refine lv_iconst (v := 0) hx hb dX1_reachable_37 (by decide) ?_
      refine lv_istore_n (lv' := [(3, .int 0), (2, .ref a19), (0, .ref v0), (1, .int v1)]) hx hb dX1_reachable_38 rfl hl (by decide) rfl (fun ls hl => ?_)
      exact lX1_reachable_39 B hT hl0 _ _ h H locs ls hR hS (lv_sub hl [2, 1, 0] rfl)
  · cases o15 with
    | inl q => cases hq9
    | inr q18 =>
      cases hq9
      replace h := exr_o h
      have eR := Option.some.inj h
      subst eR
      exact h_out hT hlk hR hS hce
theorem mX1_reachable {l : Launch} {G : gE} {A : Nat → Prop} {v0 : Nat} {v1 : Int32} {w : WH} {r : ((Sum (Int32) (Nat × Nat)) × WH)} (hl0 : l.stackTraces = false) (h : fX1_reachable v0 v1 w = some r) : hMX l G A yX1_reachable cX1_reachable 6 (some .int) 17 376 [.ref v0, .int v1] w (oI r.1) r.2 :=
  h_ofX (by decide +kernel) (Nat.le_of_ble_eq_true rfl) (fun p e s m args below meth c ls B hnm hT hR hS hl => bX1_reachable_0 B hT hl0 h hR hS hl)
noncomputable def fX1_judged_b139  (w : WH) : Option ((Int64 × WH)) :=
  some ((-4), w)
theorem bX1_judged_139 {p : Program} {l : Launch} {e : Env} {s : State} {m : MethodId} {args : Array Value} {below : List Frame} {meth : Method} {c : Code} {H : Heap} {locs : List Loc} {ls : Array Slot} {G : gE} {A : Nat → Prop} {w0 : WH} (B : gB G RX1 cX1_judged 8 (some .long) p s m args meth c)  {w : WH} {r : (Int64 × WH)} (h : fX1_judged_b139 w = some r)   (hR : RepH G A w H) (hS : Cu A s w0 w H locs) (hl : lv_has ls 8 []) : W p l e (hRm 14 312 w0) s m args below meth c H locs (wC w0 - wC w) (wS w0 - wS w) (hZ below args s G A w0 (some (.long r.1)) r.2) (F0 m 139 ls []) := by
  have B0 := B
  obtain ⟨hx, hb, hml, hown, hts, hr, hlk, hK⟩ := B0
  unfold fX1_judged_b139 at h
  refine lv_ldc2 (v := (-4)) hx hb hown (hts _ q2328) dX1_judged_139 ?_
  have eR := Option.some.inj h
  subst eR
  exact h_lfin hx hb hr hlk hR hS dX1_judged_142
noncomputable def fX1_judged_b119 (v0 : Nat) (v1 : Nat) (v2 : Int64) (v4 : Int32) (w : WH) : Option ((Int64 × WH)) :=
  (gI w v0 17 5).bind fun x1 =>
  if x1 ≤ 0 then (
    fX1_judged_b139 w
  ) else (
    (hIs w v1 28).bind fun _ =>
    b2_ (fX9_to v1 w) fun x7 w4 =>
    if v4 = x7 then (
      some (v2, w4)
    ) else (
      fX1_judged_b139 w4
    )
  )
theorem bX1_judged_119 {p : Program} {l : Launch} {e : Env} {s : State} {m : MethodId} {args : Array Value} {below : List Frame} {meth : Method} {c : Code} {H : Heap} {locs : List Loc} {ls : Array Slot} {G : gE} {A : Nat → Prop} {w0 : WH} (B : gB G RX1 cX1_judged 8 (some .long) p s m args meth c) {v0 : Nat} {v1 : Nat} {v2 : Int64} {v4 : Int32} {w : WH} {r : (Int64 × WH)} (h : fX1_judged_b119 v0 v1 v2 v4 w = some r)   (hR : RepH G A w H) (hS : Cu A s w0 w H locs) (hl : lv_has ls 8 [(0, .ref v0), (1, .ref v1), (2, .long v2), (4, .int v4)]) : W p l e (hRm 14 312 w0) s m args below meth c H locs (wC w0 - wC w) (wS w0 - wS w) (hZ below args s G A w0 (some (.long r.1)) r.2) (F0 m 119 ls []) := by
  have B0 := B
  obtain ⟨hx, hb, hml, hown, hts, hr, hlk, hK⟩ := B0
  unfold fX1_judged_b119 at h
  refine lv_aload_n hx hb dX1_judged_119 rfl (lv_at hl 0 rfl) ?_
  replace h := bo_o h
  obtain ⟨x1, e2, h⟩ := h
  refine h_get (ci := 17) (k := 5) (v := .int x1) hx hb hts hown hK hR in_X1 rfl (by decide) (fun _ _ => rfl) q670 (fun _ h9 => h9) (gI_o e2) dX1_judged_120 ?_
  refine lv_if_le (tgt := 139) hx hb dX1_judged_123 (by decide) (fun c3 => ?_) (fun c3 => ?_)
  · replace h := it_o c3 h
    exact bX1_judged_139 B h  hR hS (lv_sub hl [] rfl)
  · replace h := if_o c3 h
    refine lv_iload hx hb dX1_judged_126 (lv_at hl 3 rfl) ?_
    refine lv_aload_n hx hb dX1_judged_128 rfl (lv_at hl 1 rfl) ?_
    replace h := bo_o h
    obtain ⟨_, e5, h⟩ := h
    replace h := b2_o h
    obtain ⟨x7, w4, e6, h⟩ := h
    refine h_callV 0 (ci := 28) (As := []) (rest := [.int v4]) (v := (some (.int x7))) (w' := w4) (st1 := [.int x7, .int v4]) hx hb hml hown hts hK hR hS (Nat.le_refl _) (Nat.le_refl _) rfl e5 (mX9_to e6) (lw_V q1984 q1278 q1279 q143 q1280) (by decide +kernel) (Nat.le_of_ble_eq_true rfl) (Nat.le_of_ble_eq_true rfl) rfl hl.1 (Nat.le_of_ble_eq_true rfl) dX1_judged_129 rfl rfl (fun H locs hR hS => ?_)
    refine lv_icmp_ne (tgt := 139) hx hb dX1_judged_132 (by decide) (fun c8 => ?_) (fun c8 => ?_)
    · replace h := if_o c8 h
      exact bX1_judged_139 B h  hR hS (lv_sub hl [] rfl)
    · replace h := it_o c8 h
      refine lv_lload_n hx hb dX1_judged_135 rfl (lv_at hl 2 rfl) ?_
      refine lv_goto (tgt := 142) hx hb dX1_judged_136 (by decide) ?_
      have eR := Option.some.inj h
      subst eR
      exact h_lfin hx hb hr hlk hR hS dX1_judged_142
noncomputable def fX1_judged_b41  (w : WH) : Option ((Int64 × WH)) :=
  some ((-4), w)
theorem bX1_judged_41 {p : Program} {l : Launch} {e : Env} {s : State} {m : MethodId} {args : Array Value} {below : List Frame} {meth : Method} {c : Code} {H : Heap} {locs : List Loc} {ls : Array Slot} {G : gE} {A : Nat → Prop} {w0 : WH} (B : gB G RX1 cX1_judged 8 (some .long) p s m args meth c)  {w : WH} {r : (Int64 × WH)} (h : fX1_judged_b41 w = some r)   (hR : RepH G A w H) (hS : Cu A s w0 w H locs) (hl : lv_has ls 8 []) : W p l e (hRm 14 312 w0) s m args below meth c H locs (wC w0 - wC w) (wS w0 - wS w) (hZ below args s G A w0 (some (.long r.1)) r.2) (F0 m 41 ls []) := by
  have B0 := B
  obtain ⟨hx, hb, hml, hown, hts, hr, hlk, hK⟩ := B0
  unfold fX1_judged_b41 at h
  refine lv_ldc2 (v := (-4)) hx hb hown (hts _ q2328) dX1_judged_41 ?_
  have eR := Option.some.inj h
  subst eR
  exact h_lfin hx hb hr hlk hR hS dX1_judged_44
noncomputable def fX1_judged_b89  (w : WH) : Option ((Int64 × WH)) :=
  some ((-4), w)
theorem bX1_judged_89 {p : Program} {l : Launch} {e : Env} {s : State} {m : MethodId} {args : Array Value} {below : List Frame} {meth : Method} {c : Code} {H : Heap} {locs : List Loc} {ls : Array Slot} {G : gE} {A : Nat → Prop} {w0 : WH} (B : gB G RX1 cX1_judged 8 (some .long) p s m args meth c)  {w : WH} {r : (Int64 × WH)} (h : fX1_judged_b89 w = some r)   (hR : RepH G A w H) (hS : Cu A s w0 w H locs) (hl : lv_has ls 8 []) : W p l e (hRm 14 312 w0) s m args below meth c H locs (wC w0 - wC w) (wS w0 - wS w) (hZ below args s G A w0 (some (.long r.1)) r.2) (F0 m 89 ls []) := by
  have B0 := B
  obtain ⟨hx, hb, hml, hown, hts, hr, hlk, hK⟩ := B0
  unfold fX1_judged_b89 at h
  refine lv_ldc2 (v := (-4)) hx hb hown (hts _ q2328) dX1_judged_89 ?_
  have eR := Option.some.inj h
  subst eR
  exact h_lfin hx hb hr hlk hR hS dX1_judged_92
noncomputable def fX1_judged_b67 (v0 : Nat) (v1 : Nat) (v2 : Int64) (v4 : Int32) (v5 : Int32) (v7 : Nat) (w : WH) : Option (Sum (Int64 × Int32 × Int32 × WH) ((Int64 × WH))) :=
  (hIs w v7 27).bind fun _ =>
  b2_ (fX8_from v7 w) fun x4 w1 =>
  if x4 = v4 then (
    (gR w1 v0 17 0).bind fun x6 =>
    x6.bind fun a8 =>
    (hIs w1 a8 21).bind fun _ =>
    b2_ (fX2_isOpen a8 v7 w1) fun x13 w10 =>
    if x13 = 0 then (
      (fX1_judged_b89 w10).map (fun y => (.inr y))
    ) else (
      (gR w10 v0 17 0).bind fun x15 =>
      x15.bind fun a17 =>
      b2_ (fX10_felt a17 v7 v1 w10) fun x21 w19 =>
      nm_ (v2 + x21) fun x22 =>
      (hIs w19 v7 27).bind fun _ =>
      b2_ (fX8_to v7 w19) fun x27 w24 =>
      some (.inl (x22, x27, v5 + 1, w24))
    )
  ) else (
    (fX1_judged_b89 w1).map (fun y => (.inr y))
  )
theorem bX1_judged_67 {p : Program} {l : Launch} {e : Env} {s : State} {m : MethodId} {args : Array Value} {below : List Frame} {meth : Method} {c : Code} {H : Heap} {locs : List Loc} {ls : Array Slot} {G : gE} {A : Nat → Prop} {w0 : WH} (B : gB G RX1 cX1_judged 8 (some .long) p s m args meth c) {v0 : Nat} {v1 : Nat} {v2 : Int64} {v4 : Int32} {v5 : Int32} {v7 : Nat} {w : WH} {x : Sum (Int64 × Int32 × Int32 × WH) ((Int64 × WH))} {r : (Int64 × WH)} (h : fX1_judged_b67 v0 v1 v2 v4 v5 v7 w = some x)  (k11 : ∀ (v2' : Int64) (v4' : Int32) (v5' : Int32) (w' : WH), x = (.inl (v2', v4', v5', w')) → ∀ (H : Heap) (locs : List Loc) (ls : Array Slot), RepH G A w' H → Cu A s w0 w' H locs → lv_has ls 8 [(0, .ref v0), (1, .ref v1), (2, .long v2'), (4, .int v4'), (5, .int v5')] → W p l e (hRm 14 312 w0) s m args below meth c H locs (wC w0 - wC w') (wS w0 - wS w') (hZ below args s G A w0 (some (.long r.1)) r.2) (F0 m 11 ls [])) (kR : ∀ q, x = (.inr q) → q = r) (hR : RepH G A w H) (hS : Cu A s w0 w H locs) (hl : lv_has ls 8 [(0, .ref v0), (1, .ref v1), (2, .long v2), (4, .int v4), (5, .int v5), (7, .ref v7)]) : W p l e (hRm 14 312 w0) s m args below meth c H locs (wC w0 - wC w) (wS w0 - wS w) (hZ below args s G A w0 (some (.long r.1)) r.2) (F0 m 67 ls []) := by
  have B0 := B
  obtain ⟨hx, hb, hml, hown, hts, hr, hlk, hK⟩ := B0
  unfold fX1_judged_b67 at h
  refine lv_aload hx hb dX1_judged_67 (lv_at hl 5 rfl) ?_
  replace h := bo_o h
  obtain ⟨_, e2, h⟩ := h
  replace h := b2_o h
  obtain ⟨x4, w1, e3, h⟩ := h
  refine h_callV 0 (ci := 27) (As := []) (rest := []) (v := (some (.int x4))) (w' := w1) (st1 := [.int x4]) hx hb hml hown hts hK hR hS (Nat.le_refl _) (Nat.le_refl _) rfl e2 (mX8_from e3) (lw_V q1964 q1367 q1368 q141 q1369) (by decide +kernel) (Nat.le_of_ble_eq_true rfl) (Nat.le_of_ble_eq_true rfl) rfl hl.1 (Nat.le_of_ble_eq_true rfl) dX1_judged_69 rfl rfl (fun H locs hR hS => ?_)
  refine lv_iload hx hb dX1_judged_72 (lv_at hl 3 rfl) ?_
  refine lv_icmp_ne (tgt := 89) hx hb dX1_judged_74 (by decide) (fun c5 => ?_) (fun c5 => ?_)
  · replace h := if_o c5 h
    obtain ⟨y, h, ey⟩ := mp_o h
    have ey := kR _ ey.symm
    subst ey
    exact bX1_judged_89 B h  hR hS (lv_sub hl [] rfl)
  · replace h := it_o c5 h
    refine lv_aload_n hx hb dX1_judged_77 rfl (lv_at hl 0 rfl) ?_
    replace h := bo_o h
    obtain ⟨x6, e7, h⟩ := h
    refine h_get (ci := 17) (k := 0) (v := va_rf x6) hx hb hts hown hK hR in_X1 rfl (by decide) (fun _ _ => rfl) q662 (fun _ h9 => h9) (gR_o e7) dX1_judged_78 ?_
    refine lv_aload hx hb dX1_judged_81 (lv_at hl 5 rfl) ?_
    replace h := bo_o h
    obtain ⟨a8, e9, h⟩ := h
    subst e9
    replace h := bo_o h
    obtain ⟨_, e11, h⟩ := h
    replace h := b2_o h
    obtain ⟨x13, w10, e12, h⟩ := h
    refine h_callV 1 (ci := 21) (As := [.ref v7]) (rest := []) (v := (some (.int x13))) (w' := w10) (st1 := [.int x13]) hx hb hml hown hts hK hR hS (Nat.le_refl _) (Nat.le_refl _) rfl e11 (mX2_isOpen e12) (lw_V q1967 q1301 q1302 q113 q1303) (by decide +kernel) (Nat.le_of_ble_eq_true rfl) (Nat.le_of_ble_eq_true rfl) rfl hl.1 (Nat.le_of_ble_eq_true rfl) dX1_judged_83 rfl rfl (fun H locs hR hS => ?_)
    refine lv_if_ne (tgt := 93) hx hb dX1_judged_86 (by decide) (fun c14 => ?_) (fun c14 => ?_)
    · replace h := if_o c14 h
      refine lv_lload_n hx hb dX1_judged_93 rfl (lv_at hl 2 rfl) ?_
      refine lv_aload_n hx hb dX1_judged_94 rfl (lv_at hl 0 rfl) ?_
      replace h := bo_o h
      obtain ⟨x15, e16, h⟩ := h
      refine h_get (ci := 17) (k := 0) (v := va_rf x15) hx hb hts hown hK hR in_X1 rfl (by decide) (fun _ _ => rfl) q662 (fun _ h9 => h9) (gR_o e16) dX1_judged_95 ?_
      refine lv_aload hx hb dX1_judged_98 (lv_at hl 5 rfl) ?_
      refine lv_aload_n hx hb dX1_judged_100 rfl (lv_at hl 1 rfl) ?_
      replace h := bo_o h
      obtain ⟨a17, e18, h⟩ := h
      subst e18
      replace h := b2_o h
      obtain ⟨x21, w19, e20, h⟩ := h
      refine h_callS 3  (As := [.ref a17, .ref v7, .ref v1]) (rest := [.long v2]) (v := (some (.long x21))) (w' := w19) (st1 := [.long x21, .long v2]) hx hb hml hown hts hK hR hS (Nat.le_refl _) (Nat.le_refl _) (mX10_felt e20) (lw_S q2329 q1321 q154 q1322) (by decide +kernel) (Nat.le_of_ble_eq_true rfl) (Nat.le_of_ble_eq_true rfl) rfl hl.1 (Nat.le_of_ble_eq_true rfl) dX1_judged_101 rfl rfl (fun H locs hR hS => ?_)
      refine lv_ladd hx hb dX1_judged_104 ?_
      replace h := nm_o h
      obtain ⟨x22, e23, h⟩ := h
      refine lv_lstore_n (lv' := [(2, .long x22), (0, .ref v0), (1, .ref v1), (4, .int v4), (5, .int v5), (7, .ref v7)]) hx hb dX1_judged_105 rfl hl (by decide) (by subst e23; rfl) (fun ls hl => ?_)
      refine lv_aload hx hb dX1_judged_106 (lv_at hl 5 rfl) ?_
      replace h := bo_o h
      obtain ⟨_, e25, h⟩ := h
      replace h := b2_o h
      obtain ⟨x27, w24, e26, h⟩ := h
      refine h_callV 0 (ci := 27) (As := []) (rest := []) (v := (some (.int x27))) (w' := w24) (st1 := [.int x27]) hx hb hml hown hts hK hR hS (Nat.le_refl _) (Nat.le_refl _) rfl e25 (mX8_to e26) (lw_V q1965 q1363 q1364 q141 q1365) (by decide +kernel) (Nat.le_of_ble_eq_true rfl) (Nat.le_of_ble_eq_true rfl) rfl hl.1 (Nat.le_of_ble_eq_true rfl) dX1_judged_108 rfl rfl (fun H locs hR hS => ?_)
      refine lv_istore (lv' := [(4, .int x27), (2, .long x22), (0, .ref v0), (1, .ref v1), (5, .int v5), (7, .ref v7)]) hx hb dX1_judged_111 hl (by decide) rfl (fun ls hl => ?_)
      refine lv_iinc (v := v5 + 1) (lv' := [(5, .int (v5 + 1)), (4, .int x27), (2, .long x22), (0, .ref v0), (1, .ref v1), (7, .ref v7)]) hx hb dX1_judged_113 hl (k := 4) rfl rfl (by decide) rfl (fun ls hl => ?_)
      refine lv_goto (tgt := 11) hx hb dX1_judged_116 (by decide) ?_
      exact k11 _ _ _ _ (Option.some.inj h).symm H locs ls hR hS (lv_sub hl [3, 4, 2, 1, 0] rfl)
    · replace h := it_o c14 h
      obtain ⟨y, h, ey⟩ := mp_o h
      have ey := kR _ ey.symm
      subst ey
      exact bX1_judged_89 B h  hR hS (lv_sub hl [] rfl)
noncomputable def fX1_judged_b11 (v0 : Nat) (v1 : Nat) (v2 : Int64) (v4 : Int32) (v5 : Int32) (w : WH) : Option (Sum (Int64 × Int32 × Int32 × WH) ((Int64 × WH))) :=
  (gI w v0 17 5).bind fun x1 =>
  if x1 ≤ v5 then (
    (fX1_judged_b119 v0 v1 v2 v4 w).map (fun y => (.inr y))
  ) else (
    (gR w v0 17 4).bind fun x4 =>
    x4.bind fun a6 =>
    (ldI w a6 2 v5).bind fun x8 =>
    nm_ (x8 - 97) fun x10 =>
    (hIs w v0 17).bind fun _ =>
    b2_ (fX1_isArc v0 x10 w) fun x15 w12 =>
    if x15 = 0 then (
      (fX1_judged_b41 w12).map (fun y => (.inr y))
    ) else (
      (gR w12 v0 17 0).bind fun x17 =>
      x17.bind fun a19 =>
      (gR w12 a19 21 0).bind fun x21 =>
      x21.bind fun a23 =>
      (gR w12 a23 22 1).bind fun x25 =>
      x25.bind fun a27 =>
      (hIs w12 a27 2).bind fun _ =>
      b2_ (fJ2_get a27 x10 w12) fun x32 w29 =>
      x32.bind fun a33 =>
      (hIs w29 a33 27).bind fun _ =>
      fX1_judged_b67 v0 v1 v2 v4 v5 a33 w29
    )
  )
theorem bX1_judged_11 {p : Program} {l : Launch} {e : Env} {s : State} {m : MethodId} {args : Array Value} {below : List Frame} {meth : Method} {c : Code} {H : Heap} {locs : List Loc} {ls : Array Slot} {G : gE} {A : Nat → Prop} {w0 : WH} (B : gB G RX1 cX1_judged 8 (some .long) p s m args meth c) {v0 : Nat} {v1 : Nat} {v2 : Int64} {v4 : Int32} {v5 : Int32} {w : WH} {x : Sum (Int64 × Int32 × Int32 × WH) ((Int64 × WH))} {r : (Int64 × WH)} (h : fX1_judged_b11 v0 v1 v2 v4 v5 w = some x)  (k11 : ∀ (v2' : Int64) (v4' : Int32) (v5' : Int32) (w' : WH), x = (.inl (v2', v4', v5', w')) → ∀ (H : Heap) (locs : List Loc) (ls : Array Slot), RepH G A w' H → Cu A s w0 w' H locs → lv_has ls 8 [(0, .ref v0), (1, .ref v1), (2, .long v2'), (4, .int v4'), (5, .int v5')] → W p l e (hRm 14 312 w0) s m args below meth c H locs (wC w0 - wC w') (wS w0 - wS w') (hZ below args s G A w0 (some (.long r.1)) r.2) (F0 m 11 ls [])) (kR : ∀ q, x = (.inr q) → q = r) (hR : RepH G A w H) (hS : Cu A s w0 w H locs) (hl : lv_has ls 8 [(0, .ref v0), (1, .ref v1), (2, .long v2), (4, .int v4), (5, .int v5)]) : W p l e (hRm 14 312 w0) s m args below meth c H locs (wC w0 - wC w) (wS w0 - wS w) (hZ below args s G A w0 (some (.long r.1)) r.2) (F0 m 11 ls []) := by
  have B0 := B
  obtain ⟨hx, hb, hml, hown, hts, hr, hlk, hK⟩ := B0
  unfold fX1_judged_b11 at h
  refine lv_iload hx hb dX1_judged_11 (lv_at hl 4 rfl) ?_
  refine lv_aload_n hx hb dX1_judged_13 rfl (lv_at hl 0 rfl) ?_
  replace h := bo_o h
  obtain ⟨x1, e2, h⟩ := h
  refine h_get (ci := 17) (k := 5) (v := .int x1) hx hb hts hown hK hR in_X1 rfl (by decide) (fun _ _ => rfl) q670 (fun _ h9 => h9) (gI_o e2) dX1_judged_14 ?_
  refine lv_icmp_ge (tgt := 119) hx hb dX1_judged_17 (by decide) (fun c3 => ?_) (fun c3 => ?_)
  · replace h := it_o c3 h
    obtain ⟨y, h, ey⟩ := mp_o h
    have ey := kR _ ey.symm
    subst ey
    exact bX1_judged_119 B h  hR hS (lv_sub hl [0, 1, 2, 3] rfl)
  · replace h := if_o c3 h
    refine lv_aload_n hx hb dX1_judged_20 rfl (lv_at hl 0 rfl) ?_
    replace h := bo_o h
    obtain ⟨x4, e5, h⟩ := h
    refine h_get (ci := 17) (k := 4) (v := va_rf x4) hx hb hts hown hK hR in_X1 rfl (by decide) (fun _ _ => rfl) q667 (fun _ h9 => h9) (gR_o e5) dX1_judged_21 ?_
    refine lv_iload hx hb dX1_judged_24 (lv_at hl 4 rfl) ?_
    replace h := bo_o h
    obtain ⟨a6, e7, h⟩ := h
    subst e7
    replace h := bo_o h
    obtain ⟨x8, e9, h⟩ := h
    refine h_bald hx hb hK hR hS e9 dX1_judged_26 ?_
    refine lv_bipush (v := 97) hx hb dX1_judged_27 (by decide) ?_
    refine lv_isub hx hb dX1_judged_29 ?_
    replace h := nm_o h
    obtain ⟨x10, e11, h⟩ := h
    refine lv_istore (lv' := [(6, .int x10), (0, .ref v0), (1, .ref v1), (2, .long v2), (4, .int v4), (5, .int v5)]) hx hb dX1_judged_30 hl (by decide) (by subst e11; rfl) (fun ls hl => ?_)
    refine lv_aload_n hx hb dX1_judged_32 rfl (lv_at hl 1 rfl) ?_
    refine lv_iload hx hb dX1_judged_33 (lv_at hl 0 rfl) ?_
    replace h := bo_o h
    obtain ⟨_, e13, h⟩ := h
    replace h := b2_o h
    obtain ⟨x15, w12, e14, h⟩ := h
    refine h_callV 1 (ci := 17) (As := [.int x10]) (rest := []) (v := (some (.int x15))) (w' := w12) (st1 := [.int x15]) hx hb hml hown hts hK hR hS (Nat.le_refl _) (Nat.le_refl _) rfl e13 (mX1_isArc e14) (lw_V q1952 q1954 qs47 q112 q1955) (by decide +kernel) (Nat.le_of_ble_eq_true rfl) (Nat.le_of_ble_eq_true rfl) rfl hl.1 (Nat.le_of_ble_eq_true rfl) dX1_judged_35 rfl rfl (fun H locs hR hS => ?_)
    refine lv_if_ne (tgt := 45) hx hb dX1_judged_38 (by decide) (fun c16 => ?_) (fun c16 => ?_)
    · replace h := if_o c16 h
      refine lv_aload_n hx hb dX1_judged_45 rfl (lv_at hl 1 rfl) ?_
      replace h := bo_o h
      obtain ⟨x17, e18, h⟩ := h
      refine h_get (ci := 17) (k := 0) (v := va_rf x17) hx hb hts hown hK hR in_X1 rfl (by decide) (fun _ _ => rfl) q662 (fun _ h9 => h9) (gR_o e18) dX1_judged_46 ?_
      replace h := bo_o h
      obtain ⟨a19, e20, h⟩ := h
      subst e20
      replace h := bo_o h
      obtain ⟨x21, e22, h⟩ := h
      refine h_getN (ci := 21) (k := 0) (v := va_rf x21) hx hb hts hown hK hR in_X2 rfl (by decide) (fun _ _ => rfl) (hK.fn 15 rfl) (fun _ h9 => h9) (gR_o e22) dX1_judged_49 ?_
      replace h := bo_o h
      obtain ⟨a23, e24, h⟩ := h
      subst e24
      replace h := bo_o h
      obtain ⟨x25, e26, h⟩ := h
      refine h_getN (ci := 22) (k := 1) (v := va_rf x25) hx hb hts hown hK hR in_X3 rfl (by decide) (fun _ _ => rfl) (hK.fn 6 rfl) (fun _ h9 => h9) (gR_o e26) dX1_judged_52 ?_
      refine lv_iload hx hb dX1_judged_55 (lv_at hl 0 rfl) ?_
      replace h := bo_o h
      obtain ⟨a27, e28, h⟩ := h
      subst e28
      replace h := bo_o h
      obtain ⟨_, e30, h⟩ := h
      replace h := b2_o h
      obtain ⟨x32, w29, e31, h⟩ := h
      refine h_callF 1  (As := [.int x10]) (rest := []) (v := (some (va_rf x32))) (w' := w29) (st1 := [va_rf x32]) hx hb hml hown hts hK hR hS (Nat.le_refl _) (Nat.le_refl _) (h_recv (ci := 2) hK hR hS rfl e30) (mJ2_get e31) (lw_app (a := [.methodLink _ _ _, .selects _ _ _, .instanceMethod _, .initialized _]) (lw_4 q1205 q1208 q1210 q117) (lw_meth q1212)) (hK.fw 1 rfl) (by decide +kernel) (Nat.le_of_ble_eq_true rfl) (Nat.le_of_ble_eq_true rfl) rfl hl.1 (Nat.le_of_ble_eq_true rfl) dX1_judged_57 rfl rfl (fun H locs hR hS => ?_)
      replace h := bo_o h
      obtain ⟨a33, e34, h⟩ := h
      subst e34
      replace h := bo_o h
      obtain ⟨_, e35, h⟩ := h
      refine h_castS (ci := 27) hx hb hts hown hK hR hS rfl e35 q1768 dX1_judged_62 ?_
      refine lv_astore (lv' := [(7, .ref a33), (6, .int x10), (0, .ref v0), (1, .ref v1), (2, .long v2), (4, .int v4), (5, .int v5)]) hx hb dX1_judged_65 hl (by decide) rfl (fun ls hl => ?_)
      exact bX1_judged_67 B h k11 kR hR hS (lv_sub hl [2, 3, 4, 5, 6, 0] rfl)
    · replace h := it_o c16 h
      obtain ⟨y, h, ey⟩ := mp_o h
      have ey := kR _ ey.symm
      subst ey
      exact bX1_judged_41 B h  hR hS (lv_sub hl [] rfl)
noncomputable def fX1_judged_l11 (v0 : Nat) (v1 : Nat) (v2 : Int64) (v4 : Int32) (v5 : Int32) (w : WH) : Option ((Int64 × WH)) := whileO (fun q => fX1_judged_b11 v0 v1 q.1 q.2.1 q.2.2.1 q.2.2.2) (v2, v4, v5, w)
theorem lX1_judged_11 {p : Program} {l : Launch} {e : Env} {s : State} {m : MethodId} {args : Array Value} {below : List Frame} {meth : Method} {c : Code} {G : gE} {A : Nat → Prop} {w0 : WH} (B : gB G RX1 cX1_judged 8 (some .long) p s m args meth c) {v0 : Nat} {v1 : Nat} {r : (Int64 × WH)}   : ∀ (v2 : Int64) (v4 : Int32) (v5 : Int32) (w : WH), fX1_judged_l11 v0 v1 v2 v4 v5 w = some r → ∀ (H : Heap) (locs : List Loc) (ls : Array Slot), RepH G A w H → Cu A s w0 w H locs → lv_has ls 8 [(0, .ref v0), (1, .ref v1), (2, .long v2), (4, .int v4), (5, .int v5)] → W p l e (hRm 14 312 w0) s m args below meth c H locs (wC w0 - wC w) (wS w0 - wS w) (hZ below args s G A w0 (some (.long r.1)) r.2) (F0 m 11 ls []) := by
  intro v2 v4 v5 w h
  refine wh_walk (body := (fun q => fX1_judged_b11 v0 v1 q.1 q.2.1 q.2.2.1 q.2.2.2)) (P := (fun q : (Int64 × Int32 × Int32 × WH) => ∀ (H : Heap) (locs : List Loc) (ls : Array Slot), RepH G A (q.2.2.2) H → Cu A s w0 (q.2.2.2) H locs → lv_has ls 8 [(0, .ref v0), (1, .ref v1), (2, .long (q.1)), (4, .int (q.2.1)), (5, .int (q.2.2.1))] → W p l e (hRm 14 312 w0) s m args below meth c H locs (wC w0 - wC (q.2.2.2)) (wS w0 - wS (q.2.2.2)) (hZ below args s G A w0 (some (.long r.1)) r.2) (F0 m 11 ls []))) (r := r) ?_ (v2, v4, v5, w) h
  intro q y hy hL hr H locs ls hR hS hl
  exact bX1_judged_11 (r := r) B hy (fun a0 a1 a2 a3 e => hL (a0, a1, a2, a3) e) (fun q e => hr q e) hR hS hl
noncomputable def fX1_judged (v0 : Nat) (v1 : Nat) (w : WH) : Option ((Int64 × WH)) :=
  (hIs w v1 28).bind fun _ =>
  b2_ (fX9_from v1 w) fun x4 w1 =>
  fX1_judged_l11 v0 v1 0 x4 0 w1
theorem bX1_judged_0 {p : Program} {l : Launch} {e : Env} {s : State} {m : MethodId} {args : Array Value} {below : List Frame} {meth : Method} {c : Code} {H : Heap} {locs : List Loc} {ls : Array Slot} {G : gE} {A : Nat → Prop} {w0 : WH} (B : gB G RX1 cX1_judged 8 (some .long) p s m args meth c) {v0 : Nat} {v1 : Nat} {w : WH} {r : (Int64 × WH)} (h : fX1_judged v0 v1 w = some r)   (hR : RepH G A w H) (hS : Cu A s w0 w H locs) (hl : lv_has ls 8 [(0, .ref v0), (1, .ref v1)]) : W p l e (hRm 14 312 w0) s m args below meth c H locs (wC w0 - wC w) (wS w0 - wS w) (hZ below args s G A w0 (some (.long r.1)) r.2) (F0 m 0 ls []) := by
  have B0 := B
  obtain ⟨hx, hb, hml, hown, hts, hr, hlk, hK⟩ := B0
  unfold fX1_judged at h
  refine lv_lconst (v := 0) hx hb dX1_judged_0 (by decide) ?_
  refine lv_lstore_n (lv' := [(2, .long 0), (0, .ref v0), (1, .ref v1)]) hx hb dX1_judged_1 rfl hl (by decide) rfl (fun ls hl => ?_)
  refine lv_aload_n hx hb dX1_judged_2 rfl (lv_at hl 2 rfl) ?_
  replace h := bo_o h
  obtain ⟨_, e2, h⟩ := h
  replace h := b2_o h
  obtain ⟨x4, w1, e3, h⟩ := h
  refine h_callV 0 (ci := 28) (As := []) (rest := []) (v := (some (.int x4))) (w' := w1) (st1 := [.int x4]) hx hb hml hown hts hK hR hS (Nat.le_refl _) (Nat.le_refl _) rfl e2 (mX9_from e3) (lw_V q1983 q1371 q1372 q143 q1373) (by decide +kernel) (Nat.le_of_ble_eq_true rfl) (Nat.le_of_ble_eq_true rfl) rfl hl.1 (Nat.le_of_ble_eq_true rfl) dX1_judged_3 rfl rfl (fun H locs hR hS => ?_)
  refine lv_istore (lv' := [(4, .int x4), (2, .long 0), (0, .ref v0), (1, .ref v1)]) hx hb dX1_judged_6 hl (by decide) rfl (fun ls hl => ?_)
  refine lv_iconst (v := 0) hx hb dX1_judged_8 (by decide) ?_
  refine lv_istore (lv' := [(5, .int 0), (4, .int x4), (2, .long 0), (0, .ref v0), (1, .ref v1)]) hx hb dX1_judged_9 hl (by decide) rfl (fun ls hl => ?_)
  exact lX1_judged_11 B _ _ _ _ h H locs ls hR hS (lv_sub hl [3, 4, 2, 1, 0] rfl)
theorem mX1_judged {l : Launch} {G : gE} {A : Nat → Prop} {v0 : Nat} {v1 : Nat} {w : WH} {r : (Int64 × WH)} (h : fX1_judged v0 v1 w = some r) : hM l G A yX1_judged cX1_judged 8 (some .long) 14 312 [.ref v0, .ref v1] w (some (.long r.1)) r.2 :=
  h_of (by decide +kernel) (Nat.le_of_ble_eq_true rfl) (fun p e s m args below meth c ls B hnm hR hS hl => bX1_judged_0 B h hR hS hl)
noncomputable def fX1_judge (v0 : Nat) (v1 : Int32) (w : WH) : Option (((Sum (Int32) (Nat × Nat)) × WH)) :=
  (hIs w v0 17).bind fun _ =>
  b2_ (fX1_tripAt v0 v1 w) fun o3 w1 => ex_ o3 (fun x5 =>
    x5.bind fun a7 =>
    (hIs w1 v0 17).bind fun _ =>
    b2_ (fX1_judged v0 a7 w1) fun x12 w9 =>
    (hPut w9 v0 17 5 (.int 0)).bind fun w13 =>
    if lg_cmp x12 (-4) = 0 then (
      some (.inl (-4), w13)
    ) else (
      (hIs w13 v0 17).bind fun _ =>
      b2_ (fX1_feltBy v0 a7 w13) fun x19 w16 =>
      some (.inl ((x12 - x19).toInt32), w16)
    )) (fun q6 =>
    some (.inr q6, w1))
theorem bX1_judge_0 {p : Program} {l : Launch} {e : Env} {s : State} {m : MethodId} {args : Array Value} {below : List Frame} {meth : Method} {c : Code} {H : Heap} {locs : List Loc} {ls : Array Slot} {G : gE} {A : Nat → Prop} {w0 : WH} (B : gB G RX1 cX1_judge 5 (some .int) p s m args meth c) (hT : ∀ x ∈ c.exceptionTable.toList, False) (hl0 : l.stackTraces = false) {v0 : Nat} {v1 : Int32} {w : WH} {r : ((Sum (Int32) (Nat × Nat)) × WH)} (h : fX1_judge v0 v1 w = some r)   (hR : RepH G A w H) (hS : Cu A s w0 w H locs) (hl : lv_has ls 5 [(0, .ref v0), (1, .int v1)]) : W p l e (hRm 18 407 w0) s m args below meth c H locs (wC w0 - wC w) (wS w0 - wS w) (hZX below args s G A w0 (oI r.1) r.2) (F0 m 0 ls []) := by
  have B0 := B
  obtain ⟨hx, hb, hml, hown, hts, hr, hlk, hK⟩ := B0
  unfold fX1_judge at h
  refine lv_aload_n hx hb dX1_judge_0 rfl (lv_at hl 0 rfl) ?_
  refine lv_iload_n hx hb dX1_judge_1 rfl (lv_at hl 1 rfl) ?_
  replace h := bo_o h
  obtain ⟨_, e2, h⟩ := h
  replace h := b2_o h
  obtain ⟨o3, w1, e4, h⟩ := h
  refine h_callVX 1 (ci := 17) (As := [.int v1]) (rest := []) (o := oR o3) (w' := w1) hx hb hml hown hts hK hR hS (Nat.le_refl _) (Nat.le_refl _) rfl e2 (mX1_tripAt hl0 e4) (lw_V q1975 q1977 qs48 q112 q1978) (by decide +kernel) (Nat.le_of_ble_eq_true rfl) (Nat.le_of_ble_eq_true rfl) rfl hl.1 (Nat.le_of_ble_eq_true rfl) dX1_judge_2 rfl (fun v9 hv9 H locs hR hS => ?_) (fun E9 q9 hq9 H locs hR hS hce => ?_)
  · cases o3 with
    | inr q => cases hv9
    | inl x5 =>
      cases hv9
      replace h := exl_o h
      refine W.eq (g2 := F0 m 5 ls [va_rf x5]) rfl ?_
      refine lv_astore_nq (lv' := [(2, va_rf x5), (0, .ref v0), (1, .int v1)]) hx hb dX1_judge_5 rfl hl (by decide) rfl (fun ls hl => ?_)
      refine lv_aload_n hx hb dX1_judge_6 rfl (lv_at hl 1 rfl) ?_
      refine lv_aload_nq hx hb dX1_judge_7 rfl (lv_at hl 0 rfl) ?_
      replace h := bo_o h
      obtain ⟨a7, e8, h⟩ := h
      subst e8
      replace h := bo_o h
      obtain ⟨_, e10, h⟩ := h
      replace h := b2_o h
      obtain ⟨x12, w9, e11, h⟩ := h
      refine h_callV 1 (ci := 17) (As := [.ref a7]) (rest := []) (v := (some (.long x12))) (w' := w9) (st1 := [.long x12]) hx hb hml hown hts hK hR hS (Nat.le_refl _) (Nat.le_refl _) rfl e10 (mX1_judged e11) (lw_V q2324 q2326 qs55 q112 q2327) (by decide +kernel) (Nat.le_of_ble_eq_true rfl) (Nat.le_of_ble_eq_true rfl) rfl hl.1 (Nat.le_of_ble_eq_true rfl) dX1_judge_8 rfl rfl (fun H locs hR hS => ?_)
      refine lv_lstore_n (lv' := [(3, .long x12), (2, .ref a7), (0, .ref v0), (1, .int v1)]) hx hb dX1_judge_11 rfl hl (by decide) rfl (fun ls hl => ?_)
      refine lv_aload_n hx hb dX1_judge_12 rfl (lv_at hl 2 rfl) ?_
      refine lv_iconst (v := 0) hx hb dX1_judge_13 (by decide) ?_
      replace h := bo_o h
      obtain ⟨w13, e14, h⟩ := h
      refine h_put (ci := 17) (k := 5) (ty := tyX1 5) hx hb hts hown hK hR hS in_X1 tyX1 tyX1_ok nmX1 rfl (by decide) q670 (fun _ h9 => h9) rfl (tyX1_ok 5 (by decide)) rfl rfl e14 dX1_judge_14 (fun H locs hR hS => ?_)
      refine lv_lload_n hx hb dX1_judge_17 rfl (lv_at hl 0 rfl) ?_
      refine lv_ldc2 (v := (-4)) hx hb hown (hts _ q2328) dX1_judge_18 ?_
      refine W.lcmp hx hb dX1_judge_21 ?_
      refine lv_if_ne (tgt := 30) hx hb dX1_judge_22 (by decide) (fun c15 => ?_) (fun c15 => ?_)
      · replace h := if_o c15 h
        refine lv_lload_n hx hb dX1_judge_30 rfl (lv_at hl 0 rfl) ?_
        refine lv_aload_n hx hb dX1_judge_31 rfl (lv_at hl 2 rfl) ?_
        refine lv_aload_n hx hb dX1_judge_32 rfl (lv_at hl 1 rfl) ?_
        replace h := bo_o h
        obtain ⟨_, e17, h⟩ := h
        replace h := b2_o h
        obtain ⟨x19, w16, e18, h⟩ := h
        refine h_callV 1 (ci := 17) (As := [.ref a7]) (rest := [.long x12]) (v := (some (.long x19))) (w' := w16) (st1 := [.long x19, .long x12]) hx hb hml hown hts hK hR hS (Nat.le_refl _) (Nat.le_refl _) rfl e17 (mX1_feltBy e18) (lw_V q1743 q1745 qs39 q112 q1746) (by decide +kernel) (Nat.le_of_ble_eq_true rfl) (Nat.le_of_ble_eq_true rfl) rfl hl.1 (Nat.le_of_ble_eq_true rfl) dX1_judge_33 rfl rfl (fun H locs hR hS => ?_)
        refine lv_lsub hx hb dX1_judge_36 ?_
        refine lv_l2i hx hb dX1_judge_37 rfl ?_
        have eR := Option.some.inj h
        subst eR
        exact h_ifinX hx hb hr hlk hR hS dX1_judge_38
      · replace h := it_o c15 h
        refine lv_bipush (v := (-4)) hx hb dX1_judge_25 (by decide) ?_
        refine lv_goto (tgt := 38) hx hb dX1_judge_27 (by decide) ?_
        have eR := Option.some.inj h
        subst eR
        exact h_ifinX hx hb hr hlk hR hS dX1_judge_38
  · cases o3 with
    | inl q => cases hq9
    | inr q6 =>
      cases hq9
      replace h := exr_o h
      have eR := Option.some.inj h
      subst eR
      exact h_out hT hlk hR hS hce
theorem mX1_judge {l : Launch} {G : gE} {A : Nat → Prop} {v0 : Nat} {v1 : Int32} {w : WH} {r : ((Sum (Int32) (Nat × Nat)) × WH)} (hl0 : l.stackTraces = false) (h : fX1_judge v0 v1 w = some r) : hMX l G A yX1_judge cX1_judge 5 (some .int) 18 407 [.ref v0, .int v1] w (oI r.1) r.2 :=
  h_ofX (by decide +kernel) (Nat.le_of_ble_eq_true rfl) (fun p e s m args below meth c ls B hnm hT hR hS hl => bX1_judge_0 B hT hl0 h hR hS hl)
noncomputable def fX1_margin_b112 (v0 : Nat) (v2 : Nat) (v4 : Int64) (w : WH) : Option (((Sum (Int32) (Nat × Nat)) × WH)) :=
  if lg_cmp v4 2305843009213693951 = 0 then (
    some (.inl (-1), w)
  ) else (
    (hIs w v0 17).bind fun _ =>
    b2_ (fX1_feltBy v0 v2 w) fun x5 w2 =>
    some (.inl ((v4 - x5).toInt32), w2)
  )
theorem bX1_margin_112 {p : Program} {l : Launch} {e : Env} {s : State} {m : MethodId} {args : Array Value} {below : List Frame} {meth : Method} {c : Code} {H : Heap} {locs : List Loc} {ls : Array Slot} {G : gE} {A : Nat → Prop} {w0 : WH} (B : gB G RX1 cX1_margin 7 (some .int) p s m args meth c) (hT : ∀ x ∈ c.exceptionTable.toList, False) (hl0 : l.stackTraces = false) {v0 : Nat} {v2 : Nat} {v4 : Int64} {w : WH} {r : ((Sum (Int32) (Nat × Nat)) × WH)} (h : fX1_margin_b112 v0 v2 v4 w = some r)   (hR : RepH G A w H) (hS : Cu A s w0 w H locs) (hl : lv_has ls 7 [(0, .ref v0), (2, .ref v2), (4, .long v4)]) : W p l e (hRm 19 432 w0) s m args below meth c H locs (wC w0 - wC w) (wS w0 - wS w) (hZX below args s G A w0 (oI r.1) r.2) (F0 m 112 ls []) := by
  have B0 := B
  obtain ⟨hx, hb, hml, hown, hts, hr, hlk, hK⟩ := B0
  unfold fX1_margin_b112 at h
  refine lv_lload hx hb dX1_margin_112 (lv_at hl 2 rfl) ?_
  refine lv_ldc2 (v := 2305843009213693951) hx hb hown (hts _ q1750) dX1_margin_114 ?_
  refine W.lcmp hx hb dX1_margin_117 ?_
  refine lv_if_ne (tgt := 125) hx hb dX1_margin_118 (by decide) (fun c1 => ?_) (fun c1 => ?_)
  · replace h := if_o c1 h
    refine lv_lload hx hb dX1_margin_125 (lv_at hl 2 rfl) ?_
    refine lv_aload_n hx hb dX1_margin_127 rfl (lv_at hl 0 rfl) ?_
    refine lv_aload_n hx hb dX1_margin_128 rfl (lv_at hl 1 rfl) ?_
    replace h := bo_o h
    obtain ⟨_, e3, h⟩ := h
    replace h := b2_o h
    obtain ⟨x5, w2, e4, h⟩ := h
    refine h_callV 1 (ci := 17) (As := [.ref v2]) (rest := [.long v4]) (v := (some (.long x5))) (w' := w2) (st1 := [.long x5, .long v4]) hx hb hml hown hts hK hR hS (Nat.le_refl _) (Nat.le_refl _) rfl e3 (mX1_feltBy e4) (lw_V q1743 q1745 qs39 q112 q1746) (by decide +kernel) (Nat.le_of_ble_eq_true rfl) (Nat.le_of_ble_eq_true rfl) rfl hl.1 (Nat.le_of_ble_eq_true rfl) dX1_margin_129 rfl rfl (fun H locs hR hS => ?_)
    refine lv_lsub hx hb dX1_margin_132 ?_
    refine lv_l2i hx hb dX1_margin_133 rfl ?_
    have eR := Option.some.inj h
    subst eR
    exact h_ifinX hx hb hr hlk hR hS dX1_margin_134
  · replace h := it_o c1 h
    refine lv_iconst (v := (-1)) hx hb dX1_margin_121 (by decide) ?_
    refine lv_goto (tgt := 134) hx hb dX1_margin_122 (by decide) ?_
    have eR := Option.some.inj h
    subst eR
    exact h_ifinX hx hb hr hlk hR hS dX1_margin_134
noncomputable def fX1_margin_b80 (v0 : Nat) (v2 : Nat) (v3 : Nat) (v4 : Int64) (v6 : Int32) (w : WH) : Option (Sum (Int64 × Int32 × WH) (((Sum (Int32) (Nat × Nat)) × WH))) :=
  if v6 < 0 then (
    (fX1_margin_b112 v0 v2 v4 w).map (fun y => (.inr y))
  ) else (
    (hIs w v0 17).bind fun _ =>
    b2_ (fX1_feltWithout v0 v2 v6 w) fun x5 w2 =>
    nm_ (mnL v4 x5) fun x6 =>
    (hIs w2 v3 0).bind fun _ =>
    b2_ (fJ17_nextSetBit v3 (v6 + 1) w2) fun x11 w8 =>
    some (.inl (x6, x11, w8))
  )
theorem bX1_margin_80 {p : Program} {l : Launch} {e : Env} {s : State} {m : MethodId} {args : Array Value} {below : List Frame} {meth : Method} {c : Code} {H : Heap} {locs : List Loc} {ls : Array Slot} {G : gE} {A : Nat → Prop} {w0 : WH} (B : gB G RX1 cX1_margin 7 (some .int) p s m args meth c) (hT : ∀ x ∈ c.exceptionTable.toList, False) (hl0 : l.stackTraces = false) {v0 : Nat} {v2 : Nat} {v3 : Nat} {v4 : Int64} {v6 : Int32} {w : WH} {x : Sum (Int64 × Int32 × WH) (((Sum (Int32) (Nat × Nat)) × WH))} {r : ((Sum (Int32) (Nat × Nat)) × WH)} (h : fX1_margin_b80 v0 v2 v3 v4 v6 w = some x)  (k80 : ∀ (v4' : Int64) (v6' : Int32) (w' : WH), x = (.inl (v4', v6', w')) → ∀ (H : Heap) (locs : List Loc) (ls : Array Slot), RepH G A w' H → Cu A s w0 w' H locs → lv_has ls 7 [(0, .ref v0), (2, .ref v2), (3, .ref v3), (4, .long v4'), (6, .int v6')] → W p l e (hRm 19 432 w0) s m args below meth c H locs (wC w0 - wC w') (wS w0 - wS w') (hZX below args s G A w0 (oI r.1) r.2) (F0 m 80 ls [])) (kR : ∀ q, x = (.inr q) → q = r) (hR : RepH G A w H) (hS : Cu A s w0 w H locs) (hl : lv_has ls 7 [(0, .ref v0), (2, .ref v2), (3, .ref v3), (4, .long v4), (6, .int v6)]) : W p l e (hRm 19 432 w0) s m args below meth c H locs (wC w0 - wC w) (wS w0 - wS w) (hZX below args s G A w0 (oI r.1) r.2) (F0 m 80 ls []) := by
  have B0 := B
  obtain ⟨hx, hb, hml, hown, hts, hr, hlk, hK⟩ := B0
  unfold fX1_margin_b80 at h
  refine lv_iload hx hb dX1_margin_80 (lv_at hl 4 rfl) ?_
  refine lv_if_lt (tgt := 112) hx hb dX1_margin_82 (by decide) (fun c1 => ?_) (fun c1 => ?_)
  · replace h := it_o c1 h
    obtain ⟨y, h, ey⟩ := mp_o h
    have ey := kR _ ey.symm
    subst ey
    exact bX1_margin_112 B hT hl0 h  hR hS (lv_sub hl [0, 1, 3] rfl)
  · replace h := if_o c1 h
    refine lv_lload hx hb dX1_margin_85 (lv_at hl 3 rfl) ?_
    refine lv_aload_n hx hb dX1_margin_87 rfl (lv_at hl 0 rfl) ?_
    refine lv_aload_n hx hb dX1_margin_88 rfl (lv_at hl 1 rfl) ?_
    refine lv_iload hx hb dX1_margin_89 (lv_at hl 4 rfl) ?_
    replace h := bo_o h
    obtain ⟨_, e3, h⟩ := h
    replace h := b2_o h
    obtain ⟨x5, w2, e4, h⟩ := h
    refine h_callV 2 (ci := 17) (As := [.ref v2, .int v6]) (rest := [.long v4]) (v := (some (.long x5))) (w' := w2) (st1 := [.long x5, .long v4]) hx hb hml hown hts hK hR hS (Nat.le_refl _) (Nat.le_refl _) rfl e3 (mX1_feltWithout e4) (lw_V q2222 q2224 qs53 q112 q2225) (by decide +kernel) (Nat.le_of_ble_eq_true rfl) (Nat.le_of_ble_eq_true rfl) rfl hl.1 (Nat.le_of_ble_eq_true rfl) dX1_margin_91 rfl rfl (fun H locs hR hS => ?_)
    replace h := nm_o h
    obtain ⟨x6, e7, h⟩ := h
    refine va_mmin_long hx hb (hml.trans hl.1.symm) hown (hts _ q2337) (hts _ q2338) (hts _ q127) (hts _ q2339) (Nat.le_of_ble_eq_true rfl) (Nat.le_of_ble_eq_true rfl) (Nat.sub_le _ _) (Nat.sub_le _ _) dX1_margin_94 ?_
    refine W.eq (g2 := F0 m 97 ls [.long x6]) (by rw [e7]; rfl) ?_
    refine lv_lstore (lv' := [(4, .long x6), (0, .ref v0), (2, .ref v2), (3, .ref v3), (6, .int v6)]) hx hb dX1_margin_97 hl (by decide) rfl (fun ls hl => ?_)
    refine lv_aload_n hx hb dX1_margin_99 rfl (lv_at hl 3 rfl) ?_
    refine lv_iload hx hb dX1_margin_100 (lv_at hl 4 rfl) ?_
    refine lv_iconst (v := 1) hx hb dX1_margin_102 (by decide) ?_
    refine lv_iadd hx hb dX1_margin_103 ?_
    replace h := bo_o h
    obtain ⟨_, e9, h⟩ := h
    replace h := b2_o h
    obtain ⟨x11, w8, e10, h⟩ := h
    refine h_callV 1 (ci := 0) (As := [.int (v6 + 1)]) (rest := []) (v := (some (.int x11))) (w' := w8) (st1 := [.int x11]) hx hb hml hown hts hK hR hS (Nat.le_refl _) (Nat.le_refl _) rfl e9 (mJ17_nextSetBit e10) (lw_V q1712 q1713 q1714 q134 q1715) (by decide +kernel) (Nat.le_of_ble_eq_true rfl) (Nat.le_of_ble_eq_true rfl) rfl hl.1 (Nat.le_of_ble_eq_true rfl) dX1_margin_104 rfl rfl (fun H locs hR hS => ?_)
    refine lv_istore (lv' := [(6, .int x11), (4, .long x6), (0, .ref v0), (2, .ref v2), (3, .ref v3)]) hx hb dX1_margin_107 hl (by decide) rfl (fun ls hl => ?_)
    refine lv_goto (tgt := 80) hx hb dX1_margin_109 (by decide) ?_
    exact k80 _ _ _ (Option.some.inj h).symm H locs ls hR hS (lv_sub hl [2, 3, 4, 1, 0] rfl)
noncomputable def fX1_margin_l80 (v0 : Nat) (v2 : Nat) (v3 : Nat) (v4 : Int64) (v6 : Int32) (w : WH) : Option (((Sum (Int32) (Nat × Nat)) × WH)) := whileO (fun q => fX1_margin_b80 v0 v2 v3 q.1 q.2.1 q.2.2) (v4, v6, w)
theorem lX1_margin_80 {p : Program} {l : Launch} {e : Env} {s : State} {m : MethodId} {args : Array Value} {below : List Frame} {meth : Method} {c : Code} {G : gE} {A : Nat → Prop} {w0 : WH} (B : gB G RX1 cX1_margin 7 (some .int) p s m args meth c) (hT : ∀ x ∈ c.exceptionTable.toList, False) (hl0 : l.stackTraces = false) {v0 : Nat} {v2 : Nat} {v3 : Nat} {r : ((Sum (Int32) (Nat × Nat)) × WH)}   : ∀ (v4 : Int64) (v6 : Int32) (w : WH), fX1_margin_l80 v0 v2 v3 v4 v6 w = some r → ∀ (H : Heap) (locs : List Loc) (ls : Array Slot), RepH G A w H → Cu A s w0 w H locs → lv_has ls 7 [(0, .ref v0), (2, .ref v2), (3, .ref v3), (4, .long v4), (6, .int v6)] → W p l e (hRm 19 432 w0) s m args below meth c H locs (wC w0 - wC w) (wS w0 - wS w) (hZX below args s G A w0 (oI r.1) r.2) (F0 m 80 ls []) := by
  intro v4 v6 w h
  refine wh_walk (body := (fun q => fX1_margin_b80 v0 v2 v3 q.1 q.2.1 q.2.2)) (P := (fun q : (Int64 × Int32 × WH) => ∀ (H : Heap) (locs : List Loc) (ls : Array Slot), RepH G A (q.2.2) H → Cu A s w0 (q.2.2) H locs → lv_has ls 7 [(0, .ref v0), (2, .ref v2), (3, .ref v3), (4, .long (q.1)), (6, .int (q.2.1))] → W p l e (hRm 19 432 w0) s m args below meth c H locs (wC w0 - wC (q.2.2)) (wS w0 - wS (q.2.2)) (hZX below args s G A w0 (oI r.1) r.2) (F0 m 80 ls []))) (r := r) ?_ (v4, v6, w) h
  intro q y hy hL hr H locs ls hR hS hl
  exact bX1_margin_80 (r := r) B hT hl0 hy (fun a0 a1 a2 e => hL (a0, a1, a2) e) (fun q e => hr q e) hR hS hl
noncomputable def fX1_margin_b68 (v0 : Nat) (v2 : Nat) (v3 : Nat) (w : WH) : Option (((Sum (Int32) (Nat × Nat)) × WH)) :=
  (hIs w v3 0).bind fun _ =>
  b2_ (fJ17_nextSetBit v3 0 w) fun x4 w1 =>
  fX1_margin_l80 v0 v2 v3 2305843009213693951 x4 w1
theorem bX1_margin_68 {p : Program} {l : Launch} {e : Env} {s : State} {m : MethodId} {args : Array Value} {below : List Frame} {meth : Method} {c : Code} {H : Heap} {locs : List Loc} {ls : Array Slot} {G : gE} {A : Nat → Prop} {w0 : WH} (B : gB G RX1 cX1_margin 7 (some .int) p s m args meth c) (hT : ∀ x ∈ c.exceptionTable.toList, False) (hl0 : l.stackTraces = false) {v0 : Nat} {v2 : Nat} {v3 : Nat} {w : WH} {r : ((Sum (Int32) (Nat × Nat)) × WH)} (h : fX1_margin_b68 v0 v2 v3 w = some r)   (hR : RepH G A w H) (hS : Cu A s w0 w H locs) (hl : lv_has ls 7 [(0, .ref v0), (2, .ref v2), (3, .ref v3)]) : W p l e (hRm 19 432 w0) s m args below meth c H locs (wC w0 - wC w) (wS w0 - wS w) (hZX below args s G A w0 (oI r.1) r.2) (F0 m 68 ls []) := by
  have B0 := B
  obtain ⟨hx, hb, hml, hown, hts, hr, hlk, hK⟩ := B0
  unfold fX1_margin_b68 at h
  refine lv_ldc2 (v := 2305843009213693951) hx hb hown (hts _ q1750) dX1_margin_68 ?_
  refine lv_lstore (lv' := [(4, .long 2305843009213693951), (0, .ref v0), (2, .ref v2), (3, .ref v3)]) hx hb dX1_margin_71 hl (by decide) rfl (fun ls hl => ?_)
  refine lv_aload_n hx hb dX1_margin_73 rfl (lv_at hl 3 rfl) ?_
  refine lv_iconst (v := 0) hx hb dX1_margin_74 (by decide) ?_
  replace h := bo_o h
  obtain ⟨_, e2, h⟩ := h
  replace h := b2_o h
  obtain ⟨x4, w1, e3, h⟩ := h
  refine h_callV 1 (ci := 0) (As := [.int 0]) (rest := []) (v := (some (.int x4))) (w' := w1) (st1 := [.int x4]) hx hb hml hown hts hK hR hS (Nat.le_refl _) (Nat.le_refl _) rfl e2 (mJ17_nextSetBit e3) (lw_V q1712 q1713 q1714 q134 q1715) (by decide +kernel) (Nat.le_of_ble_eq_true rfl) (Nat.le_of_ble_eq_true rfl) rfl hl.1 (Nat.le_of_ble_eq_true rfl) dX1_margin_75 rfl rfl (fun H locs hR hS => ?_)
  refine lv_istore (lv' := [(6, .int x4), (4, .long 2305843009213693951), (0, .ref v0), (2, .ref v2), (3, .ref v3)]) hx hb dX1_margin_78 hl (by decide) rfl (fun ls hl => ?_)
  exact lX1_margin_80 B hT hl0 _ _ _ h H locs ls hR hS (lv_sub hl [2, 3, 4, 1, 0] rfl)
noncomputable def fX1_margin_b36 (v0 : Nat) (v2 : Nat) (v3 : Nat) (v4 : Int32) (w : WH) : Option (Sum (Int32 × WH) (((Sum (Int32) (Nat × Nat)) × WH))) :=
  (gR w v0 17 1).bind fun x1 =>
  x1.bind fun a3 =>
  (gI w a3 23 5).bind fun x5 =>
  if x5 ≤ v4 then (
    (fX1_margin_b68 v0 v2 v3 w).map (fun y => (.inr y))
  ) else (
    (gR w v0 17 1).bind fun x8 =>
    x8.bind fun a10 =>
    (gR w a10 23 2).bind fun x12 =>
    x12.bind fun a14 =>
    (ldI w a14 0 v4).bind fun x16 =>
    (hIs w v3 0).bind fun _ =>
    (fJ17_set_3 v3 x16 w).bind fun w18 =>
    some (.inl (v4 + 1, w18))
  )
theorem bX1_margin_36 {p : Program} {l : Launch} {e : Env} {s : State} {m : MethodId} {args : Array Value} {below : List Frame} {meth : Method} {c : Code} {H : Heap} {locs : List Loc} {ls : Array Slot} {G : gE} {A : Nat → Prop} {w0 : WH} (B : gB G RX1 cX1_margin 7 (some .int) p s m args meth c) (hT : ∀ x ∈ c.exceptionTable.toList, False) (hl0 : l.stackTraces = false) {v0 : Nat} {v2 : Nat} {v3 : Nat} {v4 : Int32} {w : WH} {x : Sum (Int32 × WH) (((Sum (Int32) (Nat × Nat)) × WH))} {r : ((Sum (Int32) (Nat × Nat)) × WH)} (h : fX1_margin_b36 v0 v2 v3 v4 w = some x)  (k36 : ∀ (v4' : Int32) (w' : WH), x = (.inl (v4', w')) → ∀ (H : Heap) (locs : List Loc) (ls : Array Slot), RepH G A w' H → Cu A s w0 w' H locs → lv_has ls 7 [(0, .ref v0), (2, .ref v2), (3, .ref v3), (4, .int v4')] → W p l e (hRm 19 432 w0) s m args below meth c H locs (wC w0 - wC w') (wS w0 - wS w') (hZX below args s G A w0 (oI r.1) r.2) (F0 m 36 ls [])) (kR : ∀ q, x = (.inr q) → q = r) (hR : RepH G A w H) (hS : Cu A s w0 w H locs) (hl : lv_has ls 7 [(0, .ref v0), (2, .ref v2), (3, .ref v3), (4, .int v4)]) : W p l e (hRm 19 432 w0) s m args below meth c H locs (wC w0 - wC w) (wS w0 - wS w) (hZX below args s G A w0 (oI r.1) r.2) (F0 m 36 ls []) := by
  have B0 := B
  obtain ⟨hx, hb, hml, hown, hts, hr, hlk, hK⟩ := B0
  unfold fX1_margin_b36 at h
  refine lv_iload hx hb dX1_margin_36 (lv_at hl 3 rfl) ?_
  refine lv_aload_n hx hb dX1_margin_38 rfl (lv_at hl 0 rfl) ?_
  replace h := bo_o h
  obtain ⟨x1, e2, h⟩ := h
  refine h_get (ci := 17) (k := 1) (v := va_rf x1) hx hb hts hown hK hR in_X1 rfl (by decide) (fun _ _ => rfl) q664 (fun _ h9 => h9) (gR_o e2) dX1_margin_39 ?_
  replace h := bo_o h
  obtain ⟨a3, e4, h⟩ := h
  subst e4
  replace h := bo_o h
  obtain ⟨x5, e6, h⟩ := h
  refine h_getN (ci := 23) (k := 5) (v := .int x5) hx hb hts hown hK hR in_X4 rfl (by decide) (fun _ _ => rfl) (hK.fn 24 rfl) (fun _ h9 => h9) (gI_o e6) dX1_margin_42 ?_
  refine lv_icmp_ge (tgt := 68) hx hb dX1_margin_45 (by decide) (fun c7 => ?_) (fun c7 => ?_)
  · replace h := it_o c7 h
    obtain ⟨y, h, ey⟩ := mp_o h
    have ey := kR _ ey.symm
    subst ey
    exact bX1_margin_68 B hT hl0 h  hR hS (lv_sub hl [0, 1, 2] rfl)
  · replace h := if_o c7 h
    refine lv_aload_n hx hb dX1_margin_48 rfl (lv_at hl 2 rfl) ?_
    refine lv_aload_n hx hb dX1_margin_49 rfl (lv_at hl 0 rfl) ?_
    replace h := bo_o h
    obtain ⟨x8, e9, h⟩ := h
    refine h_get (ci := 17) (k := 1) (v := va_rf x8) hx hb hts hown hK hR in_X1 rfl (by decide) (fun _ _ => rfl) q664 (fun _ h9 => h9) (gR_o e9) dX1_margin_50 ?_
    replace h := bo_o h
    obtain ⟨a10, e11, h⟩ := h
    subst e11
    replace h := bo_o h
    obtain ⟨x12, e13, h⟩ := h
    refine h_getN (ci := 23) (k := 2) (v := va_rf x12) hx hb hts hown hK hR in_X4 rfl (by decide) (fun _ _ => rfl) (hK.fn 23 rfl) (fun _ h9 => h9) (gR_o e13) dX1_margin_53 ?_
    refine lv_iload hx hb dX1_margin_56 (lv_at hl 3 rfl) ?_
    replace h := bo_o h
    obtain ⟨a14, e15, h⟩ := h
    subst e15
    replace h := bo_o h
    obtain ⟨x16, e17, h⟩ := h
    refine h_iald hx hb hK hR e17 dX1_margin_58 ?_
    replace h := bo_o h
    obtain ⟨_, e19, h⟩ := h
    replace h := bo_o h
    obtain ⟨w18, e20, h⟩ := h
    refine h_callV 1 (ci := 0) (As := [.int x16]) (rest := []) (v := none) (w' := w18) (st1 := []) hx hb hml hown hts hK hR hS (Nat.le_refl _) (Nat.le_refl _) rfl e19 (mJ17_set_3 e20) (lw_V q2226 q2027 q2028 q134 q2029) (by decide +kernel) (Nat.le_of_ble_eq_true rfl) (Nat.le_of_ble_eq_true rfl) rfl hl.1 (Nat.le_of_ble_eq_true rfl) dX1_margin_59 rfl rfl (fun H locs hR hS => ?_)
    refine lv_iinc (v := v4 + 1) (lv' := [(4, .int (v4 + 1)), (0, .ref v0), (2, .ref v2), (3, .ref v3)]) hx hb dX1_margin_62 hl (k := 3) rfl rfl (by decide) rfl (fun ls hl => ?_)
    refine lv_goto (tgt := 36) hx hb dX1_margin_65 (by decide) ?_
    exact k36 _ _ (Option.some.inj h).symm H locs ls hR hS (lv_sub hl [1, 2, 3, 0] rfl)
noncomputable def fX1_margin_l36 (v0 : Nat) (v2 : Nat) (v3 : Nat) (v4 : Int32) (w : WH) : Option (((Sum (Int32) (Nat × Nat)) × WH)) := whileO (fun q => fX1_margin_b36 v0 v2 v3 q.1 q.2) (v4, w)
theorem lX1_margin_36 {p : Program} {l : Launch} {e : Env} {s : State} {m : MethodId} {args : Array Value} {below : List Frame} {meth : Method} {c : Code} {G : gE} {A : Nat → Prop} {w0 : WH} (B : gB G RX1 cX1_margin 7 (some .int) p s m args meth c) (hT : ∀ x ∈ c.exceptionTable.toList, False) (hl0 : l.stackTraces = false) {v0 : Nat} {v2 : Nat} {v3 : Nat} {r : ((Sum (Int32) (Nat × Nat)) × WH)}   : ∀ (v4 : Int32) (w : WH), fX1_margin_l36 v0 v2 v3 v4 w = some r → ∀ (H : Heap) (locs : List Loc) (ls : Array Slot), RepH G A w H → Cu A s w0 w H locs → lv_has ls 7 [(0, .ref v0), (2, .ref v2), (3, .ref v3), (4, .int v4)] → W p l e (hRm 19 432 w0) s m args below meth c H locs (wC w0 - wC w) (wS w0 - wS w) (hZX below args s G A w0 (oI r.1) r.2) (F0 m 36 ls []) := by
  intro v4 w h
  refine wh_walk (body := (fun q => fX1_margin_b36 v0 v2 v3 q.1 q.2)) (P := (fun q : (Int32 × WH) => ∀ (H : Heap) (locs : List Loc) (ls : Array Slot), RepH G A (q.2) H → Cu A s w0 (q.2) H locs → lv_has ls 7 [(0, .ref v0), (2, .ref v2), (3, .ref v3), (4, .int (q.1))] → W p l e (hRm 19 432 w0) s m args below meth c H locs (wC w0 - wC (q.2)) (wS w0 - wS (q.2)) (hZX below args s G A w0 (oI r.1) r.2) (F0 m 36 ls []))) (r := r) ?_ (v4, w) h
  intro q y hy hL hr H locs ls hR hS hl
  exact bX1_margin_36 (r := r) B hT hl0 hy (fun a0 a1 e => hL (a0, a1) e) (fun q e => hr q e) hR hS hl
noncomputable def fX1_margin (v0 : Nat) (v1 : Int32) (w : WH) : Option (((Sum (Int32) (Nat × Nat)) × WH)) :=
  (hIs w v0 17).bind fun _ =>
  b2_ (fX1_tripAt v0 v1 w) fun o3 w1 => ex_ o3 (fun x5 =>
    (gR w1 v0 17 1).bind fun x7 =>
    (gR w1 v0 17 0).bind fun x9 =>
    x7.bind fun a11 =>
    x9.bind fun a13 =>
    x5.bind fun a15 =>
    (hIs w1 a11 23).bind fun _ =>
    b2_ (fX4_walk a11 a13 a15 w1) fun x20 w17 =>
    if x20 = 0 then (
      some (.inl (-1), w17)
    ) else (
      b2_ (hNw w17 3 0 [.null, .int 0, .int 0]) fun a22 w23 =>
      (fJ17_init a22 24 w23).bind fun w25 =>
      fX1_margin_l36 v0 a15 a22 0 w25
    )) (fun q6 =>
    some (.inr q6, w1))
theorem bX1_margin_0 {p : Program} {l : Launch} {e : Env} {s : State} {m : MethodId} {args : Array Value} {below : List Frame} {meth : Method} {c : Code} {H : Heap} {locs : List Loc} {ls : Array Slot} {G : gE} {A : Nat → Prop} {w0 : WH} (B : gB G RX1 cX1_margin 7 (some .int) p s m args meth c) (hT : ∀ x ∈ c.exceptionTable.toList, False) (hl0 : l.stackTraces = false) {v0 : Nat} {v1 : Int32} {w : WH} {r : ((Sum (Int32) (Nat × Nat)) × WH)} (h : fX1_margin v0 v1 w = some r)   (hR : RepH G A w H) (hS : Cu A s w0 w H locs) (hl : lv_has ls 7 [(0, .ref v0), (1, .int v1)]) : W p l e (hRm 19 432 w0) s m args below meth c H locs (wC w0 - wC w) (wS w0 - wS w) (hZX below args s G A w0 (oI r.1) r.2) (F0 m 0 ls []) := by
  have B0 := B
  obtain ⟨hx, hb, hml, hown, hts, hr, hlk, hK⟩ := B0
  unfold fX1_margin at h
  refine lv_aload_n hx hb dX1_margin_0 rfl (lv_at hl 0 rfl) ?_
  refine lv_iload_n hx hb dX1_margin_1 rfl (lv_at hl 1 rfl) ?_
  replace h := bo_o h
  obtain ⟨_, e2, h⟩ := h
  replace h := b2_o h
  obtain ⟨o3, w1, e4, h⟩ := h
  refine h_callVX 1 (ci := 17) (As := [.int v1]) (rest := []) (o := oR o3) (w' := w1) hx hb hml hown hts hK hR hS (Nat.le_refl _) (Nat.le_refl _) rfl e2 (mX1_tripAt hl0 e4) (lw_V q1975 q1977 qs48 q112 q1978) (by decide +kernel) (Nat.le_of_ble_eq_true rfl) (Nat.le_of_ble_eq_true rfl) rfl hl.1 (Nat.le_of_ble_eq_true rfl) dX1_margin_2 rfl (fun v9 hv9 H locs hR hS => ?_) (fun E9 q9 hq9 H locs hR hS hce => ?_)
  · cases o3 with
    | inr q => cases hv9
    | inl x5 =>
      cases hv9
      replace h := exl_o h
      refine W.eq (g2 := F0 m 5 ls [va_rf x5]) rfl ?_
      refine lv_astore_nq (lv' := [(2, va_rf x5), (0, .ref v0), (1, .int v1)]) hx hb dX1_margin_5 rfl hl (by decide) rfl (fun ls hl => ?_)
      refine lv_aload_n hx hb dX1_margin_6 rfl (lv_at hl 1 rfl) ?_
      replace h := bo_o h
      obtain ⟨x7, e8, h⟩ := h
      refine h_get (ci := 17) (k := 1) (v := va_rf x7) hx hb hts hown hK hR in_X1 rfl (by decide) (fun _ _ => rfl) q664 (fun _ h9 => h9) (gR_o e8) dX1_margin_7 ?_
      refine lv_aload_n hx hb dX1_margin_10 rfl (lv_at hl 1 rfl) ?_
      replace h := bo_o h
      obtain ⟨x9, e10, h⟩ := h
      refine h_get (ci := 17) (k := 0) (v := va_rf x9) hx hb hts hown hK hR in_X1 rfl (by decide) (fun _ _ => rfl) q662 (fun _ h9 => h9) (gR_o e10) dX1_margin_11 ?_
      refine lv_aload_nq hx hb dX1_margin_14 rfl (lv_at hl 0 rfl) ?_
      replace h := bo_o h
      obtain ⟨a11, e12, h⟩ := h
      subst e12
      replace h := bo_o h
      obtain ⟨a13, e14, h⟩ := h
      subst e14
      replace h := bo_o h
      obtain ⟨a15, e16, h⟩ := h
      subst e16
      replace h := bo_o h
      obtain ⟨_, e18, h⟩ := h
      replace h := b2_o h
      obtain ⟨x20, w17, e19, h⟩ := h
      refine h_callV 2 (ci := 23) (As := [.ref a13, .ref a15]) (rest := []) (v := (some (.int x20))) (w' := w17) (st1 := [.int x20]) hx hb hml hown hts hK hR hS (Nat.le_refl _) (Nat.le_refl _) rfl e18 (mX4_walk e19) (lw_V q1266 q1267 q1268 q135 q1269) (by decide +kernel) (Nat.le_of_ble_eq_true rfl) (Nat.le_of_ble_eq_true rfl) rfl hl.1 (Nat.le_of_ble_eq_true rfl) dX1_margin_15 rfl rfl (fun H locs hR hS => ?_)
      refine lv_if_ne (tgt := 23) hx hb dX1_margin_18 (by decide) (fun c21 => ?_) (fun c21 => ?_)
      · replace h := if_o c21 h
        replace h := b2_o h
        obtain ⟨a22, w23, e24, h⟩ := h
        refine h_new (ci := 0) (fs := [.null, .int 0, .int 0]) hx hb hts hown hK hR hS (Nat.le_refl _) (Nat.le_refl _) in_J17 tyJ17 tyJ17_ok rfl (by decide +kernel) q1413 q562 q134 e24 dX1_margin_23 (fun H locs hR hS => ?_)
        refine lv_dup hx hb dX1_margin_26 rfl ?_
        refine lv_bipush (v := 24) hx hb dX1_margin_27 (by decide) ?_
        replace h := bo_o h
        obtain ⟨w25, e26, h⟩ := h
        refine h_callI 1  (As := [.int 24]) (rest := [.ref a22]) (w' := w25) hx hb hml hown hts hK hR hS (Nat.le_refl _) (Nat.le_refl _) (mJ17_init e26) (lw_meth q565) q134 q1414 q564 rfl (by decide +kernel) (Nat.le_of_ble_eq_true rfl) (Nat.le_of_ble_eq_true rfl) rfl hl.1 (Nat.le_of_ble_eq_true rfl) dX1_margin_29 rfl (fun H locs hR hS => ?_)
        refine lv_astore_n (lv' := [(3, .ref a22), (2, .ref a15), (0, .ref v0), (1, .int v1)]) hx hb dX1_margin_32 rfl hl (by decide) rfl (fun ls hl => ?_)
        refine lv_iconst (v := 0) hx hb dX1_margin_33 (by decide) ?_
        refine lv_istore (lv' := [(4, .int 0), (3, .ref a22), (2, .ref a15), (0, .ref v0), (1, .int v1)]) hx hb dX1_margin_34 hl (by decide) rfl (fun ls hl => ?_)
        exact lX1_margin_36 B hT hl0 _ _ h H locs ls hR hS (lv_sub hl [3, 2, 1, 0] rfl)
      · replace h := it_o c21 h
        refine lv_iconst (v := (-1)) hx hb dX1_margin_21 (by decide) ?_
        have eR := Option.some.inj h
        subst eR
        exact h_ifinX hx hb hr hlk hR hS dX1_margin_22
  · cases o3 with
    | inl q => cases hq9
    | inr q6 =>
      cases hq9
      replace h := exr_o h
      have eR := Option.some.inj h
      subst eR
      exact h_out hT hlk hR hS hce
theorem mX1_margin {l : Launch} {G : gE} {A : Nat → Prop} {v0 : Nat} {v1 : Int32} {w : WH} {r : ((Sum (Int32) (Nat × Nat)) × WH)} (hl0 : l.stackTraces = false) (h : fX1_margin v0 v1 w = some r) : hMX l G A yX1_margin cX1_margin 7 (some .int) 19 432 [.ref v0, .int v1] w (oI r.1) r.2 :=
  h_ofX (by decide +kernel) (Nat.le_of_ble_eq_true rfl) (fun p e s m args below meth c ls B hnm hT hR hS hl => bX1_margin_0 B hT hl0 h hR hS hl)
noncomputable def fX1_revenueWith_b44 (v0 : Nat) (v1 : Int32) (v3 : Int32) (v4 : Int64) (w : WH) : Option (((Sum (Int64) (Nat × Nat)) × WH)) :=
  (gR w v0 17 0).bind fun x1 =>
  x1.bind fun a3 =>
  (gR w a3 21 1).bind fun x5 =>
  x5.bind fun a7 =>
  (stI w a7 0 v1 v3).bind fun w9 =>
  some (.inl v4, w9)
theorem bX1_revenueWith_44 {p : Program} {l : Launch} {e : Env} {s : State} {m : MethodId} {args : Array Value} {below : List Frame} {meth : Method} {c : Code} {H : Heap} {locs : List Loc} {ls : Array Slot} {G : gE} {A : Nat → Prop} {w0 : WH} (B : gB G RX1 cX1_revenueWith 6 (some .long) p s m args meth c) (hT : ∀ x ∈ c.exceptionTable.toList, False) (hl0 : l.stackTraces = false) {v0 : Nat} {v1 : Int32} {v3 : Int32} {v4 : Int64} {w : WH} {r : ((Sum (Int64) (Nat × Nat)) × WH)} (h : fX1_revenueWith_b44 v0 v1 v3 v4 w = some r)   (hR : RepH G A w H) (hS : Cu A s w0 w H locs) (hl : lv_has ls 6 [(0, .ref v0), (1, .int v1), (3, .int v3), (4, .long v4)]) : W p l e (hRm 20 454 w0) s m args below meth c H locs (wC w0 - wC w) (wS w0 - wS w) (hZX below args s G A w0 (oJ r.1) r.2) (F0 m 44 ls []) := by
  have B0 := B
  obtain ⟨hx, hb, hml, hown, hts, hr, hlk, hK⟩ := B0
  unfold fX1_revenueWith_b44 at h
  refine lv_aload_n hx hb dX1_revenueWith_44 rfl (lv_at hl 0 rfl) ?_
  replace h := bo_o h
  obtain ⟨x1, e2, h⟩ := h
  refine h_get (ci := 17) (k := 0) (v := va_rf x1) hx hb hts hown hK hR in_X1 rfl (by decide) (fun _ _ => rfl) q662 (fun _ h9 => h9) (gR_o e2) dX1_revenueWith_45 ?_
  replace h := bo_o h
  obtain ⟨a3, e4, h⟩ := h
  subst e4
  replace h := bo_o h
  obtain ⟨x5, e6, h⟩ := h
  refine h_getN (ci := 21) (k := 1) (v := va_rf x5) hx hb hts hown hK hR in_X2 rfl (by decide) (fun _ _ => rfl) (hK.fn 18 rfl) (fun _ h9 => h9) (gR_o e6) dX1_revenueWith_48 ?_
  refine lv_iload_n hx hb dX1_revenueWith_51 rfl (lv_at hl 1 rfl) ?_
  refine lv_iload_n hx hb dX1_revenueWith_52 rfl (lv_at hl 2 rfl) ?_
  replace h := bo_o h
  obtain ⟨a7, e8, h⟩ := h
  subst e8
  replace h := bo_o h
  obtain ⟨w9, e10, h⟩ := h
  refine h_iast hx hb hK hR hS e10 dX1_revenueWith_53 (fun H locs hR hS => ?_)
  refine lv_lload hx hb dX1_revenueWith_54 (lv_at hl 3 rfl) ?_
  have eR := Option.some.inj h
  subst eR
  exact h_lfinX hx hb hr hlk hR hS dX1_revenueWith_56
noncomputable def fX1_revenueWith (v0 : Nat) (v1 : Int32) (v2 : Int32) (w : WH) : Option (((Sum (Int64) (Nat × Nat)) × WH)) :=
  (hIs w v0 17).bind fun _ =>
  b2_ (fX1_arcAt v0 v1 w) fun o3 w1 => ex_ o3 (fun x5 =>
    x5.bind fun a7 =>
    (hIs w1 a7 27).bind fun _ =>
    b2_ (fX8_most a7 w1) fun x12 w9 =>
    b2_ (fX1_inRange (v2.toInt64) 0 (x12.toInt64) w9) fun x15 w13 =>
    b2_ (fX1_requireArgument x15 w13) fun o17 w16 => ex_ o17 (fun _ =>
      (gR w16 v0 17 0).bind fun x21 =>
      x21.bind fun a23 =>
      (gR w16 a23 21 1).bind fun x25 =>
      x25.bind fun a27 =>
      (ldI w16 a27 0 v1).bind fun x29 =>
      (gR w16 v0 17 0).bind fun x31 =>
      x31.bind fun a33 =>
      (gR w16 a33 21 1).bind fun x35 =>
      x35.bind fun a37 =>
      (stI w16 a37 0 v1 v2).bind fun w39 =>
      (hIs w39 v0 17).bind fun _ =>
      b2_ (fX1_brought v0 w39) fun x44 w41 =>
      fX1_revenueWith_b44 v0 v1 x29 x44 w41) (fun q20 =>
      some (.inr q20, w16))) (fun q6 =>
    some (.inr q6, w1))
theorem bX1_revenueWith_0 {p : Program} {l : Launch} {e : Env} {s : State} {m : MethodId} {args : Array Value} {below : List Frame} {meth : Method} {c : Code} {H : Heap} {locs : List Loc} {ls : Array Slot} {G : gE} {A : Nat → Prop} {w0 : WH} (B : gB G RX1 cX1_revenueWith 6 (some .long) p s m args meth c) (hT : ∀ x ∈ c.exceptionTable.toList, False) (hl0 : l.stackTraces = false) {v0 : Nat} {v1 : Int32} {v2 : Int32} {w : WH} {r : ((Sum (Int64) (Nat × Nat)) × WH)} (h : fX1_revenueWith v0 v1 v2 w = some r)   (hR : RepH G A w H) (hS : Cu A s w0 w H locs) (hl : lv_has ls 6 [(0, .ref v0), (1, .int v1), (2, .int v2)]) : W p l e (hRm 20 454 w0) s m args below meth c H locs (wC w0 - wC w) (wS w0 - wS w) (hZX below args s G A w0 (oJ r.1) r.2) (F0 m 0 ls []) := by
  have B0 := B
  obtain ⟨hx, hb, hml, hown, hts, hr, hlk, hK⟩ := B0
  unfold fX1_revenueWith at h
  refine lv_iload_n hx hb dX1_revenueWith_0 rfl (lv_at hl 2 rfl) ?_
  refine lv_i2l hx hb dX1_revenueWith_1 rfl ?_
  refine lv_lconst (v := 0) hx hb dX1_revenueWith_2 (by decide) ?_
  refine lv_aload_n hx hb dX1_revenueWith_3 rfl (lv_at hl 0 rfl) ?_
  refine lv_iload_n hx hb dX1_revenueWith_4 rfl (lv_at hl 1 rfl) ?_
  replace h := bo_o h
  obtain ⟨_, e2, h⟩ := h
  replace h := b2_o h
  obtain ⟨o3, w1, e4, h⟩ := h
  refine h_callVX 1 (ci := 17) (As := [.int v1]) (rest := [.long 0, .long (v2.toInt64)]) (o := oR o3) (w' := w1) hx hb hml hown hts hK hR hS (Nat.le_refl _) (Nat.le_refl _) rfl e2 (mX1_arcAt hl0 e4) (lw_V q1948 q1950 qs46 q112 q1951) (by decide +kernel) (Nat.le_of_ble_eq_true rfl) (Nat.le_of_ble_eq_true rfl) rfl hl.1 (Nat.le_of_ble_eq_true rfl) dX1_revenueWith_5 rfl (fun v9 hv9 H locs hR hS => ?_) (fun E9 q9 hq9 H locs hR hS hce => ?_)
  · cases o3 with
    | inr q => cases hv9
    | inl x5 =>
      cases hv9
      replace h := exl_o h
      refine W.eq (g2 := F0 m 8 ls [va_rf x5, .long 0, .long (v2.toInt64)]) rfl ?_
      replace h := bo_o h
      obtain ⟨a7, e8, h⟩ := h
      subst e8
      replace h := bo_o h
      obtain ⟨_, e10, h⟩ := h
      replace h := b2_o h
      obtain ⟨x12, w9, e11, h⟩ := h
      refine h_callV 0 (ci := 27) (As := []) (rest := [.long 0, .long (v2.toInt64)]) (v := (some (.int x12))) (w' := w9) (st1 := [.int x12, .long 0, .long (v2.toInt64)]) hx hb hml hown hts hK hR hS (Nat.le_refl _) (Nat.le_refl _) rfl e10 (mX8_most e11) (lw_V q1769 q1356 q1357 q141 q1358) (by decide +kernel) (Nat.le_of_ble_eq_true rfl) (Nat.le_of_ble_eq_true rfl) rfl hl.1 (Nat.le_of_ble_eq_true rfl) dX1_revenueWith_8 rfl rfl (fun H locs hR hS => ?_)
      refine lv_i2l hx hb dX1_revenueWith_11 rfl ?_
      replace h := b2_o h
      obtain ⟨x15, w13, e14, h⟩ := h
      refine h_callS 3  (As := [.long (v2.toInt64), .long 0, .long (x12.toInt64)]) (rest := []) (v := (some (.int x15))) (w' := w13) (st1 := [.int x15]) hx hb hml hown hts hK hR hS (Nat.le_refl _) (Nat.le_refl _) (mX1_inRange e14) (lw_S q1900 q743 q112 q744) (by decide +kernel) (Nat.le_of_ble_eq_true rfl) (Nat.le_of_ble_eq_true rfl) rfl hl.1 (Nat.le_of_ble_eq_true rfl) dX1_revenueWith_12 rfl rfl (fun H locs hR hS => ?_)
      replace h := b2_o h
      obtain ⟨o17, w16, e18, h⟩ := h
      refine h_callSX 1 (As := [.int x15]) (rest := []) (o := oV o17) (w' := w16)  hx hb hml hown hts hK hR hS (Nat.le_refl _) (Nat.le_refl _) (mX1_requireArgument hl0 e18) (lw_S q1993 q1994 q112 q1995) (by decide +kernel) (Nat.le_of_ble_eq_true rfl) (Nat.le_of_ble_eq_true rfl) rfl hl.1 (Nat.le_of_ble_eq_true rfl) dX1_revenueWith_15 rfl (fun v9 hv9 H locs hR hS => ?_) (fun E9 q9 hq9 H locs hR hS hce => ?_)
      · cases o17 with
        | inr q => cases hv9
        | inl x19 =>
          cases hv9
          replace h := exl_o h
          refine W.eq (g2 := F0 m 18 ls []) rfl ?_
          refine lv_aload_n hx hb dX1_revenueWith_18 rfl (lv_at hl 0 rfl) ?_
          replace h := bo_o h
          obtain ⟨x21, e22, h⟩ := h
          refine h_get (ci := 17) (k := 0) (v := va_rf x21) hx hb hts hown hK hR in_X1 rfl (by decide) (fun _ _ => rfl) q662 (fun _ h9 => h9) (gR_o e22) dX1_revenueWith_19 ?_
          replace h := bo_o h
          obtain ⟨a23, e24, h⟩ := h
          subst e24
          replace h := bo_o h
          obtain ⟨x25, e26, h⟩ := h
          refine h_getN (ci := 21) (k := 1) (v := va_rf x25) hx hb hts hown hK hR in_X2 rfl (by decide) (fun _ _ => rfl) (hK.fn 18 rfl) (fun _ h9 => h9) (gR_o e26) dX1_revenueWith_22 ?_
          refine lv_iload_n hx hb dX1_revenueWith_25 rfl (lv_at hl 1 rfl) ?_
          replace h := bo_o h
          obtain ⟨a27, e28, h⟩ := h
          subst e28
          replace h := bo_o h
          obtain ⟨x29, e30, h⟩ := h
          refine h_iald hx hb hK hR e30 dX1_revenueWith_26 ?_
          refine lv_istore_n (lv' := [(3, .int x29), (0, .ref v0), (1, .int v1), (2, .int v2)]) hx hb dX1_revenueWith_27 rfl hl (by decide) rfl (fun ls hl => ?_)
          refine lv_aload_n hx hb dX1_revenueWith_28 rfl (lv_at hl 1 rfl) ?_
          replace h := bo_o h
          obtain ⟨x31, e32, h⟩ := h
          refine h_get (ci := 17) (k := 0) (v := va_rf x31) hx hb hts hown hK hR in_X1 rfl (by decide) (fun _ _ => rfl) q662 (fun _ h9 => h9) (gR_o e32) dX1_revenueWith_29 ?_
          replace h := bo_o h
          obtain ⟨a33, e34, h⟩ := h
          subst e34
          replace h := bo_o h
          obtain ⟨x35, e36, h⟩ := h
          refine h_getN (ci := 21) (k := 1) (v := va_rf x35) hx hb hts hown hK hR in_X2 rfl (by decide) (fun _ _ => rfl) (hK.fn 18 rfl) (fun _ h9 => h9) (gR_o e36) dX1_revenueWith_32 ?_
          refine lv_iload_n hx hb dX1_revenueWith_35 rfl (lv_at hl 2 rfl) ?_
          refine lv_iload_n hx hb dX1_revenueWith_36 rfl (lv_at hl 3 rfl) ?_
          replace h := bo_o h
          obtain ⟨a37, e38, h⟩ := h
          subst e38
          replace h := bo_o h
          obtain ⟨w39, e40, h⟩ := h
          refine h_iast hx hb hK hR hS e40 dX1_revenueWith_37 (fun H locs hR hS => ?_)
          refine lv_aload_n hx hb dX1_revenueWith_38 rfl (lv_at hl 1 rfl) ?_
          replace h := bo_o h
          obtain ⟨_, e42, h⟩ := h
          replace h := b2_o h
          obtain ⟨x44, w41, e43, h⟩ := h
          refine h_callV 0 (ci := 17) (As := []) (rest := []) (v := (some (.long x44))) (w' := w41) (st1 := [.long x44]) hx hb hml hown hts hK hR hS (Nat.le_refl _) (Nat.le_refl _) rfl e42 (mX1_brought e43) (lw_V q1727 q1729 qs37 q112 q1730) (by decide +kernel) (Nat.le_of_ble_eq_true rfl) (Nat.le_of_ble_eq_true rfl) rfl hl.1 (Nat.le_of_ble_eq_true rfl) dX1_revenueWith_39 rfl rfl (fun H locs hR hS => ?_)
          refine lv_lstore (lv' := [(4, .long x44), (3, .int x29), (0, .ref v0), (1, .int v1), (2, .int v2)]) hx hb dX1_revenueWith_42 hl (by decide) rfl (fun ls hl => ?_)
          exact bX1_revenueWith_44 B hT hl0 h  hR hS (lv_sub hl [2, 3, 1, 0] rfl)
      · cases o17 with
        | inl q => cases hq9
        | inr q20 =>
          cases hq9
          replace h := exr_o h
          have eR := Option.some.inj h
          subst eR
          exact h_out hT hlk hR hS hce
  · cases o3 with
    | inl q => cases hq9
    | inr q6 =>
      cases hq9
      replace h := exr_o h
      have eR := Option.some.inj h
      subst eR
      exact h_out hT hlk hR hS hce
theorem mX1_revenueWith {l : Launch} {G : gE} {A : Nat → Prop} {v0 : Nat} {v1 : Int32} {v2 : Int32} {w : WH} {r : ((Sum (Int64) (Nat × Nat)) × WH)} (hl0 : l.stackTraces = false) (h : fX1_revenueWith v0 v1 v2 w = some r) : hMX l G A yX1_revenueWith cX1_revenueWith 6 (some .long) 20 454 [.ref v0, .int v1, .int v2] w (oJ r.1) r.2 :=
  h_ofX (by decide +kernel) (Nat.le_of_ble_eq_true rfl) (fun p e s m args below meth c ls B hnm hT hR hS hl => bX1_revenueWith_0 B hT hl0 h hR hS hl)
noncomputable def fJ17_init_2 (v0 : Nat) (w : WH) : Option (WH) :=
  (hPut w v0 0 1 (.int 0)).bind fun w1 =>
  (hPut w1 v0 0 2 (.int 0)).bind fun w3 =>
  (hIs w3 v0 0).bind fun _ =>
  (fJ17_initWords v0 64 w3).bind fun w5 =>
  (hPut w5 v0 0 2 (.int 0)).bind fun w8 =>
  some w8
theorem bJ17_init_2_0 {p : Program} {l : Launch} {e : Env} {s : State} {m : MethodId} {args : Array Value} {below : List Frame} {meth : Method} {c : Code} {H : Heap} {locs : List Loc} {ls : Array Slot} {G : gE} {A : Nat → Prop} {w0 : WH} (B : gB G RJ17 cJ17_init_2 1 none p s m args meth c) (hnm : meth.name = "<init>") {v0 : Nat} {w : WH} {r : WH} (h : fJ17_init_2 v0 w = some r)   (hR : RepH G A w H) (hS : Cu A s w0 w H locs) (hl : lv_has ls 1 [(0, .ref v0)]) : W p l e (hRm 2 41 w0) s m args below meth c H locs (wC w0 - wC w) (wS w0 - wS w) (hZ below args s G A w0 none r) (F0 m 0 ls []) := by
  have B0 := B
  obtain ⟨hx, hb, hml, hown, hts, hr, hlk, hK⟩ := B0
  unfold fJ17_init_2 at h
  refine lv_aload_n hx hb dJ17_init_2_0 rfl (lv_at hl 0 rfl) ?_
  refine W.objInit hx hb hown (hts _ q566) (hts _ q168) (hts _ q169) rfl (by rw [hml]; exact hl.1) rfl dJ17_init_2_1 (Nat.le_of_ble_eq_true rfl) (Nat.le_of_ble_eq_true rfl) ?_
  refine W.eq (g2 := F0 m 4 ls []) rfl ?_
  refine lv_aload_n hx hb dJ17_init_2_4 rfl (lv_at hl 0 rfl) ?_
  refine lv_iconst (v := 0) hx hb dJ17_init_2_5 (by decide) ?_
  replace h := bo_o h
  obtain ⟨w1, e2, h⟩ := h
  refine h_put (ci := 0) (k := 1) (ty := tyJ17 1) hx hb hts hown hK hR hS in_J17 tyJ17 tyJ17_ok nmJ17 rfl (by decide) q575 (fun _ h9 => h9) rfl (tyJ17_ok 1 (by decide)) rfl rfl e2 dJ17_init_2_6 (fun H locs hR hS => ?_)
  refine lv_aload_n hx hb dJ17_init_2_9 rfl (lv_at hl 0 rfl) ?_
  refine lv_iconst (v := 0) hx hb dJ17_init_2_10 (by decide) ?_
  replace h := bo_o h
  obtain ⟨w3, e4, h⟩ := h
  refine h_put (ci := 0) (k := 2) (ty := tyJ17 2) hx hb hts hown hK hR hS in_J17 tyJ17 tyJ17_ok nmJ17 rfl (by decide) q576 (fun _ h9 => h9) rfl (tyJ17_ok 2 (by decide)) rfl rfl e4 dJ17_init_2_11 (fun H locs hR hS => ?_)
  refine lv_aload_n hx hb dJ17_init_2_14 rfl (lv_at hl 0 rfl) ?_
  refine lv_bipush (v := 64) hx hb dJ17_init_2_15 (by decide) ?_
  replace h := bo_o h
  obtain ⟨_, e6, h⟩ := h
  replace h := bo_o h
  obtain ⟨w5, e7, h⟩ := h
  refine h_callV 1 (ci := 0) (As := [.int 64]) (rest := []) (v := none) (w' := w5) (st1 := []) hx hb hml hown hts hK hR hS (Nat.le_refl _) (Nat.le_refl _) rfl e6 (mJ17_initWords e7) (lw_V q567 q569 qs1 q134 q570) (by decide +kernel) (Nat.le_of_ble_eq_true rfl) (Nat.le_of_ble_eq_true rfl) rfl hl.1 (Nat.le_of_ble_eq_true rfl) dJ17_init_2_17 rfl rfl (fun H locs hR hS => ?_)
  refine lv_aload_n hx hb dJ17_init_2_20 rfl (lv_at hl 0 rfl) ?_
  refine lv_iconst (v := 0) hx hb dJ17_init_2_21 (by decide) ?_
  replace h := bo_o h
  obtain ⟨w8, e9, h⟩ := h
  refine h_put (ci := 0) (k := 2) (ty := tyJ17 2) hx hb hts hown hK hR hS in_J17 tyJ17 tyJ17_ok nmJ17 rfl (by decide) q576 (fun _ h9 => h9) rfl (tyJ17_ok 2 (by decide)) rfl rfl e9 dJ17_init_2_22 (fun H locs hR hS => ?_)
  have eR := Option.some.inj h
  subst eR
  exact h_vfin hx hb hr hlk hR hS dJ17_init_2_25
theorem mJ17_init_2 {l : Launch} {G : gE} {A : Nat → Prop} {v0 : Nat} {w : WH} {r : WH} (h : fJ17_init_2 v0 w = some r) : hM l G A yJ17_init_2 cJ17_init_2 1 none 2 41 [.ref v0] w none r :=
  h_of (by decide +kernel) (Nat.le_of_ble_eq_true rfl) (fun p e s m args below meth c ls B hnm hR hS hl => bJ17_init_2_0 B hnm h hR hS hl)
noncomputable def fX1_steps_b58 (v0 : Nat) (v1 : Nat) (v2 : Nat) (v3 : Int32) (w : WH) : Option (Sum (Int32 × WH) ((Option Nat × WH))) :=
  some (.inl (v3 + 1, w))
theorem bX1_steps_58 {p : Program} {l : Launch} {e : Env} {s : State} {m : MethodId} {args : Array Value} {below : List Frame} {meth : Method} {c : Code} {H : Heap} {locs : List Loc} {ls : Array Slot} {G : gE} {A : Nat → Prop} {w0 : WH} (B : gB G RX1 cX1_steps 5 (some (.object "java/util/BitSet")) p s m args meth c) {v0 : Nat} {v1 : Nat} {v2 : Nat} {v3 : Int32} {w : WH} {x : Sum (Int32 × WH) ((Option Nat × WH))} {r : (Option Nat × WH)} (h : fX1_steps_b58 v0 v1 v2 v3 w = some x)  (k10 : ∀ (v3' : Int32) (w' : WH), x = (.inl (v3', w')) → ∀ (H : Heap) (locs : List Loc) (ls : Array Slot), RepH G A w' H → Cu A s w0 w' H locs → lv_has ls 5 [(0, .ref v0), (1, .ref v1), (2, .ref v2), (3, .int v3')] → W p l e (hRm 21 482 w0) s m args below meth c H locs (wC w0 - wC w') (wS w0 - wS w') (hZ below args s G A w0 (some (va_rf r.1)) r.2) (F0 m 10 ls [])) (kR : ∀ q, x = (.inr q) → q = r) (hR : RepH G A w H) (hS : Cu A s w0 w H locs) (hl : lv_has ls 5 [(0, .ref v0), (1, .ref v1), (2, .ref v2), (3, .int v3)]) : W p l e (hRm 21 482 w0) s m args below meth c H locs (wC w0 - wC w) (wS w0 - wS w) (hZ below args s G A w0 (some (va_rf r.1)) r.2) (F0 m 58 ls []) := by
  have B0 := B
  obtain ⟨hx, hb, hml, hown, hts, hr, hlk, hK⟩ := B0
  unfold fX1_steps_b58 at h
  refine lv_iinc (v := v3 + 1) (lv' := [(3, .int (v3 + 1)), (0, .ref v0), (1, .ref v1), (2, .ref v2)]) hx hb dX1_steps_58 hl (k := 3) rfl rfl (by decide) rfl (fun ls hl => ?_)
  refine lv_goto (tgt := 10) hx hb dX1_steps_61 (by decide) ?_
  exact k10 _ _ (Option.some.inj h).symm H locs ls hR hS (lv_sub hl [1, 2, 3, 0] rfl)
noncomputable def fX1_steps_b10 (v0 : Nat) (v1 : Nat) (v2 : Nat) (v3 : Int32) (w : WH) : Option (Sum (Int32 × WH) ((Option Nat × WH))) :=
  (gR w v0 17 0).bind fun x1 =>
  x1.bind fun a3 =>
  (gR w a3 21 0).bind fun x5 =>
  x5.bind fun a7 =>
  (gR w a7 22 2).bind fun x9 =>
  x9.bind fun a11 =>
  (hIs w a11 2).bind fun _ =>
  b2_ (fJ2_size a11 w) fun x16 w13 =>
  if x16 ≤ v3 then (
    some (.inr (some v2, w13))
  ) else (
    (hIs w13 v0 17).bind fun _ =>
    b2_ (fX1_kept v0 v3 v1 w13) fun x21 w18 =>
    if x21 = (-1) then (
      fX1_steps_b58 v0 v1 v2 v3 w18
    ) else (
      (hIs w18 v1 27).bind fun _ =>
      b2_ (fX8_most v1 w18) fun x26 w23 =>
      if x26 ≤ x21 then (
        fX1_steps_b58 v0 v1 v2 v3 w23
      ) else (
        (hIs w23 v2 0).bind fun _ =>
        (fJ17_set_3 v2 x21 w23).bind fun w28 =>
        fX1_steps_b58 v0 v1 v2 v3 w28
      )
    )
  )
theorem bX1_steps_10 {p : Program} {l : Launch} {e : Env} {s : State} {m : MethodId} {args : Array Value} {below : List Frame} {meth : Method} {c : Code} {H : Heap} {locs : List Loc} {ls : Array Slot} {G : gE} {A : Nat → Prop} {w0 : WH} (B : gB G RX1 cX1_steps 5 (some (.object "java/util/BitSet")) p s m args meth c) {v0 : Nat} {v1 : Nat} {v2 : Nat} {v3 : Int32} {w : WH} {x : Sum (Int32 × WH) ((Option Nat × WH))} {r : (Option Nat × WH)} (h : fX1_steps_b10 v0 v1 v2 v3 w = some x)  (k10 : ∀ (v3' : Int32) (w' : WH), x = (.inl (v3', w')) → ∀ (H : Heap) (locs : List Loc) (ls : Array Slot), RepH G A w' H → Cu A s w0 w' H locs → lv_has ls 5 [(0, .ref v0), (1, .ref v1), (2, .ref v2), (3, .int v3')] → W p l e (hRm 21 482 w0) s m args below meth c H locs (wC w0 - wC w') (wS w0 - wS w') (hZ below args s G A w0 (some (va_rf r.1)) r.2) (F0 m 10 ls [])) (kR : ∀ q, x = (.inr q) → q = r) (hR : RepH G A w H) (hS : Cu A s w0 w H locs) (hl : lv_has ls 5 [(0, .ref v0), (1, .ref v1), (2, .ref v2), (3, .int v3)]) : W p l e (hRm 21 482 w0) s m args below meth c H locs (wC w0 - wC w) (wS w0 - wS w) (hZ below args s G A w0 (some (va_rf r.1)) r.2) (F0 m 10 ls []) := by
  have B0 := B
  obtain ⟨hx, hb, hml, hown, hts, hr, hlk, hK⟩ := B0
  unfold fX1_steps_b10 at h
  refine lv_iload_n hx hb dX1_steps_10 rfl (lv_at hl 3 rfl) ?_
  refine lv_aload_n hx hb dX1_steps_11 rfl (lv_at hl 0 rfl) ?_
  replace h := bo_o h
  obtain ⟨x1, e2, h⟩ := h
  refine h_get (ci := 17) (k := 0) (v := va_rf x1) hx hb hts hown hK hR in_X1 rfl (by decide) (fun _ _ => rfl) q662 (fun _ h9 => h9) (gR_o e2) dX1_steps_12 ?_
  replace h := bo_o h
  obtain ⟨a3, e4, h⟩ := h
  subst e4
  replace h := bo_o h
  obtain ⟨x5, e6, h⟩ := h
  refine h_getN (ci := 21) (k := 0) (v := va_rf x5) hx hb hts hown hK hR in_X2 rfl (by decide) (fun _ _ => rfl) (hK.fn 15 rfl) (fun _ h9 => h9) (gR_o e6) dX1_steps_15 ?_
  replace h := bo_o h
  obtain ⟨a7, e8, h⟩ := h
  subst e8
  replace h := bo_o h
  obtain ⟨x9, e10, h⟩ := h
  refine h_getN (ci := 22) (k := 2) (v := va_rf x9) hx hb hts hown hK hR in_X3 rfl (by decide) (fun _ _ => rfl) (hK.fn 10 rfl) (fun _ h9 => h9) (gR_o e10) dX1_steps_18 ?_
  replace h := bo_o h
  obtain ⟨a11, e12, h⟩ := h
  subst e12
  replace h := bo_o h
  obtain ⟨_, e14, h⟩ := h
  replace h := b2_o h
  obtain ⟨x16, w13, e15, h⟩ := h
  refine h_callF 0  (As := []) (rest := [.int v3]) (v := (some (.int x16))) (w' := w13) (st1 := [.int x16, .int v3]) hx hb hml hown hts hK hR hS (Nat.le_refl _) (Nat.le_refl _) (h_recv (ci := 2) hK hR hS rfl e14) (mJ2_size e15) (lw_app (a := [.methodLink _ _ _, .selects _ _ _, .instanceMethod _, .initialized _]) (lw_4 q1076 q903 q905 q117) (lw_meth q907)) (hK.fw 0 rfl) (by decide +kernel) (Nat.le_of_ble_eq_true rfl) (Nat.le_of_ble_eq_true rfl) rfl hl.1 (Nat.le_of_ble_eq_true rfl) dX1_steps_21 rfl rfl (fun H locs hR hS => ?_)
  refine lv_icmp_ge (tgt := 64) hx hb dX1_steps_26 (by decide) (fun c17 => ?_) (fun c17 => ?_)
  · replace h := it_o c17 h
    refine lv_aload_n hx hb dX1_steps_64 rfl (lv_at hl 2 rfl) ?_
    have eR := kR _ (Option.some.inj h).symm
    subst eR
    exact h_afin (x := some v2) hx hb hr hlk (by first | exact Or.inl ⟨_, rfl⟩ | exact Or.inr ⟨_, rfl⟩) hR hS dX1_steps_65
  · replace h := if_o c17 h
    refine lv_aload_n hx hb dX1_steps_29 rfl (lv_at hl 0 rfl) ?_
    refine lv_iload_n hx hb dX1_steps_30 rfl (lv_at hl 3 rfl) ?_
    refine lv_aload_n hx hb dX1_steps_31 rfl (lv_at hl 1 rfl) ?_
    replace h := bo_o h
    obtain ⟨_, e19, h⟩ := h
    replace h := b2_o h
    obtain ⟨x21, w18, e20, h⟩ := h
    refine h_callV 2 (ci := 17) (As := [.int v3, .ref v1]) (rest := []) (v := (some (.int x21))) (w' := w18) (st1 := [.int x21]) hx hb hml hown hts hK hR hS (Nat.le_refl _) (Nat.le_refl _) rfl e19 (mX1_kept e20) (lw_V q2192 q1789 qs43 q112 q1790) (by decide +kernel) (Nat.le_of_ble_eq_true rfl) (Nat.le_of_ble_eq_true rfl) rfl hl.1 (Nat.le_of_ble_eq_true rfl) dX1_steps_32 rfl rfl (fun H locs hR hS => ?_)
    refine lv_istore (lv' := [(4, .int x21), (0, .ref v0), (1, .ref v1), (2, .ref v2), (3, .int v3)]) hx hb dX1_steps_35 hl (by decide) rfl (fun ls hl => ?_)
    refine lv_iload hx hb dX1_steps_37 (lv_at hl 0 rfl) ?_
    refine lv_iconst (v := (-1)) hx hb dX1_steps_39 (by decide) ?_
    refine lv_icmp_eq (tgt := 58) hx hb dX1_steps_40 (by decide) (fun c22 => ?_) (fun c22 => ?_)
    · replace h := it_o c22 h
      exact bX1_steps_58 B h k10 kR hR hS (lv_sub hl [1, 2, 3, 4] rfl)
    · replace h := if_o c22 h
      refine lv_iload hx hb dX1_steps_43 (lv_at hl 0 rfl) ?_
      refine lv_aload_n hx hb dX1_steps_45 rfl (lv_at hl 2 rfl) ?_
      replace h := bo_o h
      obtain ⟨_, e24, h⟩ := h
      replace h := b2_o h
      obtain ⟨x26, w23, e25, h⟩ := h
      refine h_callV 0 (ci := 27) (As := []) (rest := [.int x21]) (v := (some (.int x26))) (w' := w23) (st1 := [.int x26, .int x21]) hx hb hml hown hts hK hR hS (Nat.le_refl _) (Nat.le_refl _) rfl e24 (mX8_most e25) (lw_V q1769 q1356 q1357 q141 q1358) (by decide +kernel) (Nat.le_of_ble_eq_true rfl) (Nat.le_of_ble_eq_true rfl) rfl hl.1 (Nat.le_of_ble_eq_true rfl) dX1_steps_46 rfl rfl (fun H locs hR hS => ?_)
      refine lv_icmp_ge (tgt := 58) hx hb dX1_steps_49 (by decide) (fun c27 => ?_) (fun c27 => ?_)
      · replace h := it_o c27 h
        exact bX1_steps_58 B h k10 kR hR hS (lv_sub hl [1, 2, 3, 4] rfl)
      · replace h := if_o c27 h
        refine lv_aload_n hx hb dX1_steps_52 rfl (lv_at hl 3 rfl) ?_
        refine lv_iload hx hb dX1_steps_53 (lv_at hl 0 rfl) ?_
        replace h := bo_o h
        obtain ⟨_, e29, h⟩ := h
        replace h := bo_o h
        obtain ⟨w28, e30, h⟩ := h
        refine h_callV 1 (ci := 0) (As := [.int x21]) (rest := []) (v := none) (w' := w28) (st1 := []) hx hb hml hown hts hK hR hS (Nat.le_refl _) (Nat.le_refl _) rfl e29 (mJ17_set_3 e30) (lw_V q2226 q2027 q2028 q134 q2029) (by decide +kernel) (Nat.le_of_ble_eq_true rfl) (Nat.le_of_ble_eq_true rfl) rfl hl.1 (Nat.le_of_ble_eq_true rfl) dX1_steps_55 rfl rfl (fun H locs hR hS => ?_)
        exact bX1_steps_58 B h k10 kR hR hS (lv_sub hl [1, 2, 3, 4] rfl)
noncomputable def fX1_steps_l10 (v0 : Nat) (v1 : Nat) (v2 : Nat) (v3 : Int32) (w : WH) : Option ((Option Nat × WH)) := whileO (fun q => fX1_steps_b10 v0 v1 v2 q.1 q.2) (v3, w)
theorem lX1_steps_10 {p : Program} {l : Launch} {e : Env} {s : State} {m : MethodId} {args : Array Value} {below : List Frame} {meth : Method} {c : Code} {G : gE} {A : Nat → Prop} {w0 : WH} (B : gB G RX1 cX1_steps 5 (some (.object "java/util/BitSet")) p s m args meth c) {v0 : Nat} {v1 : Nat} {v2 : Nat} {r : (Option Nat × WH)}   : ∀ (v3 : Int32) (w : WH), fX1_steps_l10 v0 v1 v2 v3 w = some r → ∀ (H : Heap) (locs : List Loc) (ls : Array Slot), RepH G A w H → Cu A s w0 w H locs → lv_has ls 5 [(0, .ref v0), (1, .ref v1), (2, .ref v2), (3, .int v3)] → W p l e (hRm 21 482 w0) s m args below meth c H locs (wC w0 - wC w) (wS w0 - wS w) (hZ below args s G A w0 (some (va_rf r.1)) r.2) (F0 m 10 ls []) := by
  intro v3 w h
  refine wh_walk (body := (fun q => fX1_steps_b10 v0 v1 v2 q.1 q.2)) (P := (fun q : (Int32 × WH) => ∀ (H : Heap) (locs : List Loc) (ls : Array Slot), RepH G A (q.2) H → Cu A s w0 (q.2) H locs → lv_has ls 5 [(0, .ref v0), (1, .ref v1), (2, .ref v2), (3, .int (q.1))] → W p l e (hRm 21 482 w0) s m args below meth c H locs (wC w0 - wC (q.2)) (wS w0 - wS (q.2)) (hZ below args s G A w0 (some (va_rf r.1)) r.2) (F0 m 10 ls []))) (r := r) ?_ (v3, w) h
  intro q y hy hL hr H locs ls hR hS hl
  exact bX1_steps_10 (r := r) B hy (fun a0 a1 e => hL (a0, a1) e) (fun q e => hr q e) hR hS hl
noncomputable def fX1_steps (v0 : Nat) (v1 : Nat) (w : WH) : Option ((Option Nat × WH)) :=
  b2_ (hNw w 3 0 [.null, .int 0, .int 0]) fun a1 w2 =>
  (fJ17_init_2 a1 w2).bind fun w4 =>
  fX1_steps_l10 v0 v1 a1 0 w4
theorem bX1_steps_0 {p : Program} {l : Launch} {e : Env} {s : State} {m : MethodId} {args : Array Value} {below : List Frame} {meth : Method} {c : Code} {H : Heap} {locs : List Loc} {ls : Array Slot} {G : gE} {A : Nat → Prop} {w0 : WH} (B : gB G RX1 cX1_steps 5 (some (.object "java/util/BitSet")) p s m args meth c) {v0 : Nat} {v1 : Nat} {w : WH} {r : (Option Nat × WH)} (h : fX1_steps v0 v1 w = some r)   (hR : RepH G A w H) (hS : Cu A s w0 w H locs) (hl : lv_has ls 5 [(0, .ref v0), (1, .ref v1)]) : W p l e (hRm 21 482 w0) s m args below meth c H locs (wC w0 - wC w) (wS w0 - wS w) (hZ below args s G A w0 (some (va_rf r.1)) r.2) (F0 m 0 ls []) := by
  have B0 := B
  obtain ⟨hx, hb, hml, hown, hts, hr, hlk, hK⟩ := B0
  unfold fX1_steps at h
  replace h := b2_o h
  obtain ⟨a1, w2, e3, h⟩ := h
  refine h_new (ci := 0) (fs := [.null, .int 0, .int 0]) hx hb hts hown hK hR hS (Nat.le_refl _) (Nat.le_refl _) in_J17 tyJ17 tyJ17_ok rfl (by decide +kernel) q1413 q562 q134 e3 dX1_steps_0 (fun H locs hR hS => ?_)
  refine lv_dup hx hb dX1_steps_3 rfl ?_
  replace h := bo_o h
  obtain ⟨w4, e5, h⟩ := h
  refine h_callI 0  (As := []) (rest := [.ref a1]) (w' := w4) hx hb hml hown hts hK hR hS (Nat.le_refl _) (Nat.le_refl _) (mJ17_init_2 e5) (lw_meth q2360) q134 q2358 q2359 rfl (by decide +kernel) (Nat.le_of_ble_eq_true rfl) (Nat.le_of_ble_eq_true rfl) rfl hl.1 (Nat.le_of_ble_eq_true rfl) dX1_steps_4 rfl (fun H locs hR hS => ?_)
  refine lv_astore_n (lv' := [(2, .ref a1), (0, .ref v0), (1, .ref v1)]) hx hb dX1_steps_7 rfl hl (by decide) rfl (fun ls hl => ?_)
  refine lv_iconst (v := 0) hx hb dX1_steps_8 (by decide) ?_
  refine lv_istore_n (lv' := [(3, .int 0), (2, .ref a1), (0, .ref v0), (1, .ref v1)]) hx hb dX1_steps_9 rfl hl (by decide) rfl (fun ls hl => ?_)
  exact lX1_steps_10 B _ _ h H locs ls hR hS (lv_sub hl [2, 3, 1, 0] rfl)
theorem mX1_steps {l : Launch} {G : gE} {A : Nat → Prop} {v0 : Nat} {v1 : Nat} {w : WH} {r : (Option Nat × WH)} (h : fX1_steps v0 v1 w = some r) : hM l G A yX1_steps cX1_steps 5 (some (.object "java/util/BitSet")) 21 482 [.ref v0, .ref v1] w (some (va_rf r.1)) r.2 :=
  h_of (by decide +kernel) (Nat.le_of_ble_eq_true rfl) (fun p e s m args below meth c ls B hnm hR hS hl => bX1_steps_0 B h hR hS hl)
noncomputable def fX1_stepCount (v0 : Nat) (v1 : Int32) (w : WH) : Option (((Sum (Int32) (Nat × Nat)) × WH)) :=
  (hIs w v0 17).bind fun _ =>
  b2_ (fX1_arcAt v0 v1 w) fun o3 w1 => ex_ o3 (fun x5 =>
    x5.bind fun a7 =>
    (hIs w1 v0 17).bind fun _ =>
    b2_ (fX1_steps v0 a7 w1) fun x12 w9 =>
    x12.bind fun a13 =>
    (hIs w9 a13 0).bind fun _ =>
    b2_ (fJ17_cardinality a13 w9) fun x18 w15 =>
    some (.inl x18, w15)) (fun q6 =>
    some (.inr q6, w1))
theorem bX1_stepCount_0 {p : Program} {l : Launch} {e : Env} {s : State} {m : MethodId} {args : Array Value} {below : List Frame} {meth : Method} {c : Code} {H : Heap} {locs : List Loc} {ls : Array Slot} {G : gE} {A : Nat → Prop} {w0 : WH} (B : gB G RX1 cX1_stepCount 2 (some .int) p s m args meth c) (hT : ∀ x ∈ c.exceptionTable.toList, False) (hl0 : l.stackTraces = false) {v0 : Nat} {v1 : Int32} {w : WH} {r : ((Sum (Int32) (Nat × Nat)) × WH)} (h : fX1_stepCount v0 v1 w = some r)   (hR : RepH G A w H) (hS : Cu A s w0 w H locs) (hl : lv_has ls 2 [(0, .ref v0), (1, .int v1)]) : W p l e (hRm 22 506 w0) s m args below meth c H locs (wC w0 - wC w) (wS w0 - wS w) (hZX below args s G A w0 (oI r.1) r.2) (F0 m 0 ls []) := by
  have B0 := B
  obtain ⟨hx, hb, hml, hown, hts, hr, hlk, hK⟩ := B0
  unfold fX1_stepCount at h
  refine lv_aload_n hx hb dX1_stepCount_0 rfl (lv_at hl 0 rfl) ?_
  refine lv_aload_n hx hb dX1_stepCount_1 rfl (lv_at hl 0 rfl) ?_
  refine lv_iload_n hx hb dX1_stepCount_2 rfl (lv_at hl 1 rfl) ?_
  replace h := bo_o h
  obtain ⟨_, e2, h⟩ := h
  replace h := b2_o h
  obtain ⟨o3, w1, e4, h⟩ := h
  refine h_callVX 1 (ci := 17) (As := [.int v1]) (rest := [.ref v0]) (o := oR o3) (w' := w1) hx hb hml hown hts hK hR hS (Nat.le_refl _) (Nat.le_refl _) rfl e2 (mX1_arcAt hl0 e4) (lw_V q1948 q1950 qs46 q112 q1951) (by decide +kernel) (Nat.le_of_ble_eq_true rfl) (Nat.le_of_ble_eq_true rfl) rfl hl.1 (Nat.le_of_ble_eq_true rfl) dX1_stepCount_3 rfl (fun v9 hv9 H locs hR hS => ?_) (fun E9 q9 hq9 H locs hR hS hce => ?_)
  · cases o3 with
    | inr q => cases hv9
    | inl x5 =>
      cases hv9
      replace h := exl_o h
      refine W.eq (g2 := F0 m 6 ls [va_rf x5, .ref v0]) rfl ?_
      replace h := bo_o h
      obtain ⟨a7, e8, h⟩ := h
      subst e8
      replace h := bo_o h
      obtain ⟨_, e10, h⟩ := h
      replace h := b2_o h
      obtain ⟨x12, w9, e11, h⟩ := h
      refine h_callV 1 (ci := 17) (As := [.ref a7]) (rest := []) (v := (some (va_rf x12))) (w' := w9) (st1 := [va_rf x12]) hx hb hml hown hts hK hR hS (Nat.le_refl _) (Nat.le_refl _) rfl e10 (mX1_steps e11) (lw_V q2354 q2356 qs56 q112 q2357) (by decide +kernel) (Nat.le_of_ble_eq_true rfl) (Nat.le_of_ble_eq_true rfl) rfl hl.1 (Nat.le_of_ble_eq_true rfl) dX1_stepCount_6 rfl rfl (fun H locs hR hS => ?_)
      replace h := bo_o h
      obtain ⟨a13, e14, h⟩ := h
      subst e14
      replace h := bo_o h
      obtain ⟨_, e16, h⟩ := h
      replace h := b2_o h
      obtain ⟨x18, w15, e17, h⟩ := h
      refine h_callV 0 (ci := 0) (As := []) (rest := []) (v := (some (.int x18))) (w' := w15) (st1 := [.int x18]) hx hb hml hown hts hK hR hS (Nat.le_refl _) (Nat.le_refl _) rfl e16 (mJ17_cardinality e17) (lw_V q1923 q1924 q1925 q134 q1926) (by decide +kernel) (Nat.le_of_ble_eq_true rfl) (Nat.le_of_ble_eq_true rfl) rfl hl.1 (Nat.le_of_ble_eq_true rfl) dX1_stepCount_9 rfl rfl (fun H locs hR hS => ?_)
      have eR := Option.some.inj h
      subst eR
      exact h_ifinX hx hb hr hlk hR hS dX1_stepCount_12
  · cases o3 with
    | inl q => cases hq9
    | inr q6 =>
      cases hq9
      replace h := exr_o h
      have eR := Option.some.inj h
      subst eR
      exact h_out hT hlk hR hS hce
theorem mX1_stepCount {l : Launch} {G : gE} {A : Nat → Prop} {v0 : Nat} {v1 : Int32} {w : WH} {r : ((Sum (Int32) (Nat × Nat)) × WH)} (hl0 : l.stackTraces = false) (h : fX1_stepCount v0 v1 w = some r) : hMX l G A yX1_stepCount cX1_stepCount 2 (some .int) 22 506 [.ref v0, .int v1] w (oI r.1) r.2 :=
  h_ofX (by decide +kernel) (Nat.le_of_ble_eq_true rfl) (fun p e s m args below meth c ls B hnm hT hR hS hl => bX1_stepCount_0 B hT hl0 h hR hS hl)
noncomputable def fX1_step_b47 (v2 : Int32) (v4 : Int32) (w : WH) : Option (((Sum (Int32) (Nat × Nat)) × WH)) :=
  if 0 ≤ v2 then (
    some (.inl v4, w)
  ) else (
    some (.inl (-1), w)
  )
theorem bX1_step_47 {p : Program} {l : Launch} {e : Env} {s : State} {m : MethodId} {args : Array Value} {below : List Frame} {meth : Method} {c : Code} {H : Heap} {locs : List Loc} {ls : Array Slot} {G : gE} {A : Nat → Prop} {w0 : WH} (B : gB G RX1 cX1_step 6 (some .int) p s m args meth c) (hT : ∀ x ∈ c.exceptionTable.toList, False) (hl0 : l.stackTraces = false) {v2 : Int32} {v4 : Int32} {w : WH} {r : ((Sum (Int32) (Nat × Nat)) × WH)} (h : fX1_step_b47 v2 v4 w = some r)   (hR : RepH G A w H) (hS : Cu A s w0 w H locs) (hl : lv_has ls 6 [(2, .int v2), (4, .int v4)]) : W p l e (hRm 22 506 w0) s m args below meth c H locs (wC w0 - wC w) (wS w0 - wS w) (hZX below args s G A w0 (oI r.1) r.2) (F0 m 47 ls []) := by
  have B0 := B
  obtain ⟨hx, hb, hml, hown, hts, hr, hlk, hK⟩ := B0
  unfold fX1_step_b47 at h
  refine lv_iload_n hx hb dX1_step_47 rfl (lv_at hl 0 rfl) ?_
  refine lv_if_ge (tgt := 55) hx hb dX1_step_48 (by decide) (fun c1 => ?_) (fun c1 => ?_)
  · replace h := it_o c1 h
    refine lv_iload hx hb dX1_step_55 (lv_at hl 1 rfl) ?_
    have eR := Option.some.inj h
    subst eR
    exact h_ifinX hx hb hr hlk hR hS dX1_step_57
  · replace h := if_o c1 h
    refine lv_iconst (v := (-1)) hx hb dX1_step_51 (by decide) ?_
    refine lv_goto (tgt := 57) hx hb dX1_step_52 (by decide) ?_
    have eR := Option.some.inj h
    subst eR
    exact h_ifinX hx hb hr hlk hR hS dX1_step_57
noncomputable def fX1_step_b20 (v2 : Int32) (v3 : Nat) (v4 : Int32) (v5 : Int32) (w : WH) : Option (Sum (Int32 × Int32 × WH) (((Sum (Int32) (Nat × Nat)) × WH))) :=
  if v2 ≤ v5 then (
    (fX1_step_b47 v2 v4 w).map (fun y => (.inr y))
  ) else (
    if v4 < 0 then (
      (fX1_step_b47 v2 v4 w).map (fun y => (.inr y))
    ) else (
      (hIs w v3 0).bind fun _ =>
      b2_ (fJ17_nextSetBit v3 (v4 + 1) w) fun x6 w3 =>
      some (.inl (x6, v5 + 1, w3))
    )
  )
theorem bX1_step_20 {p : Program} {l : Launch} {e : Env} {s : State} {m : MethodId} {args : Array Value} {below : List Frame} {meth : Method} {c : Code} {H : Heap} {locs : List Loc} {ls : Array Slot} {G : gE} {A : Nat → Prop} {w0 : WH} (B : gB G RX1 cX1_step 6 (some .int) p s m args meth c) (hT : ∀ x ∈ c.exceptionTable.toList, False) (hl0 : l.stackTraces = false) {v2 : Int32} {v3 : Nat} {v4 : Int32} {v5 : Int32} {w : WH} {x : Sum (Int32 × Int32 × WH) (((Sum (Int32) (Nat × Nat)) × WH))} {r : ((Sum (Int32) (Nat × Nat)) × WH)} (h : fX1_step_b20 v2 v3 v4 v5 w = some x)  (k20 : ∀ (v4' : Int32) (v5' : Int32) (w' : WH), x = (.inl (v4', v5', w')) → ∀ (H : Heap) (locs : List Loc) (ls : Array Slot), RepH G A w' H → Cu A s w0 w' H locs → lv_has ls 6 [(2, .int v2), (3, .ref v3), (4, .int v4'), (5, .int v5')] → W p l e (hRm 22 506 w0) s m args below meth c H locs (wC w0 - wC w') (wS w0 - wS w') (hZX below args s G A w0 (oI r.1) r.2) (F0 m 20 ls [])) (kR : ∀ q, x = (.inr q) → q = r) (hR : RepH G A w H) (hS : Cu A s w0 w H locs) (hl : lv_has ls 6 [(2, .int v2), (3, .ref v3), (4, .int v4), (5, .int v5)]) : W p l e (hRm 22 506 w0) s m args below meth c H locs (wC w0 - wC w) (wS w0 - wS w) (hZX below args s G A w0 (oI r.1) r.2) (F0 m 20 ls []) := by
  have B0 := B
  obtain ⟨hx, hb, hml, hown, hts, hr, hlk, hK⟩ := B0
  unfold fX1_step_b20 at h
  refine lv_iload hx hb dX1_step_20 (lv_at hl 3 rfl) ?_
  refine lv_iload_n hx hb dX1_step_22 rfl (lv_at hl 0 rfl) ?_
  refine lv_icmp_ge (tgt := 47) hx hb dX1_step_23 (by decide) (fun c1 => ?_) (fun c1 => ?_)
  · replace h := it_o c1 h
    obtain ⟨y, h, ey⟩ := mp_o h
    have ey := kR _ ey.symm
    subst ey
    exact bX1_step_47 B hT hl0 h  hR hS (lv_sub hl [0, 2] rfl)
  · replace h := if_o c1 h
    refine lv_iload hx hb dX1_step_26 (lv_at hl 2 rfl) ?_
    refine lv_if_lt (tgt := 47) hx hb dX1_step_28 (by decide) (fun c2 => ?_) (fun c2 => ?_)
    · replace h := it_o c2 h
      obtain ⟨y, h, ey⟩ := mp_o h
      have ey := kR _ ey.symm
      subst ey
      exact bX1_step_47 B hT hl0 h  hR hS (lv_sub hl [0, 2] rfl)
    · replace h := if_o c2 h
      refine lv_aload_n hx hb dX1_step_31 rfl (lv_at hl 1 rfl) ?_
      refine lv_iload hx hb dX1_step_32 (lv_at hl 2 rfl) ?_
      refine lv_iconst (v := 1) hx hb dX1_step_34 (by decide) ?_
      refine lv_iadd hx hb dX1_step_35 ?_
      replace h := bo_o h
      obtain ⟨_, e4, h⟩ := h
      replace h := b2_o h
      obtain ⟨x6, w3, e5, h⟩ := h
      refine h_callV 1 (ci := 0) (As := [.int (v4 + 1)]) (rest := []) (v := (some (.int x6))) (w' := w3) (st1 := [.int x6]) hx hb hml hown hts hK hR hS (Nat.le_refl _) (Nat.le_refl _) rfl e4 (mJ17_nextSetBit e5) (lw_V q1712 q1713 q1714 q134 q1715) (by decide +kernel) (Nat.le_of_ble_eq_true rfl) (Nat.le_of_ble_eq_true rfl) rfl hl.1 (Nat.le_of_ble_eq_true rfl) dX1_step_36 rfl rfl (fun H locs hR hS => ?_)
      refine lv_istore (lv' := [(4, .int x6), (2, .int v2), (3, .ref v3), (5, .int v5)]) hx hb dX1_step_39 hl (by decide) rfl (fun ls hl => ?_)
      refine lv_iinc (v := v5 + 1) (lv' := [(5, .int (v5 + 1)), (4, .int x6), (2, .int v2), (3, .ref v3)]) hx hb dX1_step_41 hl (k := 3) rfl rfl (by decide) rfl (fun ls hl => ?_)
      refine lv_goto (tgt := 20) hx hb dX1_step_44 (by decide) ?_
      exact k20 _ _ _ (Option.some.inj h).symm H locs ls hR hS (lv_sub hl [2, 3, 1, 0] rfl)
noncomputable def fX1_step_l20 (v2 : Int32) (v3 : Nat) (v4 : Int32) (v5 : Int32) (w : WH) : Option (((Sum (Int32) (Nat × Nat)) × WH)) := whileO (fun q => fX1_step_b20 v2 v3 q.1 q.2.1 q.2.2) (v4, v5, w)
theorem lX1_step_20 {p : Program} {l : Launch} {e : Env} {s : State} {m : MethodId} {args : Array Value} {below : List Frame} {meth : Method} {c : Code} {G : gE} {A : Nat → Prop} {w0 : WH} (B : gB G RX1 cX1_step 6 (some .int) p s m args meth c) (hT : ∀ x ∈ c.exceptionTable.toList, False) (hl0 : l.stackTraces = false) {v2 : Int32} {v3 : Nat} {r : ((Sum (Int32) (Nat × Nat)) × WH)}   : ∀ (v4 : Int32) (v5 : Int32) (w : WH), fX1_step_l20 v2 v3 v4 v5 w = some r → ∀ (H : Heap) (locs : List Loc) (ls : Array Slot), RepH G A w H → Cu A s w0 w H locs → lv_has ls 6 [(2, .int v2), (3, .ref v3), (4, .int v4), (5, .int v5)] → W p l e (hRm 22 506 w0) s m args below meth c H locs (wC w0 - wC w) (wS w0 - wS w) (hZX below args s G A w0 (oI r.1) r.2) (F0 m 20 ls []) := by
  intro v4 v5 w h
  refine wh_walk (body := (fun q => fX1_step_b20 v2 v3 q.1 q.2.1 q.2.2)) (P := (fun q : (Int32 × Int32 × WH) => ∀ (H : Heap) (locs : List Loc) (ls : Array Slot), RepH G A (q.2.2) H → Cu A s w0 (q.2.2) H locs → lv_has ls 6 [(2, .int v2), (3, .ref v3), (4, .int (q.1)), (5, .int (q.2.1))] → W p l e (hRm 22 506 w0) s m args below meth c H locs (wC w0 - wC (q.2.2)) (wS w0 - wS (q.2.2)) (hZX below args s G A w0 (oI r.1) r.2) (F0 m 20 ls []))) (r := r) ?_ (v4, v5, w) h
  intro q y hy hL hr H locs ls hR hS hl
  exact bX1_step_20 (r := r) B hT hl0 hy (fun a0 a1 a2 e => hL (a0, a1, a2) e) (fun q e => hr q e) hR hS hl
noncomputable def fX1_step (v0 : Nat) (v1 : Int32) (v2 : Int32) (w : WH) : Option (((Sum (Int32) (Nat × Nat)) × WH)) :=
  (hIs w v0 17).bind fun _ =>
  b2_ (fX1_arcAt v0 v1 w) fun o3 w1 => ex_ o3 (fun x5 =>
    x5.bind fun a7 =>
    (hIs w1 v0 17).bind fun _ =>
    b2_ (fX1_steps v0 a7 w1) fun x12 w9 =>
    x12.bind fun a13 =>
    (hIs w9 a13 0).bind fun _ =>
    b2_ (fJ17_nextSetBit a13 0 w9) fun x18 w15 =>
    fX1_step_l20 v2 a13 x18 0 w15) (fun q6 =>
    some (.inr q6, w1))
theorem bX1_step_0 {p : Program} {l : Launch} {e : Env} {s : State} {m : MethodId} {args : Array Value} {below : List Frame} {meth : Method} {c : Code} {H : Heap} {locs : List Loc} {ls : Array Slot} {G : gE} {A : Nat → Prop} {w0 : WH} (B : gB G RX1 cX1_step 6 (some .int) p s m args meth c) (hT : ∀ x ∈ c.exceptionTable.toList, False) (hl0 : l.stackTraces = false) {v0 : Nat} {v1 : Int32} {v2 : Int32} {w : WH} {r : ((Sum (Int32) (Nat × Nat)) × WH)} (h : fX1_step v0 v1 v2 w = some r)   (hR : RepH G A w H) (hS : Cu A s w0 w H locs) (hl : lv_has ls 6 [(0, .ref v0), (1, .int v1), (2, .int v2)]) : W p l e (hRm 22 506 w0) s m args below meth c H locs (wC w0 - wC w) (wS w0 - wS w) (hZX below args s G A w0 (oI r.1) r.2) (F0 m 0 ls []) := by
  have B0 := B
  obtain ⟨hx, hb, hml, hown, hts, hr, hlk, hK⟩ := B0
  unfold fX1_step at h
  refine lv_aload_n hx hb dX1_step_0 rfl (lv_at hl 0 rfl) ?_
  refine lv_aload_n hx hb dX1_step_1 rfl (lv_at hl 0 rfl) ?_
  refine lv_iload_n hx hb dX1_step_2 rfl (lv_at hl 1 rfl) ?_
  replace h := bo_o h
  obtain ⟨_, e2, h⟩ := h
  replace h := b2_o h
  obtain ⟨o3, w1, e4, h⟩ := h
  refine h_callVX 1 (ci := 17) (As := [.int v1]) (rest := [.ref v0]) (o := oR o3) (w' := w1) hx hb hml hown hts hK hR hS (Nat.le_refl _) (Nat.le_refl _) rfl e2 (mX1_arcAt hl0 e4) (lw_V q1948 q1950 qs46 q112 q1951) (by decide +kernel) (Nat.le_of_ble_eq_true rfl) (Nat.le_of_ble_eq_true rfl) rfl hl.1 (Nat.le_of_ble_eq_true rfl) dX1_step_3 rfl (fun v9 hv9 H locs hR hS => ?_) (fun E9 q9 hq9 H locs hR hS hce => ?_)
  · cases o3 with
    | inr q => cases hv9
    | inl x5 =>
      cases hv9
      replace h := exl_o h
      refine W.eq (g2 := F0 m 6 ls [va_rf x5, .ref v0]) rfl ?_
      replace h := bo_o h
      obtain ⟨a7, e8, h⟩ := h
      subst e8
      replace h := bo_o h
      obtain ⟨_, e10, h⟩ := h
      replace h := b2_o h
      obtain ⟨x12, w9, e11, h⟩ := h
      refine h_callV 1 (ci := 17) (As := [.ref a7]) (rest := []) (v := (some (va_rf x12))) (w' := w9) (st1 := [va_rf x12]) hx hb hml hown hts hK hR hS (Nat.le_refl _) (Nat.le_refl _) rfl e10 (mX1_steps e11) (lw_V q2354 q2356 qs56 q112 q2357) (by decide +kernel) (Nat.le_of_ble_eq_true rfl) (Nat.le_of_ble_eq_true rfl) rfl hl.1 (Nat.le_of_ble_eq_true rfl) dX1_step_6 rfl rfl (fun H locs hR hS => ?_)
      refine lv_astore_nq (lv' := [(3, va_rf x12), (0, .ref v0), (1, .int v1), (2, .int v2)]) hx hb dX1_step_9 rfl hl (by decide) rfl (fun ls hl => ?_)
      refine lv_aload_nq hx hb dX1_step_10 rfl (lv_at hl 0 rfl) ?_
      refine lv_iconst (v := 0) hx hb dX1_step_11 (by decide) ?_
      replace h := bo_o h
      obtain ⟨a13, e14, h⟩ := h
      subst e14
      replace h := bo_o h
      obtain ⟨_, e16, h⟩ := h
      replace h := b2_o h
      obtain ⟨x18, w15, e17, h⟩ := h
      refine h_callV 1 (ci := 0) (As := [.int 0]) (rest := []) (v := (some (.int x18))) (w' := w15) (st1 := [.int x18]) hx hb hml hown hts hK hR hS (Nat.le_refl _) (Nat.le_refl _) rfl e16 (mJ17_nextSetBit e17) (lw_V q1712 q1713 q1714 q134 q1715) (by decide +kernel) (Nat.le_of_ble_eq_true rfl) (Nat.le_of_ble_eq_true rfl) rfl hl.1 (Nat.le_of_ble_eq_true rfl) dX1_step_12 rfl rfl (fun H locs hR hS => ?_)
      refine lv_istore (lv' := [(4, .int x18), (3, .ref a13), (0, .ref v0), (1, .int v1), (2, .int v2)]) hx hb dX1_step_15 hl (by decide) rfl (fun ls hl => ?_)
      refine lv_iconst (v := 0) hx hb dX1_step_17 (by decide) ?_
      refine lv_istore (lv' := [(5, .int 0), (4, .int x18), (3, .ref a13), (0, .ref v0), (1, .int v1), (2, .int v2)]) hx hb dX1_step_18 hl (by decide) rfl (fun ls hl => ?_)
      exact lX1_step_20 B hT hl0 _ _ _ h H locs ls hR hS (lv_sub hl [5, 2, 1, 0] rfl)
  · cases o3 with
    | inl q => cases hq9
    | inr q6 =>
      cases hq9
      replace h := exr_o h
      have eR := Option.some.inj h
      subst eR
      exact h_out hT hlk hR hS hce
theorem mX1_step {l : Launch} {G : gE} {A : Nat → Prop} {v0 : Nat} {v1 : Int32} {v2 : Int32} {w : WH} {r : ((Sum (Int32) (Nat × Nat)) × WH)} (hl0 : l.stackTraces = false) (h : fX1_step v0 v1 v2 w = some r) : hMX l G A yX1_step cX1_step 6 (some .int) 22 506 [.ref v0, .int v1, .int v2] w (oI r.1) r.2 :=
  h_ofX (by decide +kernel) (Nat.le_of_ble_eq_true rfl) (fun p e s m args below meth c ls B hnm hT hR hS hl => bX1_step_0 B hT hl0 h hR hS hl)
noncomputable def fX1_scaleTolls_b113 (v0 : Nat) (v1 : Int32) (v3 : Nat) (s0 : Int32) (s1 : Int32) (w : WH) : Option (Sum (Int32 × WH) (((Sum (Int32) (Nat × Nat)) × WH))) :=
  nm_ (s0 + s1) fun x1 =>
  some (.inl (x1, w))
theorem bX1_scaleTolls_113 {p : Program} {l : Launch} {e : Env} {s : State} {m : MethodId} {args : Array Value} {below : List Frame} {meth : Method} {c : Code} {H : Heap} {locs : List Loc} {ls : Array Slot} {G : gE} {A : Nat → Prop} {w0 : WH} (B : gB G RX1 cX1_scaleTolls 6 (some .int) p s m args meth c) (hT : ∀ x ∈ c.exceptionTable.toList, False) (hl0 : l.stackTraces = false) {v0 : Nat} {v1 : Int32} {v3 : Nat} {s0 : Int32} {s1 : Int32} {w : WH} {x : Sum (Int32 × WH) (((Sum (Int32) (Nat × Nat)) × WH))} {r : ((Sum (Int32) (Nat × Nat)) × WH)} (h : fX1_scaleTolls_b113 v0 v1 v3 s0 s1 w = some x)  (k34 : ∀ (v2' : Int32) (w' : WH), x = (.inl (v2', w')) → ∀ (H : Heap) (locs : List Loc) (ls : Array Slot), RepH G A w' H → Cu A s w0 w' H locs → lv_has ls 6 [(0, .ref v0), (1, .int v1), (2, .int v2'), (3, va_rf v3)] → W p l e (hRm 15 332 w0) s m args below meth c H locs (wC w0 - wC w') (wS w0 - wS w') (hZX below args s G A w0 (oI r.1) r.2) (F0 m 34 ls [])) (kR : ∀ q, x = (.inr q) → q = r) (hR : RepH G A w H) (hS : Cu A s w0 w H locs) (hl : lv_has ls 6 [(0, .ref v0), (1, .int v1), (3, .ref v3)]) : W p l e (hRm 15 332 w0) s m args below meth c H locs (wC w0 - wC w) (wS w0 - wS w) (hZX below args s G A w0 (oI r.1) r.2) (F0 m 113 ls [.int s1, .int s0]) := by
  have B0 := B
  obtain ⟨hx, hb, hml, hown, hts, hr, hlk, hK⟩ := B0
  unfold fX1_scaleTolls_b113 at h
  refine lv_iadd hx hb dX1_scaleTolls_113 ?_
  replace h := nm_o h
  obtain ⟨x1, e2, h⟩ := h
  refine lv_istore_n (lv' := [(2, .int x1), (0, .ref v0), (1, .int v1), (3, .ref v3)]) hx hb dX1_scaleTolls_114 rfl hl (by decide) (by subst e2; rfl) (fun ls hl => ?_)
  refine lv_goto (tgt := 34) hx hb dX1_scaleTolls_115 (by decide) ?_
  exact k34 _ _ (Option.some.inj h).symm H locs ls hR hS (lv_sub hl [1, 2, 0, 3] rfl)
noncomputable def fX1_scaleTolls_b93 (v0 : Nat) (v1 : Int32) (v2 : Int32) (v3 : Nat) (v4 : Nat) (v5 : Int32) (w : WH) : Option (Sum (Int32 × WH) (((Sum (Int32) (Nat × Nat)) × WH))) :=
  (gR w v0 17 0).bind fun x1 =>
  x1.bind fun a3 =>
  (hIs w a3 21).bind fun _ =>
  b2_ (fX2_toll a3 v4 w) fun x8 w5 =>
  if x8 = v5 then (
    fX1_scaleTolls_b113 v0 v1 v3 v2 0 w5
  ) else (
    fX1_scaleTolls_b113 v0 v1 v3 v2 1 w5
  )
theorem bX1_scaleTolls_93 {p : Program} {l : Launch} {e : Env} {s : State} {m : MethodId} {args : Array Value} {below : List Frame} {meth : Method} {c : Code} {H : Heap} {locs : List Loc} {ls : Array Slot} {G : gE} {A : Nat → Prop} {w0 : WH} (B : gB G RX1 cX1_scaleTolls 6 (some .int) p s m args meth c) (hT : ∀ x ∈ c.exceptionTable.toList, False) (hl0 : l.stackTraces = false) {v0 : Nat} {v1 : Int32} {v2 : Int32} {v3 : Nat} {v4 : Nat} {v5 : Int32} {w : WH} {x : Sum (Int32 × WH) (((Sum (Int32) (Nat × Nat)) × WH))} {r : ((Sum (Int32) (Nat × Nat)) × WH)} (h : fX1_scaleTolls_b93 v0 v1 v2 v3 v4 v5 w = some x)  (k34 : ∀ (v2' : Int32) (w' : WH), x = (.inl (v2', w')) → ∀ (H : Heap) (locs : List Loc) (ls : Array Slot), RepH G A w' H → Cu A s w0 w' H locs → lv_has ls 6 [(0, .ref v0), (1, .int v1), (2, .int v2'), (3, va_rf v3)] → W p l e (hRm 15 332 w0) s m args below meth c H locs (wC w0 - wC w') (wS w0 - wS w') (hZX below args s G A w0 (oI r.1) r.2) (F0 m 34 ls [])) (kR : ∀ q, x = (.inr q) → q = r) (hR : RepH G A w H) (hS : Cu A s w0 w H locs) (hl : lv_has ls 6 [(0, .ref v0), (1, .int v1), (2, .int v2), (3, .ref v3), (4, .ref v4), (5, .int v5)]) : W p l e (hRm 15 332 w0) s m args below meth c H locs (wC w0 - wC w) (wS w0 - wS w) (hZX below args s G A w0 (oI r.1) r.2) (F0 m 93 ls []) := by
  have B0 := B
  obtain ⟨hx, hb, hml, hown, hts, hr, hlk, hK⟩ := B0
  unfold fX1_scaleTolls_b93 at h
  refine lv_iload_n hx hb dX1_scaleTolls_93 rfl (lv_at hl 2 rfl) ?_
  refine lv_aload_n hx hb dX1_scaleTolls_94 rfl (lv_at hl 0 rfl) ?_
  replace h := bo_o h
  obtain ⟨x1, e2, h⟩ := h
  refine h_get (ci := 17) (k := 0) (v := va_rf x1) hx hb hts hown hK hR in_X1 rfl (by decide) (fun _ _ => rfl) q662 (fun _ h9 => h9) (gR_o e2) dX1_scaleTolls_95 ?_
  refine lv_aload hx hb dX1_scaleTolls_98 (lv_at hl 4 rfl) ?_
  replace h := bo_o h
  obtain ⟨a3, e4, h⟩ := h
  subst e4
  replace h := bo_o h
  obtain ⟨_, e6, h⟩ := h
  replace h := b2_o h
  obtain ⟨x8, w5, e7, h⟩ := h
  refine h_callV 1 (ci := 21) (As := [.ref v4]) (rest := [.int v2]) (v := (some (.int x8))) (w' := w5) (st1 := [.int x8, .int v2]) hx hb hml hown hts hK hR hS (Nat.le_refl _) (Nat.le_refl _) rfl e6 (mX2_toll e7) (lw_V q1892 q1332 q1333 q113 q1334) (by decide +kernel) (Nat.le_of_ble_eq_true rfl) (Nat.le_of_ble_eq_true rfl) rfl hl.1 (Nat.le_of_ble_eq_true rfl) dX1_scaleTolls_100 rfl rfl (fun H locs hR hS => ?_)
  refine lv_iload hx hb dX1_scaleTolls_103 (lv_at hl 5 rfl) ?_
  refine lv_icmp_eq (tgt := 112) hx hb dX1_scaleTolls_105 (by decide) (fun c9 => ?_) (fun c9 => ?_)
  · replace h := it_o c9 h
    refine lv_iconst (v := 0) hx hb dX1_scaleTolls_112 (by decide) ?_
    exact bX1_scaleTolls_113 B hT hl0 h k34 kR hR hS (lv_sub hl [0, 1, 3] rfl)
  · replace h := if_o c9 h
    refine lv_iconst (v := 1) hx hb dX1_scaleTolls_108 (by decide) ?_
    refine lv_goto (tgt := 113) hx hb dX1_scaleTolls_109 (by decide) ?_
    exact bX1_scaleTolls_113 B hT hl0 h k34 kR hR hS (lv_sub hl [0, 1, 3] rfl)
noncomputable def fX1_scaleTolls_b34 (v0 : Nat) (v1 : Int32) (v2 : Int32) (v3 : Option Nat) (w : WH) : Option (Sum (Int32 × WH) (((Sum (Int32) (Nat × Nat)) × WH))) :=
  v3.bind fun a1 =>
  (hIs w a1 4).bind fun _ =>
  b2_ (fJ21_hasNext a1 w) fun x6 w3 =>
  if x6 = 0 then (
    some (.inr (.inl v2, w3))
  ) else (
    (hIs w3 a1 4).bind fun _ =>
    b2_ (fJ21_next a1 w3) fun x11 w8 =>
    x11.bind fun a12 =>
    (hIs w8 a12 27).bind fun _ =>
    (gR w8 v0 17 0).bind fun x15 =>
    x15.bind fun a17 =>
    (hIs w8 a17 21).bind fun _ =>
    b2_ (fX2_toll a17 a12 w8) fun x22 w19 =>
    (gR w19 v0 17 0).bind fun x23 =>
    x23.bind fun a25 =>
    (gR w19 a25 21 1).bind fun x27 =>
    (hIs w19 a12 27).bind fun _ =>
    b2_ (fX8_number a12 w19) fun x32 w29 =>
    (hIs w29 a12 27).bind fun _ =>
    b2_ (fX8_most a12 w29) fun x36 w33 =>
    nm_ (mnI x36 ((x22 * v1) / 100)) fun x37 =>
    x27.bind fun a39 =>
    (stI w33 a39 0 x32 x37).bind fun w41 =>
    fX1_scaleTolls_b93 v0 v1 v2 a1 a12 x22 w41
  )
theorem bX1_scaleTolls_34 {p : Program} {l : Launch} {e : Env} {s : State} {m : MethodId} {args : Array Value} {below : List Frame} {meth : Method} {c : Code} {H : Heap} {locs : List Loc} {ls : Array Slot} {G : gE} {A : Nat → Prop} {w0 : WH} (B : gB G RX1 cX1_scaleTolls 6 (some .int) p s m args meth c) (hT : ∀ x ∈ c.exceptionTable.toList, False) (hl0 : l.stackTraces = false) {v0 : Nat} {v1 : Int32} {v2 : Int32} {v3 : Option Nat} {w : WH} {x : Sum (Int32 × WH) (((Sum (Int32) (Nat × Nat)) × WH))} {r : ((Sum (Int32) (Nat × Nat)) × WH)} (h : fX1_scaleTolls_b34 v0 v1 v2 v3 w = some x)  (k34 : ∀ (v2' : Int32) (w' : WH), x = (.inl (v2', w')) → ∀ (H : Heap) (locs : List Loc) (ls : Array Slot), RepH G A w' H → Cu A s w0 w' H locs → lv_has ls 6 [(0, .ref v0), (1, .int v1), (2, .int v2'), (3, va_rf v3)] → W p l e (hRm 15 332 w0) s m args below meth c H locs (wC w0 - wC w') (wS w0 - wS w') (hZX below args s G A w0 (oI r.1) r.2) (F0 m 34 ls [])) (kR : ∀ q, x = (.inr q) → q = r) (hR : RepH G A w H) (hS : Cu A s w0 w H locs) (hl : lv_has ls 6 [(0, .ref v0), (1, .int v1), (2, .int v2), (3, va_rf v3)]) : W p l e (hRm 15 332 w0) s m args below meth c H locs (wC w0 - wC w) (wS w0 - wS w) (hZX below args s G A w0 (oI r.1) r.2) (F0 m 34 ls []) := by
  have B0 := B
  obtain ⟨hx, hb, hml, hown, hts, hr, hlk, hK⟩ := B0
  unfold fX1_scaleTolls_b34 at h
  refine lv_aload_nq hx hb dX1_scaleTolls_34 rfl (lv_at hl 3 rfl) ?_
  replace h := bo_o h
  obtain ⟨a1, e2, h⟩ := h
  subst e2
  replace h := bo_o h
  obtain ⟨_, e4, h⟩ := h
  replace h := b2_o h
  obtain ⟨x6, w3, e5, h⟩ := h
  refine h_callF 0  (As := []) (rest := []) (v := (some (.int x6))) (w' := w3) (st1 := [.int x6]) hx hb hml hown hts hK hR hS (Nat.le_refl _) (Nat.le_refl _) (h_recv (ci := 4) hK hR hS rfl e4) (mJ21_hasNext e5) (lw_app (a := [.methodLink _ _ _, .selects _ _ _, .instanceMethod _, .initialized _]) (lw_4 q1540 q1569 q1571 q144) (lw_meth q1573)) (hK.fw 4 rfl) (by decide +kernel) (Nat.le_of_ble_eq_true rfl) (Nat.le_of_ble_eq_true rfl) rfl hl.1 (Nat.le_of_ble_eq_true rfl) dX1_scaleTolls_35 rfl rfl (fun H locs hR hS => ?_)
  refine lv_if_eq (tgt := 118) hx hb dX1_scaleTolls_40 (by decide) (fun c7 => ?_) (fun c7 => ?_)
  · replace h := it_o c7 h
    refine lv_iload_n hx hb dX1_scaleTolls_118 rfl (lv_at hl 2 rfl) ?_
    have eR := kR _ (Option.some.inj h).symm
    subst eR
    exact h_ifinX hx hb hr hlk hR hS dX1_scaleTolls_119
  · replace h := if_o c7 h
    refine lv_aload_n hx hb dX1_scaleTolls_43 rfl (lv_at hl 3 rfl) ?_
    replace h := bo_o h
    obtain ⟨_, e9, h⟩ := h
    replace h := b2_o h
    obtain ⟨x11, w8, e10, h⟩ := h
    refine h_callF 0  (As := []) (rest := []) (v := (some (va_rf x11))) (w' := w8) (st1 := [va_rf x11]) hx hb hml hown hts hK hR hS (Nat.le_refl _) (Nat.le_refl _) (h_recv (ci := 4) hK hR hS rfl e9) (mJ21_next e10) (lw_app (a := [.methodLink _ _ _, .selects _ _ _, .instanceMethod _, .initialized _]) (lw_4 q1584 q1681 q1683 q144) (lw_meth q1685)) (hK.fw 5 rfl) (by decide +kernel) (Nat.le_of_ble_eq_true rfl) (Nat.le_of_ble_eq_true rfl) rfl hl.1 (Nat.le_of_ble_eq_true rfl) dX1_scaleTolls_44 rfl rfl (fun H locs hR hS => ?_)
    replace h := bo_o h
    obtain ⟨a12, e13, h⟩ := h
    subst e13
    replace h := bo_o h
    obtain ⟨_, e14, h⟩ := h
    refine h_castS (ci := 27) hx hb hts hown hK hR hS rfl e14 q1768 dX1_scaleTolls_49 ?_
    refine lv_astore (lv' := [(4, .ref a12), (0, .ref v0), (1, .int v1), (2, .int v2), (3, .ref a1)]) hx hb dX1_scaleTolls_52 hl (by decide) rfl (fun ls hl => ?_)
    refine lv_aload_n hx hb dX1_scaleTolls_54 rfl (lv_at hl 1 rfl) ?_
    replace h := bo_o h
    obtain ⟨x15, e16, h⟩ := h
    refine h_get (ci := 17) (k := 0) (v := va_rf x15) hx hb hts hown hK hR in_X1 rfl (by decide) (fun _ _ => rfl) q662 (fun _ h9 => h9) (gR_o e16) dX1_scaleTolls_55 ?_
    refine lv_aload hx hb dX1_scaleTolls_58 (lv_at hl 0 rfl) ?_
    replace h := bo_o h
    obtain ⟨a17, e18, h⟩ := h
    subst e18
    replace h := bo_o h
    obtain ⟨_, e20, h⟩ := h
    replace h := b2_o h
    obtain ⟨x22, w19, e21, h⟩ := h
    refine h_callV 1 (ci := 21) (As := [.ref a12]) (rest := []) (v := (some (.int x22))) (w' := w19) (st1 := [.int x22]) hx hb hml hown hts hK hR hS (Nat.le_refl _) (Nat.le_refl _) rfl e20 (mX2_toll e21) (lw_V q1892 q1332 q1333 q113 q1334) (by decide +kernel) (Nat.le_of_ble_eq_true rfl) (Nat.le_of_ble_eq_true rfl) rfl hl.1 (Nat.le_of_ble_eq_true rfl) dX1_scaleTolls_60 rfl rfl (fun H locs hR hS => ?_)
    refine lv_istore (lv' := [(5, .int x22), (4, .ref a12), (0, .ref v0), (1, .int v1), (2, .int v2), (3, .ref a1)]) hx hb dX1_scaleTolls_63 hl (by decide) rfl (fun ls hl => ?_)
    refine lv_aload_n hx hb dX1_scaleTolls_65 rfl (lv_at hl 2 rfl) ?_
    replace h := bo_o h
    obtain ⟨x23, e24, h⟩ := h
    refine h_get (ci := 17) (k := 0) (v := va_rf x23) hx hb hts hown hK hR in_X1 rfl (by decide) (fun _ _ => rfl) q662 (fun _ h9 => h9) (gR_o e24) dX1_scaleTolls_66 ?_
    replace h := bo_o h
    obtain ⟨a25, e26, h⟩ := h
    subst e26
    replace h := bo_o h
    obtain ⟨x27, e28, h⟩ := h
    refine h_getN (ci := 21) (k := 1) (v := va_rf x27) hx hb hts hown hK hR in_X2 rfl (by decide) (fun _ _ => rfl) (hK.fn 18 rfl) (fun _ h9 => h9) (gR_o e28) dX1_scaleTolls_69 ?_
    refine lv_aload hx hb dX1_scaleTolls_72 (lv_at hl 1 rfl) ?_
    replace h := bo_o h
    obtain ⟨_, e30, h⟩ := h
    replace h := b2_o h
    obtain ⟨x32, w29, e31, h⟩ := h
    refine h_callV 0 (ci := 27) (As := []) (rest := [va_rf x27]) (v := (some (.int x32))) (w' := w29) (st1 := [.int x32, va_rf x27]) hx hb hml hown hts hK hR hS (Nat.le_refl _) (Nat.le_refl _) rfl e30 (mX8_number e31) (lw_V q1791 q1305 q1306 q141 q1307) (by decide +kernel) (Nat.le_of_ble_eq_true rfl) (Nat.le_of_ble_eq_true rfl) rfl hl.1 (cat_le (Nat.le_of_ble_eq_true rfl)) dX1_scaleTolls_74 rfl rfl (fun H locs hR hS => ?_)
    refine lv_aload hx hb dX1_scaleTolls_77 (lv_at hl 1 rfl) ?_
    replace h := bo_o h
    obtain ⟨_, e34, h⟩ := h
    replace h := b2_o h
    obtain ⟨x36, w33, e35, h⟩ := h
    refine h_callV 0 (ci := 27) (As := []) (rest := [.int x32, va_rf x27]) (v := (some (.int x36))) (w' := w33) (st1 := [.int x36, .int x32, va_rf x27]) hx hb hml hown hts hK hR hS (Nat.le_refl _) (Nat.le_refl _) rfl e34 (mX8_most e35) (lw_V q1769 q1356 q1357 q141 q1358) (by decide +kernel) (Nat.le_of_ble_eq_true rfl) (Nat.le_of_ble_eq_true rfl) rfl hl.1 (cat_le (Nat.le_of_ble_eq_true rfl)) dX1_scaleTolls_79 rfl rfl (fun H locs hR hS => ?_)
    refine lv_iload hx hb dX1_scaleTolls_82 (lv_at hl 0 rfl) ?_
    refine lv_iload_n hx hb dX1_scaleTolls_84 rfl (lv_at hl 3 rfl) ?_
    refine lv_imul hx hb dX1_scaleTolls_85 ?_
    refine lv_bipush (v := 100) hx hb dX1_scaleTolls_86 (by decide) ?_
    refine lv_idiv hx hb dX1_scaleTolls_88 (by decide) ?_
    replace h := nm_o h
    obtain ⟨x37, e38, h⟩ := h
    refine va_mmin hx hb (hml.trans hl.1.symm) hown (hts _ q2005) (hts _ q313) (hts _ q127) (hts _ q314) (Nat.le_of_ble_eq_true rfl) (by simp only [List.map, rf_cat]; exact Nat.le_of_ble_eq_true rfl) (Nat.sub_le _ _) (Nat.sub_le _ _) dX1_scaleTolls_89 ?_
    refine W.eq (g2 := F0 m 92 ls [.int x37, .int x32, va_rf x27]) (by rw [e38]; rfl) ?_
    replace h := bo_o h
    obtain ⟨a39, e40, h⟩ := h
    subst e40
    replace h := bo_o h
    obtain ⟨w41, e42, h⟩ := h
    refine h_iast hx hb hK hR hS e42 dX1_scaleTolls_92 (fun H locs hR hS => ?_)
    exact bX1_scaleTolls_93 B hT hl0 h k34 kR hR hS (lv_sub hl [2, 3, 4, 5, 1, 0] rfl)
noncomputable def fX1_scaleTolls_l34 (v0 : Nat) (v1 : Int32) (v2 : Int32) (v3 : Option Nat) (w : WH) : Option (((Sum (Int32) (Nat × Nat)) × WH)) := whileO (fun q => fX1_scaleTolls_b34 v0 v1 q.1 v3 q.2) (v2, w)
theorem lX1_scaleTolls_34 {p : Program} {l : Launch} {e : Env} {s : State} {m : MethodId} {args : Array Value} {below : List Frame} {meth : Method} {c : Code} {G : gE} {A : Nat → Prop} {w0 : WH} (B : gB G RX1 cX1_scaleTolls 6 (some .int) p s m args meth c) (hT : ∀ x ∈ c.exceptionTable.toList, False) (hl0 : l.stackTraces = false) {v0 : Nat} {v1 : Int32} {v3 : Option Nat} {r : ((Sum (Int32) (Nat × Nat)) × WH)}   : ∀ (v2 : Int32) (w : WH), fX1_scaleTolls_l34 v0 v1 v2 v3 w = some r → ∀ (H : Heap) (locs : List Loc) (ls : Array Slot), RepH G A w H → Cu A s w0 w H locs → lv_has ls 6 [(0, .ref v0), (1, .int v1), (2, .int v2), (3, va_rf v3)] → W p l e (hRm 15 332 w0) s m args below meth c H locs (wC w0 - wC w) (wS w0 - wS w) (hZX below args s G A w0 (oI r.1) r.2) (F0 m 34 ls []) := by
  intro v2 w h
  refine wh_walk (body := (fun q => fX1_scaleTolls_b34 v0 v1 q.1 v3 q.2)) (P := (fun q : (Int32 × WH) => ∀ (H : Heap) (locs : List Loc) (ls : Array Slot), RepH G A (q.2) H → Cu A s w0 (q.2) H locs → lv_has ls 6 [(0, .ref v0), (1, .int v1), (2, .int (q.1)), (3, va_rf v3)] → W p l e (hRm 15 332 w0) s m args below meth c H locs (wC w0 - wC (q.2)) (wS w0 - wS (q.2)) (hZX below args s G A w0 (oI r.1) r.2) (F0 m 34 ls []))) (r := r) ?_ (v2, w) h
  intro q y hy hL hr H locs ls hR hS hl
  exact bX1_scaleTolls_34 (r := r) B hT hl0 hy (fun a0 a1 e => hL (a0, a1) e) (fun q e => hr q e) hR hS hl
noncomputable def fX1_scaleTolls (v0 : Nat) (v1 : Int32) (w : WH) : Option (((Sum (Int32) (Nat × Nat)) × WH)) :=
  b2_ (fX1_inRange (v1.toInt64) 0 1000 w) fun x3 w1 =>
  b2_ (fX1_requireArgument x3 w1) fun o5 w4 => ex_ o5 (fun _ =>
    (hIs w4 v0 17).bind fun _ =>
    (fX1_act v0 w4).bind fun w9 =>
    (gR w9 v0 17 0).bind fun x12 =>
    x12.bind fun a14 =>
    (gR w9 a14 21 0).bind fun x16 =>
    x16.bind fun a18 =>
    (gR w9 a18 22 1).bind fun x20 =>
    x20.bind fun a22 =>
    (hIs w9 a22 2).bind fun _ =>
    b2_ (fJ2_iterator a22 w9) fun x27 w24 =>
    fX1_scaleTolls_l34 v0 v1 0 x27 w24) (fun q8 =>
    some (.inr q8, w4))
theorem bX1_scaleTolls_0 {p : Program} {l : Launch} {e : Env} {s : State} {m : MethodId} {args : Array Value} {below : List Frame} {meth : Method} {c : Code} {H : Heap} {locs : List Loc} {ls : Array Slot} {G : gE} {A : Nat → Prop} {w0 : WH} (B : gB G RX1 cX1_scaleTolls 6 (some .int) p s m args meth c) (hT : ∀ x ∈ c.exceptionTable.toList, False) (hl0 : l.stackTraces = false) {v0 : Nat} {v1 : Int32} {w : WH} {r : ((Sum (Int32) (Nat × Nat)) × WH)} (h : fX1_scaleTolls v0 v1 w = some r)   (hR : RepH G A w H) (hS : Cu A s w0 w H locs) (hl : lv_has ls 6 [(0, .ref v0), (1, .int v1)]) : W p l e (hRm 15 332 w0) s m args below meth c H locs (wC w0 - wC w) (wS w0 - wS w) (hZX below args s G A w0 (oI r.1) r.2) (F0 m 0 ls []) := by
  have B0 := B
  obtain ⟨hx, hb, hml, hown, hts, hr, hlk, hK⟩ := B0
  unfold fX1_scaleTolls at h
  refine lv_iload_n hx hb dX1_scaleTolls_0 rfl (lv_at hl 1 rfl) ?_
  refine lv_i2l hx hb dX1_scaleTolls_1 rfl ?_
  refine lv_lconst (v := 0) hx hb dX1_scaleTolls_2 (by decide) ?_
  refine lv_ldc2 (v := 1000) hx hb hown (hts _ q2375) dX1_scaleTolls_3 ?_
  replace h := b2_o h
  obtain ⟨x3, w1, e2, h⟩ := h
  refine h_callS 3  (As := [.long (v1.toInt64), .long 0, .long 1000]) (rest := []) (v := (some (.int x3))) (w' := w1) (st1 := [.int x3]) hx hb hml hown hts hK hR hS (Nat.le_refl _) (Nat.le_refl _) (mX1_inRange e2) (lw_S q1900 q743 q112 q744) (by decide +kernel) (Nat.le_of_ble_eq_true rfl) (Nat.le_of_ble_eq_true rfl) rfl hl.1 (Nat.le_of_ble_eq_true rfl) dX1_scaleTolls_6 rfl rfl (fun H locs hR hS => ?_)
  replace h := b2_o h
  obtain ⟨o5, w4, e6, h⟩ := h
  refine h_callSX 1 (As := [.int x3]) (rest := []) (o := oV o5) (w' := w4)  hx hb hml hown hts hK hR hS (Nat.le_refl _) (Nat.le_refl _) (mX1_requireArgument hl0 e6) (lw_S q1993 q1994 q112 q1995) (by decide +kernel) (Nat.le_of_ble_eq_true rfl) (Nat.le_of_ble_eq_true rfl) rfl hl.1 (Nat.le_of_ble_eq_true rfl) dX1_scaleTolls_9 rfl (fun v9 hv9 H locs hR hS => ?_) (fun E9 q9 hq9 H locs hR hS hce => ?_)
  · cases o5 with
    | inr q => cases hv9
    | inl x7 =>
      cases hv9
      replace h := exl_o h
      refine W.eq (g2 := F0 m 12 ls []) rfl ?_
      refine lv_aload_n hx hb dX1_scaleTolls_12 rfl (lv_at hl 0 rfl) ?_
      replace h := bo_o h
      obtain ⟨_, e10, h⟩ := h
      replace h := bo_o h
      obtain ⟨w9, e11, h⟩ := h
      refine h_callV 0 (ci := 17) (As := []) (rest := []) (v := none) (w' := w9) (st1 := []) hx hb hml hown hts hK hR hS (Nat.le_refl _) (Nat.le_refl _) rfl e10 (mX1_act e11) (lw_V q1089 q1091 qs16 q112 q1092) (by decide +kernel) (Nat.le_of_ble_eq_true rfl) (Nat.le_of_ble_eq_true rfl) rfl hl.1 (Nat.le_of_ble_eq_true rfl) dX1_scaleTolls_13 rfl rfl (fun H locs hR hS => ?_)
      refine lv_iconst (v := 0) hx hb dX1_scaleTolls_16 (by decide) ?_
      refine lv_istore_n (lv' := [(2, .int 0), (0, .ref v0), (1, .int v1)]) hx hb dX1_scaleTolls_17 rfl hl (by decide) rfl (fun ls hl => ?_)
      refine lv_aload_n hx hb dX1_scaleTolls_18 rfl (lv_at hl 1 rfl) ?_
      replace h := bo_o h
      obtain ⟨x12, e13, h⟩ := h
      refine h_get (ci := 17) (k := 0) (v := va_rf x12) hx hb hts hown hK hR in_X1 rfl (by decide) (fun _ _ => rfl) q662 (fun _ h9 => h9) (gR_o e13) dX1_scaleTolls_19 ?_
      replace h := bo_o h
      obtain ⟨a14, e15, h⟩ := h
      subst e15
      replace h := bo_o h
      obtain ⟨x16, e17, h⟩ := h
      refine h_getN (ci := 21) (k := 0) (v := va_rf x16) hx hb hts hown hK hR in_X2 rfl (by decide) (fun _ _ => rfl) (hK.fn 15 rfl) (fun _ h9 => h9) (gR_o e17) dX1_scaleTolls_22 ?_
      replace h := bo_o h
      obtain ⟨a18, e19, h⟩ := h
      subst e19
      replace h := bo_o h
      obtain ⟨x20, e21, h⟩ := h
      refine h_getN (ci := 22) (k := 1) (v := va_rf x20) hx hb hts hown hK hR in_X3 rfl (by decide) (fun _ _ => rfl) (hK.fn 6 rfl) (fun _ h9 => h9) (gR_o e21) dX1_scaleTolls_25 ?_
      replace h := bo_o h
      obtain ⟨a22, e23, h⟩ := h
      subst e23
      replace h := bo_o h
      obtain ⟨_, e25, h⟩ := h
      replace h := b2_o h
      obtain ⟨x27, w24, e26, h⟩ := h
      refine h_callF 0  (As := []) (rest := []) (v := (some (va_rf x27))) (w' := w24) (st1 := [va_rf x27]) hx hb hml hown hts hK hR hS (Nat.le_refl _) (Nat.le_refl _) (h_recv (ci := 2) hK hR hS rfl e25) (mJ2_iterator e26) (lw_app (a := [.methodLink _ _ _, .selects _ _ _, .instanceMethod _, .initialized _]) (lw_4 q1432 q1435 q1437 q117) (lw_meth q1439)) (hK.fw 3 rfl) (by decide +kernel) (Nat.le_of_ble_eq_true rfl) (Nat.le_of_ble_eq_true rfl) rfl hl.1 (Nat.le_of_ble_eq_true rfl) dX1_scaleTolls_28 rfl rfl (fun H locs hR hS => ?_)
      refine lv_astore_nq (lv' := [(3, va_rf x27), (2, .int 0), (0, .ref v0), (1, .int v1)]) hx hb dX1_scaleTolls_33 rfl hl (by decide) rfl (fun ls hl => ?_)
      exact lX1_scaleTolls_34 B hT hl0 _ _ h H locs ls hR hS (lv_sub hl [2, 3, 1, 0] rfl)
  · cases o5 with
    | inl q => cases hq9
    | inr q8 =>
      cases hq9
      replace h := exr_o h
      have eR := Option.some.inj h
      subst eR
      exact h_out hT hlk hR hS hce
theorem mX1_scaleTolls {l : Launch} {G : gE} {A : Nat → Prop} {v0 : Nat} {v1 : Int32} {w : WH} {r : ((Sum (Int32) (Nat × Nat)) × WH)} (hl0 : l.stackTraces = false) (h : fX1_scaleTolls v0 v1 w = some r) : hMX l G A yX1_scaleTolls cX1_scaleTolls 6 (some .int) 15 332 [.ref v0, .int v1] w (oI r.1) r.2 :=
  h_ofX (by decide +kernel) (Nat.le_of_ble_eq_true rfl) (fun p e s m args below meth c ls B hnm hT hR hS hl => bX1_scaleTolls_0 B hT hl0 h hR hS hl)
noncomputable def fX1_swapTolls_b98  (w : WH) : Option (((Sum (Int32) (Nat × Nat)) × WH)) :=
  some (.inl 0, w)
theorem bX1_swapTolls_98 {p : Program} {l : Launch} {e : Env} {s : State} {m : MethodId} {args : Array Value} {below : List Frame} {meth : Method} {c : Code} {H : Heap} {locs : List Loc} {ls : Array Slot} {G : gE} {A : Nat → Prop} {w0 : WH} (B : gB G RX1 cX1_swapTolls 5 (some .boolean) p s m args meth c) (hT : ∀ x ∈ c.exceptionTable.toList, False) (hl0 : l.stackTraces = false)  {w : WH} {r : ((Sum (Int32) (Nat × Nat)) × WH)} (h : fX1_swapTolls_b98 w = some r)   (hR : RepH G A w H) (hS : Cu A s w0 w H locs) (hl : lv_has ls 5 []) : W p l e (hRm 15 332 w0) s m args below meth c H locs (wC w0 - wC w) (wS w0 - wS w) (hZX below args s G A w0 (oI r.1) r.2) (F0 m 98 ls []) := by
  have B0 := B
  obtain ⟨hx, hb, hml, hown, hts, hr, hlk, hK⟩ := B0
  unfold fX1_swapTolls_b98 at h
  refine lv_iconst (v := 0) hx hb dX1_swapTolls_98 (by decide) ?_
  have eR := Option.some.inj h
  subst eR
  exact h_zfinX hx hb hr hlk (by show narrow .boolean (.int 0) = .int 0; decide) hR hS dX1_swapTolls_99
noncomputable def fX1_swapTolls_b125  (w : WH) : Option (((Sum (Int32) (Nat × Nat)) × WH)) :=
  some (.inl 1, w)
theorem bX1_swapTolls_125 {p : Program} {l : Launch} {e : Env} {s : State} {m : MethodId} {args : Array Value} {below : List Frame} {meth : Method} {c : Code} {H : Heap} {locs : List Loc} {ls : Array Slot} {G : gE} {A : Nat → Prop} {w0 : WH} (B : gB G RX1 cX1_swapTolls 5 (some .boolean) p s m args meth c) (hT : ∀ x ∈ c.exceptionTable.toList, False) (hl0 : l.stackTraces = false)  {w : WH} {r : ((Sum (Int32) (Nat × Nat)) × WH)} (h : fX1_swapTolls_b125 w = some r)   (hR : RepH G A w H) (hS : Cu A s w0 w H locs) (hl : lv_has ls 5 []) : W p l e (hRm 15 332 w0) s m args below meth c H locs (wC w0 - wC w) (wS w0 - wS w) (hZX below args s G A w0 (oI r.1) r.2) (F0 m 125 ls []) := by
  have B0 := B
  obtain ⟨hx, hb, hml, hown, hts, hr, hlk, hK⟩ := B0
  unfold fX1_swapTolls_b125 at h
  refine lv_iconst (v := 1) hx hb dX1_swapTolls_125 (by decide) ?_
  have eR := Option.some.inj h
  subst eR
  exact h_zfinX hx hb hr hlk (by show narrow .boolean (.int 1) = .int 1; decide) hR hS dX1_swapTolls_126
noncomputable def fX1_swapTolls_b72 (v0 : Nat) (v1 : Int32) (v2 : Int32) (v3 : Int32) (v4 : Int32) (w : WH) : Option (((Sum (Int32) (Nat × Nat)) × WH)) :=
  (gR w v0 17 0).bind fun x1 =>
  x1.bind fun a3 =>
  (gR w a3 21 0).bind fun x5 =>
  x5.bind fun a7 =>
  (gR w a7 22 1).bind fun x9 =>
  x9.bind fun a11 =>
  (hIs w a11 2).bind fun _ =>
  b2_ (fJ2_get a11 v2 w) fun x16 w13 =>
  x16.bind fun a17 =>
  (hIs w13 a17 27).bind fun _ =>
  (hIs w13 a17 27).bind fun _ =>
  b2_ (fX8_most a17 w13) fun x23 w20 =>
  if v3 ≤ x23 then (
    (hIs w20 v0 17).bind fun _ =>
    (fX1_act v0 w20).bind fun w25 =>
    (gR w25 v0 17 0).bind fun x28 =>
    x28.bind fun a30 =>
    (gR w25 a30 21 1).bind fun x32 =>
    x32.bind fun a34 =>
    (stI w25 a34 0 v1 v4).bind fun w36 =>
    (gR w36 v0 17 0).bind fun x38 =>
    x38.bind fun a40 =>
    (gR w36 a40 21 1).bind fun x42 =>
    x42.bind fun a44 =>
    (stI w36 a44 0 v2 v3).bind fun w46 =>
    fX1_swapTolls_b125 w46
  ) else (
    fX1_swapTolls_b98 w20
  )
theorem bX1_swapTolls_72 {p : Program} {l : Launch} {e : Env} {s : State} {m : MethodId} {args : Array Value} {below : List Frame} {meth : Method} {c : Code} {H : Heap} {locs : List Loc} {ls : Array Slot} {G : gE} {A : Nat → Prop} {w0 : WH} (B : gB G RX1 cX1_swapTolls 5 (some .boolean) p s m args meth c) (hT : ∀ x ∈ c.exceptionTable.toList, False) (hl0 : l.stackTraces = false) {v0 : Nat} {v1 : Int32} {v2 : Int32} {v3 : Int32} {v4 : Int32} {w : WH} {r : ((Sum (Int32) (Nat × Nat)) × WH)} (h : fX1_swapTolls_b72 v0 v1 v2 v3 v4 w = some r)   (hR : RepH G A w H) (hS : Cu A s w0 w H locs) (hl : lv_has ls 5 [(0, .ref v0), (1, .int v1), (2, .int v2), (3, .int v3), (4, .int v4)]) : W p l e (hRm 15 332 w0) s m args below meth c H locs (wC w0 - wC w) (wS w0 - wS w) (hZX below args s G A w0 (oI r.1) r.2) (F0 m 72 ls []) := by
  have B0 := B
  obtain ⟨hx, hb, hml, hown, hts, hr, hlk, hK⟩ := B0
  unfold fX1_swapTolls_b72 at h
  refine lv_iload_n hx hb dX1_swapTolls_72 rfl (lv_at hl 3 rfl) ?_
  refine lv_aload_n hx hb dX1_swapTolls_73 rfl (lv_at hl 0 rfl) ?_
  replace h := bo_o h
  obtain ⟨x1, e2, h⟩ := h
  refine h_get (ci := 17) (k := 0) (v := va_rf x1) hx hb hts hown hK hR in_X1 rfl (by decide) (fun _ _ => rfl) q662 (fun _ h9 => h9) (gR_o e2) dX1_swapTolls_74 ?_
  replace h := bo_o h
  obtain ⟨a3, e4, h⟩ := h
  subst e4
  replace h := bo_o h
  obtain ⟨x5, e6, h⟩ := h
  refine h_getN (ci := 21) (k := 0) (v := va_rf x5) hx hb hts hown hK hR in_X2 rfl (by decide) (fun _ _ => rfl) (hK.fn 15 rfl) (fun _ h9 => h9) (gR_o e6) dX1_swapTolls_77 ?_
  replace h := bo_o h
  obtain ⟨a7, e8, h⟩ := h
  subst e8
  replace h := bo_o h
  obtain ⟨x9, e10, h⟩ := h
  refine h_getN (ci := 22) (k := 1) (v := va_rf x9) hx hb hts hown hK hR in_X3 rfl (by decide) (fun _ _ => rfl) (hK.fn 6 rfl) (fun _ h9 => h9) (gR_o e10) dX1_swapTolls_80 ?_
  refine lv_iload_n hx hb dX1_swapTolls_83 rfl (lv_at hl 2 rfl) ?_
  replace h := bo_o h
  obtain ⟨a11, e12, h⟩ := h
  subst e12
  replace h := bo_o h
  obtain ⟨_, e14, h⟩ := h
  replace h := b2_o h
  obtain ⟨x16, w13, e15, h⟩ := h
  refine h_callF 1  (As := [.int v2]) (rest := [.int v3]) (v := (some (va_rf x16))) (w' := w13) (st1 := [va_rf x16, .int v3]) hx hb hml hown hts hK hR hS (Nat.le_refl _) (Nat.le_refl _) (h_recv (ci := 2) hK hR hS rfl e14) (mJ2_get e15) (lw_app (a := [.methodLink _ _ _, .selects _ _ _, .instanceMethod _, .initialized _]) (lw_4 q1205 q1208 q1210 q117) (lw_meth q1212)) (hK.fw 1 rfl) (by decide +kernel) (Nat.le_of_ble_eq_true rfl) (Nat.le_of_ble_eq_true rfl) rfl hl.1 (Nat.le_of_ble_eq_true rfl) dX1_swapTolls_84 rfl rfl (fun H locs hR hS => ?_)
  replace h := bo_o h
  obtain ⟨a17, e18, h⟩ := h
  subst e18
  replace h := bo_o h
  obtain ⟨_, e19, h⟩ := h
  refine h_castS (ci := 27) hx hb hts hown hK hR hS rfl e19 q1768 dX1_swapTolls_89 ?_
  replace h := bo_o h
  obtain ⟨_, e21, h⟩ := h
  replace h := b2_o h
  obtain ⟨x23, w20, e22, h⟩ := h
  refine h_callV 0 (ci := 27) (As := []) (rest := [.int v3]) (v := (some (.int x23))) (w' := w20) (st1 := [.int x23, .int v3]) hx hb hml hown hts hK hR hS (Nat.le_refl _) (Nat.le_refl _) rfl e21 (mX8_most e22) (lw_V q1769 q1356 q1357 q141 q1358) (by decide +kernel) (Nat.le_of_ble_eq_true rfl) (Nat.le_of_ble_eq_true rfl) rfl hl.1 (Nat.le_of_ble_eq_true rfl) dX1_swapTolls_92 rfl rfl (fun H locs hR hS => ?_)
  refine lv_icmp_le (tgt := 100) hx hb dX1_swapTolls_95 (by decide) (fun c24 => ?_) (fun c24 => ?_)
  · replace h := it_o c24 h
    refine lv_aload_n hx hb dX1_swapTolls_100 rfl (lv_at hl 0 rfl) ?_
    replace h := bo_o h
    obtain ⟨_, e26, h⟩ := h
    replace h := bo_o h
    obtain ⟨w25, e27, h⟩ := h
    refine h_callV 0 (ci := 17) (As := []) (rest := []) (v := none) (w' := w25) (st1 := []) hx hb hml hown hts hK hR hS (Nat.le_refl _) (Nat.le_refl _) rfl e26 (mX1_act e27) (lw_V q1089 q1091 qs16 q112 q1092) (by decide +kernel) (Nat.le_of_ble_eq_true rfl) (Nat.le_of_ble_eq_true rfl) rfl hl.1 (Nat.le_of_ble_eq_true rfl) dX1_swapTolls_101 rfl rfl (fun H locs hR hS => ?_)
    refine lv_aload_n hx hb dX1_swapTolls_104 rfl (lv_at hl 0 rfl) ?_
    replace h := bo_o h
    obtain ⟨x28, e29, h⟩ := h
    refine h_get (ci := 17) (k := 0) (v := va_rf x28) hx hb hts hown hK hR in_X1 rfl (by decide) (fun _ _ => rfl) q662 (fun _ h9 => h9) (gR_o e29) dX1_swapTolls_105 ?_
    replace h := bo_o h
    obtain ⟨a30, e31, h⟩ := h
    subst e31
    replace h := bo_o h
    obtain ⟨x32, e33, h⟩ := h
    refine h_getN (ci := 21) (k := 1) (v := va_rf x32) hx hb hts hown hK hR in_X2 rfl (by decide) (fun _ _ => rfl) (hK.fn 18 rfl) (fun _ h9 => h9) (gR_o e33) dX1_swapTolls_108 ?_
    refine lv_iload_n hx hb dX1_swapTolls_111 rfl (lv_at hl 1 rfl) ?_
    refine lv_iload hx hb dX1_swapTolls_112 (lv_at hl 4 rfl) ?_
    replace h := bo_o h
    obtain ⟨a34, e35, h⟩ := h
    subst e35
    replace h := bo_o h
    obtain ⟨w36, e37, h⟩ := h
    refine h_iast hx hb hK hR hS e37 dX1_swapTolls_114 (fun H locs hR hS => ?_)
    refine lv_aload_n hx hb dX1_swapTolls_115 rfl (lv_at hl 0 rfl) ?_
    replace h := bo_o h
    obtain ⟨x38, e39, h⟩ := h
    refine h_get (ci := 17) (k := 0) (v := va_rf x38) hx hb hts hown hK hR in_X1 rfl (by decide) (fun _ _ => rfl) q662 (fun _ h9 => h9) (gR_o e39) dX1_swapTolls_116 ?_
    replace h := bo_o h
    obtain ⟨a40, e41, h⟩ := h
    subst e41
    replace h := bo_o h
    obtain ⟨x42, e43, h⟩ := h
    refine h_getN (ci := 21) (k := 1) (v := va_rf x42) hx hb hts hown hK hR in_X2 rfl (by decide) (fun _ _ => rfl) (hK.fn 18 rfl) (fun _ h9 => h9) (gR_o e43) dX1_swapTolls_119 ?_
    refine lv_iload_n hx hb dX1_swapTolls_122 rfl (lv_at hl 2 rfl) ?_
    refine lv_iload_n hx hb dX1_swapTolls_123 rfl (lv_at hl 3 rfl) ?_
    replace h := bo_o h
    obtain ⟨a44, e45, h⟩ := h
    subst e45
    replace h := bo_o h
    obtain ⟨w46, e47, h⟩ := h
    refine h_iast hx hb hK hR hS e47 dX1_swapTolls_124 (fun H locs hR hS => ?_)
    exact bX1_swapTolls_125 B hT hl0 h  hR hS (lv_sub hl [] rfl)
  · replace h := if_o c24 h
    exact bX1_swapTolls_98 B hT hl0 h  hR hS (lv_sub hl [] rfl)
noncomputable def fX1_swapTolls_b21 (v0 : Nat) (v1 : Int32) (v2 : Int32) (s0 : Int32) (w : WH) : Option (((Sum (Int32) (Nat × Nat)) × WH)) :=
  b2_ (fX1_requireIndex s0 w) fun o2 w1 => ex_ o2 (fun _ =>
    (gR w1 v0 17 0).bind fun x6 =>
    x6.bind fun a8 =>
    (gR w1 a8 21 1).bind fun x10 =>
    x10.bind fun a12 =>
    (ldI w1 a12 0 v1).bind fun x14 =>
    (gR w1 v0 17 0).bind fun x16 =>
    x16.bind fun a18 =>
    (gR w1 a18 21 1).bind fun x20 =>
    x20.bind fun a22 =>
    (ldI w1 a22 0 v2).bind fun x24 =>
    (gR w1 v0 17 0).bind fun x26 =>
    x26.bind fun a28 =>
    (gR w1 a28 21 0).bind fun x30 =>
    x30.bind fun a32 =>
    (gR w1 a32 22 1).bind fun x34 =>
    x34.bind fun a36 =>
    (hIs w1 a36 2).bind fun _ =>
    b2_ (fJ2_get a36 v1 w1) fun x41 w38 =>
    x41.bind fun a42 =>
    (hIs w38 a42 27).bind fun _ =>
    (hIs w38 a42 27).bind fun _ =>
    b2_ (fX8_most a42 w38) fun x48 w45 =>
    if x48 < x24 then (
      fX1_swapTolls_b98 w45
    ) else (
      fX1_swapTolls_b72 v0 v1 v2 x14 x24 w45
    )) (fun q5 =>
    some (.inr q5, w1))
theorem bX1_swapTolls_21 {p : Program} {l : Launch} {e : Env} {s : State} {m : MethodId} {args : Array Value} {below : List Frame} {meth : Method} {c : Code} {H : Heap} {locs : List Loc} {ls : Array Slot} {G : gE} {A : Nat → Prop} {w0 : WH} (B : gB G RX1 cX1_swapTolls 5 (some .boolean) p s m args meth c) (hT : ∀ x ∈ c.exceptionTable.toList, False) (hl0 : l.stackTraces = false) {v0 : Nat} {v1 : Int32} {v2 : Int32} {s0 : Int32} {w : WH} {r : ((Sum (Int32) (Nat × Nat)) × WH)} (h : fX1_swapTolls_b21 v0 v1 v2 s0 w = some r)   (hR : RepH G A w H) (hS : Cu A s w0 w H locs) (hl : lv_has ls 5 [(0, .ref v0), (1, .int v1), (2, .int v2)]) : W p l e (hRm 15 332 w0) s m args below meth c H locs (wC w0 - wC w) (wS w0 - wS w) (hZX below args s G A w0 (oI r.1) r.2) (F0 m 21 ls [.int s0]) := by
  have B0 := B
  obtain ⟨hx, hb, hml, hown, hts, hr, hlk, hK⟩ := B0
  unfold fX1_swapTolls_b21 at h
  replace h := b2_o h
  obtain ⟨o2, w1, e3, h⟩ := h
  refine h_callSX 1 (As := [.int s0]) (rest := []) (o := oV o2) (w' := w1)  hx hb hml hown hts hK hR hS (Nat.le_refl _) (Nat.le_refl _) (mX1_requireIndex hl0 e3) (lw_S q1956 q1957 q112 q1958) (by decide +kernel) (Nat.le_of_ble_eq_true rfl) (Nat.le_of_ble_eq_true rfl) rfl hl.1 (Nat.le_of_ble_eq_true rfl) dX1_swapTolls_21 rfl (fun v9 hv9 H locs hR hS => ?_) (fun E9 q9 hq9 H locs hR hS hce => ?_)
  · cases o2 with
    | inr q => cases hv9
    | inl x4 =>
      cases hv9
      replace h := exl_o h
      refine W.eq (g2 := F0 m 24 ls []) rfl ?_
      refine lv_aload_n hx hb dX1_swapTolls_24 rfl (lv_at hl 0 rfl) ?_
      replace h := bo_o h
      obtain ⟨x6, e7, h⟩ := h
      refine h_get (ci := 17) (k := 0) (v := va_rf x6) hx hb hts hown hK hR in_X1 rfl (by decide) (fun _ _ => rfl) q662 (fun _ h9 => h9) (gR_o e7) dX1_swapTolls_25 ?_
      replace h := bo_o h
      obtain ⟨a8, e9, h⟩ := h
      subst e9
      replace h := bo_o h
      obtain ⟨x10, e11, h⟩ := h
      refine h_getN (ci := 21) (k := 1) (v := va_rf x10) hx hb hts hown hK hR in_X2 rfl (by decide) (fun _ _ => rfl) (hK.fn 18 rfl) (fun _ h9 => h9) (gR_o e11) dX1_swapTolls_28 ?_
      refine lv_iload_n hx hb dX1_swapTolls_31 rfl (lv_at hl 1 rfl) ?_
      replace h := bo_o h
      obtain ⟨a12, e13, h⟩ := h
      subst e13
      replace h := bo_o h
      obtain ⟨x14, e15, h⟩ := h
      refine h_iald hx hb hK hR e15 dX1_swapTolls_32 ?_
      refine lv_istore_n (lv' := [(3, .int x14), (0, .ref v0), (1, .int v1), (2, .int v2)]) hx hb dX1_swapTolls_33 rfl hl (by decide) rfl (fun ls hl => ?_)
      refine lv_aload_n hx hb dX1_swapTolls_34 rfl (lv_at hl 1 rfl) ?_
      replace h := bo_o h
      obtain ⟨x16, e17, h⟩ := h
      refine h_get (ci := 17) (k := 0) (v := va_rf x16) hx hb hts hown hK hR in_X1 rfl (by decide) (fun _ _ => rfl) q662 (fun _ h9 => h9) (gR_o e17) dX1_swapTolls_35 ?_
      replace h := bo_o h
      obtain ⟨a18, e19, h⟩ := h
      subst e19
      replace h := bo_o h
      obtain ⟨x20, e21, h⟩ := h
      refine h_getN (ci := 21) (k := 1) (v := va_rf x20) hx hb hts hown hK hR in_X2 rfl (by decide) (fun _ _ => rfl) (hK.fn 18 rfl) (fun _ h9 => h9) (gR_o e21) dX1_swapTolls_38 ?_
      refine lv_iload_n hx hb dX1_swapTolls_41 rfl (lv_at hl 3 rfl) ?_
      replace h := bo_o h
      obtain ⟨a22, e23, h⟩ := h
      subst e23
      replace h := bo_o h
      obtain ⟨x24, e25, h⟩ := h
      refine h_iald hx hb hK hR e25 dX1_swapTolls_42 ?_
      refine lv_istore (lv' := [(4, .int x24), (3, .int x14), (0, .ref v0), (1, .int v1), (2, .int v2)]) hx hb dX1_swapTolls_43 hl (by decide) rfl (fun ls hl => ?_)
      refine lv_iload hx hb dX1_swapTolls_45 (lv_at hl 0 rfl) ?_
      refine lv_aload_n hx hb dX1_swapTolls_47 rfl (lv_at hl 2 rfl) ?_
      replace h := bo_o h
      obtain ⟨x26, e27, h⟩ := h
      refine h_get (ci := 17) (k := 0) (v := va_rf x26) hx hb hts hown hK hR in_X1 rfl (by decide) (fun _ _ => rfl) q662 (fun _ h9 => h9) (gR_o e27) dX1_swapTolls_48 ?_
      replace h := bo_o h
      obtain ⟨a28, e29, h⟩ := h
      subst e29
      replace h := bo_o h
      obtain ⟨x30, e31, h⟩ := h
      refine h_getN (ci := 21) (k := 0) (v := va_rf x30) hx hb hts hown hK hR in_X2 rfl (by decide) (fun _ _ => rfl) (hK.fn 15 rfl) (fun _ h9 => h9) (gR_o e31) dX1_swapTolls_51 ?_
      replace h := bo_o h
      obtain ⟨a32, e33, h⟩ := h
      subst e33
      replace h := bo_o h
      obtain ⟨x34, e35, h⟩ := h
      refine h_getN (ci := 22) (k := 1) (v := va_rf x34) hx hb hts hown hK hR in_X3 rfl (by decide) (fun _ _ => rfl) (hK.fn 6 rfl) (fun _ h9 => h9) (gR_o e35) dX1_swapTolls_54 ?_
      refine lv_iload_n hx hb dX1_swapTolls_57 rfl (lv_at hl 3 rfl) ?_
      replace h := bo_o h
      obtain ⟨a36, e37, h⟩ := h
      subst e37
      replace h := bo_o h
      obtain ⟨_, e39, h⟩ := h
      replace h := b2_o h
      obtain ⟨x41, w38, e40, h⟩ := h
      refine h_callF 1  (As := [.int v1]) (rest := [.int x24]) (v := (some (va_rf x41))) (w' := w38) (st1 := [va_rf x41, .int x24]) hx hb hml hown hts hK hR hS (Nat.le_refl _) (Nat.le_refl _) (h_recv (ci := 2) hK hR hS rfl e39) (mJ2_get e40) (lw_app (a := [.methodLink _ _ _, .selects _ _ _, .instanceMethod _, .initialized _]) (lw_4 q1205 q1208 q1210 q117) (lw_meth q1212)) (hK.fw 1 rfl) (by decide +kernel) (Nat.le_of_ble_eq_true rfl) (Nat.le_of_ble_eq_true rfl) rfl hl.1 (Nat.le_of_ble_eq_true rfl) dX1_swapTolls_58 rfl rfl (fun H locs hR hS => ?_)
      replace h := bo_o h
      obtain ⟨a42, e43, h⟩ := h
      subst e43
      replace h := bo_o h
      obtain ⟨_, e44, h⟩ := h
      refine h_castS (ci := 27) hx hb hts hown hK hR hS rfl e44 q1768 dX1_swapTolls_63 ?_
      replace h := bo_o h
      obtain ⟨_, e46, h⟩ := h
      replace h := b2_o h
      obtain ⟨x48, w45, e47, h⟩ := h
      refine h_callV 0 (ci := 27) (As := []) (rest := [.int x24]) (v := (some (.int x48))) (w' := w45) (st1 := [.int x48, .int x24]) hx hb hml hown hts hK hR hS (Nat.le_refl _) (Nat.le_refl _) rfl e46 (mX8_most e47) (lw_V q1769 q1356 q1357 q141 q1358) (by decide +kernel) (Nat.le_of_ble_eq_true rfl) (Nat.le_of_ble_eq_true rfl) rfl hl.1 (Nat.le_of_ble_eq_true rfl) dX1_swapTolls_66 rfl rfl (fun H locs hR hS => ?_)
      refine lv_icmp_gt (tgt := 98) hx hb dX1_swapTolls_69 (by decide) (fun c49 => ?_) (fun c49 => ?_)
      · replace h := it_o c49 h
        exact bX1_swapTolls_98 B hT hl0 h  hR hS (lv_sub hl [] rfl)
      · replace h := if_o c49 h
        exact bX1_swapTolls_72 B hT hl0 h  hR hS (lv_sub hl [2, 3, 4, 1, 0] rfl)
  · cases o2 with
    | inl q => cases hq9
    | inr q5 =>
      cases hq9
      replace h := exr_o h
      have eR := Option.some.inj h
      subst eR
      exact h_out hT hlk hR hS hce
noncomputable def fX1_swapTolls_b20 (v0 : Nat) (v1 : Int32) (v2 : Int32) (w : WH) : Option (((Sum (Int32) (Nat × Nat)) × WH)) :=
  fX1_swapTolls_b21 v0 v1 v2 0 w
theorem bX1_swapTolls_20 {p : Program} {l : Launch} {e : Env} {s : State} {m : MethodId} {args : Array Value} {below : List Frame} {meth : Method} {c : Code} {H : Heap} {locs : List Loc} {ls : Array Slot} {G : gE} {A : Nat → Prop} {w0 : WH} (B : gB G RX1 cX1_swapTolls 5 (some .boolean) p s m args meth c) (hT : ∀ x ∈ c.exceptionTable.toList, False) (hl0 : l.stackTraces = false) {v0 : Nat} {v1 : Int32} {v2 : Int32} {w : WH} {r : ((Sum (Int32) (Nat × Nat)) × WH)} (h : fX1_swapTolls_b20 v0 v1 v2 w = some r)   (hR : RepH G A w H) (hS : Cu A s w0 w H locs) (hl : lv_has ls 5 [(0, .ref v0), (1, .int v1), (2, .int v2)]) : W p l e (hRm 15 332 w0) s m args below meth c H locs (wC w0 - wC w) (wS w0 - wS w) (hZX below args s G A w0 (oI r.1) r.2) (F0 m 20 ls []) := by
  have B0 := B
  obtain ⟨hx, hb, hml, hown, hts, hr, hlk, hK⟩ := B0
  unfold fX1_swapTolls_b20 at h
  refine lv_iconst (v := 0) hx hb dX1_swapTolls_20 (by decide) ?_
  exact bX1_swapTolls_21 B hT hl0 h  hR hS (lv_sub hl [0, 1, 2] rfl)
noncomputable def fX1_swapTolls (v0 : Nat) (v1 : Int32) (v2 : Int32) (w : WH) : Option (((Sum (Int32) (Nat × Nat)) × WH)) :=
  (hIs w v0 17).bind fun _ =>
  b2_ (fX1_isArc v0 v1 w) fun x4 w1 =>
  if x4 = 0 then (
    fX1_swapTolls_b20 v0 v1 v2 w1
  ) else (
    (hIs w1 v0 17).bind fun _ =>
    b2_ (fX1_isArc v0 v2 w1) fun x9 w6 =>
    if x9 = 0 then (
      fX1_swapTolls_b20 v0 v1 v2 w6
    ) else (
      fX1_swapTolls_b21 v0 v1 v2 1 w6
    )
  )
theorem bX1_swapTolls_0 {p : Program} {l : Launch} {e : Env} {s : State} {m : MethodId} {args : Array Value} {below : List Frame} {meth : Method} {c : Code} {H : Heap} {locs : List Loc} {ls : Array Slot} {G : gE} {A : Nat → Prop} {w0 : WH} (B : gB G RX1 cX1_swapTolls 5 (some .boolean) p s m args meth c) (hT : ∀ x ∈ c.exceptionTable.toList, False) (hl0 : l.stackTraces = false) {v0 : Nat} {v1 : Int32} {v2 : Int32} {w : WH} {r : ((Sum (Int32) (Nat × Nat)) × WH)} (h : fX1_swapTolls v0 v1 v2 w = some r)   (hR : RepH G A w H) (hS : Cu A s w0 w H locs) (hl : lv_has ls 5 [(0, .ref v0), (1, .int v1), (2, .int v2)]) : W p l e (hRm 15 332 w0) s m args below meth c H locs (wC w0 - wC w) (wS w0 - wS w) (hZX below args s G A w0 (oI r.1) r.2) (F0 m 0 ls []) := by
  have B0 := B
  obtain ⟨hx, hb, hml, hown, hts, hr, hlk, hK⟩ := B0
  unfold fX1_swapTolls at h
  refine lv_aload_n hx hb dX1_swapTolls_0 rfl (lv_at hl 0 rfl) ?_
  refine lv_iload_n hx hb dX1_swapTolls_1 rfl (lv_at hl 1 rfl) ?_
  replace h := bo_o h
  obtain ⟨_, e2, h⟩ := h
  replace h := b2_o h
  obtain ⟨x4, w1, e3, h⟩ := h
  refine h_callV 1 (ci := 17) (As := [.int v1]) (rest := []) (v := (some (.int x4))) (w' := w1) (st1 := [.int x4]) hx hb hml hown hts hK hR hS (Nat.le_refl _) (Nat.le_refl _) rfl e2 (mX1_isArc e3) (lw_V q1952 q1954 qs47 q112 q1955) (by decide +kernel) (Nat.le_of_ble_eq_true rfl) (Nat.le_of_ble_eq_true rfl) rfl hl.1 (Nat.le_of_ble_eq_true rfl) dX1_swapTolls_2 rfl rfl (fun H locs hR hS => ?_)
  refine lv_if_eq (tgt := 20) hx hb dX1_swapTolls_5 (by decide) (fun c5 => ?_) (fun c5 => ?_)
  · replace h := it_o c5 h
    exact bX1_swapTolls_20 B hT hl0 h  hR hS (lv_sub hl [0, 1, 2] rfl)
  · replace h := if_o c5 h
    refine lv_aload_n hx hb dX1_swapTolls_8 rfl (lv_at hl 0 rfl) ?_
    refine lv_iload_n hx hb dX1_swapTolls_9 rfl (lv_at hl 2 rfl) ?_
    replace h := bo_o h
    obtain ⟨_, e7, h⟩ := h
    replace h := b2_o h
    obtain ⟨x9, w6, e8, h⟩ := h
    refine h_callV 1 (ci := 17) (As := [.int v2]) (rest := []) (v := (some (.int x9))) (w' := w6) (st1 := [.int x9]) hx hb hml hown hts hK hR hS (Nat.le_refl _) (Nat.le_refl _) rfl e7 (mX1_isArc e8) (lw_V q1952 q1954 qs47 q112 q1955) (by decide +kernel) (Nat.le_of_ble_eq_true rfl) (Nat.le_of_ble_eq_true rfl) rfl hl.1 (Nat.le_of_ble_eq_true rfl) dX1_swapTolls_10 rfl rfl (fun H locs hR hS => ?_)
    refine lv_if_eq (tgt := 20) hx hb dX1_swapTolls_13 (by decide) (fun c10 => ?_) (fun c10 => ?_)
    · replace h := it_o c10 h
      exact bX1_swapTolls_20 B hT hl0 h  hR hS (lv_sub hl [0, 1, 2] rfl)
    · replace h := if_o c10 h
      refine lv_iconst (v := 1) hx hb dX1_swapTolls_16 (by decide) ?_
      refine lv_goto (tgt := 21) hx hb dX1_swapTolls_17 (by decide) ?_
      exact bX1_swapTolls_21 B hT hl0 h  hR hS (lv_sub hl [0, 1, 2] rfl)
theorem mX1_swapTolls {l : Launch} {G : gE} {A : Nat → Prop} {v0 : Nat} {v1 : Int32} {v2 : Int32} {w : WH} {r : ((Sum (Int32) (Nat × Nat)) × WH)} (hl0 : l.stackTraces = false) (h : fX1_swapTolls v0 v1 v2 w = some r) : hMX l G A yX1_swapTolls cX1_swapTolls 5 (some .boolean) 15 332 [.ref v0, .int v1, .int v2] w (oI r.1) r.2 :=
  h_ofX (by decide +kernel) (Nat.le_of_ble_eq_true rfl) (fun p e s m args below meth c ls B hnm hT hR hS hl => bX1_swapTolls_0 B hT hl0 h hR hS hl)
