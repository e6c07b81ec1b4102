set_option maxRecDepth 100000
set_option maxHeartbeats 4000000

noncomputable def fJ2_add_2_b11 (v0 : Nat) (v1 : Nat) (v2 : Nat) (v3 : Int32) (w : WH) : Option (WH) :=
  (aok w v1).bind fun _ =>
  (stR w v2 4 v3 (some v1)).bind fun w1 =>
  (hPut w1 v0 2 2 (.int (v3 + 1))).bind fun w4 =>
  some w4
theorem bJ2_add_2_11 {p : Program} {l : Launch} {e : Env} {s : State} {m : MethodId} {args : Array Value} {below : List Frame} {meth : Method} {c : Code} {H : Heap} {locs : List Loc} {ls : Array Slot} {G : gE} {A : Nat → Prop} {w0 : WH} (B : gB G RJ2 cJ2_add_2 4 none p s m args meth c) {v0 : Nat} {v1 : Nat} {v2 : Nat} {v3 : Int32} {w : WH} {r : WH} (h : fJ2_add_2_b11 v0 v1 v2 v3 w = some r)   (hR : RepH G A w H) (hS : Cu A s w0 w H locs) (hl : lv_has ls 4 [(0, .ref v0), (1, .ref v1), (2, .ref v2), (3, .int v3)]) : W p l e (hRm 0 0 w0) s m args below meth c H locs (wC w0 - wC w) (wS w0 - wS w) (hZ below args s G A w0 none r) (F0 m 11 ls []) := by
  have B0 := B
  obtain ⟨hx, hb, hml, hown, hts, hr, hlk, hK⟩ := B0
  unfold fJ2_add_2_b11 at h
  refine lv_aload_n hx hb dJ2_add_2_11 rfl (lv_at hl 2 rfl) ?_
  refine lv_iload_n hx hb dJ2_add_2_12 rfl (lv_at hl 3 rfl) ?_
  refine lv_aload_n hx hb dJ2_add_2_13 rfl (lv_at hl 1 rfl) ?_
  replace h := bo_o h
  obtain ⟨_, e3, h⟩ := h
  replace h := bo_o h
  obtain ⟨w1, e2, h⟩ := h
  refine h_aastO hx hb hK hR hS e3 e2 dJ2_add_2_14 (fun H locs hR hS => ?_)
  refine lv_aload_n hx hb dJ2_add_2_15 rfl (lv_at hl 0 rfl) ?_
  refine lv_iload_n hx hb dJ2_add_2_16 rfl (lv_at hl 3 rfl) ?_
  refine lv_iconst (v := 1) hx hb dJ2_add_2_17 (by decide) ?_
  refine lv_iadd hx hb dJ2_add_2_18 ?_
  replace h := bo_o h
  obtain ⟨w4, e5, h⟩ := h
  refine h_put (ci := 2) (k := 2) (ty := tyJ2 2) hx hb hts hown hK hR hS in_J2 tyJ2 tyJ2_ok nmJ2 rfl (by decide) q515 (fun _ h9 => h9) rfl (tyJ2_ok 2 (by decide)) rfl rfl e5 dJ2_add_2_19 (fun H locs hR hS => ?_)
  have eR := Option.some.inj h
  subst eR
  exact h_vfin hx hb hr hlk hR hS dJ2_add_2_22
noncomputable def fJ2_add_2 (v0 : Nat) (v1 : Nat) (v2 : Nat) (v3 : Int32) (w : WH) : Option (WH) :=
  (aLn w v2).bind fun x1 =>
  if v3 = x1 then (
    none
  ) else (
    fJ2_add_2_b11 v0 v1 v2 v3 w
  )
theorem bJ2_add_2_0 {p : Program} {l : Launch} {e : Env} {s : State} {m : MethodId} {args : Array Value} {below : List Frame} {meth : Method} {c : Code} {H : Heap} {locs : List Loc} {ls : Array Slot} {G : gE} {A : Nat → Prop} {w0 : WH} (B : gB G RJ2 cJ2_add_2 4 none p s m args meth c) {v0 : Nat} {v1 : Nat} {v2 : Nat} {v3 : Int32} {w : WH} {r : WH} (h : fJ2_add_2 v0 v1 v2 v3 w = some r)   (hR : RepH G A w H) (hS : Cu A s w0 w H locs) (hl : lv_has ls 4 [(0, .ref v0), (1, .ref v1), (2, .ref v2), (3, .int v3)]) : W p l e (hRm 0 0 w0) s m args below meth c H locs (wC w0 - wC w) (wS w0 - wS w) (hZ below args s G A w0 none r) (F0 m 0 ls []) := by
  have B0 := B
  obtain ⟨hx, hb, hml, hown, hts, hr, hlk, hK⟩ := B0
  unfold fJ2_add_2 at h
  refine lv_iload_n hx hb dJ2_add_2_0 rfl (lv_at hl 3 rfl) ?_
  refine lv_aload_n hx hb dJ2_add_2_1 rfl (lv_at hl 2 rfl) ?_
  replace h := bo_o h
  obtain ⟨x1, e2, h⟩ := h
  refine h_alen hx hb hK hR hS e2 dJ2_add_2_2 ?_
  refine lv_icmp_ne (tgt := 11) hx hb dJ2_add_2_3 (by decide) (fun c3 => ?_) (fun c3 => ?_)
  · replace h := if_o c3 h
    exact bJ2_add_2_11 B h  hR hS (lv_sub hl [0, 1, 2, 3] rfl)
  · replace h := it_o c3 h
    refine lv_aload_n hx hb dJ2_add_2_6 rfl (lv_at hl 0 rfl) ?_
    exact (nomatch h)
theorem mJ2_add_2 {l : Launch} {G : gE} {A : Nat → Prop} {v0 : Nat} {v1 : Nat} {v2 : Nat} {v3 : Int32} {w : WH} {r : WH} (h : fJ2_add_2 v0 v1 v2 v3 w = some r) : hM l G A yJ2_add_2 cJ2_add_2 4 none 0 0 [.ref v0, .ref v1, .ref v2, .int v3] w none r :=
  h_of (by decide +kernel) (Nat.le_of_ble_eq_true rfl) (fun p e s m args below meth c ls B hnm hR hS hl => bJ2_add_2_0 B h hR hS hl)
noncomputable def fJ2_add (v0 : Nat) (v1 : Nat) (w : WH) : Option ((Int32 × WH)) :=
  (gI w v0 2 0).bind fun x1 =>
  (hPut w v0 2 0 (.int (x1 + 1))).bind fun w3 =>
  (gR w3 v0 2 1).bind fun x5 =>
  (gI w3 v0 2 2).bind fun x7 =>
  x5.bind fun a9 =>
  (hIs w3 v0 2).bind fun _ =>
  (fJ2_add_2 v0 v1 a9 x7 w3).bind fun w11 =>
  some (1, w11)
theorem bJ2_add_0 {p : Program} {l : Launch} {e : Env} {s : State} {m : MethodId} {args : Array Value} {below : List Frame} {meth : Method} {c : Code} {H : Heap} {locs : List Loc} {ls : Array Slot} {G : gE} {A : Nat → Prop} {w0 : WH} (B : gB G RJ2 cJ2_add 2 (some .boolean) p s m args meth c) {v0 : Nat} {v1 : Nat} {w : WH} {r : (Int32 × WH)} (h : fJ2_add v0 v1 w = some r)   (hR : RepH G A w H) (hS : Cu A s w0 w H locs) (hl : lv_has ls 2 [(0, .ref v0), (1, .ref v1)]) : W p l e (hRm 1 23 w0) s m args below meth c H locs (wC w0 - wC w) (wS w0 - wS w) (hZ below args s G A w0 (some (.int r.1)) r.2) (F0 m 0 ls []) := by
  have B0 := B
  obtain ⟨hx, hb, hml, hown, hts, hr, hlk, hK⟩ := B0
  unfold fJ2_add at h
  refine lv_aload_n hx hb dJ2_add_0 rfl (lv_at hl 0 rfl) ?_
  refine lv_dup hx hb dJ2_add_1 rfl ?_
  replace h := bo_o h
  obtain ⟨x1, e2, h⟩ := h
  refine h_get (ci := 2) (k := 0) (v := .int x1) hx hb hts hown hK hR in_J2 rfl (by decide) (fun _ _ => rfl) q523 (fun x9 h9 => u_same (hts _ q520) x9 h9) (gI_o e2) dJ2_add_2 ?_
  refine lv_iconst (v := 1) hx hb dJ2_add_5 (by decide) ?_
  refine lv_iadd hx hb dJ2_add_6 ?_
  replace h := bo_o h
  obtain ⟨w3, e4, h⟩ := h
  refine h_put (ci := 2) (k := 0) (ty := tyJ2 0) hx hb hts hown hK hR hS in_J2 tyJ2 tyJ2_ok nmJ2 rfl (by decide) q523 (fun x9 h9 => u_same (hts _ q520) x9 h9) rfl (tyJ2_ok 0 (by decide)) rfl rfl e4 dJ2_add_7 (fun H locs hR hS => ?_)
  refine lv_aload_n hx hb dJ2_add_10 rfl (lv_at hl 0 rfl) ?_
  refine lv_aload_n hx hb dJ2_add_11 rfl (lv_at hl 1 rfl) ?_
  refine lv_aload_n hx hb dJ2_add_12 rfl (lv_at hl 0 rfl) ?_
  replace h := bo_o h
  obtain ⟨x5, e6, h⟩ := h
  refine h_get (ci := 2) (k := 1) (v := va_rf x5) hx hb hts hown hK hR in_J2 rfl (by decide) (fun _ _ => rfl) q512 (fun _ h9 => h9) (gR_o e6) dJ2_add_13 ?_
  refine lv_aload_n hx hb dJ2_add_16 rfl (lv_at hl 0 rfl) ?_
  replace h := bo_o h
  obtain ⟨x7, e8, h⟩ := h
  refine h_get (ci := 2) (k := 2) (v := .int x7) hx hb hts hown hK hR in_J2 rfl (by decide) (fun _ _ => rfl) q515 (fun _ h9 => h9) (gI_o e8) dJ2_add_17 ?_
  replace h := bo_o h
  obtain ⟨a9, e10, h⟩ := h
  subst e10
  replace h := bo_o h
  obtain ⟨_, e12, h⟩ := h
  replace h := bo_o h
  obtain ⟨w11, e13, h⟩ := h
  refine h_callV 3 (ci := 2) (As := [.ref v1, .ref a9, .int x7]) (rest := []) (v := none) (w' := w11) (st1 := []) hx hb hml hown hts hK hR hS (Nat.le_refl _) (Nat.le_refl _) rfl e12 (mJ2_add_2 e13) (lw_V q957 q959 qs12 q117 q960) (by decide +kernel) (Nat.le_of_ble_eq_true rfl) (Nat.le_of_ble_eq_true rfl) rfl hl.1 (Nat.le_of_ble_eq_true rfl) dJ2_add_20 rfl rfl (fun H locs hR hS => ?_)
  refine lv_iconst (v := 1) hx hb dJ2_add_23 (by decide) ?_
  have eR := Option.some.inj h
  subst eR
  exact h_zfin hx hb hr hlk (by show narrow .boolean (.int 1) = .int 1; decide) hR hS dJ2_add_24
theorem mJ2_add {l : Launch} {G : gE} {A : Nat → Prop} {v0 : Nat} {v1 : Nat} {w : WH} {r : (Int32 × WH)} (h : fJ2_add v0 v1 w = some r) : hM l G A yJ2_add cJ2_add 2 (some .boolean) 1 23 [.ref v0, .ref v1] w (some (.int r.1)) r.2 :=
  h_of (by decide +kernel) (Nat.le_of_ble_eq_true rfl) (fun p e s m args below meth c ls B hnm hR hS hl => bJ2_add_0 B h hR hS hl)
noncomputable def fX6_arc_b91 (v0 : Nat) (v1 : Int32) (v2 : Int32) (v3 : Int32) (v4 : Int32) (w : WH) : Option (((Sum Unit (Nat × Nat)) × WH)) :=
  (gR w v0 25 0).bind fun x1 =>
  x1.bind fun a3 =>
  (gR w a3 22 1).bind fun x5 =>
  b2_ (hNw w 5 27 [.int 0, .int 0, .int 0, .int 0, .int 0]) fun a7 w8 =>
  (gR w8 v0 25 0).bind fun x10 =>
  x10.bind fun a12 =>
  (gR w8 a12 22 1).bind fun x14 =>
  x14.bind fun a16 =>
  (hIs w8 a16 2).bind fun _ =>
  b2_ (fJ2_size a16 w8) fun x21 w18 =>
  (fX8_init a7 x21 v1 v2 v3 v4 w18).bind fun w22 =>
  x5.bind fun a24 =>
  (hIs w22 a24 2).bind fun _ =>
  b2_ (fJ2_add a24 a7 w22) fun x29 w26 =>
  some (.inl (), w26)
theorem bX6_arc_91 {p : Program} {l : Launch} {e : Env} {s : State} {m : MethodId} {args : Array Value} {below : List Frame} {meth : Method} {c : Code} {H : Heap} {locs : List Loc} {ls : Array Slot} {G : gE} {A : Nat → Prop} {w0 : WH} (B : gB G RX6 cX6_arc 5 none p s m args meth c) (hT : ∀ x ∈ c.exceptionTable.toList, False) (hl0 : l.stackTraces = false) {v0 : Nat} {v1 : Int32} {v2 : Int32} {v3 : Int32} {v4 : Int32} {w : WH} {r : ((Sum Unit (Nat × Nat)) × WH)} (h : fX6_arc_b91 v0 v1 v2 v3 v4 w = some r)   (hR : RepH G A w H) (hS : Cu A s w0 w H locs) (hl : lv_has ls 5 [(0, .ref v0), (1, .int v1), (2, .int v2), (3, .int v3), (4, .int v4)]) : W p l e (hRm 13 290 w0) s m args below meth c H locs (wC w0 - wC w) (wS w0 - wS w) (hZX below args s G A w0 (oV r.1) r.2) (F0 m 91 ls []) := by
  have B0 := B
  obtain ⟨hx, hb, hml, hown, hts, hr, hlk, hK⟩ := B0
  unfold fX6_arc_b91 at h
  refine lv_aload_n hx hb dX6_arc_91 rfl (lv_at hl 0 rfl) ?_
  replace h := bo_o h
  obtain ⟨x1, e2, h⟩ := h
  refine h_get (ci := 25) (k := 0) (v := va_rf x1) hx hb hts hown hK hR in_X6 rfl (by decide) (fun _ _ => rfl) q711 (fun _ h9 => h9) (gR_o e2) dX6_arc_92 ?_
  replace h := bo_o h
  obtain ⟨a3, e4, h⟩ := h
  subst e4
  replace h := bo_o h
  obtain ⟨x5, e6, h⟩ := h
  refine h_getN (ci := 22) (k := 1) (v := va_rf x5) hx hb hts hown hK hR in_X3 rfl (by decide) (fun _ _ => rfl) (hK.fn 7 rfl) (fun _ h9 => h9) (gR_o e6) dX6_arc_95 ?_
  replace h := b2_o h
  obtain ⟨a7, w8, e9, h⟩ := h
  refine h_new (ci := 27) (fs := [.int 0, .int 0, .int 0, .int 0, .int 0]) hx hb hts hown hK hR hS (Nat.le_refl _) (Nat.le_refl _) in_X8 tyX8 tyX8_ok rfl (by decide +kernel) q923 q924 q141 e9 dX6_arc_98 (fun H locs hR hS => ?_)
  refine lv_dup hx hb dX6_arc_101 rfl ?_
  refine lv_aload_n hx hb dX6_arc_102 rfl (lv_at hl 0 rfl) ?_
  replace h := bo_o h
  obtain ⟨x10, e11, h⟩ := h
  refine h_get (ci := 25) (k := 0) (v := va_rf x10) hx hb hts hown hK hR in_X6 rfl (by decide) (fun _ _ => rfl) q711 (fun _ h9 => h9) (gR_o e11) dX6_arc_103 ?_
  replace h := bo_o h
  obtain ⟨a12, e13, h⟩ := h
  subst e13
  replace h := bo_o h
  obtain ⟨x14, e15, h⟩ := h
  refine h_getN (ci := 22) (k := 1) (v := va_rf x14) hx hb hts hown hK hR in_X3 rfl (by decide) (fun _ _ => rfl) (hK.fn 7 rfl) (fun _ h9 => h9) (gR_o e15) dX6_arc_106 ?_
  replace h := bo_o h
  obtain ⟨a16, e17, h⟩ := h
  subst e17
  replace h := bo_o h
  obtain ⟨_, e19, h⟩ := h
  replace h := b2_o h
  obtain ⟨x21, w18, e20, h⟩ := h
  refine h_callF 0  (As := []) (rest := [.ref a7, .ref a7, va_rf x5]) (v := (some (.int x21))) (w' := w18) (st1 := [.int x21, .ref a7, .ref a7, va_rf x5]) hx hb hml hown hts hK hR hS (Nat.le_refl _) (Nat.le_refl _) (h_recv (ci := 2) hK hR hS rfl e19) (mJ2_size e20) (lw_app (a := [.methodLink _ _ _, .selects _ _ _, .instanceMethod _, .initialized _]) (lw_4 q899 q903 q905 q117) (lw_meth q907)) (hK.fw 0 rfl) (by decide +kernel) (Nat.le_of_ble_eq_true rfl) (Nat.le_of_ble_eq_true rfl) rfl hl.1 (cat_le (Nat.le_of_ble_eq_true rfl)) dX6_arc_109 rfl rfl (fun H locs hR hS => ?_)
  refine lv_iload_n hx hb dX6_arc_114 rfl (lv_at hl 1 rfl) ?_
  refine lv_iload_n hx hb dX6_arc_115 rfl (lv_at hl 2 rfl) ?_
  refine lv_iload_n hx hb dX6_arc_116 rfl (lv_at hl 3 rfl) ?_
  refine lv_iload hx hb dX6_arc_117 (lv_at hl 4 rfl) ?_
  replace h := bo_o h
  obtain ⟨w22, e23, h⟩ := h
  refine h_callIN 5  (As := [.int x21, .int v1, .int v2, .int v3, .int v4]) (rest := [.ref a7, va_rf x5]) (w' := w22) hx hb hml hown hts hK hR hS (Nat.le_refl _) (Nat.le_refl _) (mX8_init e23) (lw_meth q927) (hK.mn 3 rfl) q141 q926 rfl (by decide +kernel) (Nat.le_of_ble_eq_true rfl) (Nat.le_of_ble_eq_true rfl) rfl hl.1 (cat_le (Nat.le_of_ble_eq_true rfl)) dX6_arc_119 rfl (fun H locs hR hS => ?_)
  replace h := bo_o h
  obtain ⟨a24, e25, h⟩ := h
  subst e25
  replace h := bo_o h
  obtain ⟨_, e27, h⟩ := h
  replace h := b2_o h
  obtain ⟨x29, w26, e28, h⟩ := h
  refine h_callF 1  (As := [.ref a7]) (rest := []) (v := (some (.int x29))) (w' := w26) (st1 := [.int x29]) hx hb hml hown hts hK hR hS (Nat.le_refl _) (Nat.le_refl _) (h_recv (ci := 2) hK hR hS rfl e27) (mJ2_add e28) (lw_app (a := [.methodLink _ _ _, .selects _ _ _, .instanceMethod _, .initialized _]) (lw_4 q949 q952 q954 q117) (lw_meth q956)) (hK.fw 2 rfl) (by decide +kernel) (Nat.le_of_ble_eq_true rfl) (Nat.le_of_ble_eq_true rfl) rfl hl.1 (Nat.le_of_ble_eq_true rfl) dX6_arc_122 rfl rfl (fun H locs hR hS => ?_)
  refine lv_pop hx hb dX6_arc_127 rfl ?_
  have eR := Option.some.inj h
  subst eR
  exact h_vfinX hx hb hr hlk hR hS dX6_arc_128
noncomputable def fX6_arc_b67 (v0 : Nat) (v1 : Int32) (v2 : Int32) (v3 : Int32) (w : WH) : Option (((Sum Unit (Nat × Nat)) × WH)) :=
  (hIs w v0 25).bind fun _ =>
  b2_ (fX6_word v0 w) fun o3 w1 => ex_ o3 (fun x5 =>
    x5.bind fun a7 =>
    (hIs w1 a7 16).bind fun _ =>
    b2_ (fJ9_equals a7 (wK w1 1) w1) fun x12 w9 =>
    (hIs w9 v0 25).bind fun _ =>
    b2_ (fX6_require v0 x12 1 w9) fun o15 w13 => ex_ o15 (fun _ =>
      (hIs w13 v0 25).bind fun _ =>
      b2_ (fX6_number v0 1 9999 w13) fun o21 w19 => ex_ o21 (fun x23 =>
        fX6_arc_b91 v0 v1 v2 v3 x23 w19) (fun q24 =>
        some (.inr q24, w19))) (fun q18 =>
      some (.inr q18, w13))) (fun q6 =>
    some (.inr q6, w1))
theorem bX6_arc_67 {p : Program} {l : Launch} {e : Env} {s : State} {m : MethodId} {args : Array Value} {below : List Frame} {meth : Method} {c : Code} {H : Heap} {locs : List Loc} {ls : Array Slot} {G : gE} {A : Nat → Prop} {w0 : WH} (B : gB G RX6 cX6_arc 5 none p s m args meth c) (hT : ∀ x ∈ c.exceptionTable.toList, False) (hl0 : l.stackTraces = false) {v0 : Nat} {v1 : Int32} {v2 : Int32} {v3 : Int32} {w : WH} {r : ((Sum Unit (Nat × Nat)) × WH)} (h : fX6_arc_b67 v0 v1 v2 v3 w = some r)   (hR : RepH G A w H) (hS : Cu A s w0 w H locs) (hl : lv_has ls 5 [(0, .ref v0), (1, .int v1), (2, .int v2), (3, .int v3)]) : W p l e (hRm 13 290 w0) s m args below meth c H locs (wC w0 - wC w) (wS w0 - wS w) (hZX below args s G A w0 (oV r.1) r.2) (F0 m 67 ls []) := by
  have B0 := B
  obtain ⟨hx, hb, hml, hown, hts, hr, hlk, hK⟩ := B0
  unfold fX6_arc_b67 at h
  refine lv_aload_n hx hb dX6_arc_67 rfl (lv_at hl 0 rfl) ?_
  refine lv_aload_n hx hb dX6_arc_68 rfl (lv_at hl 0 rfl) ?_
  replace h := bo_o h
  obtain ⟨_, e2, h⟩ := h
  replace h := b2_o h
  obtain ⟨o3, w1, e4, h⟩ := h
  refine h_callVX 0 (ci := 25) (As := []) (rest := [.ref v0]) (o := oR o3) (w' := w1) hx hb hml hown hts hK hR hS (Nat.le_refl _) (Nat.le_refl _) rfl e2 (mX6_word hl0 e4) (lw_V q732 q734 qs2 q138 q735) (by decide +kernel) (Nat.le_of_ble_eq_true rfl) (Nat.le_of_ble_eq_true rfl) rfl hl.1 (Nat.le_of_ble_eq_true rfl) dX6_arc_69 rfl (fun v9 hv9 H locs hR hS => ?_) (fun E9 q9 hq9 H locs hR hS hce => ?_)
  · cases o3 with
    | inr q => cases hv9
    | inl x5 =>
      cases hv9
      replace h := exl_o h
      refine W.eq (g2 := F0 m 72 ls [va_rf x5, .ref v0]) rfl ?_
      refine h_ldcS (i := 1) hx hb hown hK hR rfl dX6_arc_72 ?_
      replace h := bo_o h
      obtain ⟨a7, e8, h⟩ := h
      subst e8
      replace h := bo_o h
      obtain ⟨_, e10, h⟩ := h
      replace h := b2_o h
      obtain ⟨x12, w9, e11, h⟩ := h
      refine h_callV 1 (ci := 16) (As := [.ref (wK w1 1)]) (rest := [.ref v0]) (v := (some (.int x12))) (w' := w9) (st1 := [.int x12, .ref v0]) hx hb hml hown hts hK hR hS (Nat.le_refl _) (Nat.le_refl _) rfl e10 (mJ9_equals e11) (lw_V q807 q808 q809 q124 q810) (by decide +kernel) (Nat.le_of_ble_eq_true rfl) (Nat.le_of_ble_eq_true rfl) rfl hl.1 (Nat.le_of_ble_eq_true rfl) dX6_arc_74 rfl rfl (fun H locs hR hS => ?_)
      refine lv_iconst (v := 1) hx hb dX6_arc_77 (by decide) ?_
      replace h := bo_o h
      obtain ⟨_, e14, h⟩ := h
      replace h := b2_o h
      obtain ⟨o15, w13, e16, h⟩ := h
      refine h_callVX 2 (ci := 25) (As := [.int x12, .int 1]) (rest := []) (o := oV o15) (w' := w13) hx hb hml hown hts hK hR hS (Nat.le_refl _) (Nat.le_refl _) rfl e14 (mX6_require hl0 e16) (lw_V q745 q747 qs4 q138 q748) (by decide +kernel) (Nat.le_of_ble_eq_true rfl) (Nat.le_of_ble_eq_true rfl) rfl hl.1 (Nat.le_of_ble_eq_true rfl) dX6_arc_78 rfl (fun v9 hv9 H locs hR hS => ?_) (fun E9 q9 hq9 H locs hR hS hce => ?_)
      · cases o15 with
        | inr q => cases hv9
        | inl x17 =>
          cases hv9
          replace h := exl_o h
          refine W.eq (g2 := F0 m 81 ls []) rfl ?_
          refine lv_aload_n hx hb dX6_arc_81 rfl (lv_at hl 0 rfl) ?_
          refine lv_iconst (v := 1) hx hb dX6_arc_82 (by decide) ?_
          refine lv_sipush (v := 9999) hx hb dX6_arc_83 (by decide) ?_
          replace h := bo_o h
          obtain ⟨_, e20, h⟩ := h
          replace h := b2_o h
          obtain ⟨o21, w19, e22, h⟩ := h
          refine h_callVX 2 (ci := 25) (As := [.int 1, .int 9999]) (rest := []) (o := oI o21) (w' := w19) hx hb hml hown hts hK hR hS (Nat.le_refl _) (Nat.le_refl _) rfl e20 (mX6_number hl0 e22) (lw_V q815 q817 qs6 q138 q818) (by decide +kernel) (Nat.le_of_ble_eq_true rfl) (Nat.le_of_ble_eq_true rfl) rfl hl.1 (Nat.le_of_ble_eq_true rfl) dX6_arc_86 rfl (fun v9 hv9 H locs hR hS => ?_) (fun E9 q9 hq9 H locs hR hS hce => ?_)
          · cases o21 with
            | inr q => cases hv9
            | inl x23 =>
              cases hv9
              replace h := exl_o h
              refine W.eq (g2 := F0 m 89 ls [.int x23]) rfl ?_
              refine lv_istore (lv' := [(4, .int x23), (0, .ref v0), (1, .int v1), (2, .int v2), (3, .int v3)]) hx hb dX6_arc_89 hl (by decide) rfl (fun ls hl => ?_)
              exact bX6_arc_91 B hT hl0 h  hR hS (lv_sub hl [1, 2, 3, 4, 0] rfl)
          · cases o21 with
            | inl q => cases hq9
            | inr q24 =>
              cases hq9
              replace h := exr_o h
              have eR := Option.some.inj h
              subst eR
              exact h_out hT hlk hR hS hce
      · cases o15 with
        | inl q => cases hq9
        | inr q18 =>
          cases hq9
          replace h := exr_o h
          have eR := Option.some.inj h
          subst eR
          exact h_out hT hlk hR hS hce
  · cases o3 with
    | inl q => cases hq9
    | inr q6 =>
      cases hq9
      replace h := exr_o h
      have eR := Option.some.inj h
      subst eR
      exact h_out hT hlk hR hS hce
noncomputable def fX6_arc_b23 (v0 : Nat) (s0 : Nat) (s1 : Int32) (w : WH) : Option (((Sum Unit (Nat × Nat)) × WH)) :=
  (hIs w s0 25).bind fun _ =>
  b2_ (fX6_require s0 s1 4 w) fun o3 w1 => ex_ o3 (fun _ =>
    (hIs w1 v0 25).bind fun _ =>
    b2_ (fX6_node v0 w1) fun o9 w7 => ex_ o9 (fun x11 =>
      (hIs w7 v0 25).bind fun _ =>
      b2_ (fX6_nodeBut v0 x11 w7) fun o15 w13 => ex_ o15 (fun x17 =>
        (hIs w13 v0 25).bind fun _ =>
        b2_ (fX6_number v0 1 999 w13) fun o21 w19 => ex_ o21 (fun x23 =>
          (hIs w19 v0 25).bind fun _ =>
          b2_ (fX6_peek v0 w19) fun x28 w25 =>
          b2_ (fX1_inRange (x28.toInt64) 97 122 w25) fun x31 w29 =>
          if x31 = 0 then (
            fX6_arc_b91 v0 x11 x17 x23 0 w29
          ) else (
            fX6_arc_b67 v0 x11 x17 x23 w29
          )) (fun q24 =>
          some (.inr q24, w19))) (fun q18 =>
        some (.inr q18, w13))) (fun q12 =>
      some (.inr q12, w7))) (fun q6 =>
    some (.inr q6, w1))
theorem bX6_arc_23 {p : Program} {l : Launch} {e : Env} {s : State} {m : MethodId} {args : Array Value} {below : List Frame} {meth : Method} {c : Code} {H : Heap} {locs : List Loc} {ls : Array Slot} {G : gE} {A : Nat → Prop} {w0 : WH} (B : gB G RX6 cX6_arc 5 none p s m args meth c) (hT : ∀ x ∈ c.exceptionTable.toList, False) (hl0 : l.stackTraces = false) {v0 : Nat} {s0 : Nat} {s1 : Int32} {w : WH} {r : ((Sum Unit (Nat × Nat)) × WH)} (h : fX6_arc_b23 v0 s0 s1 w = some r)   (hR : RepH G A w H) (hS : Cu A s w0 w H locs) (hl : lv_has ls 5 [(0, .ref v0)]) : W p l e (hRm 13 290 w0) s m args below meth c H locs (wC w0 - wC w) (wS w0 - wS w) (hZX below args s G A w0 (oV r.1) r.2) (F0 m 23 ls [.int s1, .ref s0]) := by
  have B0 := B
  obtain ⟨hx, hb, hml, hown, hts, hr, hlk, hK⟩ := B0
  unfold fX6_arc_b23 at h
  refine lv_iconst (v := 4) hx hb dX6_arc_23 (by decide) ?_
  replace h := bo_o h
  obtain ⟨_, e2, h⟩ := h
  replace h := b2_o h
  obtain ⟨o3, w1, e4, h⟩ := h
  refine h_callVX 2 (ci := 25) (As := [.int s1, .int 4]) (rest := []) (o := oV o3) (w' := w1) hx hb hml hown hts hK hR hS (Nat.le_refl _) (Nat.le_refl _) rfl e2 (mX6_require hl0 e4) (lw_V q745 q747 qs4 q138 q748) (by decide +kernel) (Nat.le_of_ble_eq_true rfl) (Nat.le_of_ble_eq_true rfl) rfl hl.1 (Nat.le_of_ble_eq_true rfl) dX6_arc_24 rfl (fun v9 hv9 H locs hR hS => ?_) (fun E9 q9 hq9 H locs hR hS hce => ?_)
  · cases o3 with
    | inr q => cases hv9
    | inl x5 =>
      cases hv9
      replace h := exl_o h
      refine W.eq (g2 := F0 m 27 ls []) rfl ?_
      refine lv_aload_n hx hb dX6_arc_27 rfl (lv_at hl 0 rfl) ?_
      replace h := bo_o h
      obtain ⟨_, e8, h⟩ := h
      replace h := b2_o h
      obtain ⟨o9, w7, e10, h⟩ := h
      refine h_callVX 0 (ci := 25) (As := []) (rest := []) (o := oI o9) (w' := w7) hx hb hml hown hts hK hR hS (Nat.le_refl _) (Nat.le_refl _) rfl e8 (mX6_node hl0 e10) (lw_V q914 q916 qs10 q138 q917) (by decide +kernel) (Nat.le_of_ble_eq_true rfl) (Nat.le_of_ble_eq_true rfl) rfl hl.1 (Nat.le_of_ble_eq_true rfl) dX6_arc_28 rfl (fun v9 hv9 H locs hR hS => ?_) (fun E9 q9 hq9 H locs hR hS hce => ?_)
      · cases o9 with
        | inr q => cases hv9
        | inl x11 =>
          cases hv9
          replace h := exl_o h
          refine W.eq (g2 := F0 m 31 ls [.int x11]) rfl ?_
          refine lv_istore_n (lv' := [(1, .int x11), (0, .ref v0)]) hx hb dX6_arc_31 rfl hl (by decide) rfl (fun ls hl => ?_)
          refine lv_aload_n hx hb dX6_arc_32 rfl (lv_at hl 1 rfl) ?_
          refine lv_iload_n hx hb dX6_arc_33 rfl (lv_at hl 0 rfl) ?_
          replace h := bo_o h
          obtain ⟨_, e14, h⟩ := h
          replace h := b2_o h
          obtain ⟨o15, w13, e16, h⟩ := h
          refine h_callVX 1 (ci := 25) (As := [.int x11]) (rest := []) (o := oI o15) (w' := w13) hx hb hml hown hts hK hR hS (Nat.le_refl _) (Nat.le_refl _) rfl e14 (mX6_nodeBut hl0 e16) (lw_V q918 q920 qs11 q138 q921) (by decide +kernel) (Nat.le_of_ble_eq_true rfl) (Nat.le_of_ble_eq_true rfl) rfl hl.1 (Nat.le_of_ble_eq_true rfl) dX6_arc_34 rfl (fun v9 hv9 H locs hR hS => ?_) (fun E9 q9 hq9 H locs hR hS hce => ?_)
          · cases o15 with
            | inr q => cases hv9
            | inl x17 =>
              cases hv9
              replace h := exl_o h
              refine W.eq (g2 := F0 m 37 ls [.int x17]) rfl ?_
              refine lv_istore_n (lv' := [(2, .int x17), (1, .int x11), (0, .ref v0)]) hx hb dX6_arc_37 rfl hl (by decide) rfl (fun ls hl => ?_)
              refine lv_aload_n hx hb dX6_arc_38 rfl (lv_at hl 2 rfl) ?_
              refine lv_iconst (v := 1) hx hb dX6_arc_39 (by decide) ?_
              refine lv_sipush (v := 999) hx hb dX6_arc_40 (by decide) ?_
              replace h := bo_o h
              obtain ⟨_, e20, h⟩ := h
              replace h := b2_o h
              obtain ⟨o21, w19, e22, h⟩ := h
              refine h_callVX 2 (ci := 25) (As := [.int 1, .int 999]) (rest := []) (o := oI o21) (w' := w19) hx hb hml hown hts hK hR hS (Nat.le_refl _) (Nat.le_refl _) rfl e20 (mX6_number hl0 e22) (lw_V q815 q817 qs6 q138 q818) (by decide +kernel) (Nat.le_of_ble_eq_true rfl) (Nat.le_of_ble_eq_true rfl) rfl hl.1 (Nat.le_of_ble_eq_true rfl) dX6_arc_43 rfl (fun v9 hv9 H locs hR hS => ?_) (fun E9 q9 hq9 H locs hR hS hce => ?_)
              · cases o21 with
                | inr q => cases hv9
                | inl x23 =>
                  cases hv9
                  replace h := exl_o h
                  refine W.eq (g2 := F0 m 46 ls [.int x23]) rfl ?_
                  refine lv_istore_n (lv' := [(3, .int x23), (2, .int x17), (1, .int x11), (0, .ref v0)]) hx hb dX6_arc_46 rfl hl (by decide) rfl (fun ls hl => ?_)
                  refine lv_iconst (v := 0) hx hb dX6_arc_47 (by decide) ?_
                  refine lv_istore (lv' := [(4, .int 0), (3, .int x23), (2, .int x17), (1, .int x11), (0, .ref v0)]) hx hb dX6_arc_48 hl (by decide) rfl (fun ls hl => ?_)
                  refine lv_aload_n hx hb dX6_arc_50 rfl (lv_at hl 4 rfl) ?_
                  replace h := bo_o h
                  obtain ⟨_, e26, h⟩ := h
                  replace h := b2_o h
                  obtain ⟨x28, w25, e27, h⟩ := h
                  refine h_callV 0 (ci := 25) (As := []) (rest := []) (v := (some (.int x28))) (w' := w25) (st1 := [.int x28]) hx hb hml hown hts hK hR hS (Nat.le_refl _) (Nat.le_refl _) rfl e26 (mX6_peek e27) (lw_V q736 q738 qs3 q138 q739) (by decide +kernel) (Nat.le_of_ble_eq_true rfl) (Nat.le_of_ble_eq_true rfl) rfl hl.1 (Nat.le_of_ble_eq_true rfl) dX6_arc_51 rfl rfl (fun H locs hR hS => ?_)
                  refine lv_i2l hx hb dX6_arc_54 rfl ?_
                  refine lv_ldc2 (v := 97) hx hb hown (hts _ q740) dX6_arc_55 ?_
                  refine lv_ldc2 (v := 122) hx hb hown (hts _ q741) dX6_arc_58 ?_
                  replace h := b2_o h
                  obtain ⟨x31, w29, e30, h⟩ := h
                  refine h_callSN 3  (As := [.long (x28.toInt64), .long 97, .long 122]) (rest := []) (v := (some (.int x31))) (w' := w29) (st1 := [.int x31]) hx hb hml hown hts hK hR hS (Nat.le_refl _) (Nat.le_refl _) (mX1_inRange e30) (lw_meth q744) (hK.mn 2 rfl) q112 q743 (by decide +kernel) (Nat.le_of_ble_eq_true rfl) (Nat.le_of_ble_eq_true rfl) rfl hl.1 (Nat.le_of_ble_eq_true rfl) dX6_arc_61 rfl rfl (fun H locs hR hS => ?_)
                  refine lv_if_eq (tgt := 91) hx hb dX6_arc_64 (by decide) (fun c32 => ?_) (fun c32 => ?_)
                  · replace h := it_o c32 h
                    exact bX6_arc_91 B hT hl0 h  hR hS (lv_sub hl [4, 3, 2, 1, 0] rfl)
                  · replace h := if_o c32 h
                    exact bX6_arc_67 B hT hl0 h  hR hS (lv_sub hl [4, 3, 2, 1] rfl)
              · cases o21 with
                | inl q => cases hq9
                | inr q24 =>
                  cases hq9
                  replace h := exr_o h
                  have eR := Option.some.inj h
                  subst eR
                  exact h_out hT hlk hR hS hce
          · cases o15 with
            | inl q => cases hq9
            | inr q18 =>
              cases hq9
              replace h := exr_o h
              have eR := Option.some.inj h
              subst eR
              exact h_out hT hlk hR hS hce
      · cases o9 with
        | inl q => cases hq9
        | inr q12 =>
          cases hq9
          replace h := exr_o h
          have eR := Option.some.inj h
          subst eR
          exact h_out hT hlk hR hS hce
  · cases o3 with
    | inl q => cases hq9
    | inr q6 =>
      cases hq9
      replace h := exr_o h
      have eR := Option.some.inj h
      subst eR
      exact h_out hT hlk hR hS hce
noncomputable def fX6_arc (v0 : Nat) (w : WH) : Option (((Sum Unit (Nat × Nat)) × WH)) :=
  (gR w v0 25 0).bind fun x1 =>
  x1.bind fun a3 =>
  (gR w a3 22 1).bind fun x5 =>
  x5.bind fun a7 =>
  (hIs w a7 2).bind fun _ =>
  b2_ (fJ2_size a7 w) fun x12 w9 =>
  if 24 ≤ x12 then (
    fX6_arc_b23 v0 v0 0 w9
  ) else (
    fX6_arc_b23 v0 v0 1 w9
  )
theorem bX6_arc_0 {p : Program} {l : Launch} {e : Env} {s : State} {m : MethodId} {args : Array Value} {below : List Frame} {meth : Method} {c : Code} {H : Heap} {locs : List Loc} {ls : Array Slot} {G : gE} {A : Nat → Prop} {w0 : WH} (B : gB G RX6 cX6_arc 5 none p s m args meth c) (hT : ∀ x ∈ c.exceptionTable.toList, False) (hl0 : l.stackTraces = false) {v0 : Nat} {w : WH} {r : ((Sum Unit (Nat × Nat)) × WH)} (h : fX6_arc v0 w = some r)   (hR : RepH G A w H) (hS : Cu A s w0 w H locs) (hl : lv_has ls 5 [(0, .ref v0)]) : W p l e (hRm 13 290 w0) s m args below meth c H locs (wC w0 - wC w) (wS w0 - wS w) (hZX below args s G A w0 (oV r.1) r.2) (F0 m 0 ls []) := by
  have B0 := B
  obtain ⟨hx, hb, hml, hown, hts, hr, hlk, hK⟩ := B0
  unfold fX6_arc at h
  refine lv_aload_n hx hb dX6_arc_0 rfl (lv_at hl 0 rfl) ?_
  refine lv_aload_n hx hb dX6_arc_1 rfl (lv_at hl 0 rfl) ?_
  replace h := bo_o h
  obtain ⟨x1, e2, h⟩ := h
  refine h_get (ci := 25) (k := 0) (v := va_rf x1) hx hb hts hown hK hR in_X6 rfl (by decide) (fun _ _ => rfl) q711 (fun _ h9 => h9) (gR_o e2) dX6_arc_2 ?_
  replace h := bo_o h
  obtain ⟨a3, e4, h⟩ := h
  subst e4
  replace h := bo_o h
  obtain ⟨x5, e6, h⟩ := h
  refine h_getN (ci := 22) (k := 1) (v := va_rf x5) hx hb hts hown hK hR in_X3 rfl (by decide) (fun _ _ => rfl) (hK.fn 7 rfl) (fun _ h9 => h9) (gR_o e6) dX6_arc_5 ?_
  replace h := bo_o h
  obtain ⟨a7, e8, h⟩ := h
  subst e8
  replace h := bo_o h
  obtain ⟨_, e10, h⟩ := h
  replace h := b2_o h
  obtain ⟨x12, w9, e11, h⟩ := h
  refine h_callF 0  (As := []) (rest := [.ref v0]) (v := (some (.int x12))) (w' := w9) (st1 := [.int x12, .ref v0]) hx hb hml hown hts hK hR hS (Nat.le_refl _) (Nat.le_refl _) (h_recv (ci := 2) hK hR hS rfl e10) (mJ2_size e11) (lw_app (a := [.methodLink _ _ _, .selects _ _ _, .instanceMethod _, .initialized _]) (lw_4 q899 q903 q905 q117) (lw_meth q907)) (hK.fw 0 rfl) (by decide +kernel) (Nat.le_of_ble_eq_true rfl) (Nat.le_of_ble_eq_true rfl) rfl hl.1 (Nat.le_of_ble_eq_true rfl) dX6_arc_8 rfl rfl (fun H locs hR hS => ?_)
  refine lv_bipush (v := 24) hx hb dX6_arc_13 (by decide) ?_
  refine lv_icmp_ge (tgt := 22) hx hb dX6_arc_15 (by decide) (fun c13 => ?_) (fun c13 => ?_)
  · replace h := it_o c13 h
    refine lv_iconst (v := 0) hx hb dX6_arc_22 (by decide) ?_
    exact bX6_arc_23 B hT hl0 h  hR hS (lv_sub hl [0] rfl)
  · replace h := if_o c13 h
    refine lv_iconst (v := 1) hx hb dX6_arc_18 (by decide) ?_
    refine lv_goto (tgt := 23) hx hb dX6_arc_19 (by decide) ?_
    exact bX6_arc_23 B hT hl0 h  hR hS (lv_sub hl [0] rfl)
theorem mX6_arc {l : Launch} {G : gE} {A : Nat → Prop} {v0 : Nat} {w : WH} {r : ((Sum Unit (Nat × Nat)) × WH)} (hl0 : l.stackTraces = false) (h : fX6_arc v0 w = some r) : hMX l G A yX6_arc cX6_arc 5 none 13 290 [.ref v0] w (oV r.1) r.2 :=
  h_ofX (by decide +kernel) (Nat.le_of_ble_eq_true rfl) (fun p e s m args below meth c ls B hnm hT hR hS hl => bX6_arc_0 B hT hl0 h hR hS hl)
noncomputable def fX9_init (v0 : Nat) (v1 : Int32) (v2 : Int32) (v3 : Int32) (w : WH) : Option (WH) :=
  (fJ19_init v0 w).bind fun w1 =>
  (hPut w1 v0 28 0 (.int v1)).bind fun w3 =>
  (hPut w3 v0 28 1 (.int v2)).bind fun w5 =>
  (hPut w5 v0 28 2 (.int v3)).bind fun w7 =>
  some w7
theorem bX9_init_0 {p : Program} {l : Launch} {e : Env} {s : State} {m : MethodId} {args : Array Value} {below : List Frame} {meth : Method} {c : Code} {H : Heap} {locs : List Loc} {ls : Array Slot} {G : gE} {A : Nat → Prop} {w0 : WH} (B : gB G RX9 cX9_init 4 none p s m args meth c) (hnm : meth.name = "<init>") {v0 : Nat} {v1 : Int32} {v2 : Int32} {v3 : Int32} {w : WH} {r : WH} (h : fX9_init v0 v1 v2 v3 w = some r)   (hR : RepH G A w H) (hS : Cu A s w0 w H locs) (hl : lv_has ls 4 [(0, .ref v0), (1, .int v1), (2, .int v2), (3, .int v3)]) : W p l e (hRm 2 40 w0) s m args below meth c H locs (wC w0 - wC w) (wS w0 - wS w) (hZ below args s G A w0 none r) (F0 m 0 ls []) := by
  have B0 := B
  obtain ⟨hx, hb, hml, hown, hts, hr, hlk, hK⟩ := B0
  unfold fX9_init at h
  refine lv_aload_n hx hb dX9_init_0 rfl (lv_at hl 0 rfl) ?_
  replace h := bo_o h
  obtain ⟨w1, e2, h⟩ := h
  refine h_callI 0  (As := []) (rest := []) (w' := w1) hx hb hml hown hts hK hR hS (Nat.le_refl _) (Nat.le_refl _) (mJ19_init e2) (lw_meth q930) q140 q1057 q929 rfl (by decide +kernel) (Nat.le_of_ble_eq_true rfl) (Nat.le_of_ble_eq_true rfl) rfl hl.1 (Nat.le_of_ble_eq_true rfl) dX9_init_1 rfl (fun H locs hR hS => ?_)
  refine lv_aload_n hx hb dX9_init_4 rfl (lv_at hl 0 rfl) ?_
  refine lv_iload_n hx hb dX9_init_5 rfl (lv_at hl 1 rfl) ?_
  replace h := bo_o h
  obtain ⟨w3, e4, h⟩ := h
  refine h_putF (ci := 28) (k := 0) (ty := tyX9 0) hx hb hts hown hK hR hS in_X9 tyX9 tyX9_ok nmX9 rfl (by decide) q1058 (fun _ h9 => h9) rfl hnm rfl (tyX9_ok 0 (by decide)) rfl rfl e4 dX9_init_6 (fun H locs hR hS => ?_)
  refine lv_aload_n hx hb dX9_init_9 rfl (lv_at hl 0 rfl) ?_
  refine lv_iload_n hx hb dX9_init_10 rfl (lv_at hl 2 rfl) ?_
  replace h := bo_o h
  obtain ⟨w5, e6, h⟩ := h
  refine h_putF (ci := 28) (k := 1) (ty := tyX9 1) hx hb hts hown hK hR hS in_X9 tyX9 tyX9_ok nmX9 rfl (by decide) q1059 (fun _ h9 => h9) rfl hnm rfl (tyX9_ok 1 (by decide)) rfl rfl e6 dX9_init_11 (fun H locs hR hS => ?_)
  refine lv_aload_n hx hb dX9_init_14 rfl (lv_at hl 0 rfl) ?_
  refine lv_iload_n hx hb dX9_init_15 rfl (lv_at hl 3 rfl) ?_
  replace h := bo_o h
  obtain ⟨w7, e8, h⟩ := h
  refine h_putF (ci := 28) (k := 2) (ty := tyX9 2) hx hb hts hown hK hR hS in_X9 tyX9 tyX9_ok nmX9 rfl (by decide) q1060 (fun _ h9 => h9) rfl hnm rfl (tyX9_ok 2 (by decide)) rfl rfl e8 dX9_init_16 (fun H locs hR hS => ?_)
  have eR := Option.some.inj h
  subst eR
  exact h_vfin hx hb hr hlk hR hS dX9_init_19
theorem mX9_init {l : Launch} {G : gE} {A : Nat → Prop} {v0 : Nat} {v1 : Int32} {v2 : Int32} {v3 : Int32} {w : WH} {r : WH} (h : fX9_init v0 v1 v2 v3 w = some r) : hM l G A yX9_init cX9_init 4 none 2 40 [.ref v0, .int v1, .int v2, .int v3] w none r :=
  h_of (by decide +kernel) (Nat.le_of_ble_eq_true rfl) (fun p e s m args below meth c ls B hnm hR hS hl => bX9_init_0 B hnm h hR hS hl)
noncomputable def fX6_trip_b95  (w : WH) : Option (((Sum Unit (Nat × Nat)) × WH)) :=
  some (.inl (), w)
theorem bX6_trip_95 {p : Program} {l : Launch} {e : Env} {s : State} {m : MethodId} {args : Array Value} {below : List Frame} {meth : Method} {c : Code} {H : Heap} {locs : List Loc} {ls : Array Slot} {G : gE} {A : Nat → Prop} {w0 : WH} (B : gB G RX6 cX6_trip 3 none p s m args meth c) (hT : ∀ x ∈ c.exceptionTable.toList, False) (hl0 : l.stackTraces = false)  {w : WH} {r : ((Sum Unit (Nat × Nat)) × WH)} (h : fX6_trip_b95 w = some r)   (hR : RepH G A w H) (hS : Cu A s w0 w H locs) (hl : lv_has ls 3 []) : W p l e (hRm 8 177 w0) s m args below meth c H locs (wC w0 - wC w) (wS w0 - wS w) (hZX below args s G A w0 (oV r.1) r.2) (F0 m 95 ls []) := by
  have B0 := B
  obtain ⟨hx, hb, hml, hown, hts, hr, hlk, hK⟩ := B0
  unfold fX6_trip_b95 at h
  have eR := Option.some.inj h
  subst eR
  exact h_vfinX hx hb hr hlk hR hS dX6_trip_95
noncomputable def fX6_trip_b23 (v0 : Nat) (s0 : Nat) (s1 : Int32) (w : WH) : Option (((Sum Unit (Nat × Nat)) × WH)) :=
  (hIs w s0 25).bind fun _ =>
  b2_ (fX6_require s0 s1 4 w) fun o3 w1 => ex_ o3 (fun _ =>
    (hIs w1 v0 25).bind fun _ =>
    b2_ (fX6_node v0 w1) fun o9 w7 => ex_ o9 (fun x11 =>
      (hIs w7 v0 25).bind fun _ =>
      b2_ (fX6_nodeBut v0 x11 w7) fun o15 w13 => ex_ o15 (fun x17 =>
        (gR w13 v0 25 0).bind fun x19 =>
        x19.bind fun a21 =>
        (gR w13 a21 22 3).bind fun x23 =>
        (gR w13 v0 25 0).bind fun x25 =>
        x25.bind fun a27 =>
        (gR w13 a27 22 2).bind fun x29 =>
        x29.bind fun a31 =>
        (hIs w13 a31 2).bind fun _ =>
        b2_ (fJ2_size a31 w13) fun x36 w33 =>
        (hIs w33 v0 25).bind fun _ =>
        b2_ (fX6_number v0 0 999 w33) fun o39 w37 => ex_ o39 (fun x41 =>
          x23.bind fun a43 =>
          (stI w37 a43 0 x36 x41).bind fun w45 =>
          (gR w45 v0 25 0).bind fun x47 =>
          x47.bind fun a49 =>
          (gR w45 a49 22 2).bind fun x51 =>
          b2_ (hNw w45 3 28 [.int 0, .int 0, .int 0]) fun a53 w54 =>
          (hIs w54 v0 25).bind fun _ =>
          b2_ (fX6_number v0 1 20 w54) fun o58 w56 => ex_ o58 (fun x60 =>
            (fX9_init a53 x11 x17 x60 w56).bind fun w62 =>
            x51.bind fun a64 =>
            (hIs w62 a64 2).bind fun _ =>
            b2_ (fJ2_add a64 a53 w62) fun x69 w66 =>
            fX6_trip_b95 w66) (fun q61 =>
            some (.inr q61, w56))) (fun q42 =>
          some (.inr q42, w37))) (fun q18 =>
        some (.inr q18, w13))) (fun q12 =>
      some (.inr q12, w7))) (fun q6 =>
    some (.inr q6, w1))
theorem bX6_trip_23 {p : Program} {l : Launch} {e : Env} {s : State} {m : MethodId} {args : Array Value} {below : List Frame} {meth : Method} {c : Code} {H : Heap} {locs : List Loc} {ls : Array Slot} {G : gE} {A : Nat → Prop} {w0 : WH} (B : gB G RX6 cX6_trip 3 none p s m args meth c) (hT : ∀ x ∈ c.exceptionTable.toList, False) (hl0 : l.stackTraces = false) {v0 : Nat} {s0 : Nat} {s1 : Int32} {w : WH} {r : ((Sum Unit (Nat × Nat)) × WH)} (h : fX6_trip_b23 v0 s0 s1 w = some r)   (hR : RepH G A w H) (hS : Cu A s w0 w H locs) (hl : lv_has ls 3 [(0, .ref v0)]) : W p l e (hRm 8 177 w0) s m args below meth c H locs (wC w0 - wC w) (wS w0 - wS w) (hZX below args s G A w0 (oV r.1) r.2) (F0 m 23 ls [.int s1, .ref s0]) := by
  have B0 := B
  obtain ⟨hx, hb, hml, hown, hts, hr, hlk, hK⟩ := B0
  unfold fX6_trip_b23 at h
  refine lv_iconst (v := 4) hx hb dX6_trip_23 (by decide) ?_
  replace h := bo_o h
  obtain ⟨_, e2, h⟩ := h
  replace h := b2_o h
  obtain ⟨o3, w1, e4, h⟩ := h
  refine h_callVX 2 (ci := 25) (As := [.int s1, .int 4]) (rest := []) (o := oV o3) (w' := w1) hx hb hml hown hts hK hR hS (Nat.le_refl _) (Nat.le_refl _) rfl e2 (mX6_require hl0 e4) (lw_V q745 q747 qs4 q138 q748) (by decide +kernel) (Nat.le_of_ble_eq_true rfl) (Nat.le_of_ble_eq_true rfl) rfl hl.1 (Nat.le_of_ble_eq_true rfl) dX6_trip_24 rfl (fun v9 hv9 H locs hR hS => ?_) (fun E9 q9 hq9 H locs hR hS hce => ?_)
  · cases o3 with
    | inr q => cases hv9
    | inl x5 =>
      cases hv9
      replace h := exl_o h
      refine W.eq (g2 := F0 m 27 ls []) rfl ?_
      refine lv_aload_n hx hb dX6_trip_27 rfl (lv_at hl 0 rfl) ?_
      replace h := bo_o h
      obtain ⟨_, e8, h⟩ := h
      replace h := b2_o h
      obtain ⟨o9, w7, e10, h⟩ := h
      refine h_callVX 0 (ci := 25) (As := []) (rest := []) (o := oI o9) (w' := w7) hx hb hml hown hts hK hR hS (Nat.le_refl _) (Nat.le_refl _) rfl e8 (mX6_node hl0 e10) (lw_V q914 q916 qs10 q138 q917) (by decide +kernel) (Nat.le_of_ble_eq_true rfl) (Nat.le_of_ble_eq_true rfl) rfl hl.1 (Nat.le_of_ble_eq_true rfl) dX6_trip_28 rfl (fun v9 hv9 H locs hR hS => ?_) (fun E9 q9 hq9 H locs hR hS hce => ?_)
      · cases o9 with
        | inr q => cases hv9
        | inl x11 =>
          cases hv9
          replace h := exl_o h
          refine W.eq (g2 := F0 m 31 ls [.int x11]) rfl ?_
          refine lv_istore_n (lv' := [(1, .int x11), (0, .ref v0)]) hx hb dX6_trip_31 rfl hl (by decide) rfl (fun ls hl => ?_)
          refine lv_aload_n hx hb dX6_trip_32 rfl (lv_at hl 1 rfl) ?_
          refine lv_iload_n hx hb dX6_trip_33 rfl (lv_at hl 0 rfl) ?_
          replace h := bo_o h
          obtain ⟨_, e14, h⟩ := h
          replace h := b2_o h
          obtain ⟨o15, w13, e16, h⟩ := h
          refine h_callVX 1 (ci := 25) (As := [.int x11]) (rest := []) (o := oI o15) (w' := w13) hx hb hml hown hts hK hR hS (Nat.le_refl _) (Nat.le_refl _) rfl e14 (mX6_nodeBut hl0 e16) (lw_V q918 q920 qs11 q138 q921) (by decide +kernel) (Nat.le_of_ble_eq_true rfl) (Nat.le_of_ble_eq_true rfl) rfl hl.1 (Nat.le_of_ble_eq_true rfl) dX6_trip_34 rfl (fun v9 hv9 H locs hR hS => ?_) (fun E9 q9 hq9 H locs hR hS hce => ?_)
          · cases o15 with
            | inr q => cases hv9
            | inl x17 =>
              cases hv9
              replace h := exl_o h
              refine W.eq (g2 := F0 m 37 ls [.int x17]) rfl ?_
              refine lv_istore_n (lv' := [(2, .int x17), (1, .int x11), (0, .ref v0)]) hx hb dX6_trip_37 rfl hl (by decide) rfl (fun ls hl => ?_)
              refine lv_aload_n hx hb dX6_trip_38 rfl (lv_at hl 2 rfl) ?_
              replace h := bo_o h
              obtain ⟨x19, e20, h⟩ := h
              refine h_get (ci := 25) (k := 0) (v := va_rf x19) hx hb hts hown hK hR in_X6 rfl (by decide) (fun _ _ => rfl) q711 (fun _ h9 => h9) (gR_o e20) dX6_trip_39 ?_
              replace h := bo_o h
              obtain ⟨a21, e22, h⟩ := h
              subst e22
              replace h := bo_o h
              obtain ⟨x23, e24, h⟩ := h
              refine h_getN (ci := 22) (k := 3) (v := va_rf x23) hx hb hts hown hK hR in_X3 rfl (by decide) (fun _ _ => rfl) (hK.fn 12 rfl) (fun _ h9 => h9) (gR_o e24) dX6_trip_42 ?_
              refine lv_aload_n hx hb dX6_trip_45 rfl (lv_at hl 2 rfl) ?_
              replace h := bo_o h
              obtain ⟨x25, e26, h⟩ := h
              refine h_get (ci := 25) (k := 0) (v := va_rf x25) hx hb hts hown hK hR in_X6 rfl (by decide) (fun _ _ => rfl) q711 (fun _ h9 => h9) (gR_o e26) dX6_trip_46 ?_
              replace h := bo_o h
              obtain ⟨a27, e28, h⟩ := h
              subst e28
              replace h := bo_o h
              obtain ⟨x29, e30, h⟩ := h
              refine h_getN (ci := 22) (k := 2) (v := va_rf x29) hx hb hts hown hK hR in_X3 rfl (by decide) (fun _ _ => rfl) (hK.fn 9 rfl) (fun _ h9 => h9) (gR_o e30) dX6_trip_49 ?_
              replace h := bo_o h
              obtain ⟨a31, e32, h⟩ := h
              subst e32
              replace h := bo_o h
              obtain ⟨_, e34, h⟩ := h
              replace h := b2_o h
              obtain ⟨x36, w33, e35, h⟩ := h
              refine h_callF 0  (As := []) (rest := [va_rf x23]) (v := (some (.int x36))) (w' := w33) (st1 := [.int x36, va_rf x23]) hx hb hml hown hts hK hR hS (Nat.le_refl _) (Nat.le_refl _) (h_recv (ci := 2) hK hR hS rfl e34) (mJ2_size e35) (lw_app (a := [.methodLink _ _ _, .selects _ _ _, .instanceMethod _, .initialized _]) (lw_4 q899 q903 q905 q117) (lw_meth q907)) (hK.fw 0 rfl) (by decide +kernel) (Nat.le_of_ble_eq_true rfl) (Nat.le_of_ble_eq_true rfl) rfl hl.1 (cat_le (Nat.le_of_ble_eq_true rfl)) dX6_trip_52 rfl rfl (fun H locs hR hS => ?_)
              refine lv_aload_n hx hb dX6_trip_57 rfl (lv_at hl 2 rfl) ?_
              refine lv_iconst (v := 0) hx hb dX6_trip_58 (by decide) ?_
              refine lv_sipush (v := 999) hx hb dX6_trip_59 (by decide) ?_
              replace h := bo_o h
              obtain ⟨_, e38, h⟩ := h
              replace h := b2_o h
              obtain ⟨o39, w37, e40, h⟩ := h
              refine h_callVX 2 (ci := 25) (As := [.int 0, .int 999]) (rest := [.int x36, va_rf x23]) (o := oI o39) (w' := w37) hx hb hml hown hts hK hR hS (Nat.le_refl _) (Nat.le_refl _) rfl e38 (mX6_number hl0 e40) (lw_V q815 q817 qs6 q138 q818) (by decide +kernel) (Nat.le_of_ble_eq_true rfl) (Nat.le_of_ble_eq_true rfl) rfl hl.1 (cat_le (Nat.le_of_ble_eq_true rfl)) dX6_trip_62 rfl (fun v9 hv9 H locs hR hS => ?_) (fun E9 q9 hq9 H locs hR hS hce => ?_)
              · cases o39 with
                | inr q => cases hv9
                | inl x41 =>
                  cases hv9
                  replace h := exl_o h
                  refine W.eq (g2 := F0 m 65 ls [.int x41, .int x36, va_rf x23]) rfl ?_
                  replace h := bo_o h
                  obtain ⟨a43, e44, h⟩ := h
                  subst e44
                  replace h := bo_o h
                  obtain ⟨w45, e46, h⟩ := h
                  refine h_iast hx hb hK hR hS e46 dX6_trip_65 (fun H locs hR hS => ?_)
                  refine lv_aload_n hx hb dX6_trip_66 rfl (lv_at hl 2 rfl) ?_
                  replace h := bo_o h
                  obtain ⟨x47, e48, h⟩ := h
                  refine h_get (ci := 25) (k := 0) (v := va_rf x47) hx hb hts hown hK hR in_X6 rfl (by decide) (fun _ _ => rfl) q711 (fun _ h9 => h9) (gR_o e48) dX6_trip_67 ?_
                  replace h := bo_o h
                  obtain ⟨a49, e50, h⟩ := h
                  subst e50
                  replace h := bo_o h
                  obtain ⟨x51, e52, h⟩ := h
                  refine h_getN (ci := 22) (k := 2) (v := va_rf x51) hx hb hts hown hK hR in_X3 rfl (by decide) (fun _ _ => rfl) (hK.fn 9 rfl) (fun _ h9 => h9) (gR_o e52) dX6_trip_70 ?_
                  replace h := b2_o h
                  obtain ⟨a53, w54, e55, h⟩ := h
                  refine h_new (ci := 28) (fs := [.int 0, .int 0, .int 0]) hx hb hts hown hK hR hS (Nat.le_refl _) (Nat.le_refl _) in_X9 tyX9 tyX9_ok rfl (by decide +kernel) q1052 q1053 q143 e55 dX6_trip_73 (fun H locs hR hS => ?_)
                  refine lv_dup hx hb dX6_trip_76 rfl ?_
                  refine lv_iload_n hx hb dX6_trip_77 rfl (lv_at hl 1 rfl) ?_
                  refine lv_iload_n hx hb dX6_trip_78 rfl (lv_at hl 0 rfl) ?_
                  refine lv_aload_n hx hb dX6_trip_79 rfl (lv_at hl 2 rfl) ?_
                  refine lv_iconst (v := 1) hx hb dX6_trip_80 (by decide) ?_
                  refine lv_bipush (v := 20) hx hb dX6_trip_81 (by decide) ?_
                  replace h := bo_o h
                  obtain ⟨_, e57, h⟩ := h
                  replace h := b2_o h
                  obtain ⟨o58, w56, e59, h⟩ := h
                  refine h_callVX 2 (ci := 25) (As := [.int 1, .int 20]) (rest := [.int x17, .int x11, .ref a53, .ref a53, va_rf x51]) (o := oI o58) (w' := w56) hx hb hml hown hts hK hR hS (Nat.le_refl _) (Nat.le_refl _) rfl e57 (mX6_number hl0 e59) (lw_V q815 q817 qs6 q138 q818) (by decide +kernel) (Nat.le_of_ble_eq_true rfl) (Nat.le_of_ble_eq_true rfl) rfl hl.1 (by simp only [List.map, rf_cat]; exact Nat.le_of_ble_eq_true rfl) dX6_trip_83 rfl (fun v9 hv9 H locs hR hS => ?_) (fun E9 q9 hq9 H locs hR hS hce => ?_)
                  · cases o58 with
                    | inr q => cases hv9
                    | inl x60 =>
                      cases hv9
                      replace h := exl_o h
                      refine W.eq (g2 := F0 m 86 ls [.int x60, .int x17, .int x11, .ref a53, .ref a53, va_rf x51]) rfl ?_
                      replace h := bo_o h
                      obtain ⟨w62, e63, h⟩ := h
                      refine h_callIN 3  (As := [.int x11, .int x17, .int x60]) (rest := [.ref a53, va_rf x51]) (w' := w62) hx hb hml hown hts hK hR hS (Nat.le_refl _) (Nat.le_refl _) (mX9_init e63) (lw_meth q1056) (hK.mn 4 rfl) q143 q1055 rfl (by decide +kernel) (Nat.le_of_ble_eq_true rfl) (Nat.le_of_ble_eq_true rfl) rfl hl.1 (cat_le (Nat.le_of_ble_eq_true rfl)) dX6_trip_86 rfl (fun H locs hR hS => ?_)
                      replace h := bo_o h
                      obtain ⟨a64, e65, h⟩ := h
                      subst e65
                      replace h := bo_o h
                      obtain ⟨_, e67, h⟩ := h
                      replace h := b2_o h
                      obtain ⟨x69, w66, e68, h⟩ := h
                      refine h_callF 1  (As := [.ref a53]) (rest := []) (v := (some (.int x69))) (w' := w66) (st1 := [.int x69]) hx hb hml hown hts hK hR hS (Nat.le_refl _) (Nat.le_refl _) (h_recv (ci := 2) hK hR hS rfl e67) (mJ2_add e68) (lw_app (a := [.methodLink _ _ _, .selects _ _ _, .instanceMethod _, .initialized _]) (lw_4 q949 q952 q954 q117) (lw_meth q956)) (hK.fw 2 rfl) (by decide +kernel) (Nat.le_of_ble_eq_true rfl) (Nat.le_of_ble_eq_true rfl) rfl hl.1 (Nat.le_of_ble_eq_true rfl) dX6_trip_89 rfl rfl (fun H locs hR hS => ?_)
                      refine lv_pop hx hb dX6_trip_94 rfl ?_
                      exact bX6_trip_95 B hT hl0 h  hR hS (lv_sub hl [] rfl)
                  · cases o58 with
                    | inl q => cases hq9
                    | inr q61 =>
                      cases hq9
                      replace h := exr_o h
                      have eR := Option.some.inj h
                      subst eR
                      exact h_out hT hlk hR hS hce
              · cases o39 with
                | inl q => cases hq9
                | inr q42 =>
                  cases hq9
                  replace h := exr_o h
                  have eR := Option.some.inj h
                  subst eR
                  exact h_out hT hlk hR hS hce
          · cases o15 with
            | inl q => cases hq9
            | inr q18 =>
              cases hq9
              replace h := exr_o h
              have eR := Option.some.inj h
              subst eR
              exact h_out hT hlk hR hS hce
      · cases o9 with
        | inl q => cases hq9
        | inr q12 =>
          cases hq9
          replace h := exr_o h
          have eR := Option.some.inj h
          subst eR
          exact h_out hT hlk hR hS hce
  · cases o3 with
    | inl q => cases hq9
    | inr q6 =>
      cases hq9
      replace h := exr_o h
      have eR := Option.some.inj h
      subst eR
      exact h_out hT hlk hR hS hce
noncomputable def fX6_trip (v0 : Nat) (w : WH) : Option (((Sum Unit (Nat × Nat)) × WH)) :=
  (gR w v0 25 0).bind fun x1 =>
  x1.bind fun a3 =>
  (gR w a3 22 2).bind fun x5 =>
  x5.bind fun a7 =>
  (hIs w a7 2).bind fun _ =>
  b2_ (fJ2_size a7 w) fun x12 w9 =>
  if 6 ≤ x12 then (
    fX6_trip_b23 v0 v0 0 w9
  ) else (
    fX6_trip_b23 v0 v0 1 w9
  )
theorem bX6_trip_0 {p : Program} {l : Launch} {e : Env} {s : State} {m : MethodId} {args : Array Value} {below : List Frame} {meth : Method} {c : Code} {H : Heap} {locs : List Loc} {ls : Array Slot} {G : gE} {A : Nat → Prop} {w0 : WH} (B : gB G RX6 cX6_trip 3 none p s m args meth c) (hT : ∀ x ∈ c.exceptionTable.toList, False) (hl0 : l.stackTraces = false) {v0 : Nat} {w : WH} {r : ((Sum Unit (Nat × Nat)) × WH)} (h : fX6_trip v0 w = some r)   (hR : RepH G A w H) (hS : Cu A s w0 w H locs) (hl : lv_has ls 3 [(0, .ref v0)]) : W p l e (hRm 8 177 w0) s m args below meth c H locs (wC w0 - wC w) (wS w0 - wS w) (hZX below args s G A w0 (oV r.1) r.2) (F0 m 0 ls []) := by
  have B0 := B
  obtain ⟨hx, hb, hml, hown, hts, hr, hlk, hK⟩ := B0
  unfold fX6_trip at h
  refine lv_aload_n hx hb dX6_trip_0 rfl (lv_at hl 0 rfl) ?_
  refine lv_aload_n hx hb dX6_trip_1 rfl (lv_at hl 0 rfl) ?_
  replace h := bo_o h
  obtain ⟨x1, e2, h⟩ := h
  refine h_get (ci := 25) (k := 0) (v := va_rf x1) hx hb hts hown hK hR in_X6 rfl (by decide) (fun _ _ => rfl) q711 (fun _ h9 => h9) (gR_o e2) dX6_trip_2 ?_
  replace h := bo_o h
  obtain ⟨a3, e4, h⟩ := h
  subst e4
  replace h := bo_o h
  obtain ⟨x5, e6, h⟩ := h
  refine h_getN (ci := 22) (k := 2) (v := va_rf x5) hx hb hts hown hK hR in_X3 rfl (by decide) (fun _ _ => rfl) (hK.fn 9 rfl) (fun _ h9 => h9) (gR_o e6) dX6_trip_5 ?_
  replace h := bo_o h
  obtain ⟨a7, e8, h⟩ := h
  subst e8
  replace h := bo_o h
  obtain ⟨_, e10, h⟩ := h
  replace h := b2_o h
  obtain ⟨x12, w9, e11, h⟩ := h
  refine h_callF 0  (As := []) (rest := [.ref v0]) (v := (some (.int x12))) (w' := w9) (st1 := [.int x12, .ref v0]) hx hb hml hown hts hK hR hS (Nat.le_refl _) (Nat.le_refl _) (h_recv (ci := 2) hK hR hS rfl e10) (mJ2_size e11) (lw_app (a := [.methodLink _ _ _, .selects _ _ _, .instanceMethod _, .initialized _]) (lw_4 q899 q903 q905 q117) (lw_meth q907)) (hK.fw 0 rfl) (by decide +kernel) (Nat.le_of_ble_eq_true rfl) (Nat.le_of_ble_eq_true rfl) rfl hl.1 (Nat.le_of_ble_eq_true rfl) dX6_trip_8 rfl rfl (fun H locs hR hS => ?_)
  refine lv_bipush (v := 6) hx hb dX6_trip_13 (by decide) ?_
  refine lv_icmp_ge (tgt := 22) hx hb dX6_trip_15 (by decide) (fun c13 => ?_) (fun c13 => ?_)
  · replace h := it_o c13 h
    refine lv_iconst (v := 0) hx hb dX6_trip_22 (by decide) ?_
    exact bX6_trip_23 B hT hl0 h  hR hS (lv_sub hl [0] rfl)
  · replace h := if_o c13 h
    refine lv_iconst (v := 1) hx hb dX6_trip_18 (by decide) ?_
    refine lv_goto (tgt := 23) hx hb dX6_trip_19 (by decide) ?_
    exact bX6_trip_23 B hT hl0 h  hR hS (lv_sub hl [0] rfl)
theorem mX6_trip {l : Launch} {G : gE} {A : Nat → Prop} {v0 : Nat} {w : WH} {r : ((Sum Unit (Nat × Nat)) × WH)} (hl0 : l.stackTraces = false) (h : fX6_trip v0 w = some r) : hMX l G A yX6_trip cX6_trip 3 none 8 177 [.ref v0] w (oV r.1) r.2 :=
  h_ofX (by decide +kernel) (Nat.le_of_ble_eq_true rfl) (fun p e s m args below meth c ls B hnm hT hR hS hl => bX6_trip_0 B hT hl0 h hR hS hl)
noncomputable def fX6_statement_b61 (v0 : Nat) (v2 : Int32) (w : WH) : Option (((Sum Unit (Nat × Nat)) × WH)) :=
  if v2 = 0 then (
    (hIs w v0 25).bind fun _ =>
    b2_ (fX6_arc v0 w) fun o4 w2 => ex_ o4 (fun _ =>
      some (.inl (), w2)) (fun q7 =>
      some (.inr q7, w2))
  ) else (
    if v2 = 1 then (
      (hIs w v0 25).bind fun _ =>
      b2_ (fX6_trip v0 w) fun o11 w9 => ex_ o11 (fun _ =>
        some (.inl (), w9)) (fun q14 =>
        some (.inr q14, w9))
    ) else (
      (hIs w v0 25).bind fun _ =>
      b2_ (fX6_require v0 0 1 w) fun o17 w15 => ex_ o17 (fun _ =>
        some (.inl (), w15)) (fun q20 =>
        some (.inr q20, w15))
    )
  )
theorem bX6_statement_61 {p : Program} {l : Launch} {e : Env} {s : State} {m : MethodId} {args : Array Value} {below : List Frame} {meth : Method} {c : Code} {H : Heap} {locs : List Loc} {ls : Array Slot} {G : gE} {A : Nat → Prop} {w0 : WH} (B : gB G RX6 cX6_statement 3 none p s m args meth c) (hT : ∀ x ∈ c.exceptionTable.toList, False) (hl0 : l.stackTraces = false) {v0 : Nat} {v2 : Int32} {w : WH} {r : ((Sum Unit (Nat × Nat)) × WH)} (h : fX6_statement_b61 v0 v2 w = some r)   (hR : RepH G A w H) (hS : Cu A s w0 w H locs) (hl : lv_has ls 3 [(0, .ref v0), (2, .int v2)]) : W p l e (hRm 15 334 w0) s m args below meth c H locs (wC w0 - wC w) (wS w0 - wS w) (hZX below args s G A w0 (oV r.1) r.2) (F0 m 61 ls []) := by
  have B0 := B
  obtain ⟨hx, hb, hml, hown, hts, hr, hlk, hK⟩ := B0
  unfold fX6_statement_b61 at h
  refine lv_iload_n hx hb dX6_statement_61 rfl (lv_at hl 1 rfl) ?_
  by_cases c1 : v2 = 0
  · replace h := it_o c1 h
    rw [c1]
    refine lv_lookup (off := 26) (tgt := 88) hx hb dX6_statement_62 (by decide) (by decide) (by decide) ?_
    refine lv_aload_n hx hb dX6_statement_88 rfl (lv_at hl 0 rfl) ?_
    replace h := bo_o h
    obtain ⟨_, e3, h⟩ := h
    replace h := b2_o h
    obtain ⟨o4, w2, e5, h⟩ := h
    refine h_callVX 0 (ci := 25) (As := []) (rest := []) (o := oV o4) (w' := w2) hx hb hml hown hts hK hR hS (Nat.le_refl _) (Nat.le_refl _) rfl e3 (mX6_arc hl0 e5) (lw_V q894 q896 qs9 q138 q897) (by decide +kernel) (Nat.le_of_ble_eq_true rfl) (Nat.le_of_ble_eq_true rfl) rfl hl.1 (Nat.le_of_ble_eq_true rfl) dX6_statement_89 rfl (fun v9 hv9 H locs hR hS => ?_) (fun E9 q9 hq9 H locs hR hS hce => ?_)
    · cases o4 with
      | inr q => cases hv9
      | inl x6 =>
        cases hv9
        replace h := exl_o h
        refine W.eq (g2 := F0 m 92 ls []) rfl ?_
        refine lv_goto (tgt := 108) hx hb dX6_statement_92 (by decide) ?_
        have eR := Option.some.inj h
        subst eR
        exact h_vfinX hx hb hr hlk hR hS dX6_statement_108
    · cases o4 with
      | inl q => cases hq9
      | inr q7 =>
        cases hq9
        replace h := exr_o h
        have eR := Option.some.inj h
        subst eR
        exact h_out hT hlk hR hS hce
  · replace h := if_o c1 h
    by_cases c8 : v2 = 1
    · replace h := it_o c8 h
      rw [c8]
      refine lv_lookup (off := 33) (tgt := 95) hx hb dX6_statement_62 (by decide) (by decide) (by decide) ?_
      refine lv_aload_n hx hb dX6_statement_95 rfl (lv_at hl 0 rfl) ?_
      replace h := bo_o h
      obtain ⟨_, e10, h⟩ := h
      replace h := b2_o h
      obtain ⟨o11, w9, e12, h⟩ := h
      refine h_callVX 0 (ci := 25) (As := []) (rest := []) (o := oV o11) (w' := w9) hx hb hml hown hts hK hR hS (Nat.le_refl _) (Nat.le_refl _) rfl e10 (mX6_trip hl0 e12) (lw_V q1048 q1050 qs15 q138 q1051) (by decide +kernel) (Nat.le_of_ble_eq_true rfl) (Nat.le_of_ble_eq_true rfl) rfl hl.1 (Nat.le_of_ble_eq_true rfl) dX6_statement_96 rfl (fun v9 hv9 H locs hR hS => ?_) (fun E9 q9 hq9 H locs hR hS hce => ?_)
      · cases o11 with
        | inr q => cases hv9
        | inl x13 =>
          cases hv9
          replace h := exl_o h
          refine W.eq (g2 := F0 m 99 ls []) rfl ?_
          refine lv_goto (tgt := 108) hx hb dX6_statement_99 (by decide) ?_
          have eR := Option.some.inj h
          subst eR
          exact h_vfinX hx hb hr hlk hR hS dX6_statement_108
      · cases o11 with
        | inl q => cases hq9
        | inr q14 =>
          cases hq9
          replace h := exr_o h
          have eR := Option.some.inj h
          subst eR
          exact h_out hT hlk hR hS hce
    · replace h := if_o c8 h
      refine lv_lookup (off := 40) (tgt := 102) hx hb dX6_statement_62 (by decide) (sw_lk2 (k1 := 0) (k2 := 1) c1 c8 (by decide)) (by decide) ?_
      refine lv_aload_n hx hb dX6_statement_102 rfl (lv_at hl 0 rfl) ?_
      refine lv_iconst (v := 0) hx hb dX6_statement_103 (by decide) ?_
      refine lv_iconst (v := 1) hx hb dX6_statement_104 (by decide) ?_
      replace h := bo_o h
      obtain ⟨_, e16, h⟩ := h
      replace h := b2_o h
      obtain ⟨o17, w15, e18, h⟩ := h
      refine h_callVX 2 (ci := 25) (As := [.int 0, .int 1]) (rest := []) (o := oV o17) (w' := w15) hx hb hml hown hts hK hR hS (Nat.le_refl _) (Nat.le_refl _) rfl e16 (mX6_require hl0 e18) (lw_V q745 q747 qs4 q138 q748) (by decide +kernel) (Nat.le_of_ble_eq_true rfl) (Nat.le_of_ble_eq_true rfl) rfl hl.1 (Nat.le_of_ble_eq_true rfl) dX6_statement_105 rfl (fun v9 hv9 H locs hR hS => ?_) (fun E9 q9 hq9 H locs hR hS hce => ?_)
      · cases o17 with
        | inr q => cases hv9
        | inl x19 =>
          cases hv9
          replace h := exl_o h
          refine W.eq (g2 := F0 m 108 ls []) rfl ?_
          have eR := Option.some.inj h
          subst eR
          exact h_vfinX hx hb hr hlk hR hS dX6_statement_108
      · cases o17 with
        | inl q => cases hq9
        | inr q20 =>
          cases hq9
          replace h := exr_o h
          have eR := Option.some.inj h
          subst eR
          exact h_out hT hlk hR hS hce
noncomputable def fX6_statement (v0 : Nat) (w : WH) : Option (((Sum Unit (Nat × Nat)) × WH)) :=
  (hIs w v0 25).bind fun _ =>
  b2_ (fX6_word v0 w) fun o3 w1 => ex_ o3 (fun x5 =>
    x5.bind fun a7 =>
    (hIs w1 a7 16).bind fun _ =>
    b2_ (fJ9_hashCode a7 w1) fun x12 w9 =>
    if x12 = 96850 then (
      (hIs w9 a7 16).bind fun _ =>
      b2_ (fJ9_equals a7 (wK w9 2) w9) fun x17 w14 =>
      if x17 = 0 then (
        fX6_statement_b61 v0 (-1) w14
      ) else (
        fX6_statement_b61 v0 0 w14
      )
    ) else (
      if x12 = 3568677 then (
        (hIs w9 a7 16).bind fun _ =>
        b2_ (fJ9_equals a7 (wK w9 3) w9) fun x23 w20 =>
        if x23 = 0 then (
          fX6_statement_b61 v0 (-1) w20
        ) else (
          fX6_statement_b61 v0 1 w20
        )
      ) else (
        fX6_statement_b61 v0 (-1) w9
      )
    )) (fun q6 =>
    some (.inr q6, w1))
theorem bX6_statement_0 {p : Program} {l : Launch} {e : Env} {s : State} {m : MethodId} {args : Array Value} {below : List Frame} {meth : Method} {c : Code} {H : Heap} {locs : List Loc} {ls : Array Slot} {G : gE} {A : Nat → Prop} {w0 : WH} (B : gB G RX6 cX6_statement 3 none p s m args meth c) (hT : ∀ x ∈ c.exceptionTable.toList, False) (hl0 : l.stackTraces = false) {v0 : Nat} {w : WH} {r : ((Sum Unit (Nat × Nat)) × WH)} (h : fX6_statement v0 w = some r)   (hR : RepH G A w H) (hS : Cu A s w0 w H locs) (hl : lv_has ls 3 [(0, .ref v0)]) : W p l e (hRm 15 334 w0) s m args below meth c H locs (wC w0 - wC w) (wS w0 - wS w) (hZX below args s G A w0 (oV r.1) r.2) (F0 m 0 ls []) := by
  have B0 := B
  obtain ⟨hx, hb, hml, hown, hts, hr, hlk, hK⟩ := B0
  unfold fX6_statement at h
  refine lv_aload_n hx hb dX6_statement_0 rfl (lv_at hl 0 rfl) ?_
  replace h := bo_o h
  obtain ⟨_, e2, h⟩ := h
  replace h := b2_o h
  obtain ⟨o3, w1, e4, h⟩ := h
  refine h_callVX 0 (ci := 25) (As := []) (rest := []) (o := oR o3) (w' := w1) hx hb hml hown hts hK hR hS (Nat.le_refl _) (Nat.le_refl _) rfl e2 (mX6_word hl0 e4) (lw_V q732 q734 qs2 q138 q735) (by decide +kernel) (Nat.le_of_ble_eq_true rfl) (Nat.le_of_ble_eq_true rfl) rfl hl.1 (Nat.le_of_ble_eq_true rfl) dX6_statement_1 rfl (fun v9 hv9 H locs hR hS => ?_) (fun E9 q9 hq9 H locs hR hS hce => ?_)
  · cases o3 with
    | inr q => cases hv9
    | inl x5 =>
      cases hv9
      replace h := exl_o h
      refine W.eq (g2 := F0 m 4 ls [va_rf x5]) rfl ?_
      refine lv_astore_nq (lv' := [(1, va_rf x5), (0, .ref v0)]) hx hb dX6_statement_4 rfl hl (by decide) rfl (fun ls hl => ?_)
      refine lv_iconst (v := (-1)) hx hb dX6_statement_5 (by decide) ?_
      refine lv_istore_n (lv' := [(2, .int (-1)), (1, va_rf x5), (0, .ref v0)]) hx hb dX6_statement_6 rfl hl (by decide) (by cases x5 <;> rfl) (fun ls hl => ?_)
      refine lv_aload_nq hx hb dX6_statement_7 rfl (lv_at hl 1 rfl) ?_
      replace h := bo_o h
      obtain ⟨a7, e8, h⟩ := h
      subst e8
      replace h := bo_o h
      obtain ⟨_, e10, h⟩ := h
      replace h := b2_o h
      obtain ⟨x12, w9, e11, h⟩ := h
      refine h_callV 0 (ci := 16) (As := []) (rest := []) (v := (some (.int x12))) (w' := w9) (st1 := [.int x12]) hx hb hml hown hts hK hR hS (Nat.le_refl _) (Nat.le_refl _) rfl e10 (mJ9_hashCode e11) (lw_V q831 q832 q833 q124 q834) (by decide +kernel) (Nat.le_of_ble_eq_true rfl) (Nat.le_of_ble_eq_true rfl) rfl hl.1 (Nat.le_of_ble_eq_true rfl) dX6_statement_8 rfl rfl (fun H locs hR hS => ?_)
      by_cases c13 : x12 = 96850
      · replace h := it_o c13 h
        rw [c13]
        refine lv_lookup (off := 25) (tgt := 36) hx hb dX6_statement_11 (by decide) (by decide) (by decide) ?_
        refine lv_aload_n hx hb dX6_statement_36 rfl (lv_at hl 1 rfl) ?_
        refine h_ldcS (i := 2) hx hb hown hK hR rfl dX6_statement_37 ?_
        replace h := bo_o h
        obtain ⟨_, e15, h⟩ := h
        replace h := b2_o h
        obtain ⟨x17, w14, e16, h⟩ := h
        refine h_callV 1 (ci := 16) (As := [.ref (wK w9 2)]) (rest := []) (v := (some (.int x17))) (w' := w14) (st1 := [.int x17]) hx hb hml hown hts hK hR hS (Nat.le_refl _) (Nat.le_refl _) rfl e15 (mJ9_equals e16) (lw_V q807 q808 q809 q124 q810) (by decide +kernel) (Nat.le_of_ble_eq_true rfl) (Nat.le_of_ble_eq_true rfl) rfl hl.1 (Nat.le_of_ble_eq_true rfl) dX6_statement_39 rfl rfl (fun H locs hR hS => ?_)
        refine lv_if_eq (tgt := 61) hx hb dX6_statement_42 (by decide) (fun c18 => ?_) (fun c18 => ?_)
        · replace h := it_o c18 h
          exact bX6_statement_61 B hT hl0 h  hR hS (lv_sub hl [2, 0] rfl)
        · replace h := if_o c18 h
          refine lv_iconst (v := 0) hx hb dX6_statement_45 (by decide) ?_
          refine lv_istore_n (lv' := [(2, .int 0), (1, .ref a7), (0, .ref v0)]) hx hb dX6_statement_46 rfl hl (by decide) rfl (fun ls hl => ?_)
          refine lv_goto (tgt := 61) hx hb dX6_statement_47 (by decide) ?_
          exact bX6_statement_61 B hT hl0 h  hR hS (lv_sub hl [2, 0] rfl)
      · replace h := if_o c13 h
        by_cases c19 : x12 = 3568677
        · replace h := it_o c19 h
          rw [c19]
          refine lv_lookup (off := 39) (tgt := 50) hx hb dX6_statement_11 (by decide) (by decide) (by decide) ?_
          refine lv_aload_n hx hb dX6_statement_50 rfl (lv_at hl 1 rfl) ?_
          refine h_ldcS (i := 3) hx hb hown hK hR rfl dX6_statement_51 ?_
          replace h := bo_o h
          obtain ⟨_, e21, h⟩ := h
          replace h := b2_o h
          obtain ⟨x23, w20, e22, h⟩ := h
          refine h_callV 1 (ci := 16) (As := [.ref (wK w9 3)]) (rest := []) (v := (some (.int x23))) (w' := w20) (st1 := [.int x23]) hx hb hml hown hts hK hR hS (Nat.le_refl _) (Nat.le_refl _) rfl e21 (mJ9_equals e22) (lw_V q807 q808 q809 q124 q810) (by decide +kernel) (Nat.le_of_ble_eq_true rfl) (Nat.le_of_ble_eq_true rfl) rfl hl.1 (Nat.le_of_ble_eq_true rfl) dX6_statement_53 rfl rfl (fun H locs hR hS => ?_)
          refine lv_if_eq (tgt := 61) hx hb dX6_statement_56 (by decide) (fun c24 => ?_) (fun c24 => ?_)
          · replace h := it_o c24 h
            exact bX6_statement_61 B hT hl0 h  hR hS (lv_sub hl [2, 0] rfl)
          · replace h := if_o c24 h
            refine lv_iconst (v := 1) hx hb dX6_statement_59 (by decide) ?_
            refine lv_istore_n (lv' := [(2, .int 1), (1, .ref a7), (0, .ref v0)]) hx hb dX6_statement_60 rfl hl (by decide) rfl (fun ls hl => ?_)
            exact bX6_statement_61 B hT hl0 h  hR hS (lv_sub hl [2, 0] rfl)
        · replace h := if_o c19 h
          refine lv_lookup (off := 50) (tgt := 61) hx hb dX6_statement_11 (by decide) (sw_lk2 (k1 := 96850) (k2 := 3568677) c13 c19 (by decide)) (by decide) ?_
          exact bX6_statement_61 B hT hl0 h  hR hS (lv_sub hl [2, 0] rfl)
  · cases o3 with
    | inl q => cases hq9
    | inr q6 =>
      cases hq9
      replace h := exr_o h
      have eR := Option.some.inj h
      subst eR
      exact h_out hT hlk hR hS hce
theorem mX6_statement {l : Launch} {G : gE} {A : Nat → Prop} {v0 : Nat} {w : WH} {r : ((Sum Unit (Nat × Nat)) × WH)} (hl0 : l.stackTraces = false) (h : fX6_statement v0 w = some r) : hMX l G A yX6_statement cX6_statement 3 none 15 334 [.ref v0] w (oV r.1) r.2 :=
  h_ofX (by decide +kernel) (Nat.le_of_ble_eq_true rfl) (fun p e s m args below meth c ls B hnm hT hR hS hl => bX6_statement_0 B hT hl0 h hR hS hl)
noncomputable def fX6_parse_b56 (v0 : Nat) (w : WH) : Option (((Sum (Option Nat) (Nat × Nat)) × WH)) :=
  (gR w v0 25 0).bind fun x1 =>
  some (.inl x1, w)
theorem bX6_parse_56 {p : Program} {l : Launch} {e : Env} {s : State} {m : MethodId} {args : Array Value} {below : List Frame} {meth : Method} {c : Code} {H : Heap} {locs : List Loc} {ls : Array Slot} {G : gE} {A : Nat → Prop} {w0 : WH} (B : gB G RX6 cX6_parse 1 (some (.object "TollLeader$Net")) p s m args meth c) (hT : ∀ x ∈ c.exceptionTable.toList, False) (hl0 : l.stackTraces = false) {v0 : Nat} {w : WH} {r : ((Sum (Option Nat) (Nat × Nat)) × WH)} (h : fX6_parse_b56 v0 w = some r)   (hR : RepH G A w H) (hS : Cu A s w0 w H locs) (hl : lv_has ls 1 [(0, .ref v0)]) : W p l e (hRm 16 356 w0) s m args below meth c H locs (wC w0 - wC w) (wS w0 - wS w) (hZX below args s G A w0 (oR r.1) r.2) (F0 m 56 ls []) := by
  have B0 := B
  obtain ⟨hx, hb, hml, hown, hts, hr, hlk, hK⟩ := B0
  unfold fX6_parse_b56 at h
  refine lv_aload_n hx hb dX6_parse_56 rfl (lv_at hl 0 rfl) ?_
  replace h := bo_o h
  obtain ⟨x1, e2, h⟩ := h
  refine h_get (ci := 25) (k := 0) (v := va_rf x1) hx hb hts hown hK hR in_X6 rfl (by decide) (fun _ _ => rfl) q711 (fun _ h9 => h9) (gR_o e2) dX6_parse_57 ?_
  have eR := Option.some.inj h
  subst eR
  exact h_afinX (x := x1) hx hb hr hlk (by first | exact Or.inl ⟨_, rfl⟩ | exact Or.inr ⟨_, rfl⟩) hR hS dX6_parse_60
noncomputable def fX6_parse_b32 (v0 : Nat) (w : WH) : Option (Sum (WH) (((Sum (Option Nat) (Nat × Nat)) × WH))) :=
  (hIs w v0 25).bind fun _ =>
  b2_ (fX6_goesOn v0 w) fun o3 w1 => ex_ o3 (fun x5 =>
    if x5 = 0 then (
      (fX6_parse_b56 v0 w1).map (fun y => (.inr y))
    ) else (
      (gI w1 v0 25 3).bind fun x8 =>
      (hPut w1 v0 25 3 (.int (x8 + 1))).bind fun w10 =>
      (hIs w10 v0 25).bind fun _ =>
      b2_ (fX6_statement v0 w10) fun o14 w12 => ex_ o14 (fun _ =>
        some (.inl w12)) (fun q17 =>
        some (.inr (.inr q17, w12)))
    )) (fun q6 =>
    some (.inr (.inr q6, w1)))
theorem bX6_parse_32 {p : Program} {l : Launch} {e : Env} {s : State} {m : MethodId} {args : Array Value} {below : List Frame} {meth : Method} {c : Code} {H : Heap} {locs : List Loc} {ls : Array Slot} {G : gE} {A : Nat → Prop} {w0 : WH} (B : gB G RX6 cX6_parse 1 (some (.object "TollLeader$Net")) p s m args meth c) (hT : ∀ x ∈ c.exceptionTable.toList, False) (hl0 : l.stackTraces = false) {v0 : Nat} {w : WH} {x : Sum (WH) (((Sum (Option Nat) (Nat × Nat)) × WH))} {r : ((Sum (Option Nat) (Nat × Nat)) × WH)} (h : fX6_parse_b32 v0 w = some x)  (k32 : ∀  (w' : WH), x = (.inl w') → ∀ (H : Heap) (locs : List Loc) (ls : Array Slot), RepH G A w' H → Cu A s w0 w' H locs → lv_has ls 1 [(0, .ref v0)] → W p l e (hRm 16 356 w0) s m args below meth c H locs (wC w0 - wC w') (wS w0 - wS w') (hZX below args s G A w0 (oR r.1) r.2) (F0 m 32 ls [])) (kR : ∀ q, x = (.inr q) → q = r) (hR : RepH G A w H) (hS : Cu A s w0 w H locs) (hl : lv_has ls 1 [(0, .ref v0)]) : W p l e (hRm 16 356 w0) s m args below meth c H locs (wC w0 - wC w) (wS w0 - wS w) (hZX below args s G A w0 (oR r.1) r.2) (F0 m 32 ls []) := by
  have B0 := B
  obtain ⟨hx, hb, hml, hown, hts, hr, hlk, hK⟩ := B0
  unfold fX6_parse_b32 at h
  refine lv_aload_n hx hb dX6_parse_32 rfl (lv_at hl 0 rfl) ?_
  replace h := bo_o h
  obtain ⟨_, e2, h⟩ := h
  replace h := b2_o h
  obtain ⟨o3, w1, e4, h⟩ := h
  refine h_callVX 0 (ci := 25) (As := []) (rest := []) (o := oI o3) (w' := w1) hx hb hml hown hts hK hR hS (Nat.le_refl _) (Nat.le_refl _) rfl e2 (mX6_goesOn hl0 e4) (lw_V q823 q825 qs7 q138 q826) (by decide +kernel) (Nat.le_of_ble_eq_true rfl) (Nat.le_of_ble_eq_true rfl) rfl hl.1 (Nat.le_of_ble_eq_true rfl) dX6_parse_33 rfl (fun v9 hv9 H locs hR hS => ?_) (fun E9 q9 hq9 H locs hR hS hce => ?_)
  · cases o3 with
    | inr q => cases hv9
    | inl x5 =>
      cases hv9
      replace h := exl_o h
      refine W.eq (g2 := F0 m 36 ls [.int x5]) rfl ?_
      refine lv_if_eq (tgt := 56) hx hb dX6_parse_36 (by decide) (fun c7 => ?_) (fun c7 => ?_)
      · replace h := it_o c7 h
        obtain ⟨y, h, ey⟩ := mp_o h
        have ey := kR _ ey.symm
        subst ey
        exact bX6_parse_56 B hT hl0 h  hR hS (lv_sub hl [0] rfl)
      · replace h := if_o c7 h
        refine lv_aload_n hx hb dX6_parse_39 rfl (lv_at hl 0 rfl) ?_
        refine lv_dup hx hb dX6_parse_40 rfl ?_
        replace h := bo_o h
        obtain ⟨x8, e9, h⟩ := h
        refine h_get (ci := 25) (k := 3) (v := .int x8) hx hb hts hown hK hR in_X6 rfl (by decide) (fun _ _ => rfl) q715 (fun _ h9 => h9) (gI_o e9) dX6_parse_41 ?_
        refine lv_iconst (v := 1) hx hb dX6_parse_44 (by decide) ?_
        refine lv_iadd hx hb dX6_parse_45 ?_
        replace h := bo_o h
        obtain ⟨w10, e11, h⟩ := h
        refine h_put (ci := 25) (k := 3) (ty := tyX6 3) hx hb hts hown hK hR hS in_X6 tyX6 tyX6_ok nmX6 rfl (by decide) q715 (fun _ h9 => h9) rfl (tyX6_ok 3 (by decide)) rfl rfl e11 dX6_parse_46 (fun H locs hR hS => ?_)
        refine lv_aload_n hx hb dX6_parse_49 rfl (lv_at hl 0 rfl) ?_
        replace h := bo_o h
        obtain ⟨_, e13, h⟩ := h
        replace h := b2_o h
        obtain ⟨o14, w12, e15, h⟩ := h
        refine h_callVX 0 (ci := 25) (As := []) (rest := []) (o := oV o14) (w' := w12) hx hb hml hown hts hK hR hS (Nat.le_refl _) (Nat.le_refl _) rfl e13 (mX6_statement hl0 e15) (lw_V q827 q829 qs8 q138 q830) (by decide +kernel) (Nat.le_of_ble_eq_true rfl) (Nat.le_of_ble_eq_true rfl) rfl hl.1 (Nat.le_of_ble_eq_true rfl) dX6_parse_50 rfl (fun v9 hv9 H locs hR hS => ?_) (fun E9 q9 hq9 H locs hR hS hce => ?_)
        · cases o14 with
          | inr q => cases hv9
          | inl x16 =>
            cases hv9
            replace h := exl_o h
            refine W.eq (g2 := F0 m 53 ls []) rfl ?_
            refine lv_goto (tgt := 32) hx hb dX6_parse_53 (by decide) ?_
            exact k32 _ (Option.some.inj h).symm H locs ls hR hS (lv_sub hl [0] rfl)
        · cases o14 with
          | inl q => cases hq9
          | inr q17 =>
            cases hq9
            replace h := exr_o h
            have eR := kR _ (Option.some.inj h).symm
            subst eR
            exact h_out hT hlk hR hS hce
  · cases o3 with
    | inl q => cases hq9
    | inr q6 =>
      cases hq9
      replace h := exr_o h
      have eR := kR _ (Option.some.inj h).symm
      subst eR
      exact h_out hT hlk hR hS hce
noncomputable def fX6_parse_l32 (v0 : Nat) (w : WH) : Option (((Sum (Option Nat) (Nat × Nat)) × WH)) := whileO (fun q => fX6_parse_b32 v0 q) w
theorem lX6_parse_32 {p : Program} {l : Launch} {e : Env} {s : State} {m : MethodId} {args : Array Value} {below : List Frame} {meth : Method} {c : Code} {G : gE} {A : Nat → Prop} {w0 : WH} (B : gB G RX6 cX6_parse 1 (some (.object "TollLeader$Net")) p s m args meth c) (hT : ∀ x ∈ c.exceptionTable.toList, False) (hl0 : l.stackTraces = false) {v0 : Nat} {r : ((Sum (Option Nat) (Nat × Nat)) × WH)}   : ∀ (w : WH), fX6_parse_l32 v0 w = some r → ∀ (H : Heap) (locs : List Loc) (ls : Array Slot), RepH G A w H → Cu A s w0 w H locs → lv_has ls 1 [(0, .ref v0)] → W p l e (hRm 16 356 w0) s m args below meth c H locs (wC w0 - wC w) (wS w0 - wS w) (hZX below args s G A w0 (oR r.1) r.2) (F0 m 32 ls []) := by
  intro  w h
  refine wh_walk (body := (fun q => fX6_parse_b32 v0 q)) (P := (fun q : (WH) => ∀ (H : Heap) (locs : List Loc) (ls : Array Slot), RepH G A q H → Cu A s w0 q H locs → lv_has ls 1 [(0, .ref v0)] → W p l e (hRm 16 356 w0) s m args below meth c H locs (wC w0 - wC q) (wS w0 - wS q) (hZX below args s G A w0 (oR r.1) r.2) (F0 m 32 ls []))) (r := r) ?_ w h
  intro q y hy hL hr H locs ls hR hS hl
  exact bX6_parse_32 (r := r) B hT hl0 hy (fun a0 e => hL a0 e) (fun q e => hr q e) hR hS hl
noncomputable def fX6_parse (v0 : Nat) (w : WH) : Option (((Sum (Option Nat) (Nat × Nat)) × WH)) :=
  (hIs w v0 25).bind fun _ =>
  b2_ (fX6_word v0 w) fun o3 w1 => ex_ o3 (fun x5 =>
    x5.bind fun a7 =>
    (hIs w1 a7 16).bind fun _ =>
    b2_ (fJ9_equals a7 (wK w1 0) w1) fun x12 w9 =>
    (hIs w9 v0 25).bind fun _ =>
    b2_ (fX6_require v0 x12 1 w9) fun o15 w13 => ex_ o15 (fun _ =>
      b2_ (hNw w13 4 22 [.int 0, .null, .null, .null]) fun a19 w20 =>
      (hIs w20 v0 25).bind fun _ =>
      b2_ (fX6_number v0 2 10 w20) fun o24 w22 => ex_ o24 (fun x26 =>
        (fX3_init a19 x26 w22).bind fun w28 =>
        (hPut w28 v0 25 0 (.ref a19)).bind fun w30 =>
        fX6_parse_l32 v0 w30) (fun q27 =>
        some (.inr q27, w22))) (fun q18 =>
      some (.inr q18, w13))) (fun q6 =>
    some (.inr q6, w1))
theorem bX6_parse_0 {p : Program} {l : Launch} {e : Env} {s : State} {m : MethodId} {args : Array Value} {below : List Frame} {meth : Method} {c : Code} {H : Heap} {locs : List Loc} {ls : Array Slot} {G : gE} {A : Nat → Prop} {w0 : WH} (B : gB G RX6 cX6_parse 1 (some (.object "TollLeader$Net")) p s m args meth c) (hT : ∀ x ∈ c.exceptionTable.toList, False) (hl0 : l.stackTraces = false) {v0 : Nat} {w : WH} {r : ((Sum (Option Nat) (Nat × Nat)) × WH)} (h : fX6_parse v0 w = some r)   (hR : RepH G A w H) (hS : Cu A s w0 w H locs) (hl : lv_has ls 1 [(0, .ref v0)]) : W p l e (hRm 16 356 w0) s m args below meth c H locs (wC w0 - wC w) (wS w0 - wS w) (hZX below args s G A w0 (oR r.1) r.2) (F0 m 0 ls []) := by
  have B0 := B
  obtain ⟨hx, hb, hml, hown, hts, hr, hlk, hK⟩ := B0
  unfold fX6_parse at h
  refine lv_aload_n hx hb dX6_parse_0 rfl (lv_at hl 0 rfl) ?_
  refine lv_aload_n hx hb dX6_parse_1 rfl (lv_at hl 0 rfl) ?_
  replace h := bo_o h
  obtain ⟨_, e2, h⟩ := h
  replace h := b2_o h
  obtain ⟨o3, w1, e4, h⟩ := h
  refine h_callVX 0 (ci := 25) (As := []) (rest := [.ref v0]) (o := oR o3) (w' := w1) hx hb hml hown hts hK hR hS (Nat.le_refl _) (Nat.le_refl _) rfl e2 (mX6_word hl0 e4) (lw_V q732 q734 qs2 q138 q735) (by decide +kernel) (Nat.le_of_ble_eq_true rfl) (Nat.le_of_ble_eq_true rfl) rfl hl.1 (Nat.le_of_ble_eq_true rfl) dX6_parse_2 rfl (fun v9 hv9 H locs hR hS => ?_) (fun E9 q9 hq9 H locs hR hS hce => ?_)
  · cases o3 with
    | inr q => cases hv9
    | inl x5 =>
      cases hv9
      replace h := exl_o h
      refine W.eq (g2 := F0 m 5 ls [va_rf x5, .ref v0]) rfl ?_
      refine h_ldcS (i := 0) hx hb hown hK hR rfl dX6_parse_5 ?_
      replace h := bo_o h
      obtain ⟨a7, e8, h⟩ := h
      subst e8
      replace h := bo_o h
      obtain ⟨_, e10, h⟩ := h
      replace h := b2_o h
      obtain ⟨x12, w9, e11, h⟩ := h
      refine h_callV 1 (ci := 16) (As := [.ref (wK w1 0)]) (rest := [.ref v0]) (v := (some (.int x12))) (w' := w9) (st1 := [.int x12, .ref v0]) hx hb hml hown hts hK hR hS (Nat.le_refl _) (Nat.le_refl _) rfl e10 (mJ9_equals e11) (lw_V q807 q808 q809 q124 q810) (by decide +kernel) (Nat.le_of_ble_eq_true rfl) (Nat.le_of_ble_eq_true rfl) rfl hl.1 (Nat.le_of_ble_eq_true rfl) dX6_parse_7 rfl rfl (fun H locs hR hS => ?_)
      refine lv_iconst (v := 1) hx hb dX6_parse_10 (by decide) ?_
      replace h := bo_o h
      obtain ⟨_, e14, h⟩ := h
      replace h := b2_o h
      obtain ⟨o15, w13, e16, h⟩ := h
      refine h_callVX 2 (ci := 25) (As := [.int x12, .int 1]) (rest := []) (o := oV o15) (w' := w13) hx hb hml hown hts hK hR hS (Nat.le_refl _) (Nat.le_refl _) rfl e14 (mX6_require hl0 e16) (lw_V q745 q747 qs4 q138 q748) (by decide +kernel) (Nat.le_of_ble_eq_true rfl) (Nat.le_of_ble_eq_true rfl) rfl hl.1 (Nat.le_of_ble_eq_true rfl) dX6_parse_11 rfl (fun v9 hv9 H locs hR hS => ?_) (fun E9 q9 hq9 H locs hR hS hce => ?_)
      · cases o15 with
        | inr q => cases hv9
        | inl x17 =>
          cases hv9
          replace h := exl_o h
          refine W.eq (g2 := F0 m 14 ls []) rfl ?_
          refine lv_aload_n hx hb dX6_parse_14 rfl (lv_at hl 0 rfl) ?_
          replace h := b2_o h
          obtain ⟨a19, w20, e21, h⟩ := h
          refine h_new (ci := 22) (fs := [.int 0, .null, .null, .null]) hx hb hts hown hK hR hS (Nat.le_refl _) (Nat.le_refl _) in_X3 tyX3 tyX3_ok rfl (by decide +kernel) q709 q173 q114 e21 dX6_parse_15 (fun H locs hR hS => ?_)
          refine lv_dup hx hb dX6_parse_18 rfl ?_
          refine lv_aload_n hx hb dX6_parse_19 rfl (lv_at hl 0 rfl) ?_
          refine lv_iconst (v := 2) hx hb dX6_parse_20 (by decide) ?_
          refine lv_bipush (v := 10) hx hb dX6_parse_21 (by decide) ?_
          replace h := bo_o h
          obtain ⟨_, e23, h⟩ := h
          replace h := b2_o h
          obtain ⟨o24, w22, e25, h⟩ := h
          refine h_callVX 2 (ci := 25) (As := [.int 2, .int 10]) (rest := [.ref a19, .ref a19, .ref v0]) (o := oI o24) (w' := w22) hx hb hml hown hts hK hR hS (Nat.le_refl _) (Nat.le_refl _) rfl e23 (mX6_number hl0 e25) (lw_V q815 q817 qs6 q138 q818) (by decide +kernel) (Nat.le_of_ble_eq_true rfl) (Nat.le_of_ble_eq_true rfl) rfl hl.1 (Nat.le_of_ble_eq_true rfl) dX6_parse_23 rfl (fun v9 hv9 H locs hR hS => ?_) (fun E9 q9 hq9 H locs hR hS hce => ?_)
          · cases o24 with
            | inr q => cases hv9
            | inl x26 =>
              cases hv9
              replace h := exl_o h
              refine W.eq (g2 := F0 m 26 ls [.int x26, .ref a19, .ref a19, .ref v0]) rfl ?_
              replace h := bo_o h
              obtain ⟨w28, e29, h⟩ := h
              refine h_callI 1  (As := [.int x26]) (rest := [.ref a19, .ref v0]) (w' := w28) hx hb hml hown hts hK hR hS (Nat.le_refl _) (Nat.le_refl _) (mX3_init e29) (lw_meth q176) q114 q710 q175 rfl (by decide +kernel) (Nat.le_of_ble_eq_true rfl) (Nat.le_of_ble_eq_true rfl) rfl hl.1 (Nat.le_of_ble_eq_true rfl) dX6_parse_26 rfl (fun H locs hR hS => ?_)
              replace h := bo_o h
              obtain ⟨w30, e31, h⟩ := h
              refine h_put (ci := 25) (k := 0) (ty := tyX6 0) hx hb hts hown hK hR hS in_X6 tyX6 tyX6_ok nmX6 rfl (by decide) q711 (fun _ h9 => h9) rfl (tyX6_ok 0 (by decide)) rfl rfl e31 dX6_parse_29 (fun H locs hR hS => ?_)
              exact lX6_parse_32 B hT hl0 _ h H locs ls hR hS (lv_sub hl [0] rfl)
          · cases o24 with
            | inl q => cases hq9
            | inr q27 =>
              cases hq9
              replace h := exr_o h
              have eR := Option.some.inj h
              subst eR
              exact h_out hT hlk hR hS hce
      · cases o15 with
        | inl q => cases hq9
        | inr q18 =>
          cases hq9
          replace h := exr_o h
          have eR := Option.some.inj h
          subst eR
          exact h_out hT hlk hR hS hce
  · cases o3 with
    | inl q => cases hq9
    | inr q6 =>
      cases hq9
      replace h := exr_o h
      have eR := Option.some.inj h
      subst eR
      exact h_out hT hlk hR hS hce
theorem mX6_parse {l : Launch} {G : gE} {A : Nat → Prop} {v0 : Nat} {w : WH} {r : ((Sum (Option Nat) (Nat × Nat)) × WH)} (hl0 : l.stackTraces = false) (h : fX6_parse v0 w = some r) : hMX l G A yX6_parse cX6_parse 1 (some (.object "TollLeader$Net")) 16 356 [.ref v0] w (oR r.1) r.2 :=
  h_ofX (by decide +kernel) (Nat.le_of_ble_eq_true rfl) (fun p e s m args below meth c ls B hnm hT hR hS hl => bX6_parse_0 B hT hl0 h hR hS hl)
noncomputable def fJ18_circularClear_b12 (v0 : Nat) (v1 : Int32) (v2 : Int32) (v3 : Int32) (w : WH) : Option (Sum (Int32 × Int32 × WH) (WH)) :=
  if v3 ≤ v1 then (
    if v3 = v2 then (
      some (.inr w)
    ) else (
      some (.inl (0, v2, w))
    )
  ) else (
    (stR w v0 4 v1 none).bind fun w3 =>
    some (.inl (v1 + 1, v3, w3))
  )
theorem bJ18_circularClear_12 {p : Program} {l : Launch} {e : Env} {s : State} {m : MethodId} {args : Array Value} {below : List Frame} {meth : Method} {c : Code} {H : Heap} {locs : List Loc} {ls : Array Slot} {G : gE} {A : Nat → Prop} {w0 : WH} (B : gB G RJ18 cJ18_circularClear 4 none p s m args meth c) {v0 : Nat} {v1 : Int32} {v2 : Int32} {v3 : Int32} {w : WH} {x : Sum (Int32 × Int32 × WH) (WH)} {r : WH} (h : fJ18_circularClear_b12 v0 v1 v2 v3 w = some x)  (k12 : ∀ (v1' : Int32) (v3' : Int32) (w' : WH), x = (.inl (v1', v3', w')) → ∀ (H : Heap) (locs : List Loc) (ls : Array Slot), RepH G A w' H → Cu A s w0 w' H locs → lv_has ls 4 [(0, .ref v0), (1, .int v1'), (2, .int v2), (3, .int v3')] → W p l e (hRm 0 0 w0) s m args below meth c H locs (wC w0 - wC w') (wS w0 - wS w') (hZ below args s G A w0 none r) (F0 m 12 ls [])) (kR : ∀ q, x = (.inr q) → q = r) (hR : RepH G A w H) (hS : Cu A s w0 w H locs) (hl : lv_has ls 4 [(0, .ref v0), (1, .int v1), (2, .int v2), (3, .int v3)]) : W p l e (hRm 0 0 w0) s m args below meth c H locs (wC w0 - wC w) (wS w0 - wS w) (hZ below args s G A w0 none r) (F0 m 12 ls []) := by
  have B0 := B
  obtain ⟨hx, hb, hml, hown, hts, hr, hlk, hK⟩ := B0
  unfold fJ18_circularClear_b12 at h
  refine lv_iload_n hx hb dJ18_circularClear_12 rfl (lv_at hl 1 rfl) ?_
  refine lv_iload_n hx hb dJ18_circularClear_13 rfl (lv_at hl 3 rfl) ?_
  refine lv_icmp_ge (tgt := 27) hx hb dJ18_circularClear_14 (by decide) (fun c1 => ?_) (fun c1 => ?_)
  · replace h := it_o c1 h
    refine lv_iload_n hx hb dJ18_circularClear_27 rfl (lv_at hl 3 rfl) ?_
    refine lv_iload_n hx hb dJ18_circularClear_28 rfl (lv_at hl 2 rfl) ?_
    refine lv_icmp_ne (tgt := 35) hx hb dJ18_circularClear_29 (by decide) (fun c2 => ?_) (fun c2 => ?_)
    · replace h := if_o c2 h
      refine lv_iconst (v := 0) hx hb dJ18_circularClear_35 (by decide) ?_
      refine lv_istore_n (lv' := [(1, .int 0), (0, .ref v0), (2, .int v2), (3, .int v3)]) hx hb dJ18_circularClear_36 rfl hl (by decide) rfl (fun ls hl => ?_)
      refine lv_iload_n hx hb dJ18_circularClear_37 rfl (lv_at hl 2 rfl) ?_
      refine lv_istore_n (lv' := [(3, .int v2), (1, .int 0), (0, .ref v0), (2, .int v2)]) hx hb dJ18_circularClear_38 rfl hl (by decide) rfl (fun ls hl => ?_)
      refine lv_goto (tgt := 12) hx hb dJ18_circularClear_39 (by decide) ?_
      exact k12 _ _ _ (Option.some.inj h).symm H locs ls hR hS (lv_sub hl [2, 1, 3, 0] rfl)
    · replace h := it_o c2 h
      refine lv_goto (tgt := 42) hx hb dJ18_circularClear_32 (by decide) ?_
      have eR := kR _ (Option.some.inj h).symm
      subst eR
      exact h_vfin hx hb hr hlk hR hS dJ18_circularClear_42
  · replace h := if_o c1 h
    refine lv_aload_n hx hb dJ18_circularClear_17 rfl (lv_at hl 0 rfl) ?_
    refine lv_iload_n hx hb dJ18_circularClear_18 rfl (lv_at hl 1 rfl) ?_
    refine lv_null hx hb dJ18_circularClear_19 ?_
    replace h := bo_o h
    obtain ⟨w3, e4, h⟩ := h
    refine h_aastN hx hb hK hR hS 4 e4 rfl dJ18_circularClear_20 (fun H locs hR hS => ?_)
    refine lv_iinc (v := v1 + 1) (lv' := [(1, .int (v1 + 1)), (0, .ref v0), (2, .int v2), (3, .int v3)]) hx hb dJ18_circularClear_21 hl (k := 1) rfl rfl (by decide) rfl (fun ls hl => ?_)
    refine lv_goto (tgt := 12) hx hb dJ18_circularClear_24 (by decide) ?_
    exact k12 _ _ _ (Option.some.inj h).symm H locs ls hR hS (lv_sub hl [1, 0, 2, 3] rfl)
noncomputable def fJ18_circularClear_l12 (v0 : Nat) (v1 : Int32) (v2 : Int32) (v3 : Int32) (w : WH) : Option (WH) := whileO (fun q => fJ18_circularClear_b12 v0 q.1 v2 q.2.1 q.2.2) (v1, v3, w)
theorem lJ18_circularClear_12 {p : Program} {l : Launch} {e : Env} {s : State} {m : MethodId} {args : Array Value} {below : List Frame} {meth : Method} {c : Code} {G : gE} {A : Nat → Prop} {w0 : WH} (B : gB G RJ18 cJ18_circularClear 4 none p s m args meth c) {v0 : Nat} {v2 : Int32} {r : WH}   : ∀ (v1 : Int32) (v3 : Int32) (w : WH), fJ18_circularClear_l12 v0 v1 v2 v3 w = some r → ∀ (H : Heap) (locs : List Loc) (ls : Array Slot), RepH G A w H → Cu A s w0 w H locs → lv_has ls 4 [(0, .ref v0), (1, .int v1), (2, .int v2), (3, .int v3)] → W p l e (hRm 0 0 w0) s m args below meth c H locs (wC w0 - wC w) (wS w0 - wS w) (hZ below args s G A w0 none r) (F0 m 12 ls []) := by
  intro v1 v3 w h
  refine wh_walk (body := (fun q => fJ18_circularClear_b12 v0 q.1 v2 q.2.1 q.2.2)) (P := (fun q : (Int32 × Int32 × WH) => ∀ (H : Heap) (locs : List Loc) (ls : Array Slot), RepH G A (q.2.2) H → Cu A s w0 (q.2.2) H locs → lv_has ls 4 [(0, .ref v0), (1, .int (q.1)), (2, .int v2), (3, .int (q.2.1))] → W p l e (hRm 0 0 w0) s m args below meth c H locs (wC w0 - wC (q.2.2)) (wS w0 - wS (q.2.2)) (hZ below args s G A w0 none r) (F0 m 12 ls []))) (r := r) ?_ (v1, v3, w) h
  intro q y hy hL hr H locs ls hR hS hl
  exact bJ18_circularClear_12 (r := r) B hy (fun a0 a1 a2 e => hL (a0, a1, a2) e) (fun q e => hr q e) hR hS hl
noncomputable def fJ18_circularClear_b11 (v0 : Nat) (v1 : Int32) (v2 : Int32) (s0 : Int32) (w : WH) : Option (WH) :=
  fJ18_circularClear_l12 v0 v1 v2 s0 w
theorem bJ18_circularClear_11 {p : Program} {l : Launch} {e : Env} {s : State} {m : MethodId} {args : Array Value} {below : List Frame} {meth : Method} {c : Code} {H : Heap} {locs : List Loc} {ls : Array Slot} {G : gE} {A : Nat → Prop} {w0 : WH} (B : gB G RJ18 cJ18_circularClear 4 none p s m args meth c) {v0 : Nat} {v1 : Int32} {v2 : Int32} {s0 : Int32} {w : WH} {r : WH} (h : fJ18_circularClear_b11 v0 v1 v2 s0 w = some r)   (hR : RepH G A w H) (hS : Cu A s w0 w H locs) (hl : lv_has ls 4 [(0, .ref v0), (1, .int v1), (2, .int v2)]) : W p l e (hRm 0 0 w0) s m args below meth c H locs (wC w0 - wC w) (wS w0 - wS w) (hZ below args s G A w0 none r) (F0 m 11 ls [.int s0]) := by
  have B0 := B
  obtain ⟨hx, hb, hml, hown, hts, hr, hlk, hK⟩ := B0
  unfold fJ18_circularClear_b11 at h
  refine lv_istore_n (lv' := [(3, .int s0), (0, .ref v0), (1, .int v1), (2, .int v2)]) hx hb dJ18_circularClear_11 rfl hl (by decide) rfl (fun ls hl => ?_)
  exact lJ18_circularClear_12 B _ _ _ h H locs ls hR hS (lv_sub hl [1, 2, 3, 0] rfl)
noncomputable def fJ18_circularClear (v0 : Nat) (v1 : Int32) (v2 : Int32) (w : WH) : Option (WH) :=
  if v2 < v1 then (
    (aLn w v0).bind fun x2 =>
    fJ18_circularClear_b11 v0 v1 v2 x2 w
  ) else (
    fJ18_circularClear_b11 v0 v1 v2 v2 w
  )
theorem bJ18_circularClear_0 {p : Program} {l : Launch} {e : Env} {s : State} {m : MethodId} {args : Array Value} {below : List Frame} {meth : Method} {c : Code} {H : Heap} {locs : List Loc} {ls : Array Slot} {G : gE} {A : Nat → Prop} {w0 : WH} (B : gB G RJ18 cJ18_circularClear 4 none p s m args meth c) {v0 : Nat} {v1 : Int32} {v2 : Int32} {w : WH} {r : WH} (h : fJ18_circularClear v0 v1 v2 w = some r)   (hR : RepH G A w H) (hS : Cu A s w0 w H locs) (hl : lv_has ls 4 [(0, .ref v0), (1, .int v1), (2, .int v2)]) : W p l e (hRm 0 0 w0) s m args below meth c H locs (wC w0 - wC w) (wS w0 - wS w) (hZ below args s G A w0 none r) (F0 m 0 ls []) := by
  have B0 := B
  obtain ⟨hx, hb, hml, hown, hts, hr, hlk, hK⟩ := B0
  unfold fJ18_circularClear at h
  refine lv_iload_n hx hb dJ18_circularClear_0 rfl (lv_at hl 1 rfl) ?_
  refine lv_iload_n hx hb dJ18_circularClear_1 rfl (lv_at hl 2 rfl) ?_
  refine lv_icmp_gt (tgt := 9) hx hb dJ18_circularClear_2 (by decide) (fun c1 => ?_) (fun c1 => ?_)
  · replace h := it_o c1 h
    refine lv_aload_n hx hb dJ18_circularClear_9 rfl (lv_at hl 0 rfl) ?_
    replace h := bo_o h
    obtain ⟨x2, e3, h⟩ := h
    refine h_alen hx hb hK hR hS e3 dJ18_circularClear_10 ?_
    exact bJ18_circularClear_11 B h  hR hS (lv_sub hl [0, 1, 2] rfl)
  · replace h := if_o c1 h
    refine lv_iload_n hx hb dJ18_circularClear_5 rfl (lv_at hl 2 rfl) ?_
    refine lv_goto (tgt := 11) hx hb dJ18_circularClear_6 (by decide) ?_
    exact bJ18_circularClear_11 B h  hR hS (lv_sub hl [0, 1, 2] rfl)
theorem mJ18_circularClear {l : Launch} {G : gE} {A : Nat → Prop} {v0 : Nat} {v1 : Int32} {v2 : Int32} {w : WH} {r : WH} (h : fJ18_circularClear v0 v1 v2 w = some r) : hM l G A yJ18_circularClear cJ18_circularClear 4 none 0 0 [.ref v0, .int v1, .int v2] w none r :=
  h_of (by decide +kernel) (Nat.le_of_ble_eq_true rfl) (fun p e s m args below meth c ls B hnm hR hS hl => bJ18_circularClear_0 B h hR hS hl)
noncomputable def fJ18_clear (v0 : Nat) (w : WH) : Option (WH) :=
  (gR w v0 1 0).bind fun x1 =>
  (gI w v0 1 1).bind fun x3 =>
  (gI w v0 1 2).bind fun x5 =>
  x1.bind fun a7 =>
  (fJ18_circularClear a7 x3 x5 w).bind fun w9 =>
  (hPut w9 v0 1 2 (.int 0)).bind fun w11 =>
  (hPut w11 v0 1 1 (.int 0)).bind fun w13 =>
  some w13
theorem bJ18_clear_0 {p : Program} {l : Launch} {e : Env} {s : State} {m : MethodId} {args : Array Value} {below : List Frame} {meth : Method} {c : Code} {H : Heap} {locs : List Loc} {ls : Array Slot} {G : gE} {A : Nat → Prop} {w0 : WH} (B : gB G RJ18 cJ18_clear 1 none p s m args meth c) {v0 : Nat} {w : WH} {r : WH} (h : fJ18_clear v0 w = some r)   (hR : RepH G A w H) (hS : Cu A s w0 w H locs) (hl : lv_has ls 1 [(0, .ref v0)]) : W p l e (hRm 1 23 w0) s m args below meth c H locs (wC w0 - wC w) (wS w0 - wS w) (hZ below args s G A w0 none r) (F0 m 0 ls []) := by
  have B0 := B
  obtain ⟨hx, hb, hml, hown, hts, hr, hlk, hK⟩ := B0
  unfold fJ18_clear at h
  refine lv_aload_n hx hb dJ18_clear_0 rfl (lv_at hl 0 rfl) ?_
  replace h := bo_o h
  obtain ⟨x1, e2, h⟩ := h
  refine h_get (ci := 1) (k := 0) (v := va_rf x1) hx hb hts hown hK hR in_J18 rfl (by decide) (fun _ _ => rfl) q647 (fun _ h9 => h9) (gR_o e2) dJ18_clear_1 ?_
  refine lv_aload_n hx hb dJ18_clear_4 rfl (lv_at hl 0 rfl) ?_
  replace h := bo_o h
  obtain ⟨x3, e4, h⟩ := h
  refine h_get (ci := 1) (k := 1) (v := .int x3) hx hb hts hown hK hR in_J18 rfl (by decide) (fun _ _ => rfl) q650 (fun _ h9 => h9) (gI_o e4) dJ18_clear_5 ?_
  refine lv_aload_n hx hb dJ18_clear_8 rfl (lv_at hl 0 rfl) ?_
  replace h := bo_o h
  obtain ⟨x5, e6, h⟩ := h
  refine h_get (ci := 1) (k := 2) (v := .int x5) hx hb hts hown hK hR in_J18 rfl (by decide) (fun _ _ => rfl) q651 (fun _ h9 => h9) (gI_o e6) dJ18_clear_9 ?_
  replace h := bo_o h
  obtain ⟨a7, e8, h⟩ := h
  subst e8
  replace h := bo_o h
  obtain ⟨w9, e10, h⟩ := h
  refine h_callS 3  (As := [.ref a7, .int x3, .int x5]) (rest := []) (v := none) (w' := w9) (st1 := []) hx hb hml hown hts hK hR hS (Nat.le_refl _) (Nat.le_refl _) (mJ18_circularClear e10) (lw_S q1072 q1073 q136 q1074) (by decide +kernel) (Nat.le_of_ble_eq_true rfl) (Nat.le_of_ble_eq_true rfl) rfl hl.1 (Nat.le_of_ble_eq_true rfl) dJ18_clear_12 rfl rfl (fun H locs hR hS => ?_)
  refine lv_aload_n hx hb dJ18_clear_15 rfl (lv_at hl 0 rfl) ?_
  refine lv_aload_n hx hb dJ18_clear_16 rfl (lv_at hl 0 rfl) ?_
  refine lv_iconst (v := 0) hx hb dJ18_clear_17 (by decide) ?_
  refine lv_dup_x1 hx hb dJ18_clear_18 rfl rfl ?_
  replace h := bo_o h
  obtain ⟨w11, e12, h⟩ := h
  refine h_put (ci := 1) (k := 2) (ty := tyJ18 2) hx hb hts hown hK hR hS in_J18 tyJ18 tyJ18_ok nmJ18 rfl (by decide) q651 (fun _ h9 => h9) rfl (tyJ18_ok 2 (by decide)) rfl rfl e12 dJ18_clear_19 (fun H locs hR hS => ?_)
  replace h := bo_o h
  obtain ⟨w13, e14, h⟩ := h
  refine h_put (ci := 1) (k := 1) (ty := tyJ18 1) hx hb hts hown hK hR hS in_J18 tyJ18 tyJ18_ok nmJ18 rfl (by decide) q650 (fun _ h9 => h9) rfl (tyJ18_ok 1 (by decide)) rfl rfl e14 dJ18_clear_22 (fun H locs hR hS => ?_)
  have eR := Option.some.inj h
  subst eR
  exact h_vfin hx hb hr hlk hR hS dJ18_clear_25
theorem mJ18_clear {l : Launch} {G : gE} {A : Nat → Prop} {v0 : Nat} {w : WH} {r : WH} (h : fJ18_clear v0 w = some r) : hM l G A yJ18_clear cJ18_clear 1 none 1 23 [.ref v0] w none r :=
  h_of (by decide +kernel) (Nat.le_of_ble_eq_true rfl) (fun p e s m args below meth c ls B hnm hR hS hl => bJ18_clear_0 B h hR hS hl)
noncomputable def fX1_load_b57 (v0 : Nat) (v2 : Int32) (w : WH) : Option ((Int32 × WH)) :=
  (hPut w v0 17 5 (.int 0)).bind fun w1 =>
  some (v2, w1)
theorem bX1_load_57 {p : Program} {l : Launch} {e : Env} {s : State} {m : MethodId} {args : Array Value} {below : List Frame} {meth : Method} {c : Code} {H : Heap} {locs : List Loc} {ls : Array Slot} {G : gE} {A : Nat → Prop} {w0 : WH} (B : gB G RX1 cX1_load 5 (some .int) p s m args meth c) (hTb : c.exceptionTable.toList = tableOf [(19, 57, 64, 110), (19, 57, 96, 0), (64, 89, 96, 0), (96, 98, 96, 0)]) (hl0 : l.stackTraces = false) {v0 : Nat} {v2 : Int32} {w : WH} {r : (Int32 × WH)} (h : fX1_load_b57 v0 v2 w = some r)   (hR : RepH G A w H) (hS : Cu A s w0 w H locs) (hl : lv_has ls 5 [(0, .ref v0), (2, .int v2)]) : W p l e (hRm 17 376 w0) s m args below meth c H locs (wC w0 - wC w) (wS w0 - wS w) (hZ below args s G A w0 (some (.int r.1)) r.2) (F0 m 57 ls []) := by
  have B0 := B
  obtain ⟨hx, hb, hml, hown, hts, hr, hlk, hK⟩ := B0
  unfold fX1_load_b57 at h
  refine lv_aload_n hx hb dX1_load_57 rfl (lv_at hl 0 rfl) ?_
  refine lv_iconst (v := 0) hx hb dX1_load_58 (by decide) ?_
  replace h := bo_o h
  obtain ⟨w1, e2, h⟩ := h
  refine h_put (ci := 17) (k := 5) (ty := tyX1 5) hx hb hts hown hK hR hS in_X1 tyX1 tyX1_ok nmX1 rfl (by decide) q670 (fun _ h9 => h9) rfl (tyX1_ok 5 (by decide)) rfl rfl e2 dX1_load_59 (fun H locs hR hS => ?_)
  refine lv_iload_n hx hb dX1_load_62 rfl (lv_at hl 1 rfl) ?_
  have eR := Option.some.inj h
  subst eR
  exact h_ifin hx hb hr hlk hR hS dX1_load_63
noncomputable def fX1_load_b65 (v0 : Nat) (v1 : Nat) (v2 : Nat) (w : WH) : Option ((Int32 × WH)) :=
  (gI w v2 26 6).bind fun x1 =>
  (hPut w v0 17 6 (.int x1)).bind fun w3 =>
  (gI w3 v1 25 3).bind fun x5 =>
  (hPut w3 v0 17 7 (.int x5)).bind fun w7 =>
  (gI w7 v2 26 7).bind fun x9 =>
  nm_ ((-100) - x9) fun x11 =>
  (hPut w7 v0 17 5 (.int 0)).bind fun w13 =>
  some (x11, w13)
theorem bX1_load_65 {p : Program} {l : Launch} {e : Env} {s : State} {m : MethodId} {args : Array Value} {below : List Frame} {meth : Method} {c : Code} {H : Heap} {locs : List Loc} {ls : Array Slot} {G : gE} {A : Nat → Prop} {w0 : WH} (B : gB G RX1 cX1_load 5 (some .int) p s m args meth c) (hTb : c.exceptionTable.toList = tableOf [(19, 57, 64, 110), (19, 57, 96, 0), (64, 89, 96, 0), (96, 98, 96, 0)]) (hl0 : l.stackTraces = false) {v0 : Nat} {v1 : Nat} {v2 : Nat} {w : WH} {r : (Int32 × WH)} (h : fX1_load_b65 v0 v1 v2 w = some r)   (hR : RepH G A w H) (hS : Cu A s w0 w H locs) (hl : lv_has ls 5 [(0, .ref v0), (1, .ref v1), (2, .ref v2)]) : W p l e (hRm 17 376 w0) s m args below meth c H locs (wC w0 - wC w) (wS w0 - wS w) (hZ below args s G A w0 (some (.int r.1)) r.2) (F0 m 65 ls []) := by
  have B0 := B
  obtain ⟨hx, hb, hml, hown, hts, hr, hlk, hK⟩ := B0
  unfold fX1_load_b65 at h
  refine lv_aload_n hx hb dX1_load_65 rfl (lv_at hl 0 rfl) ?_
  refine lv_aload_n hx hb dX1_load_66 rfl (lv_at hl 2 rfl) ?_
  replace h := bo_o h
  obtain ⟨x1, e2, h⟩ := h
  refine h_getN (ci := 26) (k := 6) (v := .int x1) hx hb hts hown hK hR in_X7 rfl (by decide) (fun _ _ => rfl) (hK.fn 29 rfl) (fun _ h9 => h9) (gI_o e2) dX1_load_67 ?_
  replace h := bo_o h
  obtain ⟨w3, e4, h⟩ := h
  refine h_put (ci := 17) (k := 6) (ty := tyX1 6) hx hb hts hown hK hR hS in_X1 tyX1 tyX1_ok nmX1 rfl (by decide) q671 (fun _ h9 => h9) rfl (tyX1_ok 6 (by decide)) rfl rfl e4 dX1_load_70 (fun H locs hR hS => ?_)
  refine lv_aload_n hx hb dX1_load_73 rfl (lv_at hl 0 rfl) ?_
  refine lv_aload_n hx hb dX1_load_74 rfl (lv_at hl 1 rfl) ?_
  replace h := bo_o h
  obtain ⟨x5, e6, h⟩ := h
  refine h_getN (ci := 25) (k := 3) (v := .int x5) hx hb hts hown hK hR in_X6 rfl (by decide) (fun _ _ => rfl) (hK.fn 28 rfl) (fun _ h9 => h9) (gI_o e6) dX1_load_75 ?_
  replace h := bo_o h
  obtain ⟨w7, e8, h⟩ := h
  refine h_put (ci := 17) (k := 7) (ty := tyX1 7) hx hb hts hown hK hR hS in_X1 tyX1 tyX1_ok nmX1 rfl (by decide) q672 (fun _ h9 => h9) rfl (tyX1_ok 7 (by decide)) rfl rfl e8 dX1_load_78 (fun H locs hR hS => ?_)
  refine lv_bipush (v := (-100)) hx hb dX1_load_81 (by decide) ?_
  refine lv_aload_n hx hb dX1_load_83 rfl (lv_at hl 2 rfl) ?_
  replace h := bo_o h
  obtain ⟨x9, e10, h⟩ := h
  refine h_getN (ci := 26) (k := 7) (v := .int x9) hx hb hts hown hK hR in_X7 rfl (by decide) (fun _ _ => rfl) (hK.fn 30 rfl) (fun _ h9 => h9) (gI_o e10) dX1_load_84 ?_
  refine lv_isub hx hb dX1_load_87 ?_
  replace h := nm_o h
  obtain ⟨x11, e12, h⟩ := h
  refine lv_istore_n (lv' := [(3, .int x11), (0, .ref v0), (1, .ref v1), (2, .ref v2)]) hx hb dX1_load_88 rfl hl (by decide) (by subst e12; rfl) (fun ls hl => ?_)
  refine lv_aload_n hx hb dX1_load_89 rfl (lv_at hl 1 rfl) ?_
  refine lv_iconst (v := 0) hx hb dX1_load_90 (by decide) ?_
  replace h := bo_o h
  obtain ⟨w13, e14, h⟩ := h
  refine h_put (ci := 17) (k := 5) (ty := tyX1 5) hx hb hts hown hK hR hS in_X1 tyX1 tyX1_ok nmX1 rfl (by decide) q670 (fun _ h9 => h9) rfl (tyX1_ok 5 (by decide)) rfl rfl e14 dX1_load_91 (fun H locs hR hS => ?_)
  refine lv_iload_n hx hb dX1_load_94 rfl (lv_at hl 0 rfl) ?_
  have eR := Option.some.inj h
  subst eR
  exact h_ifin hx hb hr hlk hR hS dX1_load_95
noncomputable def fX1_load (v0 : Nat) (w : WH) : Option ((Int32 × WH)) :=
  (hPut w v0 17 6 (.int 0)).bind fun w1 =>
  (hPut w1 v0 17 7 (.int (-1))).bind fun w3 =>
  b2_ (hNw w3 5 25 [.null, .int 0, .int 0, .int 0, .null]) fun a5 w6 =>
  (fX6_init a5 v0 w6).bind fun w8 =>
  b2_ (hNw w8 5 21 [.null, .null, .null, .null, .int 0]) fun a10 w11 =>
  (hIs w11 a5 25).bind fun _ =>
  b2_ (fX6_parse a5 w11) fun o15 w13 => ex_ o15 (fun x17 =>
    x17.bind fun a19 =>
    (fX2_init a10 a19 w13).bind fun w21 =>
    (hPut w21 v0 17 0 (.ref a10)).bind fun w23 =>
    (gR w23 v0 17 2).bind fun x25 =>
    x25.bind fun a27 =>
    (hIs w23 a27 1).bind fun _ =>
    (fJ18_clear a27 w23).bind fun w29 =>
    (gR w29 v0 17 0).bind fun x32 =>
    x32.bind fun a34 =>
    (gR w29 a34 21 0).bind fun x36 =>
    x36.bind fun a38 =>
    (gR w29 a38 22 1).bind fun x40 =>
    x40.bind fun a42 =>
    (hIs w29 a42 2).bind fun _ =>
    b2_ (fJ2_size a42 w29) fun x47 w44 =>
    fX1_load_b57 v0 x47 w44) (fun q18 =>
    if q18.1 = 2 then (
      fX1_load_b65 v0 a5 (q18.2) w13
    ) else (
      none
    ))
theorem bX1_load_0 {p : Program} {l : Launch} {e : Env} {s : State} {m : MethodId} {args : Array Value} {below : List Frame} {meth : Method} {c : Code} {H : Heap} {locs : List Loc} {ls : Array Slot} {G : gE} {A : Nat → Prop} {w0 : WH} (B : gB G RX1 cX1_load 5 (some .int) p s m args meth c) (hTb : c.exceptionTable.toList = tableOf [(19, 57, 64, 110), (19, 57, 96, 0), (64, 89, 96, 0), (96, 98, 96, 0)]) (hl0 : l.stackTraces = false) {v0 : Nat} {w : WH} {r : (Int32 × WH)} (h : fX1_load v0 w = some r)   (hR : RepH G A w H) (hS : Cu A s w0 w H locs) (hl : lv_has ls 5 [(0, .ref v0)]) : W p l e (hRm 17 376 w0) s m args below meth c H locs (wC w0 - wC w) (wS w0 - wS w) (hZ below args s G A w0 (some (.int r.1)) r.2) (F0 m 0 ls []) := by
  have B0 := B
  obtain ⟨hx, hb, hml, hown, hts, hr, hlk, hK⟩ := B0
  unfold fX1_load at h
  refine lv_aload_n hx hb dX1_load_0 rfl (lv_at hl 0 rfl) ?_
  refine lv_iconst (v := 0) hx hb dX1_load_1 (by decide) ?_
  replace h := bo_o h
  obtain ⟨w1, e2, h⟩ := h
  refine h_put (ci := 17) (k := 6) (ty := tyX1 6) hx hb hts hown hK hR hS in_X1 tyX1 tyX1_ok nmX1 rfl (by decide) q671 (fun _ h9 => h9) rfl (tyX1_ok 6 (by decide)) rfl rfl e2 dX1_load_2 (fun H locs hR hS => ?_)
  refine lv_aload_n hx hb dX1_load_5 rfl (lv_at hl 0 rfl) ?_
  refine lv_iconst (v := (-1)) hx hb dX1_load_6 (by decide) ?_
  replace h := bo_o h
  obtain ⟨w3, e4, h⟩ := h
  refine h_put (ci := 17) (k := 7) (ty := tyX1 7) hx hb hts hown hK hR hS in_X1 tyX1 tyX1_ok nmX1 rfl (by decide) q672 (fun _ h9 => h9) rfl (tyX1_ok 7 (by decide)) rfl rfl e4 dX1_load_7 (fun H locs hR hS => ?_)
  replace h := b2_o h
  obtain ⟨a5, w6, e7, h⟩ := h
  refine h_new (ci := 25) (fs := [.null, .int 0, .int 0, .int 0, .null]) hx hb hts hown hK hR hS (Nat.le_refl _) (Nat.le_refl _) in_X6 tyX6 tyX6_ok rfl (by decide +kernel) q703 q704 q138 e7 dX1_load_10 (fun H locs hR hS => ?_)
  refine lv_dup hx hb dX1_load_13 rfl ?_
  refine lv_aload_n hx hb dX1_load_14 rfl (lv_at hl 0 rfl) ?_
  replace h := bo_o h
  obtain ⟨w8, e9, h⟩ := h
  refine h_callIN 1  (As := [.ref v0]) (rest := [.ref a5]) (w' := w8) hx hb hml hown hts hK hR hS (Nat.le_refl _) (Nat.le_refl _) (mX6_init e9) (lw_meth q707) (hK.mn 1 rfl) q138 q706 rfl (by decide +kernel) (Nat.le_of_ble_eq_true rfl) (Nat.le_of_ble_eq_true rfl) rfl hl.1 (Nat.le_of_ble_eq_true rfl) dX1_load_15 rfl (fun H locs hR hS => ?_)
  refine lv_astore_n (lv' := [(1, .ref a5), (0, .ref v0)]) hx hb dX1_load_18 rfl hl (by decide) rfl (fun ls hl => ?_)
  refine lv_aload_n hx hb dX1_load_19 rfl (lv_at hl 1 rfl) ?_
  replace h := b2_o h
  obtain ⟨a10, w11, e12, h⟩ := h
  refine h_new (ci := 21) (fs := [.null, .null, .null, .null, .int 0]) hx hb hts hown hK hR hS (Nat.le_refl _) (Nat.le_refl _) in_X2 tyX2 tyX2_ok rfl (by decide +kernel) q170 q171 q113 e12 dX1_load_20 (fun H locs hR hS => ?_)
  refine lv_dup hx hb dX1_load_23 rfl ?_
  refine lv_aload_n hx hb dX1_load_24 rfl (lv_at hl 0 rfl) ?_
  replace h := bo_o h
  obtain ⟨_, e14, h⟩ := h
  replace h := b2_o h
  obtain ⟨o15, w13, e16, h⟩ := h
  refine h_callVX 0 (ci := 25) (As := []) (rest := [.ref a10, .ref a10, .ref v0]) (o := oR o15) (w' := w13) hx hb hml hown hts hK hR hS (Nat.le_refl _) (Nat.le_refl _) rfl e14 (mX6_parse hl0 e16) (lw_V q728 q729 q730 q138 q731) (by decide +kernel) (Nat.le_of_ble_eq_true rfl) (Nat.le_of_ble_eq_true rfl) rfl hl.1 (Nat.le_of_ble_eq_true rfl) dX1_load_25 rfl (fun v9 hv9 H locs hR hS => ?_) (fun E9 q9 hq9 H locs hR hS hce => ?_)
  · cases o15 with
    | inr q => cases hv9
    | inl x17 =>
      cases hv9
      replace h := exl_o h
      refine W.eq (g2 := F0 m 28 ls [va_rf x17, .ref a10, .ref a10, .ref v0]) rfl ?_
      replace h := bo_o h
      obtain ⟨a19, e20, h⟩ := h
      subst e20
      replace h := bo_o h
      obtain ⟨w21, e22, h⟩ := h
      refine h_callI 1  (As := [.ref a19]) (rest := [.ref a10, .ref v0]) (w' := w21) hx hb hml hown hts hK hR hS (Nat.le_refl _) (Nat.le_refl _) (mX2_init e22) (lw_meth q559) q113 q557 q558 rfl (by decide +kernel) (Nat.le_of_ble_eq_true rfl) (Nat.le_of_ble_eq_true rfl) rfl hl.1 (Nat.le_of_ble_eq_true rfl) dX1_load_28 rfl (fun H locs hR hS => ?_)
      replace h := bo_o h
      obtain ⟨w23, e24, h⟩ := h
      refine h_put (ci := 17) (k := 0) (ty := tyX1 0) hx hb hts hown hK hR hS in_X1 tyX1 tyX1_ok nmX1 rfl (by decide) q662 (fun _ h9 => h9) rfl (tyX1_ok 0 (by decide)) rfl rfl e24 dX1_load_31 (fun H locs hR hS => ?_)
      refine lv_aload_n hx hb dX1_load_34 rfl (lv_at hl 1 rfl) ?_
      replace h := bo_o h
      obtain ⟨x25, e26, h⟩ := h
      refine h_get (ci := 17) (k := 2) (v := va_rf x25) hx hb hts hown hK hR in_X1 rfl (by decide) (fun _ _ => rfl) q665 (fun _ h9 => h9) (gR_o e26) dX1_load_35 ?_
      replace h := bo_o h
      obtain ⟨a27, e28, h⟩ := h
      subst e28
      replace h := bo_o h
      obtain ⟨_, e30, h⟩ := h
      replace h := bo_o h
      obtain ⟨w29, e31, h⟩ := h
      refine h_callV 0 (ci := 1) (As := []) (rest := []) (v := none) (w' := w29) (st1 := []) hx hb hml hown hts hK hR hS (Nat.le_refl _) (Nat.le_refl _) rfl e30 (mJ18_clear e31) (lw_V q1068 q1069 q1070 q136 q1071) (by decide +kernel) (Nat.le_of_ble_eq_true rfl) (Nat.le_of_ble_eq_true rfl) rfl hl.1 (Nat.le_of_ble_eq_true rfl) dX1_load_38 rfl rfl (fun H locs hR hS => ?_)
      refine lv_aload_n hx hb dX1_load_41 rfl (lv_at hl 1 rfl) ?_
      replace h := bo_o h
      obtain ⟨x32, e33, h⟩ := h
      refine h_get (ci := 17) (k := 0) (v := va_rf x32) hx hb hts hown hK hR in_X1 rfl (by decide) (fun _ _ => rfl) q662 (fun _ h9 => h9) (gR_o e33) dX1_load_42 ?_
      replace h := bo_o h
      obtain ⟨a34, e35, h⟩ := h
      subst e35
      replace h := bo_o h
      obtain ⟨x36, e37, h⟩ := h
      refine h_getN (ci := 21) (k := 0) (v := va_rf x36) hx hb hts hown hK hR in_X2 rfl (by decide) (fun _ _ => rfl) (hK.fn 15 rfl) (fun _ h9 => h9) (gR_o e37) dX1_load_45 ?_
      replace h := bo_o h
      obtain ⟨a38, e39, h⟩ := h
      subst e39
      replace h := bo_o h
      obtain ⟨x40, e41, h⟩ := h
      refine h_getN (ci := 22) (k := 1) (v := va_rf x40) hx hb hts hown hK hR in_X3 rfl (by decide) (fun _ _ => rfl) (hK.fn 6 rfl) (fun _ h9 => h9) (gR_o e41) dX1_load_48 ?_
      replace h := bo_o h
      obtain ⟨a42, e43, h⟩ := h
      subst e43
      replace h := bo_o h
      obtain ⟨_, e45, h⟩ := h
      replace h := b2_o h
      obtain ⟨x47, w44, e46, h⟩ := h
      refine h_callF 0  (As := []) (rest := []) (v := (some (.int x47))) (w' := w44) (st1 := [.int x47]) hx hb hml hown hts hK hR hS (Nat.le_refl _) (Nat.le_refl _) (h_recv (ci := 2) hK hR hS rfl e45) (mJ2_size e46) (lw_app (a := [.methodLink _ _ _, .selects _ _ _, .instanceMethod _, .initialized _]) (lw_4 q1076 q903 q905 q117) (lw_meth q907)) (hK.fw 0 rfl) (by decide +kernel) (Nat.le_of_ble_eq_true rfl) (Nat.le_of_ble_eq_true rfl) rfl hl.1 (Nat.le_of_ble_eq_true rfl) dX1_load_51 rfl rfl (fun H locs hR hS => ?_)
      refine lv_istore_n (lv' := [(2, .int x47), (1, .ref a5), (0, .ref v0)]) hx hb dX1_load_56 rfl hl (by decide) rfl (fun ls hl => ?_)
      exact bX1_load_57 B hTb hl0 h  hR hS (lv_sub hl [2, 0] rfl)
  · cases o15 with
    | inl q => cases hq9
    | inr q18 =>
      cases hq9
      replace h := exr_o h
      by_cases c48 : q18.1 = 2
      · replace h := it_o c48 h
        have hce : ∃ ce : Cell, H[q18.2]? = some ce ∧ ce.vm = .none ∧ s.vm.findClass "TollLeader$Fault" = some ce.cls := by rw [c48] at hce; exact hce
        refine h_catch (E := "TollLeader$Fault") hown hTb rfl (by decide) (by decide) rfl (hts _ q702) (hK.ca 2 rfl) hce ?_
        refine lv_astore_n (lv' := [(2, .ref (q18.2)), (1, .ref a5), (0, .ref v0)]) hx hb dX1_load_64 rfl hl (by decide) rfl (fun ls hl => ?_)
        exact bX1_load_65 B hTb hl0 h  hR hS (lv_sub hl [2, 1, 0] rfl)
      · replace h := if_o c48 h
        exact (nomatch h)
theorem mX1_load {l : Launch} {G : gE} {A : Nat → Prop} {v0 : Nat} {w : WH} {r : (Int32 × WH)} (hl0 : l.stackTraces = false) (h : fX1_load v0 w = some r) : hMW l G A yX1_load cX1_load 5 (some .int) [(19, 57, 64, 110), (19, 57, 96, 0), (64, 89, 96, 0), (96, 98, 96, 0)] 17 376 [.ref v0] w (some (.int r.1)) r.2 :=
  h_ofW (by decide +kernel) (Nat.le_of_ble_eq_true rfl) (fun p e s m args below meth c ls B hnm hTb hR hS hl => bX1_load_0 B hTb hl0 h hR hS hl)
noncomputable def fX1_loadError (v0 : Nat) (w : WH) : Option ((Int32 × WH)) :=
  (gI w v0 17 6).bind fun x1 =>
  some (x1, w)
theorem bX1_loadError_0 {p : Program} {l : Launch} {e : Env} {s : State} {m : MethodId} {args : Array Value} {below : List Frame} {meth : Method} {c : Code} {H : Heap} {locs : List Loc} {ls : Array Slot} {G : gE} {A : Nat → Prop} {w0 : WH} (B : gB G RX1 cX1_loadError 1 (some .int) p s m args meth c) {v0 : Nat} {w : WH} {r : (Int32 × WH)} (h : fX1_loadError v0 w = some r)   (hR : RepH G A w H) (hS : Cu A s w0 w H locs) (hl : lv_has ls 1 [(0, .ref v0)]) : W p l e (hRm 0 0 w0) s m args below meth c H locs (wC w0 - wC w) (wS w0 - wS w) (hZ below args s G A w0 (some (.int r.1)) r.2) (F0 m 0 ls []) := by
  have B0 := B
  obtain ⟨hx, hb, hml, hown, hts, hr, hlk, hK⟩ := B0
  unfold fX1_loadError at h
  refine lv_aload_n hx hb dX1_loadError_0 rfl (lv_at hl 0 rfl) ?_
  replace h := bo_o h
  obtain ⟨x1, e2, h⟩ := h
  refine h_get (ci := 17) (k := 6) (v := .int x1) hx hb hts hown hK hR in_X1 rfl (by decide) (fun _ _ => rfl) q671 (fun _ h9 => h9) (gI_o e2) dX1_loadError_1 ?_
  have eR := Option.some.inj h
  subst eR
  exact h_ifin hx hb hr hlk hR hS dX1_loadError_4
theorem mX1_loadError {l : Launch} {G : gE} {A : Nat → Prop} {v0 : Nat} {w : WH} {r : (Int32 × WH)} (h : fX1_loadError v0 w = some r) : hM l G A yX1_loadError cX1_loadError 1 (some .int) 0 0 [.ref v0] w (some (.int r.1)) r.2 :=
  h_of (by decide +kernel) (Nat.le_of_ble_eq_true rfl) (fun p e s m args below meth c ls B hnm hR hS hl => bX1_loadError_0 B h hR hS hl)
noncomputable def fX1_loadStatement (v0 : Nat) (w : WH) : Option ((Int32 × WH)) :=
  (gI w v0 17 7).bind fun x1 =>
  some (x1, w)
theorem bX1_loadStatement_0 {p : Program} {l : Launch} {e : Env} {s : State} {m : MethodId} {args : Array Value} {below : List Frame} {meth : Method} {c : Code} {H : Heap} {locs : List Loc} {ls : Array Slot} {G : gE} {A : Nat → Prop} {w0 : WH} (B : gB G RX1 cX1_loadStatement 1 (some .int) p s m args meth c) {v0 : Nat} {w : WH} {r : (Int32 × WH)} (h : fX1_loadStatement v0 w = some r)   (hR : RepH G A w H) (hS : Cu A s w0 w H locs) (hl : lv_has ls 1 [(0, .ref v0)]) : W p l e (hRm 0 0 w0) s m args below meth c H locs (wC w0 - wC w) (wS w0 - wS w) (hZ below args s G A w0 (some (.int r.1)) r.2) (F0 m 0 ls []) := by
  have B0 := B
  obtain ⟨hx, hb, hml, hown, hts, hr, hlk, hK⟩ := B0
  unfold fX1_loadStatement at h
  refine lv_aload_n hx hb dX1_loadStatement_0 rfl (lv_at hl 0 rfl) ?_
  replace h := bo_o h
  obtain ⟨x1, e2, h⟩ := h
  refine h_get (ci := 17) (k := 7) (v := .int x1) hx hb hts hown hK hR in_X1 rfl (by decide) (fun _ _ => rfl) q672 (fun _ h9 => h9) (gI_o e2) dX1_loadStatement_1 ?_
  have eR := Option.some.inj h
  subst eR
  exact h_ifin hx hb hr hlk hR hS dX1_loadStatement_4
theorem mX1_loadStatement {l : Launch} {G : gE} {A : Nat → Prop} {v0 : Nat} {w : WH} {r : (Int32 × WH)} (h : fX1_loadStatement v0 w = some r) : hM l G A yX1_loadStatement cX1_loadStatement 1 (some .int) 0 0 [.ref v0] w (some (.int r.1)) r.2 :=
  h_of (by decide +kernel) (Nat.le_of_ble_eq_true rfl) (fun p e s m args below meth c ls B hnm hR hS hl => bX1_loadStatement_0 B h hR hS hl)
noncomputable def fJ18_sub (v0 : Int32) (v1 : Int32) (v2 : Int32) (w : WH) : Option ((Int32 × WH)) :=
  nm_ (v0 - v1) fun x1 =>
  if 0 ≤ v0 - v1 then (
    some (x1, w)
  ) else (
    nm_ (x1 + v2) fun x4 =>
    some (x4, w)
  )
theorem bJ18_sub_0 {p : Program} {l : Launch} {e : Env} {s : State} {m : MethodId} {args : Array Value} {below : List Frame} {meth : Method} {c : Code} {H : Heap} {locs : List Loc} {ls : Array Slot} {G : gE} {A : Nat → Prop} {w0 : WH} (B : gB G RJ18 cJ18_sub 3 (some .int) p s m args meth c) {v0 : Int32} {v1 : Int32} {v2 : Int32} {w : WH} {r : (Int32 × WH)} (h : fJ18_sub v0 v1 v2 w = some r)   (hR : RepH G A w H) (hS : Cu A s w0 w H locs) (hl : lv_has ls 3 [(0, .int v0), (1, .int v1), (2, .int v2)]) : W p l e (hRm 0 0 w0) s m args below meth c H locs (wC w0 - wC w) (wS w0 - wS w) (hZ below args s G A w0 (some (.int r.1)) r.2) (F0 m 0 ls []) := by
  have B0 := B
  obtain ⟨hx, hb, hml, hown, hts, hr, hlk, hK⟩ := B0
  unfold fJ18_sub at h
  refine lv_iload_n hx hb dJ18_sub_0 rfl (lv_at hl 0 rfl) ?_
  refine lv_iload_n hx hb dJ18_sub_1 rfl (lv_at hl 1 rfl) ?_
  refine lv_isub hx hb dJ18_sub_2 ?_
  refine lv_dup hx hb dJ18_sub_3 rfl ?_
  replace h := nm_o h
  obtain ⟨x1, e2, h⟩ := h
  refine lv_istore_n (lv' := [(0, .int x1), (1, .int v1), (2, .int v2)]) hx hb dJ18_sub_4 rfl hl (by decide) (by subst e2; rfl) (fun ls hl => ?_)
  refine lv_if_ge (tgt := 12) hx hb dJ18_sub_5 (by decide) (fun c3 => ?_) (fun c3 => ?_)
  · replace h := it_o c3 h
    refine lv_iload_n hx hb dJ18_sub_12 rfl (lv_at hl 0 rfl) ?_
    have eR := Option.some.inj h
    subst eR
    exact h_ifin hx hb hr hlk hR hS dJ18_sub_13
  · replace h := if_o c3 h
    refine lv_iload_n hx hb dJ18_sub_8 rfl (lv_at hl 0 rfl) ?_
    refine lv_iload_n hx hb dJ18_sub_9 rfl (lv_at hl 2 rfl) ?_
    refine lv_iadd hx hb dJ18_sub_10 ?_
    replace h := nm_o h
    obtain ⟨x4, e5, h⟩ := h
    refine lv_istore_n (lv' := [(0, .int x4), (1, .int v1), (2, .int v2)]) hx hb dJ18_sub_11 rfl hl (by decide) (by subst e5; rfl) (fun ls hl => ?_)
    refine lv_iload_n hx hb dJ18_sub_12 rfl (lv_at hl 0 rfl) ?_
    have eR := Option.some.inj h
    subst eR
    exact h_ifin hx hb hr hlk hR hS dJ18_sub_13
theorem mJ18_sub {l : Launch} {G : gE} {A : Nat → Prop} {v0 : Int32} {v1 : Int32} {v2 : Int32} {w : WH} {r : (Int32 × WH)} (h : fJ18_sub v0 v1 v2 w = some r) : hM l G A yJ18_sub cJ18_sub 3 (some .int) 0 0 [.int v0, .int v1, .int v2] w (some (.int r.1)) r.2 :=
  h_of (by decide +kernel) (Nat.le_of_ble_eq_true rfl) (fun p e s m args below meth c ls B hnm hR hS hl => bJ18_sub_0 B h hR hS hl)
noncomputable def fJ18_size (v0 : Nat) (w : WH) : Option ((Int32 × WH)) :=
  (gI w v0 1 2).bind fun x1 =>
  (gI w v0 1 1).bind fun x3 =>
  (gR w v0 1 0).bind fun x5 =>
  x5.bind fun a7 =>
  (aLn w a7).bind fun x9 =>
  b2_ (fJ18_sub x1 x3 x9 w) fun x13 w11 =>
  some (x13, w11)
theorem bJ18_size_0 {p : Program} {l : Launch} {e : Env} {s : State} {m : MethodId} {args : Array Value} {below : List Frame} {meth : Method} {c : Code} {H : Heap} {locs : List Loc} {ls : Array Slot} {G : gE} {A : Nat → Prop} {w0 : WH} (B : gB G RJ18 cJ18_size 1 (some .int) p s m args meth c) {v0 : Nat} {w : WH} {r : (Int32 × WH)} (h : fJ18_size v0 w = some r)   (hR : RepH G A w H) (hS : Cu A s w0 w H locs) (hl : lv_has ls 1 [(0, .ref v0)]) : W p l e (hRm 1 22 w0) s m args below meth c H locs (wC w0 - wC w) (wS w0 - wS w) (hZ below args s G A w0 (some (.int r.1)) r.2) (F0 m 0 ls []) := by
  have B0 := B
  obtain ⟨hx, hb, hml, hown, hts, hr, hlk, hK⟩ := B0
  unfold fJ18_size at h
  refine lv_aload_n hx hb dJ18_size_0 rfl (lv_at hl 0 rfl) ?_
  replace h := bo_o h
  obtain ⟨x1, e2, h⟩ := h
  refine h_get (ci := 1) (k := 2) (v := .int x1) hx hb hts hown hK hR in_J18 rfl (by decide) (fun _ _ => rfl) q651 (fun _ h9 => h9) (gI_o e2) dJ18_size_1 ?_
  refine lv_aload_n hx hb dJ18_size_4 rfl (lv_at hl 0 rfl) ?_
  replace h := bo_o h
  obtain ⟨x3, e4, h⟩ := h
  refine h_get (ci := 1) (k := 1) (v := .int x3) hx hb hts hown hK hR in_J18 rfl (by decide) (fun _ _ => rfl) q650 (fun _ h9 => h9) (gI_o e4) dJ18_size_5 ?_
  refine lv_aload_n hx hb dJ18_size_8 rfl (lv_at hl 0 rfl) ?_
  replace h := bo_o h
  obtain ⟨x5, e6, h⟩ := h
  refine h_get (ci := 1) (k := 0) (v := va_rf x5) hx hb hts hown hK hR in_J18 rfl (by decide) (fun _ _ => rfl) q647 (fun _ h9 => h9) (gR_o e6) dJ18_size_9 ?_
  replace h := bo_o h
  obtain ⟨a7, e8, h⟩ := h
  subst e8
  replace h := bo_o h
  obtain ⟨x9, e10, h⟩ := h
  refine h_alen hx hb hK hR hS e10 dJ18_size_12 ?_
  replace h := b2_o h
  obtain ⟨x13, w11, e12, h⟩ := h
  refine h_callS 3  (As := [.int x1, .int x3, .int x9]) (rest := []) (v := (some (.int x13))) (w' := w11) (st1 := [.int x13]) hx hb hml hown hts hK hR hS (Nat.le_refl _) (Nat.le_refl _) (mJ18_sub e12) (lw_S q1097 q1098 q136 q1099) (by decide +kernel) (Nat.le_of_ble_eq_true rfl) (Nat.le_of_ble_eq_true rfl) rfl hl.1 (Nat.le_of_ble_eq_true rfl) dJ18_size_13 rfl rfl (fun H locs hR hS => ?_)
  have eR := Option.some.inj h
  subst eR
  exact h_ifin hx hb hr hlk hR hS dJ18_size_16
theorem mJ18_size {l : Launch} {G : gE} {A : Nat → Prop} {v0 : Nat} {w : WH} {r : (Int32 × WH)} (h : fJ18_size v0 w = some r) : hM l G A yJ18_size cJ18_size 1 (some .int) 1 22 [.ref v0] w (some (.int r.1)) r.2 :=
  h_of (by decide +kernel) (Nat.le_of_ble_eq_true rfl) (fun p e s m args below meth c ls B hnm hR hS hl => bJ18_size_0 B h hR hS hl)
noncomputable def fJ18_elementAt (v0 : Nat) (v1 : Int32) (w : WH) : Option ((Option Nat × WH)) :=
  (ldR w v0 4 v1).bind fun x1 =>
  some (x1, w)
theorem bJ18_elementAt_0 {p : Program} {l : Launch} {e : Env} {s : State} {m : MethodId} {args : Array Value} {below : List Frame} {meth : Method} {c : Code} {H : Heap} {locs : List Loc} {ls : Array Slot} {G : gE} {A : Nat → Prop} {w0 : WH} (B : gB G RJ18 cJ18_elementAt 2 (some (.object "java/lang/Object")) p s m args meth c) {v0 : Nat} {v1 : Int32} {w : WH} {r : (Option Nat × WH)} (h : fJ18_elementAt v0 v1 w = some r)   (hR : RepH G A w H) (hS : Cu A s w0 w H locs) (hl : lv_has ls 2 [(0, .ref v0), (1, .int v1)]) : W p l e (hRm 0 0 w0) s m args below meth c H locs (wC w0 - wC w) (wS w0 - wS w) (hZ below args s G A w0 (some (va_rf r.1)) r.2) (F0 m 0 ls []) := by
  have B0 := B
  obtain ⟨hx, hb, hml, hown, hts, hr, hlk, hK⟩ := B0
  unfold fJ18_elementAt at h
  refine lv_aload_n hx hb dJ18_elementAt_0 rfl (lv_at hl 0 rfl) ?_
  refine lv_iload_n hx hb dJ18_elementAt_1 rfl (lv_at hl 1 rfl) ?_
  replace h := bo_o h
  obtain ⟨x1, e2, h⟩ := h
  refine h_aald hx hb hK hR 4 e2 rfl dJ18_elementAt_2 ?_
  have eR := Option.some.inj h
  subst eR
  exact h_afin (x := x1) hx hb hr hlk (by first | exact Or.inl ⟨_, rfl⟩ | exact Or.inr ⟨_, rfl⟩) hR hS dJ18_elementAt_3
theorem mJ18_elementAt {l : Launch} {G : gE} {A : Nat → Prop} {v0 : Nat} {v1 : Int32} {w : WH} {r : (Option Nat × WH)} (h : fJ18_elementAt v0 v1 w = some r) : hM l G A yJ18_elementAt cJ18_elementAt 2 (some (.object "java/lang/Object")) 0 0 [.ref v0, .int v1] w (some (va_rf r.1)) r.2 :=
  h_of (by decide +kernel) (Nat.le_of_ble_eq_true rfl) (fun p e s m args below meth c ls B hnm hR hS hl => bJ18_elementAt_0 B h hR hS hl)
