set_option maxRecDepth 100000
set_option maxHeartbeats 4000000

noncomputable def fJ0_init (v0 : Nat) (w : WH) : Option (WH) :=
  some w
theorem bJ0_init_0 {p : Program} {l : Launch} {e : Env} {s : State} {m : MethodId} {args : Array Value} {below : List Frame} {meth : Method} {c : Code} {H : Heap} {locs : List Loc} {ls : Array Slot} {G : gE} {A : Nat → Prop} {w0 : WH} (B : gB G RJ0 cJ0_init 1 none p s m args meth c) (hnm : meth.name = "<init>") {v0 : Nat} {w : WH} {r : WH} (h : fJ0_init v0 w = some r)   (hR : RepH G A w H) (hS : Cu A s w0 w H locs) (hl : lv_has ls 1 [(0, .ref v0)]) : W p l e (hRm 1 20 w0) s m args below meth c H locs (wC w0 - wC w) (wS w0 - wS w) (hZ below args s G A w0 none r) (F0 m 0 ls []) := by
  have B0 := B
  obtain ⟨hx, hb, hml, hown, hts, hr, hlk, hK⟩ := B0
  unfold fJ0_init at h
  refine lv_aload_n hx hb dJ0_init_0 rfl (lv_at hl 0 rfl) ?_
  refine W.objInit hx hb hown (hts _ q189) (hts _ q168) (hts _ q169) rfl (by rw [hml]; exact hl.1) rfl dJ0_init_1 (Nat.le_of_ble_eq_true rfl) (Nat.le_of_ble_eq_true rfl) ?_
  refine W.eq (g2 := F0 m 4 ls []) rfl ?_
  have eR := Option.some.inj h
  subst eR
  exact h_vfin hx hb hr hlk hR hS dJ0_init_4
theorem mJ0_init {l : Launch} {G : gE} {A : Nat → Prop} {v0 : Nat} {w : WH} {r : WH} (h : fJ0_init v0 w = some r) : hM l G A yJ0_init cJ0_init 1 none 1 20 [.ref v0] w none r :=
  h_of (by decide +kernel) (Nat.le_of_ble_eq_true rfl) (fun p e s m args below meth c ls B hnm hR hS hl => bJ0_init_0 B hnm h hR hS hl)
noncomputable def fJ1_init__2 (v0 : Nat) (w : WH) : Option (WH) :=
  (fJ0_init v0 w).bind fun w1 =>
  (hPut w1 v0 2 0 (.int 0)).bind fun w3 =>
  some w3
theorem bJ1_init__2_0 {p : Program} {l : Launch} {e : Env} {s : State} {m : MethodId} {args : Array Value} {below : List Frame} {meth : Method} {c : Code} {H : Heap} {locs : List Loc} {ls : Array Slot} {G : gE} {A : Nat → Prop} {w0 : WH} (B : gB G RJ1 cJ1_init 1 none p s m args meth c) (hnm : meth.name = "<init>") {v0 : Nat} {w : WH} {r : WH} (h : fJ1_init__2 v0 w = some r)   (hR : RepH G A w H) (hS : Cu A s w0 w H locs) (hl : lv_has ls 1 [(0, .ref v0)]) : W p l e (hRm 2 40 w0) s m args below meth c H locs (wC w0 - wC w) (wS w0 - wS w) (hZ below args s G A w0 none r) (F0 m 0 ls []) := by
  have B0 := B
  obtain ⟨hx, hb, hml, hown, hts, hr, hlk, hK⟩ := B0
  unfold fJ1_init__2 at h
  refine lv_aload_n hx hb dJ1_init_0 rfl (lv_at hl 0 rfl) ?_
  replace h := bo_o h
  obtain ⟨w1, e2, h⟩ := h
  refine h_callI 0  (As := []) (rest := []) (w' := w1) hx hb hml hown hts hK hR hS (Nat.le_refl _) (Nat.le_refl _) (mJ0_init e2) (lw_meth q188) q115 q186 q187 rfl (by decide +kernel) (Nat.le_of_ble_eq_true rfl) (Nat.le_of_ble_eq_true rfl) rfl hl.1 (Nat.le_of_ble_eq_true rfl) dJ1_init_1 rfl (fun H locs hR hS => ?_)
  refine lv_aload_n hx hb dJ1_init_4 rfl (lv_at hl 0 rfl) ?_
  refine lv_iconst (v := 0) hx hb dJ1_init_5 (by decide) ?_
  replace h := bo_o h
  obtain ⟨w3, e4, h⟩ := h
  refine h_put (ci := 2) (k := 0) (ty := tyJ2 0) hx hb hts hown hK hR hS in_J2 tyJ2 tyJ2_ok nmJ2 rfl (by decide) q516 (fun _ h9 => h9) rfl (tyJ2_ok 0 (by decide)) rfl rfl e4 dJ1_init_6 (fun H locs hR hS => ?_)
  have eR := Option.some.inj h
  subst eR
  exact h_vfin hx hb hr hlk hR hS dJ1_init_9
theorem mJ1_init__2 {l : Launch} {G : gE} {A : Nat → Prop} {v0 : Nat} {w : WH} {r : WH} (h : fJ1_init__2 v0 w = some r) : hM l G A yJ1_init cJ1_init 1 none 2 40 [.ref v0] w none r :=
  h_of (by decide +kernel) (Nat.le_of_ble_eq_true rfl) (fun p e s m args below meth c ls B hnm hR hS hl => bJ1_init__2_0 B hnm h hR hS hl)
noncomputable def fJ2_init (v0 : Nat) (v1 : Int32) (w : WH) : Option (WH) :=
  (fJ1_init__2 v0 w).bind fun w1 =>
  if v1 ≤ 0 then (
    if v1 = 0 then (
      none
    ) else (
      none
    )
  ) else (
    b2_ (hNa w1 4 v1) fun a5 w6 =>
    (hPut w6 v0 2 1 (.ref a5)).bind fun w8 =>
    some w8
  )
theorem bJ2_init_0 {p : Program} {l : Launch} {e : Env} {s : State} {m : MethodId} {args : Array Value} {below : List Frame} {meth : Method} {c : Code} {H : Heap} {locs : List Loc} {ls : Array Slot} {G : gE} {A : Nat → Prop} {w0 : WH} (B : gB G RJ2 cJ2_init 2 none p s m args meth c) (hnm : meth.name = "<init>") {v0 : Nat} {v1 : Int32} {w : WH} {r : WH} (h : fJ2_init v0 v1 w = some r)   (hR : RepH G A w H) (hS : Cu A s w0 w H locs) (hl : lv_has ls 2 [(0, .ref v0), (1, .int v1)]) : W p l e (hRm 12 269 w0) s m args below meth c H locs (wC w0 - wC w) (wS w0 - wS w) (hZ below args s G A w0 none r) (F0 m 0 ls []) := by
  have B0 := B
  obtain ⟨hx, hb, hml, hown, hts, hr, hlk, hK⟩ := B0
  unfold fJ2_init at h
  refine lv_aload_n hx hb dJ2_init_0 rfl (lv_at hl 0 rfl) ?_
  replace h := bo_o h
  obtain ⟨w1, e2, h⟩ := h
  refine h_callI 0  (As := []) (rest := []) (w' := w1) hx hb hml hown hts hK hR hS (Nat.le_refl _) (Nat.le_refl _) (mJ1_init__2 e2) (lw_meth q185) q116 q183 q184 rfl (by decide +kernel) (Nat.le_of_ble_eq_true rfl) (Nat.le_of_ble_eq_true rfl) rfl hl.1 (Nat.le_of_ble_eq_true rfl) dJ2_init_1 rfl (fun H locs hR hS => ?_)
  refine lv_iload_n hx hb dJ2_init_4 rfl (lv_at hl 1 rfl) ?_
  refine lv_if_le (tgt := 19) hx hb dJ2_init_5 (by decide) (fun c3 => ?_) (fun c3 => ?_)
  · replace h := it_o c3 h
    refine lv_iload_n hx hb dJ2_init_19 rfl (lv_at hl 1 rfl) ?_
    refine lv_if_ne (tgt := 33) hx hb dJ2_init_20 (by decide) (fun c4 => ?_) (fun c4 => ?_)
    · replace h := if_o c4 h
      exact (nomatch h)
    · replace h := it_o c4 h
      refine lv_aload_n hx hb dJ2_init_23 rfl (lv_at hl 0 rfl) ?_
      exact (nomatch h)
  · replace h := if_o c3 h
    refine lv_aload_n hx hb dJ2_init_8 rfl (lv_at hl 0 rfl) ?_
    refine lv_iload_n hx hb dJ2_init_9 rfl (lv_at hl 1 rfl) ?_
    replace h := b2_o h
    obtain ⟨a5, w6, e7, h⟩ := h
    refine h_newq (t := 4) hx hb hts hown hK hR hS (Nat.le_refl _) (Nat.le_refl _) q190 hK.kx.2.2.2.1 rfl rfl e7 dJ2_init_10 (fun H locs hR hS => ?_)
    replace h := bo_o h
    obtain ⟨w8, e9, h⟩ := h
    refine h_put (ci := 2) (k := 1) (ty := tyJ2 1) hx hb hts hown hK hR hS in_J2 tyJ2 tyJ2_ok nmJ2 rfl (by decide) q512 (fun _ h9 => h9) rfl (tyJ2_ok 1 (by decide)) rfl rfl e9 dJ2_init_13 (fun H locs hR hS => ?_)
    refine lv_goto (tgt := 60) hx hb dJ2_init_16 (by decide) ?_
    have eR := Option.some.inj h
    subst eR
    exact h_vfin hx hb hr hlk hR hS dJ2_init_60
theorem mJ2_init {l : Launch} {G : gE} {A : Nat → Prop} {v0 : Nat} {v1 : Int32} {w : WH} {r : WH} (h : fJ2_init v0 v1 w = some r) : hM l G A yJ2_init cJ2_init 2 none 12 269 [.ref v0, .int v1] w none r :=
  h_of (by decide +kernel) (Nat.le_of_ble_eq_true rfl) (fun p e s m args below meth c ls B hnm hR hS hl => bJ2_init_0 B hnm h hR hS hl)
noncomputable def fX3_init (v0 : Nat) (v1 : Int32) (w : WH) : Option (WH) :=
  b2_ (hNw w 3 2 [.int 0, .null, .int 0]) fun a1 w2 =>
  (fJ2_init a1 24 w2).bind fun w4 =>
  (hPut w4 v0 22 1 (.ref a1)).bind fun w6 =>
  b2_ (hNw w6 3 2 [.int 0, .null, .int 0]) fun a8 w9 =>
  (fJ2_init a8 6 w9).bind fun w11 =>
  (hPut w11 v0 22 2 (.ref a8)).bind fun w13 =>
  b2_ (hNa w13 0 6) fun a15 w16 =>
  (hPut w16 v0 22 3 (.ref a15)).bind fun w18 =>
  (hPut w18 v0 22 0 (.int v1)).bind fun w20 =>
  some w20
theorem bX3_init_0 {p : Program} {l : Launch} {e : Env} {s : State} {m : MethodId} {args : Array Value} {below : List Frame} {meth : Method} {c : Code} {H : Heap} {locs : List Loc} {ls : Array Slot} {G : gE} {A : Nat → Prop} {w0 : WH} (B : gB G RX3 cX3_init 2 none p s m args meth c) (hnm : meth.name = "<init>") {v0 : Nat} {v1 : Int32} {w : WH} {r : WH} (h : fX3_init v0 v1 w = some r)   (hR : RepH G A w H) (hS : Cu A s w0 w H locs) (hl : lv_has ls 2 [(0, .ref v0), (1, .int v1)]) : W p l e (hRm 13 290 w0) s m args below meth c H locs (wC w0 - wC w) (wS w0 - wS w) (hZ below args s G A w0 none r) (F0 m 0 ls []) := by
  have B0 := B
  obtain ⟨hx, hb, hml, hown, hts, hr, hlk, hK⟩ := B0
  unfold fX3_init at h
  refine lv_aload_n hx hb dX3_init_0 rfl (lv_at hl 0 rfl) ?_
  refine W.objInit hx hb hown (hts _ q177) (hts _ q168) (hts _ q169) rfl (by rw [hml]; exact hl.1) rfl dX3_init_1 (Nat.le_of_ble_eq_true rfl) (Nat.le_of_ble_eq_true rfl) ?_
  refine W.eq (g2 := F0 m 4 ls []) rfl ?_
  refine lv_aload_n hx hb dX3_init_4 rfl (lv_at hl 0 rfl) ?_
  replace h := b2_o h
  obtain ⟨a1, w2, e3, h⟩ := h
  refine h_new (ci := 2) (fs := [.int 0, .null, .int 0]) hx hb hts hown hK hR hS (Nat.le_refl _) (Nat.le_refl _) in_J2 tyJ2 tyJ2_ok rfl (by decide +kernel) q178 q179 q117 e3 dX3_init_5 (fun H locs hR hS => ?_)
  refine lv_dup hx hb dX3_init_8 rfl ?_
  refine lv_bipush (v := 24) hx hb dX3_init_9 (by decide) ?_
  replace h := bo_o h
  obtain ⟨w4, e5, h⟩ := h
  refine h_callI 1  (As := [.int 24]) (rest := [.ref a1, .ref v0]) (w' := w4) hx hb hml hown hts hK hR hS (Nat.le_refl _) (Nat.le_refl _) (mJ2_init e5) (lw_meth q182) q117 q180 q181 rfl (by decide +kernel) (Nat.le_of_ble_eq_true rfl) (Nat.le_of_ble_eq_true rfl) rfl hl.1 (Nat.le_of_ble_eq_true rfl) dX3_init_11 rfl (fun H locs hR hS => ?_)
  replace h := bo_o h
  obtain ⟨w6, e7, h⟩ := h
  refine h_putF (ci := 22) (k := 1) (ty := tyX3 1) hx hb hts hown hK hR hS in_X3 tyX3 tyX3_ok nmX3 rfl (by decide) q535 (fun _ h9 => h9) rfl hnm rfl (tyX3_ok 1 (by decide)) rfl rfl e7 dX3_init_14 (fun H locs hR hS => ?_)
  refine lv_aload_n hx hb dX3_init_17 rfl (lv_at hl 0 rfl) ?_
  replace h := b2_o h
  obtain ⟨a8, w9, e10, h⟩ := h
  refine h_new (ci := 2) (fs := [.int 0, .null, .int 0]) hx hb hts hown hK hR hS (Nat.le_refl _) (Nat.le_refl _) in_J2 tyJ2 tyJ2_ok rfl (by decide +kernel) q178 q179 q117 e10 dX3_init_18 (fun H locs hR hS => ?_)
  refine lv_dup hx hb dX3_init_21 rfl ?_
  refine lv_bipush (v := 6) hx hb dX3_init_22 (by decide) ?_
  replace h := bo_o h
  obtain ⟨w11, e12, h⟩ := h
  refine h_callI 1  (As := [.int 6]) (rest := [.ref a8, .ref v0]) (w' := w11) hx hb hml hown hts hK hR hS (Nat.le_refl _) (Nat.le_refl _) (mJ2_init e12) (lw_meth q182) q117 q180 q181 rfl (by decide +kernel) (Nat.le_of_ble_eq_true rfl) (Nat.le_of_ble_eq_true rfl) rfl hl.1 (Nat.le_of_ble_eq_true rfl) dX3_init_24 rfl (fun H locs hR hS => ?_)
  replace h := bo_o h
  obtain ⟨w13, e14, h⟩ := h
  refine h_putF (ci := 22) (k := 2) (ty := tyX3 2) hx hb hts hown hK hR hS in_X3 tyX3 tyX3_ok nmX3 rfl (by decide) q540 (fun _ h9 => h9) rfl hnm rfl (tyX3_ok 2 (by decide)) rfl rfl e14 dX3_init_27 (fun H locs hR hS => ?_)
  refine lv_aload_n hx hb dX3_init_30 rfl (lv_at hl 0 rfl) ?_
  refine lv_bipush (v := 6) hx hb dX3_init_31 (by decide) ?_
  replace h := b2_o h
  obtain ⟨a15, w16, e17, h⟩ := h
  refine h_newa (atype := .int) (t := 0) hx hb hts hK hR hS (Nat.le_refl _) (Nat.le_refl _) q556 rfl (by decide) (fun _ _ => rfl) e17 dX3_init_33 (fun H locs hR hS => ?_)
  replace h := bo_o h
  obtain ⟨w18, e19, h⟩ := h
  refine h_putF (ci := 22) (k := 3) (ty := tyX3 3) hx hb hts hown hK hR hS in_X3 tyX3 tyX3_ok nmX3 rfl (by decide) q544 (fun _ h9 => h9) rfl hnm rfl (tyX3_ok 3 (by decide)) rfl rfl e19 dX3_init_35 (fun H locs hR hS => ?_)
  refine lv_aload_n hx hb dX3_init_38 rfl (lv_at hl 0 rfl) ?_
  refine lv_iload_n hx hb dX3_init_39 rfl (lv_at hl 1 rfl) ?_
  replace h := bo_o h
  obtain ⟨w20, e21, h⟩ := h
  refine h_putF (ci := 22) (k := 0) (ty := tyX3 0) hx hb hts hown hK hR hS in_X3 tyX3 tyX3_ok nmX3 rfl (by decide) q531 (fun _ h9 => h9) rfl hnm rfl (tyX3_ok 0 (by decide)) rfl rfl e21 dX3_init_40 (fun H locs hR hS => ?_)
  have eR := Option.some.inj h
  subst eR
  exact h_vfin hx hb hr hlk hR hS dX3_init_43
theorem mX3_init {l : Launch} {G : gE} {A : Nat → Prop} {v0 : Nat} {v1 : Int32} {w : WH} {r : WH} (h : fX3_init v0 v1 w = some r) : hM l G A yX3_init cX3_init 2 none 13 290 [.ref v0, .int v1] w none r :=
  h_of (by decide +kernel) (Nat.le_of_ble_eq_true rfl) (fun p e s m args below meth c ls B hnm hR hS hl => bX3_init_0 B hnm h hR hS hl)
noncomputable def fJ17_wordIndex (v0 : Int32) (w : WH) : Option ((Int32 × WH)) :=
  some (v0 >>> ((6 : Int32) &&& 31), w)
theorem bJ17_wordIndex_0 {p : Program} {l : Launch} {e : Env} {s : State} {m : MethodId} {args : Array Value} {below : List Frame} {meth : Method} {c : Code} {H : Heap} {locs : List Loc} {ls : Array Slot} {G : gE} {A : Nat → Prop} {w0 : WH} (B : gB G RJ17 cJ17_wordIndex 1 (some .int) p s m args meth c) {v0 : Int32} {w : WH} {r : (Int32 × WH)} (h : fJ17_wordIndex v0 w = some r)   (hR : RepH G A w H) (hS : Cu A s w0 w H locs) (hl : lv_has ls 1 [(0, .int v0)]) : W p l e (hRm 0 0 w0) s m args below meth c H locs (wC w0 - wC w) (wS w0 - wS w) (hZ below args s G A w0 (some (.int r.1)) r.2) (F0 m 0 ls []) := by
  have B0 := B
  obtain ⟨hx, hb, hml, hown, hts, hr, hlk, hK⟩ := B0
  unfold fJ17_wordIndex at h
  refine lv_iload_n hx hb dJ17_wordIndex_0 rfl (lv_at hl 0 rfl) ?_
  refine lv_bipush (v := 6) hx hb dJ17_wordIndex_1 (by decide) ?_
  refine lv_ishr hx hb dJ17_wordIndex_3 ?_
  have eR := Option.some.inj h
  subst eR
  exact h_ifin hx hb hr hlk hR hS dJ17_wordIndex_4
theorem mJ17_wordIndex {l : Launch} {G : gE} {A : Nat → Prop} {v0 : Int32} {w : WH} {r : (Int32 × WH)} (h : fJ17_wordIndex v0 w = some r) : hM l G A yJ17_wordIndex cJ17_wordIndex 1 (some .int) 0 0 [.int v0] w (some (.int r.1)) r.2 :=
  h_of (by decide +kernel) (Nat.le_of_ble_eq_true rfl) (fun p e s m args below meth c ls B hnm hR hS hl => bJ17_wordIndex_0 B h hR hS hl)
noncomputable def fJ17_initWords (v0 : Nat) (v1 : Int32) (w : WH) : Option (WH) :=
  b2_ (fJ17_wordIndex (v1 - 1) w) fun x3 w1 =>
  b2_ (hNa w1 1 (x3 + 1)) fun a4 w5 =>
  (hPut w5 v0 0 0 (.ref a4)).bind fun w7 =>
  some w7
theorem bJ17_initWords_0 {p : Program} {l : Launch} {e : Env} {s : State} {m : MethodId} {args : Array Value} {below : List Frame} {meth : Method} {c : Code} {H : Heap} {locs : List Loc} {ls : Array Slot} {G : gE} {A : Nat → Prop} {w0 : WH} (B : gB G RJ17 cJ17_initWords 2 none p s m args meth c) {v0 : Nat} {v1 : Int32} {w : WH} {r : WH} (h : fJ17_initWords v0 v1 w = some r)   (hR : RepH G A w H) (hS : Cu A s w0 w H locs) (hl : lv_has ls 2 [(0, .ref v0), (1, .int v1)]) : W p l e (hRm 1 20 w0) s m args below meth c H locs (wC w0 - wC w) (wS w0 - wS w) (hZ below args s G A w0 none r) (F0 m 0 ls []) := by
  have B0 := B
  obtain ⟨hx, hb, hml, hown, hts, hr, hlk, hK⟩ := B0
  unfold fJ17_initWords at h
  refine lv_aload_n hx hb dJ17_initWords_0 rfl (lv_at hl 0 rfl) ?_
  refine lv_iload_n hx hb dJ17_initWords_1 rfl (lv_at hl 1 rfl) ?_
  refine lv_iconst (v := 1) hx hb dJ17_initWords_2 (by decide) ?_
  refine lv_isub hx hb dJ17_initWords_3 ?_
  replace h := b2_o h
  obtain ⟨x3, w1, e2, h⟩ := h
  refine h_callS 1  (As := [.int (v1 - 1)]) (rest := [.ref v0]) (v := (some (.int x3))) (w' := w1) (st1 := [.int x3, .ref v0]) hx hb hml hown hts hK hR hS (Nat.le_refl _) (Nat.le_refl _) (mJ17_wordIndex e2) (lw_S q571 q572 q134 q573) (by decide +kernel) (Nat.le_of_ble_eq_true rfl) (Nat.le_of_ble_eq_true rfl) rfl hl.1 (Nat.le_of_ble_eq_true rfl) dJ17_initWords_4 rfl rfl (fun H locs hR hS => ?_)
  refine lv_iconst (v := 1) hx hb dJ17_initWords_7 (by decide) ?_
  refine lv_iadd hx hb dJ17_initWords_8 ?_
  replace h := b2_o h
  obtain ⟨a4, w5, e6, h⟩ := h
  refine h_newa (atype := .long) (t := 1) hx hb hts hK hR hS (Nat.le_refl _) (Nat.le_refl _) q584 rfl (by decide) (fun _ _ => rfl) e6 dJ17_initWords_9 (fun H locs hR hS => ?_)
  replace h := bo_o h
  obtain ⟨w7, e8, h⟩ := h
  refine h_put (ci := 0) (k := 0) (ty := tyJ17 0) hx hb hts hown hK hR hS in_J17 tyJ17 tyJ17_ok nmJ17 rfl (by decide) q574 (fun _ h9 => h9) rfl (tyJ17_ok 0 (by decide)) rfl rfl e8 dJ17_initWords_11 (fun H locs hR hS => ?_)
  have eR := Option.some.inj h
  subst eR
  exact h_vfin hx hb hr hlk hR hS dJ17_initWords_14
theorem mJ17_initWords {l : Launch} {G : gE} {A : Nat → Prop} {v0 : Nat} {v1 : Int32} {w : WH} {r : WH} (h : fJ17_initWords v0 v1 w = some r) : hM l G A yJ17_initWords cJ17_initWords 2 none 1 20 [.ref v0, .int v1] w none r :=
  h_of (by decide +kernel) (Nat.le_of_ble_eq_true rfl) (fun p e s m args below meth c ls B hnm hR hS hl => bJ17_initWords_0 B h hR hS hl)
noncomputable def fJ17_init (v0 : Nat) (v1 : Int32) (w : WH) : Option (WH) :=
  (hPut w v0 0 1 (.int 0)).bind fun w1 =>
  (hPut w1 v0 0 2 (.int 0)).bind fun w3 =>
  if 0 ≤ v1 then (
    (hIs w3 v0 0).bind fun _ =>
    (fJ17_initWords v0 v1 w3).bind fun w6 =>
    (hPut w6 v0 0 2 (.int 1)).bind fun w9 =>
    some w9
  ) else (
    none
  )
theorem bJ17_init_0 {p : Program} {l : Launch} {e : Env} {s : State} {m : MethodId} {args : Array Value} {below : List Frame} {meth : Method} {c : Code} {H : Heap} {locs : List Loc} {ls : Array Slot} {G : gE} {A : Nat → Prop} {w0 : WH} (B : gB G RJ17 cJ17_init 2 none p s m args meth c) (hnm : meth.name = "<init>") {v0 : Nat} {v1 : Int32} {w : WH} {r : WH} (h : fJ17_init v0 v1 w = some r)   (hR : RepH G A w H) (hS : Cu A s w0 w H locs) (hl : lv_has ls 2 [(0, .ref v0), (1, .int v1)]) : W p l e (hRm 12 269 w0) s m args below meth c H locs (wC w0 - wC w) (wS w0 - wS w) (hZ below args s G A w0 none r) (F0 m 0 ls []) := by
  have B0 := B
  obtain ⟨hx, hb, hml, hown, hts, hr, hlk, hK⟩ := B0
  unfold fJ17_init at h
  refine lv_aload_n hx hb dJ17_init_0 rfl (lv_at hl 0 rfl) ?_
  refine W.objInit hx hb hown (hts _ q566) (hts _ q168) (hts _ q169) rfl (by rw [hml]; exact hl.1) rfl dJ17_init_1 (Nat.le_of_ble_eq_true rfl) (Nat.le_of_ble_eq_true rfl) ?_
  refine W.eq (g2 := F0 m 4 ls []) rfl ?_
  refine lv_aload_n hx hb dJ17_init_4 rfl (lv_at hl 0 rfl) ?_
  refine lv_iconst (v := 0) hx hb dJ17_init_5 (by decide) ?_
  replace h := bo_o h
  obtain ⟨w1, e2, h⟩ := h
  refine h_put (ci := 0) (k := 1) (ty := tyJ17 1) hx hb hts hown hK hR hS in_J17 tyJ17 tyJ17_ok nmJ17 rfl (by decide) q575 (fun _ h9 => h9) rfl (tyJ17_ok 1 (by decide)) rfl rfl e2 dJ17_init_6 (fun H locs hR hS => ?_)
  refine lv_aload_n hx hb dJ17_init_9 rfl (lv_at hl 0 rfl) ?_
  refine lv_iconst (v := 0) hx hb dJ17_init_10 (by decide) ?_
  replace h := bo_o h
  obtain ⟨w3, e4, h⟩ := h
  refine h_put (ci := 0) (k := 2) (ty := tyJ17 2) hx hb hts hown hK hR hS in_J17 tyJ17 tyJ17_ok nmJ17 rfl (by decide) q576 (fun _ h9 => h9) rfl (tyJ17_ok 2 (by decide)) rfl rfl e4 dJ17_init_11 (fun H locs hR hS => ?_)
  refine lv_iload_n hx hb dJ17_init_14 rfl (lv_at hl 1 rfl) ?_
  refine lv_if_ge (tgt := 45) hx hb dJ17_init_15 (by decide) (fun c5 => ?_) (fun c5 => ?_)
  · replace h := it_o c5 h
    refine lv_aload_n hx hb dJ17_init_45 rfl (lv_at hl 0 rfl) ?_
    refine lv_iload_n hx hb dJ17_init_46 rfl (lv_at hl 1 rfl) ?_
    replace h := bo_o h
    obtain ⟨_, e7, h⟩ := h
    replace h := bo_o h
    obtain ⟨w6, e8, h⟩ := h
    refine h_callV 1 (ci := 0) (As := [.int v1]) (rest := []) (v := none) (w' := w6) (st1 := []) hx hb hml hown hts hK hR hS (Nat.le_refl _) (Nat.le_refl _) rfl e7 (mJ17_initWords e8) (lw_V q567 q569 qs1 q134 q570) (by decide +kernel) (Nat.le_of_ble_eq_true rfl) (Nat.le_of_ble_eq_true rfl) rfl hl.1 (Nat.le_of_ble_eq_true rfl) dJ17_init_47 rfl rfl (fun H locs hR hS => ?_)
    refine lv_aload_n hx hb dJ17_init_50 rfl (lv_at hl 0 rfl) ?_
    refine lv_iconst (v := 1) hx hb dJ17_init_51 (by decide) ?_
    replace h := bo_o h
    obtain ⟨w9, e10, h⟩ := h
    refine h_put (ci := 0) (k := 2) (ty := tyJ17 2) hx hb hts hown hK hR hS in_J17 tyJ17 tyJ17_ok nmJ17 rfl (by decide) q576 (fun _ h9 => h9) rfl (tyJ17_ok 2 (by decide)) rfl rfl e10 dJ17_init_52 (fun H locs hR hS => ?_)
    have eR := Option.some.inj h
    subst eR
    exact h_vfin hx hb hr hlk hR hS dJ17_init_55
  · replace h := if_o c5 h
    exact (nomatch h)
theorem mJ17_init {l : Launch} {G : gE} {A : Nat → Prop} {v0 : Nat} {v1 : Int32} {w : WH} {r : WH} (h : fJ17_init v0 v1 w = some r) : hM l G A yJ17_init cJ17_init 2 none 12 269 [.ref v0, .int v1] w none r :=
  h_of (by decide +kernel) (Nat.le_of_ble_eq_true rfl) (fun p e s m args below meth c ls B hnm hR hS hl => bJ17_init_0 B hnm h hR hS hl)
noncomputable def fX2_init_b58  (w : WH) : Option (WH) :=
  some w
theorem bX2_init_58 {p : Program} {l : Launch} {e : Env} {s : State} {m : MethodId} {args : Array Value} {below : List Frame} {meth : Method} {c : Code} {H : Heap} {locs : List Loc} {ls : Array Slot} {G : gE} {A : Nat → Prop} {w0 : WH} (B : gB G RX2 cX2_init 2 none p s m args meth c) (hnm : meth.name = "<init>")  {w : WH} {r : WH} (h : fX2_init_b58 w = some r)   (hR : RepH G A w H) (hS : Cu A s w0 w H locs) (hl : lv_has ls 2 []) : W p l e (hRm 13 290 w0) s m args below meth c H locs (wC w0 - wC w) (wS w0 - wS w) (hZ below args s G A w0 none r) (F0 m 58 ls []) := by
  have B0 := B
  obtain ⟨hx, hb, hml, hown, hts, hr, hlk, hK⟩ := B0
  unfold fX2_init_b58 at h
  have eR := Option.some.inj h
  subst eR
  exact h_vfin hx hb hr hlk hR hS dX2_init_58
noncomputable def fX2_init (v0 : Nat) (v1 : Nat) (w : WH) : Option (WH) :=
  b2_ (hNa w 0 24) fun a1 w2 =>
  (hPut w2 v0 21 1 (.ref a1)).bind fun w4 =>
  b2_ (hNa w4 0 6) fun a6 w7 =>
  (hPut w7 v0 21 2 (.ref a6)).bind fun w9 =>
  b2_ (hNw w9 3 0 [.null, .int 0, .int 0]) fun a11 w12 =>
  (fJ17_init a11 24 w12).bind fun w14 =>
  (hPut w14 v0 21 3 (.ref a11)).bind fun w16 =>
  (hPut w16 v0 21 4 (.int 1)).bind fun w18 =>
  (hPut w18 v0 21 0 (.ref v1)).bind fun w20 =>
  (gR w20 v1 22 3).bind fun x22 =>
  (gR w20 v0 21 2).bind fun x24 =>
  x22.bind fun a26 =>
  x24.bind fun a28 =>
  (cpI w20 0 a26 0 a28 0 6).bind fun w30 =>
  fX2_init_b58 w30
theorem bX2_init_0 {p : Program} {l : Launch} {e : Env} {s : State} {m : MethodId} {args : Array Value} {below : List Frame} {meth : Method} {c : Code} {H : Heap} {locs : List Loc} {ls : Array Slot} {G : gE} {A : Nat → Prop} {w0 : WH} (B : gB G RX2 cX2_init 2 none p s m args meth c) (hnm : meth.name = "<init>") {v0 : Nat} {v1 : Nat} {w : WH} {r : WH} (h : fX2_init v0 v1 w = some r)   (hR : RepH G A w H) (hS : Cu A s w0 w H locs) (hl : lv_has ls 2 [(0, .ref v0), (1, .ref v1)]) : W p l e (hRm 13 290 w0) s m args below meth c H locs (wC w0 - wC w) (wS w0 - wS w) (hZ below args s G A w0 none r) (F0 m 0 ls []) := by
  have B0 := B
  obtain ⟨hx, hb, hml, hown, hts, hr, hlk, hK⟩ := B0
  unfold fX2_init at h
  refine lv_aload_n hx hb dX2_init_0 rfl (lv_at hl 0 rfl) ?_
  refine W.objInit hx hb hown (hts _ q560) (hts _ q168) (hts _ q169) rfl (by rw [hml]; exact hl.1) rfl dX2_init_1 (Nat.le_of_ble_eq_true rfl) (Nat.le_of_ble_eq_true rfl) ?_
  refine W.eq (g2 := F0 m 4 ls []) rfl ?_
  refine lv_aload_n hx hb dX2_init_4 rfl (lv_at hl 0 rfl) ?_
  refine lv_bipush (v := 24) hx hb dX2_init_5 (by decide) ?_
  replace h := b2_o h
  obtain ⟨a1, w2, e3, h⟩ := h
  refine h_newa (atype := .int) (t := 0) hx hb hts hK hR hS (Nat.le_refl _) (Nat.le_refl _) q556 rfl (by decide) (fun _ _ => rfl) e3 dX2_init_7 (fun H locs hR hS => ?_)
  replace h := bo_o h
  obtain ⟨w4, e5, h⟩ := h
  refine h_putF (ci := 21) (k := 1) (ty := tyX2 1) hx hb hts hown hK hR hS in_X2 tyX2 tyX2_ok nmX2 rfl (by decide) q590 (fun _ h9 => h9) rfl hnm rfl (tyX2_ok 1 (by decide)) rfl rfl e5 dX2_init_9 (fun H locs hR hS => ?_)
  refine lv_aload_n hx hb dX2_init_12 rfl (lv_at hl 0 rfl) ?_
  refine lv_bipush (v := 6) hx hb dX2_init_13 (by decide) ?_
  replace h := b2_o h
  obtain ⟨a6, w7, e8, h⟩ := h
  refine h_newa (atype := .int) (t := 0) hx hb hts hK hR hS (Nat.le_refl _) (Nat.le_refl _) q556 rfl (by decide) (fun _ _ => rfl) e8 dX2_init_15 (fun H locs hR hS => ?_)
  replace h := bo_o h
  obtain ⟨w9, e10, h⟩ := h
  refine h_putF (ci := 21) (k := 2) (ty := tyX2 2) hx hb hts hown hK hR hS in_X2 tyX2 tyX2_ok nmX2 rfl (by decide) q594 (fun _ h9 => h9) rfl hnm rfl (tyX2_ok 2 (by decide)) rfl rfl e10 dX2_init_17 (fun H locs hR hS => ?_)
  refine lv_aload_n hx hb dX2_init_20 rfl (lv_at hl 0 rfl) ?_
  replace h := b2_o h
  obtain ⟨a11, w12, e13, h⟩ := h
  refine h_new (ci := 0) (fs := [.null, .int 0, .int 0]) hx hb hts hown hK hR hS (Nat.le_refl _) (Nat.le_refl _) in_J17 tyJ17 tyJ17_ok rfl (by decide +kernel) q561 q562 q134 e13 dX2_init_21 (fun H locs hR hS => ?_)
  refine lv_dup hx hb dX2_init_24 rfl ?_
  refine lv_bipush (v := 24) hx hb dX2_init_25 (by decide) ?_
  replace h := bo_o h
  obtain ⟨w14, e15, h⟩ := h
  refine h_callI 1  (As := [.int 24]) (rest := [.ref a11, .ref v0]) (w' := w14) hx hb hml hown hts hK hR hS (Nat.le_refl _) (Nat.le_refl _) (mJ17_init e15) (lw_meth q565) q134 q563 q564 rfl (by decide +kernel) (Nat.le_of_ble_eq_true rfl) (Nat.le_of_ble_eq_true rfl) rfl hl.1 (Nat.le_of_ble_eq_true rfl) dX2_init_27 rfl (fun H locs hR hS => ?_)
  replace h := bo_o h
  obtain ⟨w16, e17, h⟩ := h
  refine h_putF (ci := 21) (k := 3) (ty := tyX2 3) hx hb hts hown hK hR hS in_X2 tyX2 tyX2_ok nmX2 rfl (by decide) q596 (fun _ h9 => h9) rfl hnm rfl (tyX2_ok 3 (by decide)) rfl rfl e17 dX2_init_30 (fun H locs hR hS => ?_)
  refine lv_aload_n hx hb dX2_init_33 rfl (lv_at hl 0 rfl) ?_
  refine lv_iconst (v := 1) hx hb dX2_init_34 (by decide) ?_
  replace h := bo_o h
  obtain ⟨w18, e19, h⟩ := h
  refine h_put (ci := 21) (k := 4) (ty := tyX2 4) hx hb hts hown hK hR hS in_X2 tyX2 tyX2_ok nmX2 rfl (by decide) q598 (fun _ h9 => h9) rfl (tyX2_ok 4 (by decide)) rfl rfl e19 dX2_init_35 (fun H locs hR hS => ?_)
  refine lv_aload_n hx hb dX2_init_38 rfl (lv_at hl 0 rfl) ?_
  refine lv_aload_n hx hb dX2_init_39 rfl (lv_at hl 1 rfl) ?_
  replace h := bo_o h
  obtain ⟨w20, e21, h⟩ := h
  refine h_putF (ci := 21) (k := 0) (ty := tyX2 0) hx hb hts hown hK hR hS in_X2 tyX2 tyX2_ok nmX2 rfl (by decide) q586 (fun _ h9 => h9) rfl hnm rfl (tyX2_ok 0 (by decide)) rfl rfl e21 dX2_init_40 (fun H locs hR hS => ?_)
  refine lv_aload_n hx hb dX2_init_43 rfl (lv_at hl 1 rfl) ?_
  replace h := bo_o h
  obtain ⟨x22, e23, h⟩ := h
  refine h_getN (ci := 22) (k := 3) (v := va_rf x22) hx hb hts hown hK hR in_X3 rfl (by decide) (fun _ _ => rfl) (hK.fn 11 rfl) (fun _ h9 => h9) (gR_o e23) dX2_init_44 ?_
  refine lv_iconst (v := 0) hx hb dX2_init_47 (by decide) ?_
  refine lv_aload_n hx hb dX2_init_48 rfl (lv_at hl 0 rfl) ?_
  replace h := bo_o h
  obtain ⟨x24, e25, h⟩ := h
  refine h_get (ci := 21) (k := 2) (v := va_rf x24) hx hb hts hown hK hR in_X2 rfl (by decide) (fun _ _ => rfl) q594 (fun _ h9 => h9) (gR_o e25) dX2_init_49 ?_
  refine lv_iconst (v := 0) hx hb dX2_init_52 (by decide) ?_
  refine lv_bipush (v := 6) hx hb dX2_init_53 (by decide) ?_
  replace h := bo_o h
  obtain ⟨a26, e27, h⟩ := h
  subst e27
  replace h := bo_o h
  obtain ⟨a28, e29, h⟩ := h
  subst e29
  replace h := bo_o h
  obtain ⟨w30, e31, h⟩ := h
  refine h_copyI hx hb (hml.trans hl.1.symm) hts hown hK hR hS q585 q317 q316 q129 (Nat.le_of_ble_eq_true rfl) (Nat.le_of_ble_eq_true rfl) e31 dX2_init_55 (fun H locs hR hS => ?_)
  exact bX2_init_58 B hnm h  hR hS (lv_sub hl [] rfl)
theorem mX2_init {l : Launch} {G : gE} {A : Nat → Prop} {v0 : Nat} {v1 : Nat} {w : WH} {r : WH} (h : fX2_init v0 v1 w = some r) : hM l G A yX2_init cX2_init 2 none 13 290 [.ref v0, .ref v1] w none r :=
  h_of (by decide +kernel) (Nat.le_of_ble_eq_true rfl) (fun p e s m args below meth c ls B hnm hR hS hl => bX2_init_0 B hnm h hR hS hl)
noncomputable def fX4_init (v0 : Nat) (w : WH) : Option (WH) :=
  b2_ (hNa w 1 10) fun a1 w2 =>
  (hPut w2 v0 23 0 (.ref a1)).bind fun w4 =>
  b2_ (hNa w4 1 10) fun a6 w7 =>
  (hPut w7 v0 23 1 (.ref a6)).bind fun w9 =>
  b2_ (hNa w9 0 10) fun a11 w12 =>
  (hPut w12 v0 23 2 (.ref a11)).bind fun w14 =>
  b2_ (hNa w14 0 10) fun a16 w17 =>
  (hPut w17 v0 23 3 (.ref a16)).bind fun w19 =>
  b2_ (hNa w19 0 10) fun a21 w22 =>
  (hPut w22 v0 23 4 (.ref a21)).bind fun w24 =>
  some w24
theorem bX4_init_0 {p : Program} {l : Launch} {e : Env} {s : State} {m : MethodId} {args : Array Value} {below : List Frame} {meth : Method} {c : Code} {H : Heap} {locs : List Loc} {ls : Array Slot} {G : gE} {A : Nat → Prop} {w0 : WH} (B : gB G RX4 cX4_init 1 none p s m args meth c) (hnm : meth.name = "<init>") {v0 : Nat} {w : WH} {r : WH} (h : fX4_init v0 w = some r)   (hR : RepH G A w H) (hS : Cu A s w0 w H locs) (hl : lv_has ls 1 [(0, .ref v0)]) : W p l e (hRm 1 20 w0) s m args below meth c H locs (wC w0 - wC w) (wS w0 - wS w) (hZ below args s G A w0 none r) (F0 m 0 ls []) := by
  have B0 := B
  obtain ⟨hx, hb, hml, hown, hts, hr, hlk, hK⟩ := B0
  unfold fX4_init at h
  refine lv_aload_n hx hb dX4_init_0 rfl (lv_at hl 0 rfl) ?_
  refine W.objInit hx hb hown (hts _ q617) (hts _ q168) (hts _ q169) rfl (by rw [hml]; exact hl.1) rfl dX4_init_1 (Nat.le_of_ble_eq_true rfl) (Nat.le_of_ble_eq_true rfl) ?_
  refine W.eq (g2 := F0 m 4 ls []) rfl ?_
  refine lv_aload_n hx hb dX4_init_4 rfl (lv_at hl 0 rfl) ?_
  refine lv_bipush (v := 10) hx hb dX4_init_5 (by decide) ?_
  replace h := b2_o h
  obtain ⟨a1, w2, e3, h⟩ := h
  refine h_newa (atype := .long) (t := 1) hx hb hts hK hR hS (Nat.le_refl _) (Nat.le_refl _) q584 rfl (by decide) (fun _ _ => rfl) e3 dX4_init_7 (fun H locs hR hS => ?_)
  replace h := bo_o h
  obtain ⟨w4, e5, h⟩ := h
  refine h_putF (ci := 23) (k := 0) (ty := tyX4 0) hx hb hts hown hK hR hS in_X4 tyX4 tyX4_ok nmX4 rfl (by decide) q618 (fun _ h9 => h9) rfl hnm rfl (tyX4_ok 0 (by decide)) rfl rfl e5 dX4_init_9 (fun H locs hR hS => ?_)
  refine lv_aload_n hx hb dX4_init_12 rfl (lv_at hl 0 rfl) ?_
  refine lv_bipush (v := 10) hx hb dX4_init_13 (by decide) ?_
  replace h := b2_o h
  obtain ⟨a6, w7, e8, h⟩ := h
  refine h_newa (atype := .long) (t := 1) hx hb hts hK hR hS (Nat.le_refl _) (Nat.le_refl _) q584 rfl (by decide) (fun _ _ => rfl) e8 dX4_init_15 (fun H locs hR hS => ?_)
  replace h := bo_o h
  obtain ⟨w9, e10, h⟩ := h
  refine h_putF (ci := 23) (k := 1) (ty := tyX4 1) hx hb hts hown hK hR hS in_X4 tyX4 tyX4_ok nmX4 rfl (by decide) q619 (fun _ h9 => h9) rfl hnm rfl (tyX4_ok 1 (by decide)) rfl rfl e10 dX4_init_17 (fun H locs hR hS => ?_)
  refine lv_aload_n hx hb dX4_init_20 rfl (lv_at hl 0 rfl) ?_
  refine lv_bipush (v := 10) hx hb dX4_init_21 (by decide) ?_
  replace h := b2_o h
  obtain ⟨a11, w12, e13, h⟩ := h
  refine h_newa (atype := .int) (t := 0) hx hb hts hK hR hS (Nat.le_refl _) (Nat.le_refl _) q556 rfl (by decide) (fun _ _ => rfl) e13 dX4_init_23 (fun H locs hR hS => ?_)
  replace h := bo_o h
  obtain ⟨w14, e15, h⟩ := h
  refine h_putF (ci := 23) (k := 2) (ty := tyX4 2) hx hb hts hown hK hR hS in_X4 tyX4 tyX4_ok nmX4 rfl (by decide) q620 (fun _ h9 => h9) rfl hnm rfl (tyX4_ok 2 (by decide)) rfl rfl e15 dX4_init_25 (fun H locs hR hS => ?_)
  refine lv_aload_n hx hb dX4_init_28 rfl (lv_at hl 0 rfl) ?_
  refine lv_bipush (v := 10) hx hb dX4_init_29 (by decide) ?_
  replace h := b2_o h
  obtain ⟨a16, w17, e18, h⟩ := h
  refine h_newa (atype := .int) (t := 0) hx hb hts hK hR hS (Nat.le_refl _) (Nat.le_refl _) q556 rfl (by decide) (fun _ _ => rfl) e18 dX4_init_31 (fun H locs hR hS => ?_)
  replace h := bo_o h
  obtain ⟨w19, e20, h⟩ := h
  refine h_putF (ci := 23) (k := 3) (ty := tyX4 3) hx hb hts hown hK hR hS in_X4 tyX4 tyX4_ok nmX4 rfl (by decide) q622 (fun _ h9 => h9) rfl hnm rfl (tyX4_ok 3 (by decide)) rfl rfl e20 dX4_init_33 (fun H locs hR hS => ?_)
  refine lv_aload_n hx hb dX4_init_36 rfl (lv_at hl 0 rfl) ?_
  refine lv_bipush (v := 10) hx hb dX4_init_37 (by decide) ?_
  replace h := b2_o h
  obtain ⟨a21, w22, e23, h⟩ := h
  refine h_newa (atype := .int) (t := 0) hx hb hts hK hR hS (Nat.le_refl _) (Nat.le_refl _) q556 rfl (by decide) (fun _ _ => rfl) e23 dX4_init_39 (fun H locs hR hS => ?_)
  replace h := bo_o h
  obtain ⟨w24, e25, h⟩ := h
  refine h_putF (ci := 23) (k := 4) (ty := tyX4 4) hx hb hts hown hK hR hS in_X4 tyX4 tyX4_ok nmX4 rfl (by decide) q623 (fun _ h9 => h9) rfl hnm rfl (tyX4_ok 4 (by decide)) rfl rfl e25 dX4_init_41 (fun H locs hR hS => ?_)
  have eR := Option.some.inj h
  subst eR
  exact h_vfin hx hb hr hlk hR hS dX4_init_44
theorem mX4_init {l : Launch} {G : gE} {A : Nat → Prop} {v0 : Nat} {w : WH} {r : WH} (h : fX4_init v0 w = some r) : hM l G A yX4_init cX4_init 1 none 1 20 [.ref v0] w none r :=
  h_of (by decide +kernel) (Nat.le_of_ble_eq_true rfl) (fun p e s m args below meth c ls B hnm hR hS hl => bX4_init_0 B hnm h hR hS hl)
noncomputable def fJ18_init_b28 (s0 : Nat) (s1 : Int32) (w : WH) : Option (WH) :=
  b2_ (hNa w 4 s1) fun a1 w2 =>
  (hPut w2 s0 1 0 (.ref a1)).bind fun w4 =>
  some w4
theorem bJ18_init_28 {p : Program} {l : Launch} {e : Env} {s : State} {m : MethodId} {args : Array Value} {below : List Frame} {meth : Method} {c : Code} {H : Heap} {locs : List Loc} {ls : Array Slot} {G : gE} {A : Nat → Prop} {w0 : WH} (B : gB G RJ18 cJ18_init 2 none p s m args meth c) (hnm : meth.name = "<init>") {s0 : Nat} {s1 : Int32} {w : WH} {r : WH} (h : fJ18_init_b28 s0 s1 w = some r)   (hR : RepH G A w H) (hS : Cu A s w0 w H locs) (hl : lv_has ls 2 []) : W p l e (hRm 2 40 w0) s m args below meth c H locs (wC w0 - wC w) (wS w0 - wS w) (hZ below args s G A w0 none r) (F0 m 28 ls [.int s1, .ref s0]) := by
  have B0 := B
  obtain ⟨hx, hb, hml, hown, hts, hr, hlk, hK⟩ := B0
  unfold fJ18_init_b28 at h
  replace h := b2_o h
  obtain ⟨a1, w2, e3, h⟩ := h
  refine h_newq (t := 4) hx hb hts hown hK hR hS (Nat.le_refl _) (Nat.le_refl _) q646 hK.kx.2.2.2.1 rfl rfl e3 dJ18_init_28 (fun H locs hR hS => ?_)
  replace h := bo_o h
  obtain ⟨w4, e5, h⟩ := h
  refine h_put (ci := 1) (k := 0) (ty := tyJ18 0) hx hb hts hown hK hR hS in_J18 tyJ18 tyJ18_ok nmJ18 rfl (by decide) q647 (fun _ h9 => h9) rfl (tyJ18_ok 0 (by decide)) rfl rfl e5 dJ18_init_31 (fun H locs hR hS => ?_)
  have eR := Option.some.inj h
  subst eR
  exact h_vfin hx hb hr hlk hR hS dJ18_init_34
noncomputable def fJ18_init (v0 : Nat) (v1 : Int32) (w : WH) : Option (WH) :=
  (fJ0_init v0 w).bind fun w1 =>
  if 1 ≤ v1 then (
    if v1 = 2147483647 then (
      fJ18_init_b28 v0 2147483647 w1
    ) else (
      fJ18_init_b28 v0 (v1 + 1) w1
    )
  ) else (
    fJ18_init_b28 v0 1 w1
  )
theorem bJ18_init_0 {p : Program} {l : Launch} {e : Env} {s : State} {m : MethodId} {args : Array Value} {below : List Frame} {meth : Method} {c : Code} {H : Heap} {locs : List Loc} {ls : Array Slot} {G : gE} {A : Nat → Prop} {w0 : WH} (B : gB G RJ18 cJ18_init 2 none p s m args meth c) (hnm : meth.name = "<init>") {v0 : Nat} {v1 : Int32} {w : WH} {r : WH} (h : fJ18_init v0 v1 w = some r)   (hR : RepH G A w H) (hS : Cu A s w0 w H locs) (hl : lv_has ls 2 [(0, .ref v0), (1, .int v1)]) : W p l e (hRm 2 40 w0) s m args below meth c H locs (wC w0 - wC w) (wS w0 - wS w) (hZ below args s G A w0 none r) (F0 m 0 ls []) := by
  have B0 := B
  obtain ⟨hx, hb, hml, hown, hts, hr, hlk, hK⟩ := B0
  unfold fJ18_init at h
  refine lv_aload_n hx hb dJ18_init_0 rfl (lv_at hl 0 rfl) ?_
  replace h := bo_o h
  obtain ⟨w1, e2, h⟩ := h
  refine h_callI 0  (As := []) (rest := []) (w' := w1) hx hb hml hown hts hK hR hS (Nat.le_refl _) (Nat.le_refl _) (mJ0_init e2) (lw_meth q188) q115 q644 q187 rfl (by decide +kernel) (Nat.le_of_ble_eq_true rfl) (Nat.le_of_ble_eq_true rfl) rfl hl.1 (Nat.le_of_ble_eq_true rfl) dJ18_init_1 rfl (fun H locs hR hS => ?_)
  refine lv_aload_n hx hb dJ18_init_4 rfl (lv_at hl 0 rfl) ?_
  refine lv_iload_n hx hb dJ18_init_5 rfl (lv_at hl 1 rfl) ?_
  refine lv_iconst (v := 1) hx hb dJ18_init_6 (by decide) ?_
  refine lv_icmp_ge (tgt := 14) hx hb dJ18_init_7 (by decide) (fun c3 => ?_) (fun c3 => ?_)
  · replace h := it_o c3 h
    refine lv_iload_n hx hb dJ18_init_14 rfl (lv_at hl 1 rfl) ?_
    refine lv_ldc (v := 2147483647) hx hb hown (hts _ q645) dJ18_init_15 ?_
    refine lv_icmp_ne (tgt := 25) hx hb dJ18_init_17 (by decide) (fun c4 => ?_) (fun c4 => ?_)
    · replace h := if_o c4 h
      refine lv_iload_n hx hb dJ18_init_25 rfl (lv_at hl 1 rfl) ?_
      refine lv_iconst (v := 1) hx hb dJ18_init_26 (by decide) ?_
      refine lv_iadd hx hb dJ18_init_27 ?_
      exact bJ18_init_28 B hnm h  hR hS (lv_sub hl [] rfl)
    · replace h := it_o c4 h
      refine lv_ldc (v := 2147483647) hx hb hown (hts _ q645) dJ18_init_20 ?_
      refine lv_goto (tgt := 28) hx hb dJ18_init_22 (by decide) ?_
      exact bJ18_init_28 B hnm h  hR hS (lv_sub hl [] rfl)
  · replace h := if_o c3 h
    refine lv_iconst (v := 1) hx hb dJ18_init_10 (by decide) ?_
    refine lv_goto (tgt := 28) hx hb dJ18_init_11 (by decide) ?_
    exact bJ18_init_28 B hnm h  hR hS (lv_sub hl [] rfl)
theorem mJ18_init {l : Launch} {G : gE} {A : Nat → Prop} {v0 : Nat} {v1 : Int32} {w : WH} {r : WH} (h : fJ18_init v0 v1 w = some r) : hM l G A yJ18_init cJ18_init 2 none 2 40 [.ref v0, .int v1] w none r :=
  h_of (by decide +kernel) (Nat.le_of_ble_eq_true rfl) (fun p e s m args below meth c ls B hnm hR hS hl => bJ18_init_0 B hnm h hR hS hl)
noncomputable def fJ7_init (v0 : Nat) (v1 : Int32) (w : WH) : Option (WH) :=
  if (1 : Int32) = 0 then (
    none
  ) else (
    b2_ (hNa w 2 v1) fun a2 w3 =>
    (hPut w3 v0 15 0 (.ref a2)).bind fun w5 =>
    (hPut w5 v0 15 1 (.int 0)).bind fun w7 =>
    some w7
  )
theorem bJ7_init_0 {p : Program} {l : Launch} {e : Env} {s : State} {m : MethodId} {args : Array Value} {below : List Frame} {meth : Method} {c : Code} {H : Heap} {locs : List Loc} {ls : Array Slot} {G : gE} {A : Nat → Prop} {w0 : WH} (B : gB G RJ7 cJ7_init 2 none p s m args meth c) (hnm : meth.name = "<init>") {v0 : Nat} {v1 : Int32} {w : WH} {r : WH} (h : fJ7_init v0 v1 w = some r)   (hR : RepH G A w H) (hS : Cu A s w0 w H locs) (hl : lv_has ls 2 [(0, .ref v0), (1, .int v1)]) : W p l e (hRm 1 20 w0) s m args below meth c H locs (wC w0 - wC w) (wS w0 - wS w) (hZ below args s G A w0 none r) (F0 m 0 ls []) := by
  have B0 := B
  obtain ⟨hx, hb, hml, hown, hts, hr, hlk, hK⟩ := B0
  unfold fJ7_init at h
  refine lv_aload_n hx hb dJ7_init_0 rfl (lv_at hl 0 rfl) ?_
  refine W.objInit hx hb hown (hts _ q246) (hts _ q168) (hts _ q169) rfl (by rw [hml]; exact hl.1) rfl dJ7_init_1 (Nat.le_of_ble_eq_true rfl) (Nat.le_of_ble_eq_true rfl) ?_
  refine W.eq (g2 := F0 m 4 ls []) rfl ?_
  refine h_gets (v := .int 1) hx hb hts hown hR hS (hK.2.2.2.1 _ (List.mem_of_getElem? (i := 0) rfl)) q247 (fun _ h9 => h9) dJ7_init_4 ?_
  refine lv_if_eq (tgt := 25) hx hb dJ7_init_7 (by decide) (fun c1 => ?_) (fun c1 => ?_)
  · replace h := it_o c1 h
    refine lv_aload_n hx hb dJ7_init_25 rfl (lv_at hl 0 rfl) ?_
    refine lv_iload_n hx hb dJ7_init_26 rfl (lv_at hl 1 rfl) ?_
    exact (nomatch h)
  · replace h := if_o c1 h
    refine lv_aload_n hx hb dJ7_init_10 rfl (lv_at hl 0 rfl) ?_
    refine lv_iload_n hx hb dJ7_init_11 rfl (lv_at hl 1 rfl) ?_
    replace h := b2_o h
    obtain ⟨a2, w3, e4, h⟩ := h
    refine h_newa (atype := .byte) (t := 2) hx hb hts hK hR hS (Nat.le_refl _) (Nat.le_refl _) q270 rfl (by decide) (fun _ _ => rfl) e4 dJ7_init_12 (fun H locs hR hS => ?_)
    replace h := bo_o h
    obtain ⟨w5, e6, h⟩ := h
    refine h_put (ci := 15) (k := 0) (ty := tyJ8 0) hx hb hts hown hK hR hS in_J8 tyJ8 tyJ8_ok nmJ8 rfl (by decide) q256 (fun _ h9 => h9) rfl (tyJ8_ok 0 (by decide)) rfl rfl e6 dJ7_init_14 (fun H locs hR hS => ?_)
    refine lv_aload_n hx hb dJ7_init_17 rfl (lv_at hl 0 rfl) ?_
    refine lv_iconst (v := 0) hx hb dJ7_init_18 (by decide) ?_
    replace h := bo_o h
    obtain ⟨w7, e8, h⟩ := h
    refine h_put (ci := 15) (k := 1) (ty := tyJ8 1) hx hb hts hown hK hR hS in_J8 tyJ8 tyJ8_ok nmJ8 rfl (by decide) q257 (fun _ h9 => h9) rfl (tyJ8_ok 1 (by decide)) rfl rfl e8 dJ7_init_19 (fun H locs hR hS => ?_)
    refine lv_goto (tgt := 38) hx hb dJ7_init_22 (by decide) ?_
    have eR := Option.some.inj h
    subst eR
    exact h_vfin hx hb hr hlk hR hS dJ7_init_38
theorem mJ7_init {l : Launch} {G : gE} {A : Nat → Prop} {v0 : Nat} {v1 : Int32} {w : WH} {r : WH} (h : fJ7_init v0 v1 w = some r) : hM l G A yJ7_init cJ7_init 2 none 1 20 [.ref v0, .int v1] w none r :=
  h_of (by decide +kernel) (Nat.le_of_ble_eq_true rfl) (fun p e s m args below meth c ls B hnm hR hS hl => bJ7_init_0 B hnm h hR hS hl)
noncomputable def fJ8_init (v0 : Nat) (w : WH) : Option (WH) :=
  (fJ7_init v0 16 w).bind fun w1 =>
  some w1
theorem bJ8_init_0 {p : Program} {l : Launch} {e : Env} {s : State} {m : MethodId} {args : Array Value} {below : List Frame} {meth : Method} {c : Code} {H : Heap} {locs : List Loc} {ls : Array Slot} {G : gE} {A : Nat → Prop} {w0 : WH} (B : gB G RJ8 cJ8_init 1 none p s m args meth c) (hnm : meth.name = "<init>") {v0 : Nat} {w : WH} {r : WH} (h : fJ8_init v0 w = some r)   (hR : RepH G A w H) (hS : Cu A s w0 w H locs) (hl : lv_has ls 1 [(0, .ref v0)]) : W p l e (hRm 2 41 w0) s m args below meth c H locs (wC w0 - wC w) (wS w0 - wS w) (hZ below args s G A w0 none r) (F0 m 0 ls []) := by
  have B0 := B
  obtain ⟨hx, hb, hml, hown, hts, hr, hlk, hK⟩ := B0
  unfold fJ8_init at h
  refine lv_aload_n hx hb dJ8_init_0 rfl (lv_at hl 0 rfl) ?_
  refine lv_bipush (v := 16) hx hb dJ8_init_1 (by decide) ?_
  replace h := bo_o h
  obtain ⟨w1, e2, h⟩ := h
  refine h_callI 1  (As := [.int 16]) (rest := []) (w' := w1) hx hb hml hown hts hK hR hS (Nat.le_refl _) (Nat.le_refl _) (mJ7_init e2) (lw_meth q245) q122 q243 q244 rfl (by decide +kernel) (Nat.le_of_ble_eq_true rfl) (Nat.le_of_ble_eq_true rfl) rfl hl.1 (Nat.le_of_ble_eq_true rfl) dJ8_init_3 rfl (fun H locs hR hS => ?_)
  have eR := Option.some.inj h
  subst eR
  exact h_vfin hx hb hr hlk hR hS dJ8_init_6
theorem mJ8_init {l : Launch} {G : gE} {A : Nat → Prop} {v0 : Nat} {w : WH} {r : WH} (h : fJ8_init v0 w = some r) : hM l G A yJ8_init cJ8_init 1 none 2 41 [.ref v0] w none r :=
  h_of (by decide +kernel) (Nat.le_of_ble_eq_true rfl) (fun p e s m args below meth c ls B hnm hR hS hl => bJ8_init_0 B hnm h hR hS hl)
noncomputable def fX1_init_b55 (v0 : Nat) (w : WH) : Option (WH) :=
  b2_ (hNa w 2 600) fun a1 w2 =>
  (hPut w2 v0 17 4 (.ref a1)).bind fun w4 =>
  (hPut w4 v0 17 7 (.int (-1))).bind fun w6 =>
  b2_ (hNw w6 4 15 [.null, .int 0, .int 0, .int 0]) fun a8 w9 =>
  (fJ8_init a8 w9).bind fun w11 =>
  (hPut w11 v0 17 8 (.ref a8)).bind fun w13 =>
  some w13
theorem bX1_init_55 {p : Program} {l : Launch} {e : Env} {s : State} {m : MethodId} {args : Array Value} {below : List Frame} {meth : Method} {c : Code} {H : Heap} {locs : List Loc} {ls : Array Slot} {G : gE} {A : Nat → Prop} {w0 : WH} (B : gB G RX1 cX1_init 1 none p s m args meth c) (hnm : meth.name = "<init>") {v0 : Nat} {w : WH} {r : WH} (h : fX1_init_b55 v0 w = some r)   (hR : RepH G A w H) (hS : Cu A s w0 w H locs) (hl : lv_has ls 1 [(0, .ref v0)]) : W p l e (hRm 14 311 w0) s m args below meth c H locs (wC w0 - wC w) (wS w0 - wS w) (hZ below args s G A w0 none r) (F0 m 55 ls []) := by
  have B0 := B
  obtain ⟨hx, hb, hml, hown, hts, hr, hlk, hK⟩ := B0
  unfold fX1_init_b55 at h
  refine lv_aload_n hx hb dX1_init_55 rfl (lv_at hl 0 rfl) ?_
  refine lv_sipush (v := 600) hx hb dX1_init_56 (by decide) ?_
  replace h := b2_o h
  obtain ⟨a1, w2, e3, h⟩ := h
  refine h_newa (atype := .byte) (t := 2) hx hb hts hK hR hS (Nat.le_refl _) (Nat.le_refl _) q270 rfl (by decide) (fun _ _ => rfl) e3 dX1_init_59 (fun H locs hR hS => ?_)
  replace h := bo_o h
  obtain ⟨w4, e5, h⟩ := h
  refine h_putF (ci := 17) (k := 4) (ty := tyX1 4) hx hb hts hown hK hR hS in_X1 tyX1 tyX1_ok nmX1 rfl (by decide) q667 (fun _ h9 => h9) rfl hnm rfl (tyX1_ok 4 (by decide)) rfl rfl e5 dX1_init_61 (fun H locs hR hS => ?_)
  refine lv_aload_n hx hb dX1_init_64 rfl (lv_at hl 0 rfl) ?_
  refine lv_iconst (v := (-1)) hx hb dX1_init_65 (by decide) ?_
  replace h := bo_o h
  obtain ⟨w6, e7, h⟩ := h
  refine h_put (ci := 17) (k := 7) (ty := tyX1 7) hx hb hts hown hK hR hS in_X1 tyX1 tyX1_ok nmX1 rfl (by decide) q672 (fun _ h9 => h9) rfl (tyX1_ok 7 (by decide)) rfl rfl e7 dX1_init_66 (fun H locs hR hS => ?_)
  refine lv_aload_n hx hb dX1_init_69 rfl (lv_at hl 0 rfl) ?_
  replace h := b2_o h
  obtain ⟨a8, w9, e10, h⟩ := h
  refine h_new (ci := 15) (fs := [.null, .int 0, .int 0, .int 0]) hx hb hts hown hK hR hS (Nat.le_refl _) (Nat.le_refl _) in_J8 tyJ8 tyJ8_ok rfl (by decide +kernel) q660 q239 q123 e10 dX1_init_70 (fun H locs hR hS => ?_)
  refine lv_dup hx hb dX1_init_73 rfl ?_
  replace h := bo_o h
  obtain ⟨w11, e12, h⟩ := h
  refine h_callI 0  (As := []) (rest := [.ref a8, .ref v0]) (w' := w11) hx hb hml hown hts hK hR hS (Nat.le_refl _) (Nat.le_refl _) (mJ8_init e12) (lw_meth q242) q123 q661 q241 rfl (by decide +kernel) (Nat.le_of_ble_eq_true rfl) (Nat.le_of_ble_eq_true rfl) rfl hl.1 (Nat.le_of_ble_eq_true rfl) dX1_init_74 rfl (fun H locs hR hS => ?_)
  replace h := bo_o h
  obtain ⟨w13, e14, h⟩ := h
  refine h_putF (ci := 17) (k := 8) (ty := tyX1 8) hx hb hts hown hK hR hS in_X1 tyX1 tyX1_ok nmX1 rfl (by decide) q673 (fun _ h9 => h9) rfl hnm rfl (tyX1_ok 8 (by decide)) rfl rfl e14 dX1_init_77 (fun H locs hR hS => ?_)
  have eR := Option.some.inj h
  subst eR
  exact h_vfin hx hb hr hlk hR hS dX1_init_80
noncomputable def fX1_init (v0 : Nat) (w : WH) : Option (WH) :=
  b2_ (hNw w 5 21 [.null, .null, .null, .null, .int 0]) fun a1 w2 =>
  b2_ (hNw w2 4 22 [.int 0, .null, .null, .null]) fun a4 w5 =>
  (fX3_init a4 2 w5).bind fun w7 =>
  (fX2_init a1 a4 w7).bind fun w9 =>
  (hPut w9 v0 17 0 (.ref a1)).bind fun w11 =>
  b2_ (hNw w11 6 23 [.null, .null, .null, .null, .null, .int 0]) fun a13 w14 =>
  (fX4_init a13 w14).bind fun w16 =>
  (hPut w16 v0 17 1 (.ref a13)).bind fun w18 =>
  b2_ (hNw w18 3 1 [.null, .int 0, .int 0]) fun a20 w21 =>
  (fJ18_init a20 12 w21).bind fun w23 =>
  (hPut w23 v0 17 2 (.ref a20)).bind fun w25 =>
  b2_ (hNa w25 5 2) fun a27 w28 =>
  (hPut w28 v0 17 3 (.ref a27)).bind fun w30 =>
  fX1_init_b55 v0 w30
theorem bX1_init_0 {p : Program} {l : Launch} {e : Env} {s : State} {m : MethodId} {args : Array Value} {below : List Frame} {meth : Method} {c : Code} {H : Heap} {locs : List Loc} {ls : Array Slot} {G : gE} {A : Nat → Prop} {w0 : WH} (B : gB G RX1 cX1_init 1 none p s m args meth c) (hnm : meth.name = "<init>") {v0 : Nat} {w : WH} {r : WH} (h : fX1_init v0 w = some r)   (hR : RepH G A w H) (hS : Cu A s w0 w H locs) (hl : lv_has ls 1 [(0, .ref v0)]) : W p l e (hRm 14 311 w0) s m args below meth c H locs (wC w0 - wC w) (wS w0 - wS w) (hZ below args s G A w0 none r) (F0 m 0 ls []) := by
  have B0 := B
  obtain ⟨hx, hb, hml, hown, hts, hr, hlk, hK⟩ := B0
  unfold fX1_init at h
  refine lv_aload_n hx hb dX1_init_0 rfl (lv_at hl 0 rfl) ?_
  refine W.objInit hx hb hown (hts _ q167) (hts _ q168) (hts _ q169) rfl (by rw [hml]; exact hl.1) rfl dX1_init_1 (Nat.le_of_ble_eq_true rfl) (Nat.le_of_ble_eq_true rfl) ?_
  refine W.eq (g2 := F0 m 4 ls []) rfl ?_
  refine lv_aload_n hx hb dX1_init_4 rfl (lv_at hl 0 rfl) ?_
  replace h := b2_o h
  obtain ⟨a1, w2, e3, h⟩ := h
  refine h_new (ci := 21) (fs := [.null, .null, .null, .null, .int 0]) hx hb hts hown hK hR hS (Nat.le_refl _) (Nat.le_refl _) in_X2 tyX2 tyX2_ok rfl (by decide +kernel) q170 q171 q113 e3 dX1_init_5 (fun H locs hR hS => ?_)
  refine lv_dup hx hb dX1_init_8 rfl ?_
  replace h := b2_o h
  obtain ⟨a4, w5, e6, h⟩ := h
  refine h_new (ci := 22) (fs := [.int 0, .null, .null, .null]) hx hb hts hown hK hR hS (Nat.le_refl _) (Nat.le_refl _) in_X3 tyX3 tyX3_ok rfl (by decide +kernel) q172 q173 q114 e6 dX1_init_9 (fun H locs hR hS => ?_)
  refine lv_dup hx hb dX1_init_12 rfl ?_
  refine lv_iconst (v := 2) hx hb dX1_init_13 (by decide) ?_
  replace h := bo_o h
  obtain ⟨w7, e8, h⟩ := h
  refine h_callI 1  (As := [.int 2]) (rest := [.ref a4, .ref a1, .ref a1, .ref v0]) (w' := w7) hx hb hml hown hts hK hR hS (Nat.le_refl _) (Nat.le_refl _) (mX3_init e8) (lw_meth q176) q114 q174 q175 rfl (by decide +kernel) (Nat.le_of_ble_eq_true rfl) (Nat.le_of_ble_eq_true rfl) rfl hl.1 (Nat.le_of_ble_eq_true rfl) dX1_init_14 rfl (fun H locs hR hS => ?_)
  replace h := bo_o h
  obtain ⟨w9, e10, h⟩ := h
  refine h_callI 1  (As := [.ref a4]) (rest := [.ref a1, .ref v0]) (w' := w9) hx hb hml hown hts hK hR hS (Nat.le_refl _) (Nat.le_refl _) (mX2_init e10) (lw_meth q559) q113 q557 q558 rfl (by decide +kernel) (Nat.le_of_ble_eq_true rfl) (Nat.le_of_ble_eq_true rfl) rfl hl.1 (Nat.le_of_ble_eq_true rfl) dX1_init_17 rfl (fun H locs hR hS => ?_)
  replace h := bo_o h
  obtain ⟨w11, e12, h⟩ := h
  refine h_put (ci := 17) (k := 0) (ty := tyX1 0) hx hb hts hown hK hR hS in_X1 tyX1 tyX1_ok nmX1 rfl (by decide) q662 (fun _ h9 => h9) rfl (tyX1_ok 0 (by decide)) rfl rfl e12 dX1_init_20 (fun H locs hR hS => ?_)
  refine lv_aload_n hx hb dX1_init_23 rfl (lv_at hl 0 rfl) ?_
  replace h := b2_o h
  obtain ⟨a13, w14, e15, h⟩ := h
  refine h_new (ci := 23) (fs := [.null, .null, .null, .null, .null, .int 0]) hx hb hts hown hK hR hS (Nat.le_refl _) (Nat.le_refl _) in_X4 tyX4 tyX4_ok rfl (by decide +kernel) q612 q613 q135 e15 dX1_init_24 (fun H locs hR hS => ?_)
  refine lv_dup hx hb dX1_init_27 rfl ?_
  replace h := bo_o h
  obtain ⟨w16, e17, h⟩ := h
  refine h_callIN 0  (As := []) (rest := [.ref a13, .ref v0]) (w' := w16) hx hb hml hown hts hK hR hS (Nat.le_refl _) (Nat.le_refl _) (mX4_init e17) (lw_meth q616) (hK.mn 0 rfl) q135 q615 rfl (by decide +kernel) (Nat.le_of_ble_eq_true rfl) (Nat.le_of_ble_eq_true rfl) rfl hl.1 (Nat.le_of_ble_eq_true rfl) dX1_init_28 rfl (fun H locs hR hS => ?_)
  replace h := bo_o h
  obtain ⟨w18, e19, h⟩ := h
  refine h_putF (ci := 17) (k := 1) (ty := tyX1 1) hx hb hts hown hK hR hS in_X1 tyX1 tyX1_ok nmX1 rfl (by decide) q664 (fun _ h9 => h9) rfl hnm rfl (tyX1_ok 1 (by decide)) rfl rfl e19 dX1_init_31 (fun H locs hR hS => ?_)
  refine lv_aload_n hx hb dX1_init_34 rfl (lv_at hl 0 rfl) ?_
  replace h := b2_o h
  obtain ⟨a20, w21, e22, h⟩ := h
  refine h_new (ci := 1) (fs := [.null, .int 0, .int 0]) hx hb hts hown hK hR hS (Nat.le_refl _) (Nat.le_refl _) in_J18 tyJ18 tyJ18_ok rfl (by decide +kernel) q639 q640 q136 e22 dX1_init_35 (fun H locs hR hS => ?_)
  refine lv_dup hx hb dX1_init_38 rfl ?_
  refine lv_bipush (v := 12) hx hb dX1_init_39 (by decide) ?_
  replace h := bo_o h
  obtain ⟨w23, e24, h⟩ := h
  refine h_callI 1  (As := [.int 12]) (rest := [.ref a20, .ref v0]) (w' := w23) hx hb hml hown hts hK hR hS (Nat.le_refl _) (Nat.le_refl _) (mJ18_init e24) (lw_meth q643) q136 q641 q642 rfl (by decide +kernel) (Nat.le_of_ble_eq_true rfl) (Nat.le_of_ble_eq_true rfl) rfl hl.1 (Nat.le_of_ble_eq_true rfl) dX1_init_41 rfl (fun H locs hR hS => ?_)
  replace h := bo_o h
  obtain ⟨w25, e26, h⟩ := h
  refine h_putF (ci := 17) (k := 2) (ty := tyX1 2) hx hb hts hown hK hR hS in_X1 tyX1 tyX1_ok nmX1 rfl (by decide) q665 (fun _ h9 => h9) rfl hnm rfl (tyX1_ok 2 (by decide)) rfl rfl e26 dX1_init_44 (fun H locs hR hS => ?_)
  refine lv_aload_n hx hb dX1_init_47 rfl (lv_at hl 0 rfl) ?_
  refine lv_iconst (v := 2) hx hb dX1_init_48 (by decide) ?_
  replace h := b2_o h
  obtain ⟨a27, w28, e29, h⟩ := h
  refine h_newq (t := 5) hx hb hts hown hK hR hS (Nat.le_refl _) (Nat.le_refl _) q170 hK.kx.2.2.2.2.1 rfl rfl e29 dX1_init_49 (fun H locs hR hS => ?_)
  replace h := bo_o h
  obtain ⟨w30, e31, h⟩ := h
  refine h_putF (ci := 17) (k := 3) (ty := tyX1 3) hx hb hts hown hK hR hS in_X1 tyX1 tyX1_ok nmX1 rfl (by decide) q666 (fun _ h9 => h9) rfl hnm rfl (tyX1_ok 3 (by decide)) rfl rfl e31 dX1_init_52 (fun H locs hR hS => ?_)
  exact bX1_init_55 B hnm h  hR hS (lv_sub hl [0] rfl)
theorem mX1_init {l : Launch} {G : gE} {A : Nat → Prop} {v0 : Nat} {w : WH} {r : WH} (h : fX1_init v0 w = some r) : hM l G A yX1_init cX1_init 1 none 14 311 [.ref v0] w none r :=
  h_of (by decide +kernel) (Nat.le_of_ble_eq_true rfl) (fun p e s m args below meth c ls B hnm hR hS hl => bX1_init_0 B hnm h hR hS hl)
noncomputable def fX1_append_b109 (v0 : Nat) (w : WH) : Option ((Int32 × WH)) :=
  (gI w v0 17 5).bind fun x1 =>
  some (x1, w)
theorem bX1_append_109 {p : Program} {l : Launch} {e : Env} {s : State} {m : MethodId} {args : Array Value} {below : List Frame} {meth : Method} {c : Code} {H : Heap} {locs : List Loc} {ls : Array Slot} {G : gE} {A : Nat → Prop} {w0 : WH} (B : gB G RX1 cX1_append 6 (some .int) p s m args meth c) {v0 : Nat} {w : WH} {r : (Int32 × WH)} (h : fX1_append_b109 v0 w = some r)   (hR : RepH G A w H) (hS : Cu A s w0 w H locs) (hl : lv_has ls 6 [(0, .ref v0)]) : W p l e (hRm 0 0 w0) s m args below meth c H locs (wC w0 - wC w) (wS w0 - wS w) (hZ below args s G A w0 (some (.int r.1)) r.2) (F0 m 109 ls []) := by
  have B0 := B
  obtain ⟨hx, hb, hml, hown, hts, hr, hlk, hK⟩ := B0
  unfold fX1_append_b109 at h
  refine lv_aload_n hx hb dX1_append_109 rfl (lv_at hl 0 rfl) ?_
  replace h := bo_o h
  obtain ⟨x1, e2, h⟩ := h
  refine h_get (ci := 17) (k := 5) (v := .int x1) hx hb hts hown hK hR in_X1 rfl (by decide) (fun _ _ => rfl) q670 (fun _ h9 => h9) (gI_o e2) dX1_append_110 ?_
  have eR := Option.some.inj h
  subst eR
  exact h_ifin hx hb hr hlk hR hS dX1_append_113
noncomputable def fX1_append_b103 (v0 : Nat) (v1 : Int64) (v4 : Int32) (w : WH) : Option (Sum (Int32 × WH) ((Int32 × WH))) :=
  some (.inl (v4 + (-8), w))
theorem bX1_append_103 {p : Program} {l : Launch} {e : Env} {s : State} {m : MethodId} {args : Array Value} {below : List Frame} {meth : Method} {c : Code} {H : Heap} {locs : List Loc} {ls : Array Slot} {G : gE} {A : Nat → Prop} {w0 : WH} (B : gB G RX1 cX1_append 6 (some .int) p s m args meth c) {v0 : Nat} {v1 : Int64} {v4 : Int32} {w : WH} {x : Sum (Int32 × WH) ((Int32 × WH))} {r : (Int32 × WH)} (h : fX1_append_b103 v0 v1 v4 w = some x)  (k57 : ∀ (v4' : Int32) (w' : WH), x = (.inl (v4', w')) → ∀ (H : Heap) (locs : List Loc) (ls : Array Slot), RepH G A w' H → Cu A s w0 w' H locs → lv_has ls 6 [(0, .ref v0), (1, .long v1), (4, .int v4')] → W p l e (hRm 0 0 w0) s m args below meth c H locs (wC w0 - wC w') (wS w0 - wS w') (hZ below args s G A w0 (some (.int r.1)) r.2) (F0 m 57 ls [])) (kR : ∀ q, x = (.inr q) → q = r) (hR : RepH G A w H) (hS : Cu A s w0 w H locs) (hl : lv_has ls 6 [(0, .ref v0), (1, .long v1), (4, .int v4)]) : W p l e (hRm 0 0 w0) s m args below meth c H locs (wC w0 - wC w) (wS w0 - wS w) (hZ below args s G A w0 (some (.int r.1)) r.2) (F0 m 103 ls []) := by
  have B0 := B
  obtain ⟨hx, hb, hml, hown, hts, hr, hlk, hK⟩ := B0
  unfold fX1_append_b103 at h
  refine lv_iinc (v := v4 + (-8)) (lv' := [(4, .int (v4 + (-8))), (0, .ref v0), (1, .long v1)]) hx hb dX1_append_103 hl (k := 2) rfl rfl (by decide) rfl (fun ls hl => ?_)
  refine lv_goto (tgt := 57) hx hb dX1_append_106 (by decide) ?_
  exact k57 _ _ (Option.some.inj h).symm H locs ls hR hS (lv_sub hl [1, 2, 0] rfl)
noncomputable def fX1_append_b57 (v0 : Nat) (v1 : Int64) (v4 : Int32) (w : WH) : Option (Sum (Int32 × WH) ((Int32 × WH))) :=
  if v4 < 0 then (
    (fX1_append_b109 v0 w).map (fun y => (.inr y))
  ) else (
    nm_ ((((v1.toUInt64 >>> (v4.toInt64.toUInt64 &&& Int64.toUInt64 63)).toInt64) &&& 255).toInt32) fun x2 =>
    if x2 = 0 then (
      fX1_append_b103 v0 v1 v4 w
    ) else (
      (gR w v0 17 4).bind fun x5 =>
      (gI w v0 17 5).bind fun x7 =>
      x5.bind fun a9 =>
      (stI w a9 2 x7 (vp_nar .byte (x2.toInt8.toInt32))).bind fun w11 =>
      (gI w11 v0 17 5).bind fun x13 =>
      (hPut w11 v0 17 5 (.int (x13 + 1))).bind fun w15 =>
      fX1_append_b103 v0 v1 v4 w15
    )
  )
theorem bX1_append_57 {p : Program} {l : Launch} {e : Env} {s : State} {m : MethodId} {args : Array Value} {below : List Frame} {meth : Method} {c : Code} {H : Heap} {locs : List Loc} {ls : Array Slot} {G : gE} {A : Nat → Prop} {w0 : WH} (B : gB G RX1 cX1_append 6 (some .int) p s m args meth c) {v0 : Nat} {v1 : Int64} {v4 : Int32} {w : WH} {x : Sum (Int32 × WH) ((Int32 × WH))} {r : (Int32 × WH)} (h : fX1_append_b57 v0 v1 v4 w = some x)  (k57 : ∀ (v4' : Int32) (w' : WH), x = (.inl (v4', w')) → ∀ (H : Heap) (locs : List Loc) (ls : Array Slot), RepH G A w' H → Cu A s w0 w' H locs → lv_has ls 6 [(0, .ref v0), (1, .long v1), (4, .int v4')] → W p l e (hRm 0 0 w0) s m args below meth c H locs (wC w0 - wC w') (wS w0 - wS w') (hZ below args s G A w0 (some (.int r.1)) r.2) (F0 m 57 ls [])) (kR : ∀ q, x = (.inr q) → q = r) (hR : RepH G A w H) (hS : Cu A s w0 w H locs) (hl : lv_has ls 6 [(0, .ref v0), (1, .long v1), (4, .int v4)]) : W p l e (hRm 0 0 w0) s m args below meth c H locs (wC w0 - wC w) (wS w0 - wS w) (hZ below args s G A w0 (some (.int r.1)) r.2) (F0 m 57 ls []) := by
  have B0 := B
  obtain ⟨hx, hb, hml, hown, hts, hr, hlk, hK⟩ := B0
  unfold fX1_append_b57 at h
  refine lv_iload hx hb dX1_append_57 (lv_at hl 2 rfl) ?_
  refine lv_if_lt (tgt := 109) hx hb dX1_append_59 (by decide) (fun c1 => ?_) (fun c1 => ?_)
  · replace h := it_o c1 h
    obtain ⟨y, h, ey⟩ := mp_o h
    have ey := kR _ ey.symm
    subst ey
    exact bX1_append_109 B h  hR hS (lv_sub hl [0] rfl)
  · replace h := if_o c1 h
    refine lv_lload_n hx hb dX1_append_62 rfl (lv_at hl 1 rfl) ?_
    refine lv_iload hx hb dX1_append_63 (lv_at hl 2 rfl) ?_
    refine lv_lushr hx hb dX1_append_65 rfl ?_
    refine lv_ldc2 (v := 255) hx hb hown (hts _ q697) dX1_append_66 ?_
    refine lv_land hx hb dX1_append_69 ?_
    refine lv_l2i hx hb dX1_append_70 rfl ?_
    replace h := nm_o h
    obtain ⟨x2, e3, h⟩ := h
    refine lv_istore (lv' := [(5, .int x2), (0, .ref v0), (1, .long v1), (4, .int v4)]) hx hb dX1_append_71 hl (by decide) (by subst e3; rfl) (fun ls hl => ?_)
    refine lv_iload hx hb dX1_append_73 (lv_at hl 0 rfl) ?_
    refine lv_if_ne (tgt := 81) hx hb dX1_append_75 (by decide) (fun c4 => ?_) (fun c4 => ?_)
    · replace h := if_o c4 h
      refine lv_aload_n hx hb dX1_append_81 rfl (lv_at hl 1 rfl) ?_
      replace h := bo_o h
      obtain ⟨x5, e6, h⟩ := h
      refine h_get (ci := 17) (k := 4) (v := va_rf x5) hx hb hts hown hK hR in_X1 rfl (by decide) (fun _ _ => rfl) q667 (fun _ h9 => h9) (gR_o e6) dX1_append_82 ?_
      refine lv_aload_n hx hb dX1_append_85 rfl (lv_at hl 1 rfl) ?_
      replace h := bo_o h
      obtain ⟨x7, e8, h⟩ := h
      refine h_get (ci := 17) (k := 5) (v := .int x7) hx hb hts hown hK hR in_X1 rfl (by decide) (fun _ _ => rfl) q670 (fun _ h9 => h9) (gI_o e8) dX1_append_86 ?_
      refine lv_iload hx hb dX1_append_89 (lv_at hl 0 rfl) ?_
      refine lv_i2b hx hb dX1_append_91 rfl ?_
      replace h := bo_o h
      obtain ⟨a9, e10, h⟩ := h
      subst e10
      replace h := bo_o h
      obtain ⟨w11, e12, h⟩ := h
      refine h_bast hx hb hK hR hS e12 dX1_append_92 (fun H locs hR hS => ?_)
      refine lv_aload_n hx hb dX1_append_93 rfl (lv_at hl 1 rfl) ?_
      refine lv_dup hx hb dX1_append_94 rfl ?_
      replace h := bo_o h
      obtain ⟨x13, e14, h⟩ := h
      refine h_get (ci := 17) (k := 5) (v := .int x13) hx hb hts hown hK hR in_X1 rfl (by decide) (fun _ _ => rfl) q670 (fun _ h9 => h9) (gI_o e14) dX1_append_95 ?_
      refine lv_iconst (v := 1) hx hb dX1_append_98 (by decide) ?_
      refine lv_iadd hx hb dX1_append_99 ?_
      replace h := bo_o h
      obtain ⟨w15, e16, h⟩ := h
      refine h_put (ci := 17) (k := 5) (ty := tyX1 5) hx hb hts hown hK hR hS in_X1 tyX1 tyX1_ok nmX1 rfl (by decide) q670 (fun _ h9 => h9) rfl (tyX1_ok 5 (by decide)) rfl rfl e16 dX1_append_100 (fun H locs hR hS => ?_)
      exact bX1_append_103 B h k57 kR hR hS (lv_sub hl [1, 2, 3] rfl)
    · replace h := it_o c4 h
      refine lv_goto (tgt := 103) hx hb dX1_append_78 (by decide) ?_
      exact bX1_append_103 B h k57 kR hR hS (lv_sub hl [1, 2, 3] rfl)
noncomputable def fX1_append_l57 (v0 : Nat) (v1 : Int64) (v4 : Int32) (w : WH) : Option ((Int32 × WH)) := whileO (fun q => fX1_append_b57 v0 v1 q.1 q.2) (v4, w)
theorem lX1_append_57 {p : Program} {l : Launch} {e : Env} {s : State} {m : MethodId} {args : Array Value} {below : List Frame} {meth : Method} {c : Code} {G : gE} {A : Nat → Prop} {w0 : WH} (B : gB G RX1 cX1_append 6 (some .int) p s m args meth c) {v0 : Nat} {v1 : Int64} {r : (Int32 × WH)}   : ∀ (v4 : Int32) (w : WH), fX1_append_l57 v0 v1 v4 w = some r → ∀ (H : Heap) (locs : List Loc) (ls : Array Slot), RepH G A w H → Cu A s w0 w H locs → lv_has ls 6 [(0, .ref v0), (1, .long v1), (4, .int v4)] → W p l e (hRm 0 0 w0) s m args below meth c H locs (wC w0 - wC w) (wS w0 - wS w) (hZ below args s G A w0 (some (.int r.1)) r.2) (F0 m 57 ls []) := by
  intro v4 w h
  refine wh_walk (body := (fun q => fX1_append_b57 v0 v1 q.1 q.2)) (P := (fun q : (Int32 × WH) => ∀ (H : Heap) (locs : List Loc) (ls : Array Slot), RepH G A (q.2) H → Cu A s w0 (q.2) H locs → lv_has ls 6 [(0, .ref v0), (1, .long v1), (4, .int (q.1))] → W p l e (hRm 0 0 w0) s m args below meth c H locs (wC w0 - wC (q.2)) (wS w0 - wS (q.2)) (hZ below args s G A w0 (some (.int r.1)) r.2) (F0 m 57 ls []))) (r := r) ?_ (v4, w) h
  intro q y hy hL hr H locs ls hR hS hl
  exact bX1_append_57 (r := r) B hy (fun a0 a1 e => hL (a0, a1) e) (fun q e => hr q e) hR hS hl
noncomputable def fX1_append_b38 (v0 : Nat) (v1 : Int64) (v3 : Int32) (w : WH) : Option ((Int32 × WH)) :=
  (gI w v0 17 5).bind fun x1 =>
  if x1 + v3 ≤ 600 then (
    fX1_append_l57 v0 v1 56 w
  ) else (
    some ((-2), w)
  )
theorem bX1_append_38 {p : Program} {l : Launch} {e : Env} {s : State} {m : MethodId} {args : Array Value} {below : List Frame} {meth : Method} {c : Code} {H : Heap} {locs : List Loc} {ls : Array Slot} {G : gE} {A : Nat → Prop} {w0 : WH} (B : gB G RX1 cX1_append 6 (some .int) p s m args meth c) {v0 : Nat} {v1 : Int64} {v3 : Int32} {w : WH} {r : (Int32 × WH)} (h : fX1_append_b38 v0 v1 v3 w = some r)   (hR : RepH G A w H) (hS : Cu A s w0 w H locs) (hl : lv_has ls 6 [(0, .ref v0), (1, .long v1), (3, .int v3)]) : W p l e (hRm 0 0 w0) s m args below meth c H locs (wC w0 - wC w) (wS w0 - wS w) (hZ below args s G A w0 (some (.int r.1)) r.2) (F0 m 38 ls []) := by
  have B0 := B
  obtain ⟨hx, hb, hml, hown, hts, hr, hlk, hK⟩ := B0
  unfold fX1_append_b38 at h
  refine lv_aload_n hx hb dX1_append_38 rfl (lv_at hl 0 rfl) ?_
  replace h := bo_o h
  obtain ⟨x1, e2, h⟩ := h
  refine h_get (ci := 17) (k := 5) (v := .int x1) hx hb hts hown hK hR in_X1 rfl (by decide) (fun _ _ => rfl) q670 (fun _ h9 => h9) (gI_o e2) dX1_append_39 ?_
  refine lv_iload_n hx hb dX1_append_42 rfl (lv_at hl 2 rfl) ?_
  refine lv_iadd hx hb dX1_append_43 ?_
  refine lv_sipush (v := 600) hx hb dX1_append_44 (by decide) ?_
  refine lv_icmp_le (tgt := 53) hx hb dX1_append_47 (by decide) (fun c3 => ?_) (fun c3 => ?_)
  · replace h := it_o c3 h
    refine lv_bipush (v := 56) hx hb dX1_append_53 (by decide) ?_
    refine lv_istore (lv' := [(4, .int 56), (0, .ref v0), (1, .long v1), (3, .int v3)]) hx hb dX1_append_55 hl (by decide) rfl (fun ls hl => ?_)
    exact lX1_append_57 B _ _ h H locs ls hR hS (lv_sub hl [1, 2, 0] rfl)
  · replace h := if_o c3 h
    refine lv_bipush (v := (-2)) hx hb dX1_append_50 (by decide) ?_
    have eR := Option.some.inj h
    subst eR
    exact h_ifin hx hb hr hlk hR hS dX1_append_52
noncomputable def fX1_append_b30 (v0 : Nat) (v1 : Int64) (v4 : Int32) (s0 : Int32) (s1 : Int32) (w : WH) : Option (Sum (Int32 × Int32 × WH) ((Int32 × WH))) :=
  nm_ (s0 + s1) fun x1 =>
  some (.inl (x1, v4 + (-8), w))
theorem bX1_append_30 {p : Program} {l : Launch} {e : Env} {s : State} {m : MethodId} {args : Array Value} {below : List Frame} {meth : Method} {c : Code} {H : Heap} {locs : List Loc} {ls : Array Slot} {G : gE} {A : Nat → Prop} {w0 : WH} (B : gB G RX1 cX1_append 6 (some .int) p s m args meth c) {v0 : Nat} {v1 : Int64} {v4 : Int32} {s0 : Int32} {s1 : Int32} {w : WH} {x : Sum (Int32 × Int32 × WH) ((Int32 × WH))} {r : (Int32 × WH)} (h : fX1_append_b30 v0 v1 v4 s0 s1 w = some x)  (k6 : ∀ (v3' : Int32) (v4' : Int32) (w' : WH), x = (.inl (v3', v4', w')) → ∀ (H : Heap) (locs : List Loc) (ls : Array Slot), RepH G A w' H → Cu A s w0 w' H locs → lv_has ls 6 [(0, .ref v0), (1, .long v1), (3, .int v3'), (4, .int v4')] → W p l e (hRm 0 0 w0) s m args below meth c H locs (wC w0 - wC w') (wS w0 - wS w') (hZ below args s G A w0 (some (.int r.1)) r.2) (F0 m 6 ls [])) (kR : ∀ q, x = (.inr q) → q = r) (hR : RepH G A w H) (hS : Cu A s w0 w H locs) (hl : lv_has ls 6 [(0, .ref v0), (1, .long v1), (4, .int v4)]) : W p l e (hRm 0 0 w0) s m args below meth c H locs (wC w0 - wC w) (wS w0 - wS w) (hZ below args s G A w0 (some (.int r.1)) r.2) (F0 m 30 ls [.int s1, .int s0]) := by
  have B0 := B
  obtain ⟨hx, hb, hml, hown, hts, hr, hlk, hK⟩ := B0
  unfold fX1_append_b30 at h
  refine lv_iadd hx hb dX1_append_30 ?_
  replace h := nm_o h
  obtain ⟨x1, e2, h⟩ := h
  refine lv_istore_n (lv' := [(3, .int x1), (0, .ref v0), (1, .long v1), (4, .int v4)]) hx hb dX1_append_31 rfl hl (by decide) (by subst e2; rfl) (fun ls hl => ?_)
  refine lv_iinc (v := v4 + (-8)) (lv' := [(4, .int (v4 + (-8))), (3, .int x1), (0, .ref v0), (1, .long v1)]) hx hb dX1_append_32 hl (k := 3) rfl rfl (by decide) rfl (fun ls hl => ?_)
  refine lv_goto (tgt := 6) hx hb dX1_append_35 (by decide) ?_
  exact k6 _ _ _ (Option.some.inj h).symm H locs ls hR hS (lv_sub hl [2, 3, 1, 0] rfl)
noncomputable def fX1_append_b6 (v0 : Nat) (v1 : Int64) (v3 : Int32) (v4 : Int32) (w : WH) : Option (Sum (Int32 × Int32 × WH) ((Int32 × WH))) :=
  if v4 < 0 then (
    (fX1_append_b38 v0 v1 v3 w).map (fun y => (.inr y))
  ) else (
    if lg_cmp (((v1.toUInt64 >>> (v4.toInt64.toUInt64 &&& Int64.toUInt64 63)).toInt64) &&& 255) 0 = 0 then (
      fX1_append_b30 v0 v1 v4 v3 0 w
    ) else (
      fX1_append_b30 v0 v1 v4 v3 1 w
    )
  )
theorem bX1_append_6 {p : Program} {l : Launch} {e : Env} {s : State} {m : MethodId} {args : Array Value} {below : List Frame} {meth : Method} {c : Code} {H : Heap} {locs : List Loc} {ls : Array Slot} {G : gE} {A : Nat → Prop} {w0 : WH} (B : gB G RX1 cX1_append 6 (some .int) p s m args meth c) {v0 : Nat} {v1 : Int64} {v3 : Int32} {v4 : Int32} {w : WH} {x : Sum (Int32 × Int32 × WH) ((Int32 × WH))} {r : (Int32 × WH)} (h : fX1_append_b6 v0 v1 v3 v4 w = some x)  (k6 : ∀ (v3' : Int32) (v4' : Int32) (w' : WH), x = (.inl (v3', v4', w')) → ∀ (H : Heap) (locs : List Loc) (ls : Array Slot), RepH G A w' H → Cu A s w0 w' H locs → lv_has ls 6 [(0, .ref v0), (1, .long v1), (3, .int v3'), (4, .int v4')] → W p l e (hRm 0 0 w0) s m args below meth c H locs (wC w0 - wC w') (wS w0 - wS w') (hZ below args s G A w0 (some (.int r.1)) r.2) (F0 m 6 ls [])) (kR : ∀ q, x = (.inr q) → q = r) (hR : RepH G A w H) (hS : Cu A s w0 w H locs) (hl : lv_has ls 6 [(0, .ref v0), (1, .long v1), (3, .int v3), (4, .int v4)]) : W p l e (hRm 0 0 w0) s m args below meth c H locs (wC w0 - wC w) (wS w0 - wS w) (hZ below args s G A w0 (some (.int r.1)) r.2) (F0 m 6 ls []) := by
  have B0 := B
  obtain ⟨hx, hb, hml, hown, hts, hr, hlk, hK⟩ := B0
  unfold fX1_append_b6 at h
  refine lv_iload hx hb dX1_append_6 (lv_at hl 3 rfl) ?_
  refine lv_if_lt (tgt := 38) hx hb dX1_append_8 (by decide) (fun c1 => ?_) (fun c1 => ?_)
  · replace h := it_o c1 h
    obtain ⟨y, h, ey⟩ := mp_o h
    have ey := kR _ ey.symm
    subst ey
    exact bX1_append_38 B h  hR hS (lv_sub hl [0, 1, 2] rfl)
  · replace h := if_o c1 h
    refine lv_iload_n hx hb dX1_append_11 rfl (lv_at hl 2 rfl) ?_
    refine lv_lload_n hx hb dX1_append_12 rfl (lv_at hl 1 rfl) ?_
    refine lv_iload hx hb dX1_append_13 (lv_at hl 3 rfl) ?_
    refine lv_lushr hx hb dX1_append_15 rfl ?_
    refine lv_ldc2 (v := 255) hx hb hown (hts _ q697) dX1_append_16 ?_
    refine lv_land hx hb dX1_append_19 ?_
    refine lv_lconst (v := 0) hx hb dX1_append_20 (by decide) ?_
    refine W.lcmp hx hb dX1_append_21 ?_
    refine lv_if_eq (tgt := 29) hx hb dX1_append_22 (by decide) (fun c2 => ?_) (fun c2 => ?_)
    · replace h := it_o c2 h
      refine lv_iconst (v := 0) hx hb dX1_append_29 (by decide) ?_
      exact bX1_append_30 B h k6 kR hR hS (lv_sub hl [0, 1, 3] rfl)
    · replace h := if_o c2 h
      refine lv_iconst (v := 1) hx hb dX1_append_25 (by decide) ?_
      refine lv_goto (tgt := 30) hx hb dX1_append_26 (by decide) ?_
      exact bX1_append_30 B h k6 kR hR hS (lv_sub hl [0, 1, 3] rfl)
noncomputable def fX1_append_l6 (v0 : Nat) (v1 : Int64) (v3 : Int32) (v4 : Int32) (w : WH) : Option ((Int32 × WH)) := whileO (fun q => fX1_append_b6 v0 v1 q.1 q.2.1 q.2.2) (v3, v4, w)
theorem lX1_append_6 {p : Program} {l : Launch} {e : Env} {s : State} {m : MethodId} {args : Array Value} {below : List Frame} {meth : Method} {c : Code} {G : gE} {A : Nat → Prop} {w0 : WH} (B : gB G RX1 cX1_append 6 (some .int) p s m args meth c) {v0 : Nat} {v1 : Int64} {r : (Int32 × WH)}   : ∀ (v3 : Int32) (v4 : Int32) (w : WH), fX1_append_l6 v0 v1 v3 v4 w = some r → ∀ (H : Heap) (locs : List Loc) (ls : Array Slot), RepH G A w H → Cu A s w0 w H locs → lv_has ls 6 [(0, .ref v0), (1, .long v1), (3, .int v3), (4, .int v4)] → W p l e (hRm 0 0 w0) s m args below meth c H locs (wC w0 - wC w) (wS w0 - wS w) (hZ below args s G A w0 (some (.int r.1)) r.2) (F0 m 6 ls []) := by
  intro v3 v4 w h
  refine wh_walk (body := (fun q => fX1_append_b6 v0 v1 q.1 q.2.1 q.2.2)) (P := (fun q : (Int32 × Int32 × WH) => ∀ (H : Heap) (locs : List Loc) (ls : Array Slot), RepH G A (q.2.2) H → Cu A s w0 (q.2.2) H locs → lv_has ls 6 [(0, .ref v0), (1, .long v1), (3, .int (q.1)), (4, .int (q.2.1))] → W p l e (hRm 0 0 w0) s m args below meth c H locs (wC w0 - wC (q.2.2)) (wS w0 - wS (q.2.2)) (hZ below args s G A w0 (some (.int r.1)) r.2) (F0 m 6 ls []))) (r := r) ?_ (v3, v4, w) h
  intro q y hy hL hr H locs ls hR hS hl
  exact bX1_append_6 (r := r) B hy (fun a0 a1 a2 e => hL (a0, a1, a2) e) (fun q e => hr q e) hR hS hl
noncomputable def fX1_append (v0 : Nat) (v1 : Int64) (w : WH) : Option ((Int32 × WH)) :=
  fX1_append_l6 v0 v1 0 56 w
theorem bX1_append_0 {p : Program} {l : Launch} {e : Env} {s : State} {m : MethodId} {args : Array Value} {below : List Frame} {meth : Method} {c : Code} {H : Heap} {locs : List Loc} {ls : Array Slot} {G : gE} {A : Nat → Prop} {w0 : WH} (B : gB G RX1 cX1_append 6 (some .int) p s m args meth c) {v0 : Nat} {v1 : Int64} {w : WH} {r : (Int32 × WH)} (h : fX1_append v0 v1 w = some r)   (hR : RepH G A w H) (hS : Cu A s w0 w H locs) (hl : lv_has ls 6 [(0, .ref v0), (1, .long v1)]) : W p l e (hRm 0 0 w0) s m args below meth c H locs (wC w0 - wC w) (wS w0 - wS w) (hZ below args s G A w0 (some (.int r.1)) r.2) (F0 m 0 ls []) := by
  have B0 := B
  obtain ⟨hx, hb, hml, hown, hts, hr, hlk, hK⟩ := B0
  unfold fX1_append at h
  refine lv_iconst (v := 0) hx hb dX1_append_0 (by decide) ?_
  refine lv_istore_n (lv' := [(3, .int 0), (0, .ref v0), (1, .long v1)]) hx hb dX1_append_1 rfl hl (by decide) rfl (fun ls hl => ?_)
  refine lv_bipush (v := 56) hx hb dX1_append_2 (by decide) ?_
  refine lv_istore (lv' := [(4, .int 56), (3, .int 0), (0, .ref v0), (1, .long v1)]) hx hb dX1_append_4 hl (by decide) rfl (fun ls hl => ?_)
  exact lX1_append_6 B _ _ _ h H locs ls hR hS (lv_sub hl [2, 3, 1, 0] rfl)
theorem mX1_append {l : Launch} {G : gE} {A : Nat → Prop} {v0 : Nat} {v1 : Int64} {w : WH} {r : (Int32 × WH)} (h : fX1_append v0 v1 w = some r) : hM l G A yX1_append cX1_append 6 (some .int) 0 0 [.ref v0, .long v1] w (some (.int r.1)) r.2 :=
  h_of (by decide +kernel) (Nat.le_of_ble_eq_true rfl) (fun p e s m args below meth c ls B hnm hR hS hl => bX1_append_0 B h hR hS hl)
noncomputable def fX6_init (v0 : Nat) (v1 : Nat) (w : WH) : Option (WH) :=
  (hPut w v0 25 4 (.ref v1)).bind fun w1 =>
  b2_ (hNw w1 4 22 [.int 0, .null, .null, .null]) fun a3 w4 =>
  (fX3_init a3 2 w4).bind fun w6 =>
  (hPut w6 v0 25 0 (.ref a3)).bind fun w8 =>
  some w8
theorem bX6_init_0 {p : Program} {l : Launch} {e : Env} {s : State} {m : MethodId} {args : Array Value} {below : List Frame} {meth : Method} {c : Code} {H : Heap} {locs : List Loc} {ls : Array Slot} {G : gE} {A : Nat → Prop} {w0 : WH} (B : gB G RX6 cX6_init 2 none p s m args meth c) (hnm : meth.name = "<init>") {v0 : Nat} {v1 : Nat} {w : WH} {r : WH} (h : fX6_init v0 v1 w = some r)   (hR : RepH G A w H) (hS : Cu A s w0 w H locs) (hl : lv_has ls 2 [(0, .ref v0), (1, .ref v1)]) : W p l e (hRm 14 311 w0) s m args below meth c H locs (wC w0 - wC w) (wS w0 - wS w) (hZ below args s G A w0 none r) (F0 m 0 ls []) := by
  have B0 := B
  obtain ⟨hx, hb, hml, hown, hts, hr, hlk, hK⟩ := B0
  unfold fX6_init at h
  refine lv_aload_n hx hb dX6_init_0 rfl (lv_at hl 0 rfl) ?_
  refine lv_aload_n hx hb dX6_init_1 rfl (lv_at hl 1 rfl) ?_
  replace h := bo_o h
  obtain ⟨w1, e2, h⟩ := h
  refine h_putF (ci := 25) (k := 4) (ty := tyX6 4) hx hb hts hown hK hR hS in_X6 tyX6 tyX6_ok nmX6 rfl (by decide) q716 (fun _ h9 => h9) rfl hnm rfl (tyX6_ok 4 (by decide)) rfl rfl e2 dX6_init_2 (fun H locs hR hS => ?_)
  refine lv_aload_n hx hb dX6_init_5 rfl (lv_at hl 0 rfl) ?_
  refine W.objInit hx hb hown (hts _ q708) (hts _ q168) (hts _ q169) rfl (by rw [hml]; exact hl.1) rfl dX6_init_6 (Nat.le_of_ble_eq_true rfl) (Nat.le_of_ble_eq_true rfl) ?_
  refine W.eq (g2 := F0 m 9 ls []) rfl ?_
  refine lv_aload_n hx hb dX6_init_9 rfl (lv_at hl 0 rfl) ?_
  replace h := b2_o h
  obtain ⟨a3, w4, e5, h⟩ := h
  refine h_new (ci := 22) (fs := [.int 0, .null, .null, .null]) hx hb hts hown hK hR hS (Nat.le_refl _) (Nat.le_refl _) in_X3 tyX3 tyX3_ok rfl (by decide +kernel) q709 q173 q114 e5 dX6_init_10 (fun H locs hR hS => ?_)
  refine lv_dup hx hb dX6_init_13 rfl ?_
  refine lv_iconst (v := 2) hx hb dX6_init_14 (by decide) ?_
  replace h := bo_o h
  obtain ⟨w6, e7, h⟩ := h
  refine h_callI 1  (As := [.int 2]) (rest := [.ref a3, .ref v0]) (w' := w6) hx hb hml hown hts hK hR hS (Nat.le_refl _) (Nat.le_refl _) (mX3_init e7) (lw_meth q176) q114 q710 q175 rfl (by decide +kernel) (Nat.le_of_ble_eq_true rfl) (Nat.le_of_ble_eq_true rfl) rfl hl.1 (Nat.le_of_ble_eq_true rfl) dX6_init_15 rfl (fun H locs hR hS => ?_)
  replace h := bo_o h
  obtain ⟨w8, e9, h⟩ := h
  refine h_put (ci := 25) (k := 0) (ty := tyX6 0) hx hb hts hown hK hR hS in_X6 tyX6 tyX6_ok nmX6 rfl (by decide) q711 (fun _ h9 => h9) rfl (tyX6_ok 0 (by decide)) rfl rfl e9 dX6_init_18 (fun H locs hR hS => ?_)
  have eR := Option.some.inj h
  subst eR
  exact h_vfin hx hb hr hlk hR hS dX6_init_21
theorem mX6_init {l : Launch} {G : gE} {A : Nat → Prop} {v0 : Nat} {v1 : Nat} {w : WH} {r : WH} (h : fX6_init v0 v1 w = some r) : hM l G A yX6_init cX6_init 2 none 14 311 [.ref v0, .ref v1] w none r :=
  h_of (by decide +kernel) (Nat.le_of_ble_eq_true rfl) (fun p e s m args below meth c ls B hnm hR hS hl => bX6_init_0 B hnm h hR hS hl)
noncomputable def fX6_peek_b44 (v0 : Nat) (w : WH) : Option ((Int32 × WH)) :=
  (gI w v0 25 1).bind fun x1 =>
  (hPut w v0 25 2 (.int x1)).bind fun w3 =>
  (gI w3 v0 25 1).bind fun x5 =>
  (gR w3 v0 25 4).bind fun x7 =>
  x7.bind fun a9 =>
  (gI w3 a9 17 5).bind fun x11 =>
  if x11 ≤ x5 then (
    some ((-1), w3)
  ) else (
    (gR w3 v0 25 4).bind fun x14 =>
    x14.bind fun a16 =>
    (gR w3 a16 17 4).bind fun x18 =>
    (gI w3 v0 25 1).bind fun x20 =>
    x18.bind fun a22 =>
    (ldI w3 a22 2 x20).bind fun x24 =>
    some (x24 &&& 255, w3)
  )
theorem bX6_peek_44 {p : Program} {l : Launch} {e : Env} {s : State} {m : MethodId} {args : Array Value} {below : List Frame} {meth : Method} {c : Code} {H : Heap} {locs : List Loc} {ls : Array Slot} {G : gE} {A : Nat → Prop} {w0 : WH} (B : gB G RX6 cX6_peek 1 (some .int) p s m args meth c) {v0 : Nat} {w : WH} {r : (Int32 × WH)} (h : fX6_peek_b44 v0 w = some r)   (hR : RepH G A w H) (hS : Cu A s w0 w H locs) (hl : lv_has ls 1 [(0, .ref v0)]) : W p l e (hRm 0 0 w0) s m args below meth c H locs (wC w0 - wC w) (wS w0 - wS w) (hZ below args s G A w0 (some (.int r.1)) r.2) (F0 m 44 ls []) := by
  have B0 := B
  obtain ⟨hx, hb, hml, hown, hts, hr, hlk, hK⟩ := B0
  unfold fX6_peek_b44 at h
  refine lv_aload_n hx hb dX6_peek_44 rfl (lv_at hl 0 rfl) ?_
  refine lv_aload_n hx hb dX6_peek_45 rfl (lv_at hl 0 rfl) ?_
  replace h := bo_o h
  obtain ⟨x1, e2, h⟩ := h
  refine h_get (ci := 25) (k := 1) (v := .int x1) hx hb hts hown hK hR in_X6 rfl (by decide) (fun _ _ => rfl) q712 (fun _ h9 => h9) (gI_o e2) dX6_peek_46 ?_
  replace h := bo_o h
  obtain ⟨w3, e4, h⟩ := h
  refine h_put (ci := 25) (k := 2) (ty := tyX6 2) hx hb hts hown hK hR hS in_X6 tyX6 tyX6_ok nmX6 rfl (by decide) q713 (fun _ h9 => h9) rfl (tyX6_ok 2 (by decide)) rfl rfl e4 dX6_peek_49 (fun H locs hR hS => ?_)
  refine lv_aload_n hx hb dX6_peek_52 rfl (lv_at hl 0 rfl) ?_
  replace h := bo_o h
  obtain ⟨x5, e6, h⟩ := h
  refine h_get (ci := 25) (k := 1) (v := .int x5) hx hb hts hown hK hR in_X6 rfl (by decide) (fun _ _ => rfl) q712 (fun _ h9 => h9) (gI_o e6) dX6_peek_53 ?_
  refine lv_aload_n hx hb dX6_peek_56 rfl (lv_at hl 0 rfl) ?_
  replace h := bo_o h
  obtain ⟨x7, e8, h⟩ := h
  refine h_get (ci := 25) (k := 4) (v := va_rf x7) hx hb hts hown hK hR in_X6 rfl (by decide) (fun _ _ => rfl) q716 (fun _ h9 => h9) (gR_o e8) dX6_peek_57 ?_
  replace h := bo_o h
  obtain ⟨a9, e10, h⟩ := h
  subst e10
  replace h := bo_o h
  obtain ⟨x11, e12, h⟩ := h
  refine h_getN (ci := 17) (k := 5) (v := .int x11) hx hb hts hown hK hR in_X1 rfl (by decide) (fun _ _ => rfl) (hK.fn 27 rfl) (fun _ h9 => h9) (gI_o e12) dX6_peek_60 ?_
  refine lv_icmp_ge (tgt := 85) hx hb dX6_peek_63 (by decide) (fun c13 => ?_) (fun c13 => ?_)
  · replace h := it_o c13 h
    refine lv_iconst (v := (-1)) hx hb dX6_peek_85 (by decide) ?_
    have eR := Option.some.inj h
    subst eR
    exact h_ifin hx hb hr hlk hR hS dX6_peek_86
  · replace h := if_o c13 h
    refine lv_aload_n hx hb dX6_peek_66 rfl (lv_at hl 0 rfl) ?_
    replace h := bo_o h
    obtain ⟨x14, e15, h⟩ := h
    refine h_get (ci := 25) (k := 4) (v := va_rf x14) hx hb hts hown hK hR in_X6 rfl (by decide) (fun _ _ => rfl) q716 (fun _ h9 => h9) (gR_o e15) dX6_peek_67 ?_
    replace h := bo_o h
    obtain ⟨a16, e17, h⟩ := h
    subst e17
    replace h := bo_o h
    obtain ⟨x18, e19, h⟩ := h
    refine h_getN (ci := 17) (k := 4) (v := va_rf x18) hx hb hts hown hK hR in_X1 rfl (by decide) (fun _ _ => rfl) (hK.fn 26 rfl) (fun _ h9 => h9) (gR_o e19) dX6_peek_70 ?_
    refine lv_aload_n hx hb dX6_peek_73 rfl (lv_at hl 0 rfl) ?_
    replace h := bo_o h
    obtain ⟨x20, e21, h⟩ := h
    refine h_get (ci := 25) (k := 1) (v := .int x20) hx hb hts hown hK hR in_X6 rfl (by decide) (fun _ _ => rfl) q712 (fun _ h9 => h9) (gI_o e21) dX6_peek_74 ?_
    replace h := bo_o h
    obtain ⟨a22, e23, h⟩ := h
    subst e23
    replace h := bo_o h
    obtain ⟨x24, e25, h⟩ := h
    refine h_bald hx hb hK hR hS e25 dX6_peek_77 ?_
    refine lv_sipush (v := 255) hx hb dX6_peek_78 (by decide) ?_
    refine lv_iand hx hb dX6_peek_81 ?_
    refine lv_goto (tgt := 86) hx hb dX6_peek_82 (by decide) ?_
    have eR := Option.some.inj h
    subst eR
    exact h_ifin hx hb hr hlk hR hS dX6_peek_86
noncomputable def fX6_peek_b0 (v0 : Nat) (w : WH) : Option (Sum (WH) ((Int32 × WH))) :=
  (gI w v0 25 1).bind fun x1 =>
  (gR w v0 25 4).bind fun x3 =>
  x3.bind fun a5 =>
  (gI w a5 17 5).bind fun x7 =>
  if x7 ≤ x1 then (
    (fX6_peek_b44 v0 w).map (fun y => (.inr y))
  ) else (
    (gR w v0 25 4).bind fun x10 =>
    x10.bind fun a12 =>
    (gR w a12 17 4).bind fun x14 =>
    (gI w v0 25 1).bind fun x16 =>
    x14.bind fun a18 =>
    (ldI w a18 2 x16).bind fun x20 =>
    if x20 = 32 then (
      (gI w v0 25 1).bind fun x23 =>
      (hPut w v0 25 1 (.int (x23 + 1))).bind fun w25 =>
      some (.inl w25)
    ) else (
      (fX6_peek_b44 v0 w).map (fun y => (.inr y))
    )
  )
theorem bX6_peek_0 {p : Program} {l : Launch} {e : Env} {s : State} {m : MethodId} {args : Array Value} {below : List Frame} {meth : Method} {c : Code} {H : Heap} {locs : List Loc} {ls : Array Slot} {G : gE} {A : Nat → Prop} {w0 : WH} (B : gB G RX6 cX6_peek 1 (some .int) p s m args meth c) {v0 : Nat} {w : WH} {x : Sum (WH) ((Int32 × WH))} {r : (Int32 × WH)} (h : fX6_peek_b0 v0 w = some x)  (k0 : ∀  (w' : WH), x = (.inl w') → ∀ (H : Heap) (locs : List Loc) (ls : Array Slot), RepH G A w' H → Cu A s w0 w' H locs → lv_has ls 1 [(0, .ref v0)] → W p l e (hRm 0 0 w0) s m args below meth c H locs (wC w0 - wC w') (wS w0 - wS w') (hZ below args s G A w0 (some (.int r.1)) r.2) (F0 m 0 ls [])) (kR : ∀ q, x = (.inr q) → q = r) (hR : RepH G A w H) (hS : Cu A s w0 w H locs) (hl : lv_has ls 1 [(0, .ref v0)]) : W p l e (hRm 0 0 w0) s m args below meth c H locs (wC w0 - wC w) (wS w0 - wS w) (hZ below args s G A w0 (some (.int r.1)) r.2) (F0 m 0 ls []) := by
  have B0 := B
  obtain ⟨hx, hb, hml, hown, hts, hr, hlk, hK⟩ := B0
  unfold fX6_peek_b0 at h
  refine lv_aload_n hx hb dX6_peek_0 rfl (lv_at hl 0 rfl) ?_
  replace h := bo_o h
  obtain ⟨x1, e2, h⟩ := h
  refine h_get (ci := 25) (k := 1) (v := .int x1) hx hb hts hown hK hR in_X6 rfl (by decide) (fun _ _ => rfl) q712 (fun _ h9 => h9) (gI_o e2) dX6_peek_1 ?_
  refine lv_aload_n hx hb dX6_peek_4 rfl (lv_at hl 0 rfl) ?_
  replace h := bo_o h
  obtain ⟨x3, e4, h⟩ := h
  refine h_get (ci := 25) (k := 4) (v := va_rf x3) hx hb hts hown hK hR in_X6 rfl (by decide) (fun _ _ => rfl) q716 (fun _ h9 => h9) (gR_o e4) dX6_peek_5 ?_
  replace h := bo_o h
  obtain ⟨a5, e6, h⟩ := h
  subst e6
  replace h := bo_o h
  obtain ⟨x7, e8, h⟩ := h
  refine h_getN (ci := 17) (k := 5) (v := .int x7) hx hb hts hown hK hR in_X1 rfl (by decide) (fun _ _ => rfl) (hK.fn 27 rfl) (fun _ h9 => h9) (gI_o e8) dX6_peek_8 ?_
  refine lv_icmp_ge (tgt := 44) hx hb dX6_peek_11 (by decide) (fun c9 => ?_) (fun c9 => ?_)
  · replace h := it_o c9 h
    obtain ⟨y, h, ey⟩ := mp_o h
    have ey := kR _ ey.symm
    subst ey
    exact bX6_peek_44 B h  hR hS (lv_sub hl [0] rfl)
  · replace h := if_o c9 h
    refine lv_aload_n hx hb dX6_peek_14 rfl (lv_at hl 0 rfl) ?_
    replace h := bo_o h
    obtain ⟨x10, e11, h⟩ := h
    refine h_get (ci := 25) (k := 4) (v := va_rf x10) hx hb hts hown hK hR in_X6 rfl (by decide) (fun _ _ => rfl) q716 (fun _ h9 => h9) (gR_o e11) dX6_peek_15 ?_
    replace h := bo_o h
    obtain ⟨a12, e13, h⟩ := h
    subst e13
    replace h := bo_o h
    obtain ⟨x14, e15, h⟩ := h
    refine h_getN (ci := 17) (k := 4) (v := va_rf x14) hx hb hts hown hK hR in_X1 rfl (by decide) (fun _ _ => rfl) (hK.fn 26 rfl) (fun _ h9 => h9) (gR_o e15) dX6_peek_18 ?_
    refine lv_aload_n hx hb dX6_peek_21 rfl (lv_at hl 0 rfl) ?_
    replace h := bo_o h
    obtain ⟨x16, e17, h⟩ := h
    refine h_get (ci := 25) (k := 1) (v := .int x16) hx hb hts hown hK hR in_X6 rfl (by decide) (fun _ _ => rfl) q712 (fun _ h9 => h9) (gI_o e17) dX6_peek_22 ?_
    replace h := bo_o h
    obtain ⟨a18, e19, h⟩ := h
    subst e19
    replace h := bo_o h
    obtain ⟨x20, e21, h⟩ := h
    refine h_bald hx hb hK hR hS e21 dX6_peek_25 ?_
    refine lv_bipush (v := 32) hx hb dX6_peek_26 (by decide) ?_
    refine lv_icmp_ne (tgt := 44) hx hb dX6_peek_28 (by decide) (fun c22 => ?_) (fun c22 => ?_)
    · replace h := if_o c22 h
      obtain ⟨y, h, ey⟩ := mp_o h
      have ey := kR _ ey.symm
      subst ey
      exact bX6_peek_44 B h  hR hS (lv_sub hl [0] rfl)
    · replace h := it_o c22 h
      refine lv_aload_n hx hb dX6_peek_31 rfl (lv_at hl 0 rfl) ?_
      refine lv_dup hx hb dX6_peek_32 rfl ?_
      replace h := bo_o h
      obtain ⟨x23, e24, h⟩ := h
      refine h_get (ci := 25) (k := 1) (v := .int x23) hx hb hts hown hK hR in_X6 rfl (by decide) (fun _ _ => rfl) q712 (fun _ h9 => h9) (gI_o e24) dX6_peek_33 ?_
      refine lv_iconst (v := 1) hx hb dX6_peek_36 (by decide) ?_
      refine lv_iadd hx hb dX6_peek_37 ?_
      replace h := bo_o h
      obtain ⟨w25, e26, h⟩ := h
      refine h_put (ci := 25) (k := 1) (ty := tyX6 1) hx hb hts hown hK hR hS in_X6 tyX6 tyX6_ok nmX6 rfl (by decide) q712 (fun _ h9 => h9) rfl (tyX6_ok 1 (by decide)) rfl rfl e26 dX6_peek_38 (fun H locs hR hS => ?_)
      refine lv_goto (tgt := 0) hx hb dX6_peek_41 (by decide) ?_
      exact k0 _ (Option.some.inj h).symm H locs ls hR hS (lv_sub hl [0] rfl)
noncomputable def fX6_peek_l0 (v0 : Nat) (w : WH) : Option ((Int32 × WH)) := whileO (fun q => fX6_peek_b0 v0 q) w
theorem lX6_peek_0 {p : Program} {l : Launch} {e : Env} {s : State} {m : MethodId} {args : Array Value} {below : List Frame} {meth : Method} {c : Code} {G : gE} {A : Nat → Prop} {w0 : WH} (B : gB G RX6 cX6_peek 1 (some .int) p s m args meth c) {v0 : Nat} {r : (Int32 × WH)}   : ∀ (w : WH), fX6_peek_l0 v0 w = some r → ∀ (H : Heap) (locs : List Loc) (ls : Array Slot), RepH G A w H → Cu A s w0 w H locs → lv_has ls 1 [(0, .ref v0)] → W p l e (hRm 0 0 w0) s m args below meth c H locs (wC w0 - wC w) (wS w0 - wS w) (hZ below args s G A w0 (some (.int r.1)) r.2) (F0 m 0 ls []) := by
  intro  w h
  refine wh_walk (body := (fun q => fX6_peek_b0 v0 q)) (P := (fun q : (WH) => ∀ (H : Heap) (locs : List Loc) (ls : Array Slot), RepH G A q H → Cu A s w0 q H locs → lv_has ls 1 [(0, .ref v0)] → W p l e (hRm 0 0 w0) s m args below meth c H locs (wC w0 - wC q) (wS w0 - wS q) (hZ below args s G A w0 (some (.int r.1)) r.2) (F0 m 0 ls []))) (r := r) ?_ w h
  intro q y hy hL hr H locs ls hR hS hl
  exact bX6_peek_0 (r := r) B hy (fun a0 e => hL a0 e) (fun q e => hr q e) hR hS hl
noncomputable def fX6_peek (v0 : Nat) (w : WH) : Option ((Int32 × WH)) := fX6_peek_l0 v0 w
theorem mX6_peek {l : Launch} {G : gE} {A : Nat → Prop} {v0 : Nat} {w : WH} {r : (Int32 × WH)} (h : fX6_peek v0 w = some r) : hM l G A yX6_peek cX6_peek 1 (some .int) 0 0 [.ref v0] w (some (.int r.1)) r.2 :=
  h_of (by decide +kernel) (Nat.le_of_ble_eq_true rfl) (fun p e s m args below meth c ls B hnm hR hS hl => lX6_peek_0 B _ h _ _ _ hR hS (lv_sub hl [0] rfl))
noncomputable def fX1_inRange (v0 : Int64) (v2 : Int64) (v4 : Int64) (w : WH) : Option ((Int32 × WH)) :=
  if 0 < lg_cmp v2 v0 then (
    some (0, w)
  ) else (
    if 0 < lg_cmp v0 v4 then (
      some (0, w)
    ) else (
      some (1, w)
    )
  )
theorem bX1_inRange_0 {p : Program} {l : Launch} {e : Env} {s : State} {m : MethodId} {args : Array Value} {below : List Frame} {meth : Method} {c : Code} {H : Heap} {locs : List Loc} {ls : Array Slot} {G : gE} {A : Nat → Prop} {w0 : WH} (B : gB G RX1 cX1_inRange 6 (some .boolean) p s m args meth c) {v0 : Int64} {v2 : Int64} {v4 : Int64} {w : WH} {r : (Int32 × WH)} (h : fX1_inRange v0 v2 v4 w = some r)   (hR : RepH G A w H) (hS : Cu A s w0 w H locs) (hl : lv_has ls 6 [(0, .long v0), (2, .long v2), (4, .long v4)]) : W p l e (hRm 0 0 w0) s m args below meth c H locs (wC w0 - wC w) (wS w0 - wS w) (hZ below args s G A w0 (some (.int r.1)) r.2) (F0 m 0 ls []) := by
  have B0 := B
  obtain ⟨hx, hb, hml, hown, hts, hr, hlk, hK⟩ := B0
  unfold fX1_inRange at h
  refine lv_lload_n hx hb dX1_inRange_0 rfl (lv_at hl 1 rfl) ?_
  refine lv_lload_n hx hb dX1_inRange_1 rfl (lv_at hl 0 rfl) ?_
  refine W.lcmp hx hb dX1_inRange_2 ?_
  refine lv_if_gt (tgt := 17) hx hb dX1_inRange_3 (by decide) (fun c1 => ?_) (fun c1 => ?_)
  · replace h := it_o c1 h
    refine lv_iconst (v := 0) hx hb dX1_inRange_17 (by decide) ?_
    have eR := Option.some.inj h
    subst eR
    exact h_zfin hx hb hr hlk (by show narrow .boolean (.int 0) = .int 0; decide) hR hS dX1_inRange_18
  · replace h := if_o c1 h
    refine lv_lload_n hx hb dX1_inRange_6 rfl (lv_at hl 0 rfl) ?_
    refine lv_lload hx hb dX1_inRange_7 (lv_at hl 2 rfl) ?_
    refine W.lcmp hx hb dX1_inRange_9 ?_
    refine lv_if_gt (tgt := 17) hx hb dX1_inRange_10 (by decide) (fun c2 => ?_) (fun c2 => ?_)
    · replace h := it_o c2 h
      refine lv_iconst (v := 0) hx hb dX1_inRange_17 (by decide) ?_
      have eR := Option.some.inj h
      subst eR
      exact h_zfin hx hb hr hlk (by show narrow .boolean (.int 0) = .int 0; decide) hR hS dX1_inRange_18
    · replace h := if_o c2 h
      refine lv_iconst (v := 1) hx hb dX1_inRange_13 (by decide) ?_
      refine lv_goto (tgt := 18) hx hb dX1_inRange_14 (by decide) ?_
      have eR := Option.some.inj h
      subst eR
      exact h_zfin hx hb hr hlk (by show narrow .boolean (.int 1) = .int 1; decide) hR hS dX1_inRange_18
theorem mX1_inRange {l : Launch} {G : gE} {A : Nat → Prop} {v0 : Int64} {v2 : Int64} {v4 : Int64} {w : WH} {r : (Int32 × WH)} (h : fX1_inRange v0 v2 v4 w = some r) : hM l G A yX1_inRange cX1_inRange 6 (some .boolean) 0 0 [.long v0, .long v2, .long v4] w (some (.int r.1)) r.2 :=
  h_of (by decide +kernel) (Nat.le_of_ble_eq_true rfl) (fun p e s m args below meth c ls B hnm hR hS hl => bX1_inRange_0 B h hR hS hl)
noncomputable def fJ3_init_3_b41 (v0 : Nat) (v1 : Option Nat) (v2 : Option Nat) (v3 : Int32) (w : WH) : Option (WH) :=
  (hPut w v0 26 3 (va_rf v1)).bind fun w1 =>
  (hPut w1 v0 26 0 (va_rf v2)).bind fun w3 =>
  if v3 = 0 then (
    (hPut w3 v0 26 2 (.null)).bind fun w6 =>
    some w6
  ) else (
    some w3
  )
theorem bJ3_init_3_41 {p : Program} {l : Launch} {e : Env} {s : State} {m : MethodId} {args : Array Value} {below : List Frame} {meth : Method} {c : Code} {H : Heap} {locs : List Loc} {ls : Array Slot} {G : gE} {A : Nat → Prop} {w0 : WH} (B : gB G RJ3 cJ3_init_3 5 none p s m args meth c) (hnm : meth.name = "<init>") {v0 : Nat} {v1 : Option Nat} {v2 : Option Nat} {v3 : Int32} {w : WH} {r : WH} (h : fJ3_init_3_b41 v0 v1 v2 v3 w = some r)   (hR : RepH G A w H) (hS : Cu A s w0 w H locs) (hl : lv_has ls 5 [(0, .ref v0), (1, va_rf v1), (2, va_rf v2), (3, .int v3)]) : W p l e (hRm 1 20 w0) s m args below meth c H locs (wC w0 - wC w) (wS w0 - wS w) (hZ below args s G A w0 none r) (F0 m 41 ls []) := by
  have B0 := B
  obtain ⟨hx, hb, hml, hown, hts, hr, hlk, hK⟩ := B0
  unfold fJ3_init_3_b41 at h
  refine lv_aload_n hx hb dJ3_init_3_41 rfl (lv_at hl 0 rfl) ?_
  refine lv_aload_nq hx hb dJ3_init_3_42 rfl (lv_at hl 1 rfl) ?_
  replace h := bo_o h
  obtain ⟨w1, e2, h⟩ := h
  refine h_put (ci := 26) (k := 3) (ty := tyX7 3) hx hb hts hown hK hR hS in_X7 tyX7 tyX7_ok nmX7 rfl (by decide) q473 (fun _ h9 => h9) rfl (tyX7_ok 3 (by decide)) (by cases v1 <;> rfl) (by cases v1 <;> rfl) e2 dJ3_init_3_43 (fun H locs hR hS => ?_)
  refine lv_aload_n hx hb dJ3_init_3_46 rfl (lv_at hl 0 rfl) ?_
  refine lv_aload_nq hx hb dJ3_init_3_47 rfl (lv_at hl 2 rfl) ?_
  replace h := bo_o h
  obtain ⟨w3, e4, h⟩ := h
  refine h_put (ci := 26) (k := 0) (ty := tyX7 0) hx hb hts hown hK hR hS in_X7 tyX7 tyX7_ok nmX7 rfl (by decide) q474 (fun _ h9 => h9) rfl (tyX7_ok 0 (by decide)) (by cases v2 <;> rfl) (by cases v2 <;> rfl) e4 dJ3_init_3_48 (fun H locs hR hS => ?_)
  refine lv_iload_n hx hb dJ3_init_3_51 rfl (lv_at hl 3 rfl) ?_
  refine lv_if_ne (tgt := 60) hx hb dJ3_init_3_52 (by decide) (fun c5 => ?_) (fun c5 => ?_)
  · replace h := if_o c5 h
    have eR := Option.some.inj h
    subst eR
    exact h_vfin hx hb hr hlk hR hS dJ3_init_3_60
  · replace h := it_o c5 h
    refine lv_aload_n hx hb dJ3_init_3_55 rfl (lv_at hl 0 rfl) ?_
    refine lv_null hx hb dJ3_init_3_56 ?_
    replace h := bo_o h
    obtain ⟨w6, e7, h⟩ := h
    refine h_put (ci := 26) (k := 2) (ty := tyX7 2) hx hb hts hown hK hR hS in_X7 tyX7 tyX7_ok nmX7 rfl (by decide) q476 (fun _ h9 => h9) rfl (tyX7_ok 2 (by decide)) rfl rfl e7 dJ3_init_3_57 (fun H locs hR hS => ?_)
    have eR := Option.some.inj h
    subst eR
    exact h_vfin hx hb hr hlk hR hS dJ3_init_3_60
noncomputable def fJ3_init_3 (v0 : Nat) (v1 : Option Nat) (v2 : Option Nat) (v3 : Int32) (v4 : Int32) (w : WH) : Option (WH) :=
  (hPut w v0 26 0 (.ref v0)).bind fun w1 =>
  (hPut w1 v0 26 1 (va_rf (oK (wK w1 22)))).bind fun w3 =>
  (hPut w3 v0 26 2 (va_rf (oK (wK w3 23)))).bind fun w5 =>
  if v4 = 0 then (
    (hPut w5 v0 26 1 (.null)).bind fun w8 =>
    fJ3_init_3_b41 v0 v1 v2 v3 w8
  ) else (
    none
  )
theorem bJ3_init_3_0 {p : Program} {l : Launch} {e : Env} {s : State} {m : MethodId} {args : Array Value} {below : List Frame} {meth : Method} {c : Code} {H : Heap} {locs : List Loc} {ls : Array Slot} {G : gE} {A : Nat → Prop} {w0 : WH} (B : gB G RJ3 cJ3_init_3 5 none p s m args meth c) (hnm : meth.name = "<init>") {v0 : Nat} {v1 : Option Nat} {v2 : Option Nat} {v3 : Int32} {v4 : Int32} {w : WH} {r : WH} (h : fJ3_init_3 v0 v1 v2 v3 v4 w = some r)   (hR : RepH G A w H) (hS : Cu A s w0 w H locs) (hl : lv_has ls 5 [(0, .ref v0), (1, va_rf v1), (2, va_rf v2), (3, .int v3), (4, .int v4)]) : W p l e (hRm 1 20 w0) s m args below meth c H locs (wC w0 - wC w) (wS w0 - wS w) (hZ below args s G A w0 none r) (F0 m 0 ls []) := by
  have B0 := B
  obtain ⟨hx, hb, hml, hown, hts, hr, hlk, hK⟩ := B0
  unfold fJ3_init_3 at h
  refine lv_aload_n hx hb dJ3_init_3_0 rfl (lv_at hl 0 rfl) ?_
  refine W.objInit hx hb hown (hts _ q219) (hts _ q168) (hts _ q169) rfl (by rw [hml]; exact hl.1) rfl dJ3_init_3_1 (Nat.le_of_ble_eq_true rfl) (Nat.le_of_ble_eq_true rfl) ?_
  refine W.eq (g2 := F0 m 4 ls []) rfl ?_
  refine lv_aload_n hx hb dJ3_init_3_4 rfl (lv_at hl 0 rfl) ?_
  refine lv_aload_n hx hb dJ3_init_3_5 rfl (lv_at hl 0 rfl) ?_
  replace h := bo_o h
  obtain ⟨w1, e2, h⟩ := h
  refine h_put (ci := 26) (k := 0) (ty := tyX7 0) hx hb hts hown hK hR hS in_X7 tyX7 tyX7_ok nmX7 rfl (by decide) q474 (fun _ h9 => h9) rfl (tyX7_ok 0 (by decide)) rfl rfl e2 dJ3_init_3_6 (fun H locs hR hS => ?_)
  refine lv_aload_n hx hb dJ3_init_3_9 rfl (lv_at hl 0 rfl) ?_
  refine h_getsQ (i := 0) hx hb hts hown hK hR hS rfl q220 (fun _ h9 => h9) dJ3_init_3_10 ?_
  replace h := bo_o h
  obtain ⟨w3, e4, h⟩ := h
  refine h_put (ci := 26) (k := 1) (ty := tyX7 1) hx hb hts hown hK hR hS in_X7 tyX7 tyX7_ok nmX7 rfl (by decide) q475 (fun _ h9 => h9) rfl (tyX7_ok 1 (by decide)) (by generalize oK (wK w1 22) = rr; cases rr <;> rfl) (by generalize oK (wK w1 22) = rr; cases rr <;> rfl) e4 dJ3_init_3_13 (fun H locs hR hS => ?_)
  refine lv_aload_n hx hb dJ3_init_3_16 rfl (lv_at hl 0 rfl) ?_
  refine h_getsQ (i := 1) hx hb hts hown hK hR hS rfl q222 (fun _ h9 => h9) dJ3_init_3_17 ?_
  replace h := bo_o h
  obtain ⟨w5, e6, h⟩ := h
  refine h_put (ci := 26) (k := 2) (ty := tyX7 2) hx hb hts hown hK hR hS in_X7 tyX7 tyX7_ok nmX7 rfl (by decide) q476 (fun _ h9 => h9) rfl (tyX7_ok 2 (by decide)) (by generalize oK (wK w3 23) = rr; cases rr <;> rfl) (by generalize oK (wK w3 23) = rr; cases rr <;> rfl) e6 dJ3_init_3_20 (fun H locs hR hS => ?_)
  refine lv_iload hx hb dJ3_init_3_23 (lv_at hl 4 rfl) ?_
  refine lv_if_eq (tgt := 36) hx hb dJ3_init_3_25 (by decide) (fun c7 => ?_) (fun c7 => ?_)
  · replace h := it_o c7 h
    refine lv_aload_n hx hb dJ3_init_3_36 rfl (lv_at hl 0 rfl) ?_
    refine lv_null hx hb dJ3_init_3_37 ?_
    replace h := bo_o h
    obtain ⟨w8, e9, h⟩ := h
    refine h_put (ci := 26) (k := 1) (ty := tyX7 1) hx hb hts hown hK hR hS in_X7 tyX7 tyX7_ok nmX7 rfl (by decide) q475 (fun _ h9 => h9) rfl (tyX7_ok 1 (by decide)) rfl rfl e9 dJ3_init_3_38 (fun H locs hR hS => ?_)
    exact bJ3_init_3_41 B hnm h  hR hS (lv_sub hl [0, 1, 2, 3] rfl)
  · replace h := if_o c7 h
    refine lv_aload_n hx hb dJ3_init_3_28 rfl (lv_at hl 0 rfl) ?_
    exact (nomatch h)
theorem mJ3_init_3 {l : Launch} {G : gE} {A : Nat → Prop} {v0 : Nat} {v1 : Option Nat} {v2 : Option Nat} {v3 : Int32} {v4 : Int32} {w : WH} {r : WH} (h : fJ3_init_3 v0 v1 v2 v3 v4 w = some r) : hM l G A yJ3_init_3 cJ3_init_3 5 none 1 20 [.ref v0, va_rf v1, va_rf v2, .int v3, .int v4] w none r :=
  h_of (by decide +kernel) (by cases v1 <;> cases v2 <;> exact Nat.le_of_ble_eq_true rfl) (fun p e s m args below meth c ls B hnm hR hS hl => bJ3_init_3_0 B hnm h hR hS (Eq.mp (congrArg (lv_has ls 5) (by cases v1 <;> cases v2 <;> rfl)) hl))
noncomputable def fJ4_init_2 (v0 : Nat) (v1 : Option Nat) (v2 : Option Nat) (v3 : Int32) (v4 : Int32) (w : WH) : Option (WH) :=
  (fJ3_init_3 v0 v1 v2 v3 v4 w).bind fun w1 =>
  some w1
theorem bJ4_init_2_0 {p : Program} {l : Launch} {e : Env} {s : State} {m : MethodId} {args : Array Value} {below : List Frame} {meth : Method} {c : Code} {H : Heap} {locs : List Loc} {ls : Array Slot} {G : gE} {A : Nat → Prop} {w0 : WH} (B : gB G RJ4 cJ4_init_2 5 none p s m args meth c) (hnm : meth.name = "<init>") {v0 : Nat} {v1 : Option Nat} {v2 : Option Nat} {v3 : Int32} {v4 : Int32} {w : WH} {r : WH} (h : fJ4_init_2 v0 v1 v2 v3 v4 w = some r)   (hR : RepH G A w H) (hS : Cu A s w0 w H locs) (hl : lv_has ls 5 [(0, .ref v0), (1, va_rf v1), (2, va_rf v2), (3, .int v3), (4, .int v4)]) : W p l e (hRm 2 44 w0) s m args below meth c H locs (wC w0 - wC w) (wS w0 - wS w) (hZ below args s G A w0 none r) (F0 m 0 ls []) := by
  have B0 := B
  obtain ⟨hx, hb, hml, hown, hts, hr, hlk, hK⟩ := B0
  unfold fJ4_init_2 at h
  refine lv_aload_n hx hb dJ4_init_2_0 rfl (lv_at hl 0 rfl) ?_
  refine lv_aload_nq hx hb dJ4_init_2_1 rfl (lv_at hl 1 rfl) ?_
  refine lv_aload_nq hx hb dJ4_init_2_2 rfl (lv_at hl 2 rfl) ?_
  refine lv_iload_n hx hb dJ4_init_2_3 rfl (lv_at hl 3 rfl) ?_
  refine lv_iload hx hb dJ4_init_2_4 (lv_at hl 4 rfl) ?_
  replace h := bo_o h
  obtain ⟨w1, e2, h⟩ := h
  refine h_callI 4  (As := [va_rf v1, va_rf v2, .int v3, .int v4]) (rest := []) (w' := w1) hx hb hml hown hts hK hR hS (Nat.le_refl _) (Nat.le_refl _) (mJ3_init_3 e2) (lw_meth q766) q118 q764 q765 rfl (by decide +kernel) (Nat.le_of_ble_eq_true rfl) (Nat.le_of_ble_eq_true rfl) rfl hl.1 (Nat.le_of_ble_eq_true rfl) dJ4_init_2_6 rfl (fun H locs hR hS => ?_)
  have eR := Option.some.inj h
  subst eR
  exact h_vfin hx hb hr hlk hR hS dJ4_init_2_9
theorem mJ4_init_2 {l : Launch} {G : gE} {A : Nat → Prop} {v0 : Nat} {v1 : Option Nat} {v2 : Option Nat} {v3 : Int32} {v4 : Int32} {w : WH} {r : WH} (h : fJ4_init_2 v0 v1 v2 v3 v4 w = some r) : hM l G A yJ4_init_2 cJ4_init_2 5 none 2 44 [.ref v0, va_rf v1, va_rf v2, .int v3, .int v4] w none r :=
  h_of (by decide +kernel) (by cases v1 <;> cases v2 <;> exact Nat.le_of_ble_eq_true rfl) (fun p e s m args below meth c ls B hnm hR hS hl => bJ4_init_2_0 B hnm h hR hS (Eq.mp (congrArg (lv_has ls 5) (by cases v1 <;> cases v2 <;> rfl)) hl))
noncomputable def fX7_init (v0 : Nat) (v1 : Int32) (v2 : Int32) (w : WH) : Option (WH) :=
  (fJ4_init_2 v0 none none 0 0 w).bind fun w1 =>
  (hPut w1 v0 26 6 (.int v1)).bind fun w3 =>
  (hPut w3 v0 26 7 (.int v2)).bind fun w5 =>
  some w5
theorem bX7_init_0 {p : Program} {l : Launch} {e : Env} {s : State} {m : MethodId} {args : Array Value} {below : List Frame} {meth : Method} {c : Code} {H : Heap} {locs : List Loc} {ls : Array Slot} {G : gE} {A : Nat → Prop} {w0 : WH} (B : gB G RX7 cX7_init 3 none p s m args meth c) (hnm : meth.name = "<init>") {v0 : Nat} {v1 : Int32} {v2 : Int32} {w : WH} {r : WH} (h : fX7_init v0 v1 v2 w = some r)   (hR : RepH G A w H) (hS : Cu A s w0 w H locs) (hl : lv_has ls 3 [(0, .ref v0), (1, .int v1), (2, .int v2)]) : W p l e (hRm 3 68 w0) s m args below meth c H locs (wC w0 - wC w) (wS w0 - wS w) (hZ below args s G A w0 none r) (F0 m 0 ls []) := by
  have B0 := B
  obtain ⟨hx, hb, hml, hown, hts, hr, hlk, hK⟩ := B0
  unfold fX7_init at h
  refine lv_aload_n hx hb dX7_init_0 rfl (lv_at hl 0 rfl) ?_
  refine lv_null hx hb dX7_init_1 ?_
  refine lv_null hx hb dX7_init_2 ?_
  refine lv_iconst (v := 0) hx hb dX7_init_3 (by decide) ?_
  refine lv_iconst (v := 0) hx hb dX7_init_4 (by decide) ?_
  replace h := bo_o h
  obtain ⟨w1, e2, h⟩ := h
  refine h_callI 4  (As := [.null, .null, .int 0, .int 0]) (rest := []) (w' := w1) hx hb hml hown hts hK hR hS (Nat.le_refl _) (Nat.le_refl _) (mJ4_init_2 e2) (lw_meth q763) q119 q761 q762 rfl (by decide +kernel) (Nat.le_of_ble_eq_true rfl) (Nat.le_of_ble_eq_true rfl) rfl hl.1 (Nat.le_of_ble_eq_true rfl) dX7_init_5 rfl (fun H locs hR hS => ?_)
  refine lv_aload_n hx hb dX7_init_8 rfl (lv_at hl 0 rfl) ?_
  refine lv_iload_n hx hb dX7_init_9 rfl (lv_at hl 1 rfl) ?_
  replace h := bo_o h
  obtain ⟨w3, e4, h⟩ := h
  refine h_putF (ci := 26) (k := 6) (ty := tyX7 6) hx hb hts hown hK hR hS in_X7 tyX7 tyX7_ok nmX7 rfl (by decide) q767 (fun _ h9 => h9) rfl hnm rfl (tyX7_ok 6 (by decide)) rfl rfl e4 dX7_init_10 (fun H locs hR hS => ?_)
  refine lv_aload_n hx hb dX7_init_13 rfl (lv_at hl 0 rfl) ?_
  refine lv_iload_n hx hb dX7_init_14 rfl (lv_at hl 2 rfl) ?_
  replace h := bo_o h
  obtain ⟨w5, e6, h⟩ := h
  refine h_putF (ci := 26) (k := 7) (ty := tyX7 7) hx hb hts hown hK hR hS in_X7 tyX7 tyX7_ok nmX7 rfl (by decide) q769 (fun _ h9 => h9) rfl hnm rfl (tyX7_ok 7 (by decide)) rfl rfl e6 dX7_init_15 (fun H locs hR hS => ?_)
  have eR := Option.some.inj h
  subst eR
  exact h_vfin hx hb hr hlk hR hS dX7_init_18
theorem mX7_init {l : Launch} {G : gE} {A : Nat → Prop} {v0 : Nat} {v1 : Int32} {v2 : Int32} {w : WH} {r : WH} (h : fX7_init v0 v1 v2 w = some r) : hM l G A yX7_init cX7_init 3 none 3 68 [.ref v0, .int v1, .int v2] w none r :=
  h_of (by decide +kernel) (Nat.le_of_ble_eq_true rfl) (fun p e s m args below meth c ls B hnm hR hS hl => bX7_init_0 B hnm h hR hS hl)
noncomputable def fX6_require (v0 : Nat) (v1 : Int32) (v2 : Int32) (w : WH) : Option (((Sum Unit (Nat × Nat)) × WH)) :=
  if v1 = 0 then (
    b2_ (hNw w 8 26 [.null, .null, .null, .null, .null, .int 0, .int 0, .int 0]) fun a2 w3 =>
    (gI w3 v0 25 2).bind fun x5 =>
    (fX7_init a2 v2 x5 w3).bind fun w7 =>
    (hIs w7 a2 26).bind fun _ =>
    some (.inr (2, a2), w7)
  ) else (
    some (.inl (), w)
  )
theorem bX6_require_0 {p : Program} {l : Launch} {e : Env} {s : State} {m : MethodId} {args : Array Value} {below : List Frame} {meth : Method} {c : Code} {H : Heap} {locs : List Loc} {ls : Array Slot} {G : gE} {A : Nat → Prop} {w0 : WH} (B : gB G RX6 cX6_require 3 none p s m args meth c) (hT : ∀ x ∈ c.exceptionTable.toList, False) (hl0 : l.stackTraces = false) {v0 : Nat} {v1 : Int32} {v2 : Int32} {w : WH} {r : ((Sum Unit (Nat × Nat)) × WH)} (h : fX6_require v0 v1 v2 w = some r)   (hR : RepH G A w H) (hS : Cu A s w0 w H locs) (hl : lv_has ls 3 [(0, .ref v0), (1, .int v1), (2, .int v2)]) : W p l e (hRm 4 90 w0) s m args below meth c H locs (wC w0 - wC w) (wS w0 - wS w) (hZX below args s G A w0 (oV r.1) r.2) (F0 m 0 ls []) := by
  have B0 := B
  obtain ⟨hx, hb, hml, hown, hts, hr, hlk, hK⟩ := B0
  unfold fX6_require at h
  refine lv_iload_n hx hb dX6_require_0 rfl (lv_at hl 1 rfl) ?_
  refine lv_if_ne (tgt := 17) hx hb dX6_require_1 (by decide) (fun c1 => ?_) (fun c1 => ?_)
  · replace h := if_o c1 h
    have eR := Option.some.inj h
    subst eR
    exact h_vfinX hx hb hr hlk hR hS dX6_require_17
  · replace h := it_o c1 h
    replace h := b2_o h
    obtain ⟨a2, w3, e4, h⟩ := h
    refine h_new (ci := 26) (fs := [.null, .null, .null, .null, .null, .int 0, .int 0, .int 0]) hx hb hts hown hK hR hS (Nat.le_refl _) (Nat.le_refl _) in_X7 tyX7 tyX7_ok rfl (by decide +kernel) q749 q750 q139 e4 dX6_require_4 (fun H locs hR hS => ?_)
    refine lv_dup hx hb dX6_require_7 rfl ?_
    refine lv_iload_n hx hb dX6_require_8 rfl (lv_at hl 2 rfl) ?_
    refine lv_aload_n hx hb dX6_require_9 rfl (lv_at hl 0 rfl) ?_
    replace h := bo_o h
    obtain ⟨x5, e6, h⟩ := h
    refine h_get (ci := 25) (k := 2) (v := .int x5) hx hb hts hown hK hR in_X6 rfl (by decide) (fun _ _ => rfl) q713 (fun _ h9 => h9) (gI_o e6) dX6_require_10 ?_
    replace h := bo_o h
    obtain ⟨w7, e8, h⟩ := h
    refine h_callI 2  (As := [.int v2, .int x5]) (rest := [.ref a2]) (w' := w7) hx hb hml hown hts hK hR hS (Nat.le_refl _) (Nat.le_refl _) (mX7_init e8) (lw_meth q760) q139 q758 q759 rfl (by decide +kernel) (Nat.le_of_ble_eq_true rfl) (Nat.le_of_ble_eq_true rfl) rfl hl.1 (Nat.le_of_ble_eq_true rfl) dX6_require_13 rfl (fun H locs hR hS => ?_)
    replace h := bo_o h
    obtain ⟨_, e9, h⟩ := h
    have eR := Option.some.inj h
    subst eR
    exact h_athrow (ci := 26) hx hb hK hR hS rfl (hIs_c (by decide) e9) hT hlk dX6_require_16
theorem mX6_require {l : Launch} {G : gE} {A : Nat → Prop} {v0 : Nat} {v1 : Int32} {v2 : Int32} {w : WH} {r : ((Sum Unit (Nat × Nat)) × WH)} (hl0 : l.stackTraces = false) (h : fX6_require v0 v1 v2 w = some r) : hMX l G A yX6_require cX6_require 3 none 4 90 [.ref v0, .int v1, .int v2] w (oV r.1) r.2 :=
  h_ofX (by decide +kernel) (Nat.le_of_ble_eq_true rfl) (fun p e s m args below meth c ls B hnm hT hR hS hl => bX6_require_0 B hT hl0 h hR hS hl)
noncomputable def fX6_isAt_b37  (w : WH) : Option ((Int32 × WH)) :=
  some (1, w)
theorem bX6_isAt_37 {p : Program} {l : Launch} {e : Env} {s : State} {m : MethodId} {args : Array Value} {below : List Frame} {meth : Method} {c : Code} {H : Heap} {locs : List Loc} {ls : Array Slot} {G : gE} {A : Nat → Prop} {w0 : WH} (B : gB G RX6 cX6_isAt 3 (some .boolean) p s m args meth c)  {w : WH} {r : (Int32 × WH)} (h : fX6_isAt_b37 w = some r)   (hR : RepH G A w H) (hS : Cu A s w0 w H locs) (hl : lv_has ls 3 []) : W p l e (hRm 1 25 w0) s m args below meth c H locs (wC w0 - wC w) (wS w0 - wS w) (hZ below args s G A w0 (some (.int r.1)) r.2) (F0 m 37 ls []) := by
  have B0 := B
  obtain ⟨hx, hb, hml, hown, hts, hr, hlk, hK⟩ := B0
  unfold fX6_isAt_b37 at h
  refine lv_iconst (v := 1) hx hb dX6_isAt_37 (by decide) ?_
  refine lv_goto (tgt := 42) hx hb dX6_isAt_38 (by decide) ?_
  have eR := Option.some.inj h
  subst eR
  exact h_zfin hx hb hr hlk (by show narrow .boolean (.int 1) = .int 1; decide) hR hS dX6_isAt_42
noncomputable def fX6_isAt (v0 : Nat) (v1 : Int32) (v2 : Int32) (w : WH) : Option ((Int32 × WH)) :=
  (gI w v0 25 1).bind fun x1 =>
  (gR w v0 25 4).bind fun x3 =>
  x3.bind fun a5 =>
  (gI w a5 17 5).bind fun x7 =>
  if x7 ≤ x1 then (
    some (0, w)
  ) else (
    (gR w v0 25 4).bind fun x10 =>
    x10.bind fun a12 =>
    (gR w a12 17 4).bind fun x14 =>
    (gI w v0 25 1).bind fun x16 =>
    x14.bind fun a18 =>
    (ldI w a18 2 x16).bind fun x20 =>
    b2_ (fX1_inRange (x20.toInt64) (v1.toInt64) (v2.toInt64) w) fun x24 w22 =>
    if x24 = 0 then (
      some (0, w22)
    ) else (
      fX6_isAt_b37 w22
    )
  )
theorem bX6_isAt_0 {p : Program} {l : Launch} {e : Env} {s : State} {m : MethodId} {args : Array Value} {below : List Frame} {meth : Method} {c : Code} {H : Heap} {locs : List Loc} {ls : Array Slot} {G : gE} {A : Nat → Prop} {w0 : WH} (B : gB G RX6 cX6_isAt 3 (some .boolean) p s m args meth c) {v0 : Nat} {v1 : Int32} {v2 : Int32} {w : WH} {r : (Int32 × WH)} (h : fX6_isAt v0 v1 v2 w = some r)   (hR : RepH G A w H) (hS : Cu A s w0 w H locs) (hl : lv_has ls 3 [(0, .ref v0), (1, .int v1), (2, .int v2)]) : W p l e (hRm 1 25 w0) s m args below meth c H locs (wC w0 - wC w) (wS w0 - wS w) (hZ below args s G A w0 (some (.int r.1)) r.2) (F0 m 0 ls []) := by
  have B0 := B
  obtain ⟨hx, hb, hml, hown, hts, hr, hlk, hK⟩ := B0
  unfold fX6_isAt at h
  refine lv_aload_n hx hb dX6_isAt_0 rfl (lv_at hl 0 rfl) ?_
  replace h := bo_o h
  obtain ⟨x1, e2, h⟩ := h
  refine h_get (ci := 25) (k := 1) (v := .int x1) hx hb hts hown hK hR in_X6 rfl (by decide) (fun _ _ => rfl) q712 (fun _ h9 => h9) (gI_o e2) dX6_isAt_1 ?_
  refine lv_aload_n hx hb dX6_isAt_4 rfl (lv_at hl 0 rfl) ?_
  replace h := bo_o h
  obtain ⟨x3, e4, h⟩ := h
  refine h_get (ci := 25) (k := 4) (v := va_rf x3) hx hb hts hown hK hR in_X6 rfl (by decide) (fun _ _ => rfl) q716 (fun _ h9 => h9) (gR_o e4) dX6_isAt_5 ?_
  replace h := bo_o h
  obtain ⟨a5, e6, h⟩ := h
  subst e6
  replace h := bo_o h
  obtain ⟨x7, e8, h⟩ := h
  refine h_getN (ci := 17) (k := 5) (v := .int x7) hx hb hts hown hK hR in_X1 rfl (by decide) (fun _ _ => rfl) (hK.fn 27 rfl) (fun _ h9 => h9) (gI_o e8) dX6_isAt_8 ?_
  refine lv_icmp_ge (tgt := 41) hx hb dX6_isAt_11 (by decide) (fun c9 => ?_) (fun c9 => ?_)
  · replace h := it_o c9 h
    refine lv_iconst (v := 0) hx hb dX6_isAt_41 (by decide) ?_
    have eR := Option.some.inj h
    subst eR
    exact h_zfin hx hb hr hlk (by show narrow .boolean (.int 0) = .int 0; decide) hR hS dX6_isAt_42
  · replace h := if_o c9 h
    refine lv_aload_n hx hb dX6_isAt_14 rfl (lv_at hl 0 rfl) ?_
    replace h := bo_o h
    obtain ⟨x10, e11, h⟩ := h
    refine h_get (ci := 25) (k := 4) (v := va_rf x10) hx hb hts hown hK hR in_X6 rfl (by decide) (fun _ _ => rfl) q716 (fun _ h9 => h9) (gR_o e11) dX6_isAt_15 ?_
    replace h := bo_o h
    obtain ⟨a12, e13, h⟩ := h
    subst e13
    replace h := bo_o h
    obtain ⟨x14, e15, h⟩ := h
    refine h_getN (ci := 17) (k := 4) (v := va_rf x14) hx hb hts hown hK hR in_X1 rfl (by decide) (fun _ _ => rfl) (hK.fn 26 rfl) (fun _ h9 => h9) (gR_o e15) dX6_isAt_18 ?_
    refine lv_aload_n hx hb dX6_isAt_21 rfl (lv_at hl 0 rfl) ?_
    replace h := bo_o h
    obtain ⟨x16, e17, h⟩ := h
    refine h_get (ci := 25) (k := 1) (v := .int x16) hx hb hts hown hK hR in_X6 rfl (by decide) (fun _ _ => rfl) q712 (fun _ h9 => h9) (gI_o e17) dX6_isAt_22 ?_
    replace h := bo_o h
    obtain ⟨a18, e19, h⟩ := h
    subst e19
    replace h := bo_o h
    obtain ⟨x20, e21, h⟩ := h
    refine h_bald hx hb hK hR hS e21 dX6_isAt_25 ?_
    refine lv_i2l hx hb dX6_isAt_26 rfl ?_
    refine lv_iload_n hx hb dX6_isAt_27 rfl (lv_at hl 1 rfl) ?_
    refine lv_i2l hx hb dX6_isAt_28 rfl ?_
    refine lv_iload_n hx hb dX6_isAt_29 rfl (lv_at hl 2 rfl) ?_
    refine lv_i2l hx hb dX6_isAt_30 rfl ?_
    replace h := b2_o h
    obtain ⟨x24, w22, e23, h⟩ := h
    refine h_callSN 3  (As := [.long (x20.toInt64), .long (v1.toInt64), .long (v2.toInt64)]) (rest := []) (v := (some (.int x24))) (w' := w22) (st1 := [.int x24]) hx hb hml hown hts hK hR hS (Nat.le_refl _) (Nat.le_refl _) (mX1_inRange e23) (lw_meth q744) (hK.mn 2 rfl) q112 q743 (by decide +kernel) (Nat.le_of_ble_eq_true rfl) (Nat.le_of_ble_eq_true rfl) rfl hl.1 (Nat.le_of_ble_eq_true rfl) dX6_isAt_31 rfl rfl (fun H locs hR hS => ?_)
    refine lv_if_eq (tgt := 41) hx hb dX6_isAt_34 (by decide) (fun c25 => ?_) (fun c25 => ?_)
    · replace h := it_o c25 h
      refine lv_iconst (v := 0) hx hb dX6_isAt_41 (by decide) ?_
      have eR := Option.some.inj h
      subst eR
      exact h_zfin hx hb hr hlk (by show narrow .boolean (.int 0) = .int 0; decide) hR hS dX6_isAt_42
    · replace h := if_o c25 h
      exact bX6_isAt_37 B h  hR hS (lv_sub hl [] rfl)
theorem mX6_isAt {l : Launch} {G : gE} {A : Nat → Prop} {v0 : Nat} {v1 : Int32} {v2 : Int32} {w : WH} {r : (Int32 × WH)} (h : fX6_isAt v0 v1 v2 w = some r) : hM l G A yX6_isAt cX6_isAt 3 (some .boolean) 1 25 [.ref v0, .int v1, .int v2] w (some (.int r.1)) r.2 :=
  h_of (by decide +kernel) (Nat.le_of_ble_eq_true rfl) (fun p e s m args below meth c ls B hnm hR hS hl => bX6_isAt_0 B h hR hS hl)
noncomputable def fJ7_getValue (v0 : Nat) (w : WH) : Option ((Option Nat × WH)) :=
  (gR w v0 15 0).bind fun x1 =>
  some (x1, w)
theorem bJ7_getValue_0 {p : Program} {l : Launch} {e : Env} {s : State} {m : MethodId} {args : Array Value} {below : List Frame} {meth : Method} {c : Code} {H : Heap} {locs : List Loc} {ls : Array Slot} {G : gE} {A : Nat → Prop} {w0 : WH} (B : gB G RJ7 cJ7_getValue 1 (some (.array .byte)) p s m args meth c) {v0 : Nat} {w : WH} {r : (Option Nat × WH)} (h : fJ7_getValue v0 w = some r)   (hR : RepH G A w H) (hS : Cu A s w0 w H locs) (hl : lv_has ls 1 [(0, .ref v0)]) : W p l e (hRm 0 0 w0) s m args below meth c H locs (wC w0 - wC w) (wS w0 - wS w) (hZ below args s G A w0 (some (va_rf r.1)) r.2) (F0 m 0 ls []) := by
  have B0 := B
  obtain ⟨hx, hb, hml, hown, hts, hr, hlk, hK⟩ := B0
  unfold fJ7_getValue at h
  refine lv_aload_n hx hb dJ7_getValue_0 rfl (lv_at hl 0 rfl) ?_
  replace h := bo_o h
  obtain ⟨x1, e2, h⟩ := h
  refine h_get (ci := 15) (k := 0) (v := va_rf x1) hx hb hts hown hK hR in_J8 rfl (by decide) (fun _ _ => rfl) q256 (fun _ h9 => h9) (gR_o e2) dJ7_getValue_1 ?_
  have eR := Option.some.inj h
  subst eR
  exact h_afin (x := x1) hx hb hr hlk (by first | exact Or.inl ⟨_, rfl⟩ | exact Or.inr ⟨_, rfl⟩) hR hS dJ7_getValue_4
theorem mJ7_getValue {l : Launch} {G : gE} {A : Nat → Prop} {v0 : Nat} {w : WH} {r : (Option Nat × WH)} (h : fJ7_getValue v0 w = some r) : hM l G A yJ7_getValue cJ7_getValue 1 (some (.array .byte)) 0 0 [.ref v0] w (some (va_rf r.1)) r.2 :=
  h_of (by decide +kernel) (Nat.le_of_ble_eq_true rfl) (fun p e s m args below meth c ls B hnm hR hS hl => bJ7_getValue_0 B h hR hS hl)
noncomputable def fJ7_length (v0 : Nat) (w : WH) : Option ((Int32 × WH)) :=
  (gI w v0 15 3).bind fun x1 =>
  some (x1, w)
theorem bJ7_length_0 {p : Program} {l : Launch} {e : Env} {s : State} {m : MethodId} {args : Array Value} {below : List Frame} {meth : Method} {c : Code} {H : Heap} {locs : List Loc} {ls : Array Slot} {G : gE} {A : Nat → Prop} {w0 : WH} (B : gB G RJ7 cJ7_length 1 (some .int) p s m args meth c) {v0 : Nat} {w : WH} {r : (Int32 × WH)} (h : fJ7_length v0 w = some r)   (hR : RepH G A w H) (hS : Cu A s w0 w H locs) (hl : lv_has ls 1 [(0, .ref v0)]) : W p l e (hRm 0 0 w0) s m args below meth c H locs (wC w0 - wC w) (wS w0 - wS w) (hZ below args s G A w0 (some (.int r.1)) r.2) (F0 m 0 ls []) := by
  have B0 := B
  obtain ⟨hx, hb, hml, hown, hts, hr, hlk, hK⟩ := B0
  unfold fJ7_length at h
  refine lv_aload_n hx hb dJ7_length_0 rfl (lv_at hl 0 rfl) ?_
  replace h := bo_o h
  obtain ⟨x1, e2, h⟩ := h
  refine h_get (ci := 15) (k := 3) (v := .int x1) hx hb hts hown hK hR in_J8 rfl (by decide) (fun _ _ => rfl) q260 (fun _ h9 => h9) (gI_o e2) dJ7_length_1 ?_
  have eR := Option.some.inj h
  subst eR
  exact h_ifin hx hb hr hlk hR hS dJ7_length_4
theorem mJ7_length {l : Launch} {G : gE} {A : Nat → Prop} {v0 : Nat} {w : WH} {r : (Int32 × WH)} (h : fJ7_length v0 w = some r) : hM l G A yJ7_length cJ7_length 1 (some .int) 0 0 [.ref v0] w (some (.int r.1)) r.2 :=
  h_of (by decide +kernel) (Nat.le_of_ble_eq_true rfl) (fun p e s m args below meth c ls B hnm hR hS hl => bJ7_length_0 B h hR hS hl)
noncomputable def fJ8_length (v0 : Nat) (w : WH) : Option ((Int32 × WH)) :=
  (hIs w v0 15).bind fun _ =>
  b2_ (fJ7_length v0 w) fun x4 w1 =>
  some (x4, w1)
theorem bJ8_length_0 {p : Program} {l : Launch} {e : Env} {s : State} {m : MethodId} {args : Array Value} {below : List Frame} {meth : Method} {c : Code} {H : Heap} {locs : List Loc} {ls : Array Slot} {G : gE} {A : Nat → Prop} {w0 : WH} (B : gB G RJ8 cJ8_length 1 (some .int) p s m args meth c) {v0 : Nat} {w : WH} {r : (Int32 × WH)} (h : fJ8_length v0 w = some r)   (hR : RepH G A w H) (hS : Cu A s w0 w H locs) (hl : lv_has ls 1 [(0, .ref v0)]) : W p l e (hRm 1 20 w0) s m args below meth c H locs (wC w0 - wC w) (wS w0 - wS w) (hZ below args s G A w0 (some (.int r.1)) r.2) (F0 m 0 ls []) := by
  have B0 := B
  obtain ⟨hx, hb, hml, hown, hts, hr, hlk, hK⟩ := B0
  unfold fJ8_length at h
  refine lv_aload_n hx hb dJ8_length_0 rfl (lv_at hl 0 rfl) ?_
  replace h := bo_o h
  obtain ⟨_, e2, h⟩ := h
  replace h := b2_o h
  obtain ⟨x4, w1, e3, h⟩ := h
  refine h_callSU 0 (ci := 15) (As := []) (rest := []) (v := (some (.int x4))) (w' := w1) (st1 := [.int x4]) hx hb hml hown hts hK hR hS (Nat.le_refl _) (Nat.le_refl _) rfl e2 (mJ7_length e3) (lw_app (a := [.methodLink _ _ _, .sameMethod _ _ _ _, .superclass _ _, .instanceMethod _, .initialized _]) (lw_5 q441 q437 q269 q436 q122) (lw_meth q442)) (by decide +kernel) (Nat.le_of_ble_eq_true rfl) (Nat.le_of_ble_eq_true rfl) rfl hl.1 (Nat.le_of_ble_eq_true rfl) dJ8_length_1 rfl rfl (fun H locs hR hS => ?_)
  have eR := Option.some.inj h
  subst eR
  exact h_ifin hx hb hr hlk hR hS dJ8_length_4
theorem mJ8_length {l : Launch} {G : gE} {A : Nat → Prop} {v0 : Nat} {w : WH} {r : (Int32 × WH)} (h : fJ8_length v0 w = some r) : hM l G A yJ8_length cJ8_length 1 (some .int) 1 20 [.ref v0] w (some (.int r.1)) r.2 :=
  h_of (by decide +kernel) (Nat.le_of_ble_eq_true rfl) (fun p e s m args below meth c ls B hnm hR hS hl => bJ8_length_0 B h hR hS hl)
noncomputable def fJ7_isLatin1 (v0 : Nat) (w : WH) : Option ((Int32 × WH)) :=
  if (1 : Int32) = 0 then (
    some (0, w)
  ) else (
    (gI w v0 15 1).bind fun x2 =>
    if x2 = 0 then (
      some (1, w)
    ) else (
      some (0, w)
    )
  )
theorem bJ7_isLatin1_0 {p : Program} {l : Launch} {e : Env} {s : State} {m : MethodId} {args : Array Value} {below : List Frame} {meth : Method} {c : Code} {H : Heap} {locs : List Loc} {ls : Array Slot} {G : gE} {A : Nat → Prop} {w0 : WH} (B : gB G RJ7 cJ7_isLatin1 1 (some .boolean) p s m args meth c) {v0 : Nat} {w : WH} {r : (Int32 × WH)} (h : fJ7_isLatin1 v0 w = some r)   (hR : RepH G A w H) (hS : Cu A s w0 w H locs) (hl : lv_has ls 1 [(0, .ref v0)]) : W p l e (hRm 0 0 w0) s m args below meth c H locs (wC w0 - wC w) (wS w0 - wS w) (hZ below args s G A w0 (some (.int r.1)) r.2) (F0 m 0 ls []) := by
  have B0 := B
  obtain ⟨hx, hb, hml, hown, hts, hr, hlk, hK⟩ := B0
  unfold fJ7_isLatin1 at h
  refine h_gets (v := .int 1) hx hb hts hown hR hS (hK.2.2.2.1 _ (List.mem_of_getElem? (i := 0) rfl)) q247 (fun _ h9 => h9) dJ7_isLatin1_0 ?_
  refine lv_if_eq (tgt := 17) hx hb dJ7_isLatin1_3 (by decide) (fun c1 => ?_) (fun c1 => ?_)
  · replace h := it_o c1 h
    refine lv_iconst (v := 0) hx hb dJ7_isLatin1_17 (by decide) ?_
    have eR := Option.some.inj h
    subst eR
    exact h_zfin hx hb hr hlk (by show narrow .boolean (.int 0) = .int 0; decide) hR hS dJ7_isLatin1_18
  · replace h := if_o c1 h
    refine lv_aload_n hx hb dJ7_isLatin1_6 rfl (lv_at hl 0 rfl) ?_
    replace h := bo_o h
    obtain ⟨x2, e3, h⟩ := h
    refine h_get (ci := 15) (k := 1) (v := .int x2) hx hb hts hown hK hR in_J8 rfl (by decide) (fun _ _ => rfl) q257 (fun _ h9 => h9) (gI_o e3) dJ7_isLatin1_7 ?_
    refine lv_if_ne (tgt := 17) hx hb dJ7_isLatin1_10 (by decide) (fun c4 => ?_) (fun c4 => ?_)
    · replace h := if_o c4 h
      refine lv_iconst (v := 0) hx hb dJ7_isLatin1_17 (by decide) ?_
      have eR := Option.some.inj h
      subst eR
      exact h_zfin hx hb hr hlk (by show narrow .boolean (.int 0) = .int 0; decide) hR hS dJ7_isLatin1_18
    · replace h := it_o c4 h
      refine lv_iconst (v := 1) hx hb dJ7_isLatin1_13 (by decide) ?_
      refine lv_goto (tgt := 18) hx hb dJ7_isLatin1_14 (by decide) ?_
      have eR := Option.some.inj h
      subst eR
      exact h_zfin hx hb hr hlk (by show narrow .boolean (.int 1) = .int 1; decide) hR hS dJ7_isLatin1_18
theorem mJ7_isLatin1 {l : Launch} {G : gE} {A : Nat → Prop} {v0 : Nat} {w : WH} {r : (Int32 × WH)} (h : fJ7_isLatin1 v0 w = some r) : hM l G A yJ7_isLatin1 cJ7_isLatin1 1 (some .boolean) 0 0 [.ref v0] w (some (.int r.1)) r.2 :=
  h_of (by decide +kernel) (Nat.le_of_ble_eq_true rfl) (fun p e s m args below meth c ls B hnm hR hS hl => bJ7_isLatin1_0 B h hR hS hl)
noncomputable def fJ13_checkLength (v0 : Int32) (v1 : Int32) (w : WH) : Option (WH) :=
  if v0 ≤ v1 then (
    some w
  ) else (
    none
  )
theorem bJ13_checkLength_0 {p : Program} {l : Launch} {e : Env} {s : State} {m : MethodId} {args : Array Value} {below : List Frame} {meth : Method} {c : Code} {H : Heap} {locs : List Loc} {ls : Array Slot} {G : gE} {A : Nat → Prop} {w0 : WH} (B : gB G RJ13 cJ13_checkLength 2 none p s m args meth c) {v0 : Int32} {v1 : Int32} {w : WH} {r : WH} (h : fJ13_checkLength v0 v1 w = some r)   (hR : RepH G A w H) (hS : Cu A s w0 w H locs) (hl : lv_has ls 2 [(0, .int v0), (1, .int v1)]) : W p l e (hRm 6 137 w0) s m args below meth c H locs (wC w0 - wC w) (wS w0 - wS w) (hZ below args s G A w0 none r) (F0 m 0 ls []) := by
  have B0 := B
  obtain ⟨hx, hb, hml, hown, hts, hr, hlk, hK⟩ := B0
  unfold fJ13_checkLength at h
  refine lv_iload_n hx hb dJ13_checkLength_0 rfl (lv_at hl 1 rfl) ?_
  refine lv_iload_n hx hb dJ13_checkLength_1 rfl (lv_at hl 0 rfl) ?_
  refine lv_icmp_ge (tgt := 37) hx hb dJ13_checkLength_2 (by decide) (fun c1 => ?_) (fun c1 => ?_)
  · replace h := it_o c1 h
    have eR := Option.some.inj h
    subst eR
    exact h_vfin hx hb hr hlk hR hS dJ13_checkLength_37
  · replace h := if_o c1 h
    exact (nomatch h)
theorem mJ13_checkLength {l : Launch} {G : gE} {A : Nat → Prop} {v0 : Int32} {v1 : Int32} {w : WH} {r : WH} (h : fJ13_checkLength v0 v1 w = some r) : hM l G A yJ13_checkLength cJ13_checkLength 2 none 6 137 [.int v0, .int v1] w none r :=
  h_of (by decide +kernel) (Nat.le_of_ble_eq_true rfl) (fun p e s m args below meth c ls B hnm hR hS hl => bJ13_checkLength_0 B h hR hS hl)
noncomputable def fJ13_copyOfRangeByte (v0 : Nat) (v1 : Int32) (v2 : Int32) (w : WH) : Option ((Option Nat × WH)) :=
  (fJ13_checkLength v1 v2 w).bind fun w1 =>
  nm_ (v2 - v1) fun x3 =>
  b2_ (hNa w1 2 x3) fun a5 w6 =>
  (aLn w6 v0).bind fun x8 =>
  nm_ (mnI (x8 - v1) x3) fun x10 =>
  (cpI w6 2 v0 v1 a5 0 x10).bind fun w12 =>
  some (some a5, w12)
theorem bJ13_copyOfRangeByte_0 {p : Program} {l : Launch} {e : Env} {s : State} {m : MethodId} {args : Array Value} {below : List Frame} {meth : Method} {c : Code} {H : Heap} {locs : List Loc} {ls : Array Slot} {G : gE} {A : Nat → Prop} {w0 : WH} (B : gB G RJ13 cJ13_copyOfRangeByte 5 (some (.array .byte)) p s m args meth c) {v0 : Nat} {v1 : Int32} {v2 : Int32} {w : WH} {r : (Option Nat × WH)} (h : fJ13_copyOfRangeByte v0 v1 v2 w = some r)   (hR : RepH G A w H) (hS : Cu A s w0 w H locs) (hl : lv_has ls 5 [(0, .ref v0), (1, .int v1), (2, .int v2)]) : W p l e (hRm 7 158 w0) s m args below meth c H locs (wC w0 - wC w) (wS w0 - wS w) (hZ below args s G A w0 (some (va_rf r.1)) r.2) (F0 m 0 ls []) := by
  have B0 := B
  obtain ⟨hx, hb, hml, hown, hts, hr, hlk, hK⟩ := B0
  unfold fJ13_copyOfRangeByte at h
  refine lv_iload_n hx hb dJ13_copyOfRangeByte_0 rfl (lv_at hl 1 rfl) ?_
  refine lv_iload_n hx hb dJ13_copyOfRangeByte_1 rfl (lv_at hl 2 rfl) ?_
  replace h := bo_o h
  obtain ⟨w1, e2, h⟩ := h
  refine h_callS 2  (As := [.int v1, .int v2]) (rest := []) (v := none) (w' := w1) (st1 := []) hx hb hml hown hts hK hR hS (Nat.le_refl _) (Nat.le_refl _) (mJ13_checkLength e2) (lw_S q450 q451 q128 q452) (by decide +kernel) (Nat.le_of_ble_eq_true rfl) (Nat.le_of_ble_eq_true rfl) rfl hl.1 (Nat.le_of_ble_eq_true rfl) dJ13_copyOfRangeByte_2 rfl rfl (fun H locs hR hS => ?_)
  refine lv_iload_n hx hb dJ13_copyOfRangeByte_5 rfl (lv_at hl 2 rfl) ?_
  refine lv_iload_n hx hb dJ13_copyOfRangeByte_6 rfl (lv_at hl 1 rfl) ?_
  refine lv_isub hx hb dJ13_copyOfRangeByte_7 ?_
  replace h := nm_o h
  obtain ⟨x3, e4, h⟩ := h
  refine lv_istore_n (lv' := [(3, .int x3), (0, .ref v0), (1, .int v1), (2, .int v2)]) hx hb dJ13_copyOfRangeByte_8 rfl hl (by decide) (by subst e4; rfl) (fun ls hl => ?_)
  refine lv_iload_n hx hb dJ13_copyOfRangeByte_9 rfl (lv_at hl 0 rfl) ?_
  replace h := b2_o h
  obtain ⟨a5, w6, e7, h⟩ := h
  refine h_newa (atype := .byte) (t := 2) hx hb hts hK hR hS (Nat.le_refl _) (Nat.le_refl _) q270 rfl (by decide) (fun _ _ => rfl) e7 dJ13_copyOfRangeByte_10 (fun H locs hR hS => ?_)
  refine lv_astore (lv' := [(4, .ref a5), (3, .int x3), (0, .ref v0), (1, .int v1), (2, .int v2)]) hx hb dJ13_copyOfRangeByte_12 hl (by decide) rfl (fun ls hl => ?_)
  refine lv_aload_n hx hb dJ13_copyOfRangeByte_14 rfl (lv_at hl 2 rfl) ?_
  refine lv_iload_n hx hb dJ13_copyOfRangeByte_15 rfl (lv_at hl 3 rfl) ?_
  refine lv_aload hx hb dJ13_copyOfRangeByte_16 (lv_at hl 0 rfl) ?_
  refine lv_iconst (v := 0) hx hb dJ13_copyOfRangeByte_18 (by decide) ?_
  refine lv_aload_n hx hb dJ13_copyOfRangeByte_19 rfl (lv_at hl 2 rfl) ?_
  replace h := bo_o h
  obtain ⟨x8, e9, h⟩ := h
  refine h_alen hx hb hK hR hS e9 dJ13_copyOfRangeByte_20 ?_
  refine lv_iload_n hx hb dJ13_copyOfRangeByte_21 rfl (lv_at hl 3 rfl) ?_
  refine lv_isub hx hb dJ13_copyOfRangeByte_22 ?_
  refine lv_iload_n hx hb dJ13_copyOfRangeByte_23 rfl (lv_at hl 1 rfl) ?_
  replace h := nm_o h
  obtain ⟨x10, e11, h⟩ := h
  refine va_mmin hx hb (hml.trans hl.1.symm) hown (hts _ q312) (hts _ q313) (hts _ q127) (hts _ q314) (Nat.le_of_ble_eq_true rfl) (Nat.le_of_ble_eq_true rfl) (Nat.sub_le _ _) (Nat.sub_le _ _) dJ13_copyOfRangeByte_24 ?_
  refine W.eq (g2 := F0 m 27 ls [.int x10, .int 0, .ref a5, .int v1, .ref v0]) (by rw [e11]; rfl) ?_
  replace h := bo_o h
  obtain ⟨w12, e13, h⟩ := h
  refine h_copyB hx hb (hml.trans hl.1.symm) hts hown hK hR hS q315 q317 q316 q129 (Nat.le_of_ble_eq_true rfl) (Nat.le_of_ble_eq_true rfl) e13 dJ13_copyOfRangeByte_27 (fun H locs hR hS => ?_)
  refine lv_aload hx hb dJ13_copyOfRangeByte_30 (lv_at hl 0 rfl) ?_
  have eR := Option.some.inj h
  subst eR
  exact h_afin (x := some a5) hx hb hr hlk (by first | exact Or.inl ⟨_, rfl⟩ | exact Or.inr ⟨_, rfl⟩) hR hS dJ13_copyOfRangeByte_32
theorem mJ13_copyOfRangeByte {l : Launch} {G : gE} {A : Nat → Prop} {v0 : Nat} {v1 : Int32} {v2 : Int32} {w : WH} {r : (Option Nat × WH)} (h : fJ13_copyOfRangeByte v0 v1 v2 w = some r) : hM l G A yJ13_copyOfRangeByte cJ13_copyOfRangeByte 5 (some (.array .byte)) 7 158 [.ref v0, .int v1, .int v2] w (some (va_rf r.1)) r.2 :=
  h_of (by decide +kernel) (Nat.le_of_ble_eq_true rfl) (fun p e s m args below meth c ls B hnm hR hS hl => bJ13_copyOfRangeByte_0 B h hR hS hl)
