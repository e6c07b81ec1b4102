set_option maxRecDepth 100000
set_option maxHeartbeats 4000000

noncomputable def fJ18_inc (v0 : Int32) (v1 : Int32) (w : WH) : Option ((Int32 × WH)) :=
  if v0 + 1 < v1 then (
    some (v0 + 1, w)
  ) else (
    some (0, w)
  )
theorem bJ18_inc_0 {p : Program} {l : Launch} {e : Env} {s : State} {m : MethodId} {args : Array Value} {below : List Frame} {meth : Method} {c : Code} {H : Heap} {locs : List Loc} {ls : Array Slot} {G : gE} {A : Nat → Prop} {w0 : WH} (B : gB G RJ18 cJ18_inc 2 (some .int) p s m args meth c) {v0 : Int32} {v1 : Int32} {w : WH} {r : (Int32 × WH)} (h : fJ18_inc v0 v1 w = some r)   (hR : RepH G A w H) (hS : Cu A s w0 w H locs) (hl : lv_has ls 2 [(0, .int v0), (1, .int v1)]) : W p l e (hRm 0 0 w0) s m args below meth c H locs (wC w0 - wC w) (wS w0 - wS w) (hZ below args s G A w0 (some (.int r.1)) r.2) (F0 m 0 ls []) := by
  have B0 := B
  obtain ⟨hx, hb, hml, hown, hts, hr, hlk, hK⟩ := B0
  unfold fJ18_inc at h
  refine lv_iinc (v := v0 + 1) (lv' := [(0, .int (v0 + 1)), (1, .int v1)]) hx hb dJ18_inc_0 hl (k := 0) rfl rfl (by decide) rfl (fun ls hl => ?_)
  refine lv_iload_n hx hb dJ18_inc_3 rfl (lv_at hl 0 rfl) ?_
  refine lv_iload_n hx hb dJ18_inc_4 rfl (lv_at hl 1 rfl) ?_
  refine lv_icmp_lt (tgt := 10) hx hb dJ18_inc_5 (by decide) (fun c1 => ?_) (fun c1 => ?_)
  · replace h := it_o c1 h
    refine lv_iload_n hx hb dJ18_inc_10 rfl (lv_at hl 0 rfl) ?_
    have eR := Option.some.inj h
    subst eR
    exact h_ifin hx hb hr hlk hR hS dJ18_inc_11
  · replace h := if_o c1 h
    refine lv_iconst (v := 0) hx hb dJ18_inc_8 (by decide) ?_
    refine lv_istore_n (lv' := [(0, .int 0), (1, .int v1)]) hx hb dJ18_inc_9 rfl hl (by decide) rfl (fun ls hl => ?_)
    refine lv_iload_n hx hb dJ18_inc_10 rfl (lv_at hl 0 rfl) ?_
    have eR := Option.some.inj h
    subst eR
    exact h_ifin hx hb hr hlk hR hS dJ18_inc_11
theorem mJ18_inc {l : Launch} {G : gE} {A : Nat → Prop} {v0 : Int32} {v1 : Int32} {w : WH} {r : (Int32 × WH)} (h : fJ18_inc v0 v1 w = some r) : hM l G A yJ18_inc cJ18_inc 2 (some .int) 0 0 [.int v0, .int v1] w (some (.int r.1)) r.2 :=
  h_of (by decide +kernel) (Nat.le_of_ble_eq_true rfl) (fun p e s m args below meth c ls B hnm hR hS hl => bJ18_inc_0 B h hR hS hl)
noncomputable def fJ18_pollFirst_b34 (v3 : Option Nat) (w : WH) : Option ((Option Nat × WH)) :=
  some (v3, w)
theorem bJ18_pollFirst_34 {p : Program} {l : Launch} {e : Env} {s : State} {m : MethodId} {args : Array Value} {below : List Frame} {meth : Method} {c : Code} {H : Heap} {locs : List Loc} {ls : Array Slot} {G : gE} {A : Nat → Prop} {w0 : WH} (B : gB G RJ18 cJ18_pollFirst 4 (some (.object "java/lang/Object")) p s m args meth c) {v3 : Option Nat} {w : WH} {r : (Option Nat × WH)} (h : fJ18_pollFirst_b34 v3 w = some r)   (hR : RepH G A w H) (hS : Cu A s w0 w H locs) (hl : lv_has ls 4 [(3, va_rf v3)]) : W p l e (hRm 1 21 w0) s m args below meth c H locs (wC w0 - wC w) (wS w0 - wS w) (hZ below args s G A w0 (some (va_rf r.1)) r.2) (F0 m 34 ls []) := by
  have B0 := B
  obtain ⟨hx, hb, hml, hown, hts, hr, hlk, hK⟩ := B0
  unfold fJ18_pollFirst_b34 at h
  refine lv_aload_nq hx hb dJ18_pollFirst_34 rfl (lv_at hl 0 rfl) ?_
  have eR := Option.some.inj h
  subst eR
  exact h_afin (x := v3) hx hb hr hlk (by first | exact Or.inl ⟨_, rfl⟩ | exact Or.inr ⟨_, rfl⟩) hR hS dJ18_pollFirst_35
noncomputable def fJ18_pollFirst (v0 : Nat) (w : WH) : Option ((Option Nat × WH)) :=
  (gR w v0 1 0).bind fun x1 =>
  (gI w v0 1 1).bind fun x3 =>
  x1.bind fun a5 =>
  b2_ (fJ18_elementAt a5 x3 w) fun x9 w7 =>
  if x9 = none then (
    some (x9, w7)
  ) else (
    (stR w7 a5 4 x3 none).bind fun w11 =>
    (aLn w11 a5).bind fun x13 =>
    b2_ (fJ18_inc x3 x13 w11) fun x17 w15 =>
    (hPut w15 v0 1 1 (.int x17)).bind fun w18 =>
    fJ18_pollFirst_b34 x9 w18
  )
theorem bJ18_pollFirst_0 {p : Program} {l : Launch} {e : Env} {s : State} {m : MethodId} {args : Array Value} {below : List Frame} {meth : Method} {c : Code} {H : Heap} {locs : List Loc} {ls : Array Slot} {G : gE} {A : Nat → Prop} {w0 : WH} (B : gB G RJ18 cJ18_pollFirst 4 (some (.object "java/lang/Object")) p s m args meth c) {v0 : Nat} {w : WH} {r : (Option Nat × WH)} (h : fJ18_pollFirst v0 w = some r)   (hR : RepH G A w H) (hS : Cu A s w0 w H locs) (hl : lv_has ls 4 [(0, .ref v0)]) : W p l e (hRm 1 21 w0) s m args below meth c H locs (wC w0 - wC w) (wS w0 - wS w) (hZ below args s G A w0 (some (va_rf r.1)) r.2) (F0 m 0 ls []) := by
  have B0 := B
  obtain ⟨hx, hb, hml, hown, hts, hr, hlk, hK⟩ := B0
  unfold fJ18_pollFirst at h
  refine lv_aload_n hx hb dJ18_pollFirst_0 rfl (lv_at hl 0 rfl) ?_
  replace h := bo_o h
  obtain ⟨x1, e2, h⟩ := h
  refine h_get (ci := 1) (k := 0) (v := va_rf x1) hx hb hts hown hK hR in_J18 rfl (by decide) (fun _ _ => rfl) q647 (fun _ h9 => h9) (gR_o e2) dJ18_pollFirst_1 ?_
  refine lv_dup hx hb dJ18_pollFirst_4 (by first | rfl | exact rf_cat _) ?_
  refine lv_astore_nq (lv' := [(1, va_rf x1), (0, .ref v0)]) hx hb dJ18_pollFirst_5 rfl hl (by decide) rfl (fun ls hl => ?_)
  refine lv_aload_n hx hb dJ18_pollFirst_6 rfl (lv_at hl 1 rfl) ?_
  replace h := bo_o h
  obtain ⟨x3, e4, h⟩ := h
  refine h_get (ci := 1) (k := 1) (v := .int x3) hx hb hts hown hK hR in_J18 rfl (by decide) (fun _ _ => rfl) q650 (fun _ h9 => h9) (gI_o e4) dJ18_pollFirst_7 ?_
  refine lv_dup hx hb dJ18_pollFirst_10 rfl ?_
  refine lv_istore_n (lv' := [(2, .int x3), (1, va_rf x1), (0, .ref v0)]) hx hb dJ18_pollFirst_11 rfl hl (by decide) (by cases x1 <;> rfl) (fun ls hl => ?_)
  replace h := bo_o h
  obtain ⟨a5, e6, h⟩ := h
  subst e6
  replace h := b2_o h
  obtain ⟨x9, w7, e8, h⟩ := h
  refine h_callS 2  (As := [.ref a5, .int x3]) (rest := []) (v := (some (va_rf x9))) (w' := w7) (st1 := [va_rf x9]) hx hb hml hown hts hK hR hS (Nat.le_refl _) (Nat.le_refl _) (mJ18_elementAt e8) (lw_S q1108 q1109 q136 q1110) (by decide +kernel) (Nat.le_of_ble_eq_true rfl) (Nat.le_of_ble_eq_true rfl) rfl hl.1 (Nat.le_of_ble_eq_true rfl) dJ18_pollFirst_12 rfl rfl (fun H locs hR hS => ?_)
  refine lv_astore_nq (lv' := [(3, va_rf x9), (2, .int x3), (1, .ref a5), (0, .ref v0)]) hx hb dJ18_pollFirst_15 rfl hl (by decide) rfl (fun ls hl => ?_)
  refine lv_aload_nq hx hb dJ18_pollFirst_16 rfl (lv_at hl 0 rfl) ?_
  refine lv_ifnullq (tgt := 34) hx hb dJ18_pollFirst_17 (by decide) (fun c10 => ?_) (fun c10 => ?_)
  · replace h := it_o c10 h
    refine lv_aload_nq hx hb dJ18_pollFirst_34 rfl (lv_at hl 0 rfl) ?_
    have eR := Option.some.inj h
    subst eR
    exact h_afin (x := x9) hx hb hr hlk (by first | exact Or.inl ⟨_, rfl⟩ | exact Or.inr ⟨_, rfl⟩) hR hS dJ18_pollFirst_35
  · replace h := if_o c10 h
    refine lv_aload_n hx hb dJ18_pollFirst_20 rfl (lv_at hl 2 rfl) ?_
    refine lv_iload_n hx hb dJ18_pollFirst_21 rfl (lv_at hl 1 rfl) ?_
    refine lv_null hx hb dJ18_pollFirst_22 ?_
    replace h := bo_o h
    obtain ⟨w11, e12, h⟩ := h
    refine h_aastN hx hb hK hR hS 4 e12 rfl dJ18_pollFirst_23 (fun H locs hR hS => ?_)
    refine lv_aload_n hx hb dJ18_pollFirst_24 rfl (lv_at hl 3 rfl) ?_
    refine lv_iload_n hx hb dJ18_pollFirst_25 rfl (lv_at hl 1 rfl) ?_
    refine lv_aload_n hx hb dJ18_pollFirst_26 rfl (lv_at hl 2 rfl) ?_
    replace h := bo_o h
    obtain ⟨x13, e14, h⟩ := h
    refine h_alen hx hb hK hR hS e14 dJ18_pollFirst_27 ?_
    replace h := b2_o h
    obtain ⟨x17, w15, e16, h⟩ := h
    refine h_callS 2  (As := [.int x3, .int x13]) (rest := [.ref v0]) (v := (some (.int x17))) (w' := w15) (st1 := [.int x17, .ref v0]) hx hb hml hown hts hK hR hS (Nat.le_refl _) (Nat.le_refl _) (mJ18_inc e16) (lw_S q1111 q1112 q136 q1113) (by decide +kernel) (Nat.le_of_ble_eq_true rfl) (Nat.le_of_ble_eq_true rfl) rfl hl.1 (Nat.le_of_ble_eq_true rfl) dJ18_pollFirst_28 rfl rfl (fun H locs hR hS => ?_)
    replace h := bo_o h
    obtain ⟨w18, e19, h⟩ := h
    refine h_put (ci := 1) (k := 1) (ty := tyJ18 1) hx hb hts hown hK hR hS in_J18 tyJ18 tyJ18_ok nmJ18 rfl (by decide) q650 (fun _ h9 => h9) rfl (tyJ18_ok 1 (by decide)) rfl rfl e19 dJ18_pollFirst_31 (fun H locs hR hS => ?_)
    exact bJ18_pollFirst_34 B h  hR hS (lv_sub hl [0] rfl)
theorem mJ18_pollFirst {l : Launch} {G : gE} {A : Nat → Prop} {v0 : Nat} {w : WH} {r : (Option Nat × WH)} (h : fJ18_pollFirst v0 w = some r) : hM l G A yJ18_pollFirst cJ18_pollFirst 4 (some (.object "java/lang/Object")) 1 21 [.ref v0] w (some (va_rf r.1)) r.2 :=
  h_of (by decide +kernel) (Nat.le_of_ble_eq_true rfl) (fun p e s m args below meth c ls B hnm hR hS hl => bJ18_pollFirst_0 B h hR hS hl)
noncomputable def fJ18_removeFirst (v0 : Nat) (w : WH) : Option ((Option Nat × WH)) :=
  (hIs w v0 1).bind fun _ =>
  b2_ (fJ18_pollFirst v0 w) fun x4 w1 =>
  if x4 = none then (
    none
  ) else (
    some (x4, w1)
  )
theorem bJ18_removeFirst_0 {p : Program} {l : Launch} {e : Env} {s : State} {m : MethodId} {args : Array Value} {below : List Frame} {meth : Method} {c : Code} {H : Heap} {locs : List Loc} {ls : Array Slot} {G : gE} {A : Nat → Prop} {w0 : WH} (B : gB G RJ18 cJ18_removeFirst 2 (some (.object "java/lang/Object")) p s m args meth c) {v0 : Nat} {w : WH} {r : (Option Nat × WH)} (h : fJ18_removeFirst v0 w = some r)   (hR : RepH G A w H) (hS : Cu A s w0 w H locs) (hl : lv_has ls 2 [(0, .ref v0)]) : W p l e (hRm 2 44 w0) s m args below meth c H locs (wC w0 - wC w) (wS w0 - wS w) (hZ below args s G A w0 (some (va_rf r.1)) r.2) (F0 m 0 ls []) := by
  have B0 := B
  obtain ⟨hx, hb, hml, hown, hts, hr, hlk, hK⟩ := B0
  unfold fJ18_removeFirst at h
  refine lv_aload_n hx hb dJ18_removeFirst_0 rfl (lv_at hl 0 rfl) ?_
  replace h := bo_o h
  obtain ⟨_, e2, h⟩ := h
  replace h := b2_o h
  obtain ⟨x4, w1, e3, h⟩ := h
  refine h_callV 0 (ci := 1) (As := []) (rest := []) (v := (some (va_rf x4))) (w' := w1) (st1 := [va_rf x4]) hx hb hml hown hts hK hR hS (Nat.le_refl _) (Nat.le_refl _) rfl e2 (mJ18_pollFirst e3) (lw_V q1104 q1105 q1106 q136 q1107) (by decide +kernel) (Nat.le_of_ble_eq_true rfl) (Nat.le_of_ble_eq_true rfl) rfl hl.1 (Nat.le_of_ble_eq_true rfl) dJ18_removeFirst_1 rfl rfl (fun H locs hR hS => ?_)
  refine lv_astore_nq (lv' := [(1, va_rf x4), (0, .ref v0)]) hx hb dJ18_removeFirst_4 rfl hl (by decide) rfl (fun ls hl => ?_)
  refine lv_aload_nq hx hb dJ18_removeFirst_5 rfl (lv_at hl 0 rfl) ?_
  refine lv_ifnonnullq (tgt := 17) hx hb dJ18_removeFirst_6 (by decide) (fun c5 => ?_) (fun c5 => ?_)
  · replace h := if_o c5 h
    refine lv_aload_nq hx hb dJ18_removeFirst_17 rfl (lv_at hl 0 rfl) ?_
    have eR := Option.some.inj h
    subst eR
    exact h_afin (x := x4) hx hb hr hlk (by first | exact Or.inl ⟨_, rfl⟩ | exact Or.inr ⟨_, rfl⟩) hR hS dJ18_removeFirst_18
  · replace h := it_o c5 h
    exact (nomatch h)
theorem mJ18_removeFirst {l : Launch} {G : gE} {A : Nat → Prop} {v0 : Nat} {w : WH} {r : (Option Nat × WH)} (h : fJ18_removeFirst v0 w = some r) : hM l G A yJ18_removeFirst cJ18_removeFirst 2 (some (.object "java/lang/Object")) 2 44 [.ref v0] w (some (va_rf r.1)) r.2 :=
  h_of (by decide +kernel) (Nat.le_of_ble_eq_true rfl) (fun p e s m args below meth c ls B hnm hR hS hl => bJ18_removeFirst_0 B h hR hS hl)
noncomputable def fJ17_checkInvariants_b62  (w : WH) : Option (WH) :=
  none
theorem bJ17_checkInvariants_62 {p : Program} {l : Launch} {e : Env} {s : State} {m : MethodId} {args : Array Value} {below : List Frame} {meth : Method} {c : Code} {H : Heap} {locs : List Loc} {ls : Array Slot} {G : gE} {A : Nat → Prop} {w0 : WH} (B : gB G RJ17 cJ17_checkInvariants 1 none p s m args meth c)  {w : WH} {r : WH} (h : fJ17_checkInvariants_b62 w = some r)   (hR : RepH G A w H) (hS : Cu A s w0 w H locs) (hl : lv_has ls 1 []) : W p l e (hRm 0 0 w0) s m args below meth c H locs (wC w0 - wC w) (wS w0 - wS w) (hZ below args s G A w0 none r) (F0 m 62 ls []) := by
  have B0 := B
  obtain ⟨hx, hb, hml, hown, hts, hr, hlk, hK⟩ := B0
  unfold fJ17_checkInvariants_b62 at h
  exact (nomatch h)
noncomputable def fJ17_checkInvariants_b70 (v0 : Nat) (w : WH) : Option (WH) :=
  if (1 : Int32) = 0 then (
    (gI w v0 0 1).bind fun x2 =>
    (gR w v0 0 0).bind fun x4 =>
    x4.bind fun a6 =>
    (aLn w a6).bind fun x8 =>
    if x2 = x8 then (
      some w
    ) else (
      (gR w v0 0 0).bind fun x11 =>
      (gI w v0 0 1).bind fun x13 =>
      x11.bind fun a15 =>
      (ldJ w a15 x13).bind fun x17 =>
      if lg_cmp x17 0 = 0 then (
        some w
      ) else (
        none
      )
    )
  ) else (
    some w
  )
theorem bJ17_checkInvariants_70 {p : Program} {l : Launch} {e : Env} {s : State} {m : MethodId} {args : Array Value} {below : List Frame} {meth : Method} {c : Code} {H : Heap} {locs : List Loc} {ls : Array Slot} {G : gE} {A : Nat → Prop} {w0 : WH} (B : gB G RJ17 cJ17_checkInvariants 1 none p s m args meth c) {v0 : Nat} {w : WH} {r : WH} (h : fJ17_checkInvariants_b70 v0 w = some r)   (hR : RepH G A w H) (hS : Cu A s w0 w H locs) (hl : lv_has ls 1 [(0, .ref v0)]) : W p l e (hRm 0 0 w0) s m args below meth c H locs (wC w0 - wC w) (wS w0 - wS w) (hZ below args s G A w0 none r) (F0 m 70 ls []) := by
  have B0 := B
  obtain ⟨hx, hb, hml, hown, hts, hr, hlk, hK⟩ := B0
  unfold fJ17_checkInvariants_b70 at h
  refine h_gets (v := .int 1) hx hb hts hown hR hS (hK.2.2.2.1 _ (List.mem_of_getElem? (i := 1) rfl)) q1140 (fun _ h9 => h9) dJ17_checkInvariants_70 ?_
  refine lv_if_ne (tgt := 110) hx hb dJ17_checkInvariants_73 (by decide) (fun c1 => ?_) (fun c1 => ?_)
  · replace h := if_o c1 h
    have eR := Option.some.inj h
    subst eR
    exact h_vfin hx hb hr hlk hR hS dJ17_checkInvariants_110
  · replace h := it_o c1 h
    refine lv_aload_n hx hb dJ17_checkInvariants_76 rfl (lv_at hl 0 rfl) ?_
    replace h := bo_o h
    obtain ⟨x2, e3, h⟩ := h
    refine h_get (ci := 0) (k := 1) (v := .int x2) hx hb hts hown hK hR in_J17 rfl (by decide) (fun _ _ => rfl) q575 (fun _ h9 => h9) (gI_o e3) dJ17_checkInvariants_77 ?_
    refine lv_aload_n hx hb dJ17_checkInvariants_80 rfl (lv_at hl 0 rfl) ?_
    replace h := bo_o h
    obtain ⟨x4, e5, h⟩ := h
    refine h_get (ci := 0) (k := 0) (v := va_rf x4) hx hb hts hown hK hR in_J17 rfl (by decide) (fun _ _ => rfl) q574 (fun _ h9 => h9) (gR_o e5) dJ17_checkInvariants_81 ?_
    replace h := bo_o h
    obtain ⟨a6, e7, h⟩ := h
    subst e7
    replace h := bo_o h
    obtain ⟨x8, e9, h⟩ := h
    refine h_alen hx hb hK hR hS e9 dJ17_checkInvariants_84 ?_
    refine lv_icmp_eq (tgt := 110) hx hb dJ17_checkInvariants_85 (by decide) (fun c10 => ?_) (fun c10 => ?_)
    · replace h := it_o c10 h
      have eR := Option.some.inj h
      subst eR
      exact h_vfin hx hb hr hlk hR hS dJ17_checkInvariants_110
    · replace h := if_o c10 h
      refine lv_aload_n hx hb dJ17_checkInvariants_88 rfl (lv_at hl 0 rfl) ?_
      replace h := bo_o h
      obtain ⟨x11, e12, h⟩ := h
      refine h_get (ci := 0) (k := 0) (v := va_rf x11) hx hb hts hown hK hR in_J17 rfl (by decide) (fun _ _ => rfl) q574 (fun _ h9 => h9) (gR_o e12) dJ17_checkInvariants_89 ?_
      refine lv_aload_n hx hb dJ17_checkInvariants_92 rfl (lv_at hl 0 rfl) ?_
      replace h := bo_o h
      obtain ⟨x13, e14, h⟩ := h
      refine h_get (ci := 0) (k := 1) (v := .int x13) hx hb hts hown hK hR in_J17 rfl (by decide) (fun _ _ => rfl) q575 (fun _ h9 => h9) (gI_o e14) dJ17_checkInvariants_93 ?_
      replace h := bo_o h
      obtain ⟨a15, e16, h⟩ := h
      subst e16
      replace h := bo_o h
      obtain ⟨x17, e18, h⟩ := h
      refine h_lald hx hb hK hR e18 dJ17_checkInvariants_96 ?_
      refine lv_lconst (v := 0) hx hb dJ17_checkInvariants_97 (by decide) ?_
      refine W.lcmp hx hb dJ17_checkInvariants_98 ?_
      refine lv_if_eq (tgt := 110) hx hb dJ17_checkInvariants_99 (by decide) (fun c19 => ?_) (fun c19 => ?_)
      · replace h := it_o c19 h
        have eR := Option.some.inj h
        subst eR
        exact h_vfin hx hb hr hlk hR hS dJ17_checkInvariants_110
      · replace h := if_o c19 h
        exact (nomatch h)
noncomputable def fJ17_checkInvariants_b37 (v0 : Nat) (w : WH) : Option (WH) :=
  if (1 : Int32) = 0 then (
    (gI w v0 0 1).bind fun x2 =>
    if x2 < 0 then (
      fJ17_checkInvariants_b62 w
    ) else (
      (gI w v0 0 1).bind fun x5 =>
      (gR w v0 0 0).bind fun x7 =>
      x7.bind fun a9 =>
      (aLn w a9).bind fun x11 =>
      if x5 ≤ x11 then (
        fJ17_checkInvariants_b70 v0 w
      ) else (
        fJ17_checkInvariants_b62 w
      )
    )
  ) else (
    fJ17_checkInvariants_b70 v0 w
  )
theorem bJ17_checkInvariants_37 {p : Program} {l : Launch} {e : Env} {s : State} {m : MethodId} {args : Array Value} {below : List Frame} {meth : Method} {c : Code} {H : Heap} {locs : List Loc} {ls : Array Slot} {G : gE} {A : Nat → Prop} {w0 : WH} (B : gB G RJ17 cJ17_checkInvariants 1 none p s m args meth c) {v0 : Nat} {w : WH} {r : WH} (h : fJ17_checkInvariants_b37 v0 w = some r)   (hR : RepH G A w H) (hS : Cu A s w0 w H locs) (hl : lv_has ls 1 [(0, .ref v0)]) : W p l e (hRm 0 0 w0) s m args below meth c H locs (wC w0 - wC w) (wS w0 - wS w) (hZ below args s G A w0 none r) (F0 m 37 ls []) := by
  have B0 := B
  obtain ⟨hx, hb, hml, hown, hts, hr, hlk, hK⟩ := B0
  unfold fJ17_checkInvariants_b37 at h
  refine h_gets (v := .int 1) hx hb hts hown hR hS (hK.2.2.2.1 _ (List.mem_of_getElem? (i := 1) rfl)) q1140 (fun _ h9 => h9) dJ17_checkInvariants_37 ?_
  refine lv_if_ne (tgt := 70) hx hb dJ17_checkInvariants_40 (by decide) (fun c1 => ?_) (fun c1 => ?_)
  · replace h := if_o c1 h
    exact bJ17_checkInvariants_70 B h  hR hS (lv_sub hl [0] rfl)
  · replace h := it_o c1 h
    refine lv_aload_n hx hb dJ17_checkInvariants_43 rfl (lv_at hl 0 rfl) ?_
    replace h := bo_o h
    obtain ⟨x2, e3, h⟩ := h
    refine h_get (ci := 0) (k := 1) (v := .int x2) hx hb hts hown hK hR in_J17 rfl (by decide) (fun _ _ => rfl) q575 (fun _ h9 => h9) (gI_o e3) dJ17_checkInvariants_44 ?_
    refine lv_if_lt (tgt := 62) hx hb dJ17_checkInvariants_47 (by decide) (fun c4 => ?_) (fun c4 => ?_)
    · replace h := it_o c4 h
      exact bJ17_checkInvariants_62 B h  hR hS (lv_sub hl [] rfl)
    · replace h := if_o c4 h
      refine lv_aload_n hx hb dJ17_checkInvariants_50 rfl (lv_at hl 0 rfl) ?_
      replace h := bo_o h
      obtain ⟨x5, e6, h⟩ := h
      refine h_get (ci := 0) (k := 1) (v := .int x5) hx hb hts hown hK hR in_J17 rfl (by decide) (fun _ _ => rfl) q575 (fun _ h9 => h9) (gI_o e6) dJ17_checkInvariants_51 ?_
      refine lv_aload_n hx hb dJ17_checkInvariants_54 rfl (lv_at hl 0 rfl) ?_
      replace h := bo_o h
      obtain ⟨x7, e8, h⟩ := h
      refine h_get (ci := 0) (k := 0) (v := va_rf x7) hx hb hts hown hK hR in_J17 rfl (by decide) (fun _ _ => rfl) q574 (fun _ h9 => h9) (gR_o e8) dJ17_checkInvariants_55 ?_
      replace h := bo_o h
      obtain ⟨a9, e10, h⟩ := h
      subst e10
      replace h := bo_o h
      obtain ⟨x11, e12, h⟩ := h
      refine h_alen hx hb hK hR hS e12 dJ17_checkInvariants_58 ?_
      refine lv_icmp_le (tgt := 70) hx hb dJ17_checkInvariants_59 (by decide) (fun c13 => ?_) (fun c13 => ?_)
      · replace h := it_o c13 h
        exact bJ17_checkInvariants_70 B h  hR hS (lv_sub hl [0] rfl)
      · replace h := if_o c13 h
        exact bJ17_checkInvariants_62 B h  hR hS (lv_sub hl [] rfl)
noncomputable def fJ17_checkInvariants (v0 : Nat) (w : WH) : Option (WH) :=
  if (1 : Int32) = 0 then (
    (gI w v0 0 1).bind fun x2 =>
    if x2 = 0 then (
      fJ17_checkInvariants_b37 v0 w
    ) else (
      (gR w v0 0 0).bind fun x5 =>
      (gI w v0 0 1).bind fun x7 =>
      x5.bind fun a9 =>
      (ldJ w a9 (x7 - 1)).bind fun x11 =>
      if lg_cmp x11 0 = 0 then (
        none
      ) else (
        fJ17_checkInvariants_b37 v0 w
      )
    )
  ) else (
    fJ17_checkInvariants_b37 v0 w
  )
theorem bJ17_checkInvariants_0 {p : Program} {l : Launch} {e : Env} {s : State} {m : MethodId} {args : Array Value} {below : List Frame} {meth : Method} {c : Code} {H : Heap} {locs : List Loc} {ls : Array Slot} {G : gE} {A : Nat → Prop} {w0 : WH} (B : gB G RJ17 cJ17_checkInvariants 1 none p s m args meth c) {v0 : Nat} {w : WH} {r : WH} (h : fJ17_checkInvariants v0 w = some r)   (hR : RepH G A w H) (hS : Cu A s w0 w H locs) (hl : lv_has ls 1 [(0, .ref v0)]) : W p l e (hRm 0 0 w0) s m args below meth c H locs (wC w0 - wC w) (wS w0 - wS w) (hZ below args s G A w0 none r) (F0 m 0 ls []) := by
  have B0 := B
  obtain ⟨hx, hb, hml, hown, hts, hr, hlk, hK⟩ := B0
  unfold fJ17_checkInvariants at h
  refine h_gets (v := .int 1) hx hb hts hown hR hS (hK.2.2.2.1 _ (List.mem_of_getElem? (i := 1) rfl)) q1140 (fun _ h9 => h9) dJ17_checkInvariants_0 ?_
  refine lv_if_ne (tgt := 37) hx hb dJ17_checkInvariants_3 (by decide) (fun c1 => ?_) (fun c1 => ?_)
  · replace h := if_o c1 h
    exact bJ17_checkInvariants_37 B h  hR hS (lv_sub hl [0] rfl)
  · replace h := it_o c1 h
    refine lv_aload_n hx hb dJ17_checkInvariants_6 rfl (lv_at hl 0 rfl) ?_
    replace h := bo_o h
    obtain ⟨x2, e3, h⟩ := h
    refine h_get (ci := 0) (k := 1) (v := .int x2) hx hb hts hown hK hR in_J17 rfl (by decide) (fun _ _ => rfl) q575 (fun _ h9 => h9) (gI_o e3) dJ17_checkInvariants_7 ?_
    refine lv_if_eq (tgt := 37) hx hb dJ17_checkInvariants_10 (by decide) (fun c4 => ?_) (fun c4 => ?_)
    · replace h := it_o c4 h
      exact bJ17_checkInvariants_37 B h  hR hS (lv_sub hl [0] rfl)
    · replace h := if_o c4 h
      refine lv_aload_n hx hb dJ17_checkInvariants_13 rfl (lv_at hl 0 rfl) ?_
      replace h := bo_o h
      obtain ⟨x5, e6, h⟩ := h
      refine h_get (ci := 0) (k := 0) (v := va_rf x5) hx hb hts hown hK hR in_J17 rfl (by decide) (fun _ _ => rfl) q574 (fun _ h9 => h9) (gR_o e6) dJ17_checkInvariants_14 ?_
      refine lv_aload_n hx hb dJ17_checkInvariants_17 rfl (lv_at hl 0 rfl) ?_
      replace h := bo_o h
      obtain ⟨x7, e8, h⟩ := h
      refine h_get (ci := 0) (k := 1) (v := .int x7) hx hb hts hown hK hR in_J17 rfl (by decide) (fun _ _ => rfl) q575 (fun _ h9 => h9) (gI_o e8) dJ17_checkInvariants_18 ?_
      refine lv_iconst (v := 1) hx hb dJ17_checkInvariants_21 (by decide) ?_
      refine lv_isub hx hb dJ17_checkInvariants_22 ?_
      replace h := bo_o h
      obtain ⟨a9, e10, h⟩ := h
      subst e10
      replace h := bo_o h
      obtain ⟨x11, e12, h⟩ := h
      refine h_lald hx hb hK hR e12 dJ17_checkInvariants_23 ?_
      refine lv_lconst (v := 0) hx hb dJ17_checkInvariants_24 (by decide) ?_
      refine W.lcmp hx hb dJ17_checkInvariants_25 ?_
      refine lv_if_ne (tgt := 37) hx hb dJ17_checkInvariants_26 (by decide) (fun c13 => ?_) (fun c13 => ?_)
      · replace h := if_o c13 h
        exact bJ17_checkInvariants_37 B h  hR hS (lv_sub hl [0] rfl)
      · replace h := it_o c13 h
        exact (nomatch h)
theorem mJ17_checkInvariants {l : Launch} {G : gE} {A : Nat → Prop} {v0 : Nat} {w : WH} {r : WH} (h : fJ17_checkInvariants v0 w = some r) : hM l G A yJ17_checkInvariants cJ17_checkInvariants 1 none 0 0 [.ref v0] w none r :=
  h_of (by decide +kernel) (Nat.le_of_ble_eq_true rfl) (fun p e s m args below meth c ls B hnm hR hS hl => bJ17_checkInvariants_0 B h hR hS hl)
noncomputable def fJ13_copyOf_4 (v0 : Nat) (v1 : Int32) (w : WH) : Option ((Option Nat × WH)) :=
  (aLn w v0).bind fun x1 =>
  if v1 = x1 then (
    none
  ) else (
    b2_ (hNa w 1 v1) fun a4 w5 =>
    (aLn w5 v0).bind fun x7 =>
    nm_ (mnI x7 v1) fun x9 =>
    (cpJ w5 v0 0 a4 0 x9).bind fun w11 =>
    some (some a4, w11)
  )
theorem bJ13_copyOf_4_0 {p : Program} {l : Launch} {e : Env} {s : State} {m : MethodId} {args : Array Value} {below : List Frame} {meth : Method} {c : Code} {H : Heap} {locs : List Loc} {ls : Array Slot} {G : gE} {A : Nat → Prop} {w0 : WH} (B : gB G RJ13 cJ13_copyOf_4 3 (some (.array .long)) p s m args meth c) {v0 : Nat} {v1 : Int32} {w : WH} {r : (Option Nat × WH)} (h : fJ13_copyOf_4 v0 v1 w = some r)   (hR : RepH G A w H) (hS : Cu A s w0 w H locs) (hl : lv_has ls 3 [(0, .ref v0), (1, .int v1)]) : W p l e (hRm 1 40 w0) s m args below meth c H locs (wC w0 - wC w) (wS w0 - wS w) (hZ below args s G A w0 (some (va_rf r.1)) r.2) (F0 m 0 ls []) := by
  have B0 := B
  obtain ⟨hx, hb, hml, hown, hts, hr, hlk, hK⟩ := B0
  unfold fJ13_copyOf_4 at h
  refine lv_iload_n hx hb dJ13_copyOf_4_0 rfl (lv_at hl 1 rfl) ?_
  refine lv_aload_n hx hb dJ13_copyOf_4_1 rfl (lv_at hl 0 rfl) ?_
  replace h := bo_o h
  obtain ⟨x1, e2, h⟩ := h
  refine h_alen hx hb hK hR hS e2 dJ13_copyOf_4_2 ?_
  refine lv_icmp_ne (tgt := 14) hx hb dJ13_copyOf_4_3 (by decide) (fun c3 => ?_) (fun c3 => ?_)
  · replace h := if_o c3 h
    refine lv_iload_n hx hb dJ13_copyOf_4_14 rfl (lv_at hl 1 rfl) ?_
    replace h := b2_o h
    obtain ⟨a4, w5, e6, h⟩ := h
    refine h_newa (atype := .long) (t := 1) hx hb hts hK hR hS (Nat.le_refl _) (Nat.le_refl _) q584 rfl (by decide) (fun _ _ => rfl) e6 dJ13_copyOf_4_15 (fun H locs hR hS => ?_)
    refine lv_astore_n (lv' := [(2, .ref a4), (0, .ref v0), (1, .int v1)]) hx hb dJ13_copyOf_4_17 rfl hl (by decide) rfl (fun ls hl => ?_)
    refine lv_aload_n hx hb dJ13_copyOf_4_18 rfl (lv_at hl 1 rfl) ?_
    refine lv_iconst (v := 0) hx hb dJ13_copyOf_4_19 (by decide) ?_
    refine lv_aload_n hx hb dJ13_copyOf_4_20 rfl (lv_at hl 0 rfl) ?_
    refine lv_iconst (v := 0) hx hb dJ13_copyOf_4_21 (by decide) ?_
    refine lv_aload_n hx hb dJ13_copyOf_4_22 rfl (lv_at hl 1 rfl) ?_
    replace h := bo_o h
    obtain ⟨x7, e8, h⟩ := h
    refine h_alen hx hb hK hR hS e8 dJ13_copyOf_4_23 ?_
    refine lv_iload_n hx hb dJ13_copyOf_4_24 rfl (lv_at hl 2 rfl) ?_
    replace h := nm_o h
    obtain ⟨x9, e10, h⟩ := h
    refine va_mmin hx hb (hml.trans hl.1.symm) hown (hts _ q312) (hts _ q313) (hts _ q127) (hts _ q314) (Nat.le_of_ble_eq_true rfl) (Nat.le_of_ble_eq_true rfl) (Nat.sub_le _ _) (Nat.sub_le _ _) dJ13_copyOf_4_25 ?_
    refine W.eq (g2 := F0 m 28 ls [.int x9, .int 0, .ref a4, .int 0, .ref v0]) (by rw [e10]; rfl) ?_
    replace h := bo_o h
    obtain ⟨w11, e12, h⟩ := h
    refine h_copyJ hx hb (hml.trans hl.1.symm) hts hown hK hR hS q315 q317 q316 q129 (Nat.le_of_ble_eq_true rfl) (Nat.le_of_ble_eq_true rfl) e12 dJ13_copyOf_4_28 (fun H locs hR hS => ?_)
    refine lv_aload_n hx hb dJ13_copyOf_4_31 rfl (lv_at hl 0 rfl) ?_
    have eR := Option.some.inj h
    subst eR
    exact h_afin (x := some a4) hx hb hr hlk (by first | exact Or.inl ⟨_, rfl⟩ | exact Or.inr ⟨_, rfl⟩) hR hS dJ13_copyOf_4_32
  · replace h := it_o c3 h
    refine lv_aload_n hx hb dJ13_copyOf_4_6 rfl (lv_at hl 0 rfl) ?_
    exact (nomatch h)
theorem mJ13_copyOf_4 {l : Launch} {G : gE} {A : Nat → Prop} {v0 : Nat} {v1 : Int32} {w : WH} {r : (Option Nat × WH)} (h : fJ13_copyOf_4 v0 v1 w = some r) : hM l G A yJ13_copyOf_4 cJ13_copyOf_4 3 (some (.array .long)) 1 40 [.ref v0, .int v1] w (some (va_rf r.1)) r.2 :=
  h_of (by decide +kernel) (Nat.le_of_ble_eq_true rfl) (fun p e s m args below meth c ls B hnm hR hS hl => bJ13_copyOf_4_0 B h hR hS hl)
noncomputable def fJ17_ensureCapacity_b38  (w : WH) : Option (WH) :=
  some w
theorem bJ17_ensureCapacity_38 {p : Program} {l : Launch} {e : Env} {s : State} {m : MethodId} {args : Array Value} {below : List Frame} {meth : Method} {c : Code} {H : Heap} {locs : List Loc} {ls : Array Slot} {G : gE} {A : Nat → Prop} {w0 : WH} (B : gB G RJ17 cJ17_ensureCapacity 3 none p s m args meth c)  {w : WH} {r : WH} (h : fJ17_ensureCapacity_b38 w = some r)   (hR : RepH G A w H) (hS : Cu A s w0 w H locs) (hl : lv_has ls 3 []) : W p l e (hRm 2 62 w0) s m args below meth c H locs (wC w0 - wC w) (wS w0 - wS w) (hZ below args s G A w0 none r) (F0 m 38 ls []) := by
  have B0 := B
  obtain ⟨hx, hb, hml, hown, hts, hr, hlk, hK⟩ := B0
  unfold fJ17_ensureCapacity_b38 at h
  have eR := Option.some.inj h
  subst eR
  exact h_vfin hx hb hr hlk hR hS dJ17_ensureCapacity_38
noncomputable def fJ17_ensureCapacity (v0 : Nat) (v1 : Int32) (w : WH) : Option (WH) :=
  (gR w v0 0 0).bind fun x1 =>
  x1.bind fun a3 =>
  (aLn w a3).bind fun x5 =>
  if v1 ≤ x5 then (
    some w
  ) else (
    (gR w v0 0 0).bind fun x8 =>
    x8.bind fun a10 =>
    (aLn w a10).bind fun x12 =>
    nm_ (mxI (2 * x12) v1) fun x14 =>
    (gR w v0 0 0).bind fun x16 =>
    x16.bind fun a18 =>
    b2_ (fJ13_copyOf_4 a18 x14 w) fun x22 w20 =>
    (hPut w20 v0 0 0 (va_rf x22)).bind fun w23 =>
    (hPut w23 v0 0 2 (.int 0)).bind fun w25 =>
    fJ17_ensureCapacity_b38 w25
  )
theorem bJ17_ensureCapacity_0 {p : Program} {l : Launch} {e : Env} {s : State} {m : MethodId} {args : Array Value} {below : List Frame} {meth : Method} {c : Code} {H : Heap} {locs : List Loc} {ls : Array Slot} {G : gE} {A : Nat → Prop} {w0 : WH} (B : gB G RJ17 cJ17_ensureCapacity 3 none p s m args meth c) {v0 : Nat} {v1 : Int32} {w : WH} {r : WH} (h : fJ17_ensureCapacity v0 v1 w = some r)   (hR : RepH G A w H) (hS : Cu A s w0 w H locs) (hl : lv_has ls 3 [(0, .ref v0), (1, .int v1)]) : W p l e (hRm 2 62 w0) s m args below meth c H locs (wC w0 - wC w) (wS w0 - wS w) (hZ below args s G A w0 none r) (F0 m 0 ls []) := by
  have B0 := B
  obtain ⟨hx, hb, hml, hown, hts, hr, hlk, hK⟩ := B0
  unfold fJ17_ensureCapacity at h
  refine lv_aload_n hx hb dJ17_ensureCapacity_0 rfl (lv_at hl 0 rfl) ?_
  replace h := bo_o h
  obtain ⟨x1, e2, h⟩ := h
  refine h_get (ci := 0) (k := 0) (v := va_rf x1) hx hb hts hown hK hR in_J17 rfl (by decide) (fun _ _ => rfl) q574 (fun _ h9 => h9) (gR_o e2) dJ17_ensureCapacity_1 ?_
  replace h := bo_o h
  obtain ⟨a3, e4, h⟩ := h
  subst e4
  replace h := bo_o h
  obtain ⟨x5, e6, h⟩ := h
  refine h_alen hx hb hK hR hS e6 dJ17_ensureCapacity_4 ?_
  refine lv_iload_n hx hb dJ17_ensureCapacity_5 rfl (lv_at hl 1 rfl) ?_
  refine lv_icmp_ge (tgt := 38) hx hb dJ17_ensureCapacity_6 (by decide) (fun c7 => ?_) (fun c7 => ?_)
  · replace h := it_o c7 h
    have eR := Option.some.inj h
    subst eR
    exact h_vfin hx hb hr hlk hR hS dJ17_ensureCapacity_38
  · replace h := if_o c7 h
    refine lv_iconst (v := 2) hx hb dJ17_ensureCapacity_9 (by decide) ?_
    refine lv_aload_n hx hb dJ17_ensureCapacity_10 rfl (lv_at hl 0 rfl) ?_
    replace h := bo_o h
    obtain ⟨x8, e9, h⟩ := h
    refine h_get (ci := 0) (k := 0) (v := va_rf x8) hx hb hts hown hK hR in_J17 rfl (by decide) (fun _ _ => rfl) q574 (fun _ h9 => h9) (gR_o e9) dJ17_ensureCapacity_11 ?_
    replace h := bo_o h
    obtain ⟨a10, e11, h⟩ := h
    subst e11
    replace h := bo_o h
    obtain ⟨x12, e13, h⟩ := h
    refine h_alen hx hb hK hR hS e13 dJ17_ensureCapacity_14 ?_
    refine lv_imul hx hb dJ17_ensureCapacity_15 ?_
    refine lv_iload_n hx hb dJ17_ensureCapacity_16 rfl (lv_at hl 1 rfl) ?_
    replace h := nm_o h
    obtain ⟨x14, e15, h⟩ := h
    refine va_mmax hx hb (hml.trans hl.1.symm) hown (hts _ q1126) (hts _ q295) (hts _ q127) (hts _ q296) (Nat.le_of_ble_eq_true rfl) (Nat.le_of_ble_eq_true rfl) (Nat.sub_le _ _) (Nat.sub_le _ _) dJ17_ensureCapacity_17 ?_
    refine W.eq (g2 := F0 m 20 ls [.int x14]) (by rw [e15]; rfl) ?_
    refine lv_istore_n (lv' := [(2, .int x14), (0, .ref v0), (1, .int v1)]) hx hb dJ17_ensureCapacity_20 rfl hl (by decide) rfl (fun ls hl => ?_)
    refine lv_aload_n hx hb dJ17_ensureCapacity_21 rfl (lv_at hl 1 rfl) ?_
    refine lv_aload_n hx hb dJ17_ensureCapacity_22 rfl (lv_at hl 1 rfl) ?_
    replace h := bo_o h
    obtain ⟨x16, e17, h⟩ := h
    refine h_get (ci := 0) (k := 0) (v := va_rf x16) hx hb hts hown hK hR in_J17 rfl (by decide) (fun _ _ => rfl) q574 (fun _ h9 => h9) (gR_o e17) dJ17_ensureCapacity_23 ?_
    refine lv_iload_n hx hb dJ17_ensureCapacity_26 rfl (lv_at hl 0 rfl) ?_
    replace h := bo_o h
    obtain ⟨a18, e19, h⟩ := h
    subst e19
    replace h := b2_o h
    obtain ⟨x22, w20, e21, h⟩ := h
    refine h_callS 2  (As := [.ref a18, .int x14]) (rest := [.ref v0]) (v := (some (va_rf x22))) (w' := w20) (st1 := [va_rf x22, .ref v0]) hx hb hml hown hts hK hR hS (Nat.le_refl _) (Nat.le_refl _) (mJ13_copyOf_4 e21) (lw_S q1127 q1128 q128 q1129) (by decide +kernel) (Nat.le_of_ble_eq_true rfl) (Nat.le_of_ble_eq_true rfl) rfl hl.1 (Nat.le_of_ble_eq_true rfl) dJ17_ensureCapacity_27 rfl rfl (fun H locs hR hS => ?_)
    replace h := bo_o h
    obtain ⟨w23, e24, h⟩ := h
    refine h_put (ci := 0) (k := 0) (ty := tyJ17 0) hx hb hts hown hK hR hS in_J17 tyJ17 tyJ17_ok nmJ17 rfl (by decide) q574 (fun _ h9 => h9) rfl (tyJ17_ok 0 (by decide)) (by cases x22 <;> rfl) (by cases x22 <;> rfl) e24 dJ17_ensureCapacity_30 (fun H locs hR hS => ?_)
    refine lv_aload_n hx hb dJ17_ensureCapacity_33 rfl (lv_at hl 1 rfl) ?_
    refine lv_iconst (v := 0) hx hb dJ17_ensureCapacity_34 (by decide) ?_
    replace h := bo_o h
    obtain ⟨w25, e26, h⟩ := h
    refine h_put (ci := 0) (k := 2) (ty := tyJ17 2) hx hb hts hown hK hR hS in_J17 tyJ17 tyJ17_ok nmJ17 rfl (by decide) q576 (fun _ h9 => h9) rfl (tyJ17_ok 2 (by decide)) rfl rfl e26 dJ17_ensureCapacity_35 (fun H locs hR hS => ?_)
    exact bJ17_ensureCapacity_38 B h  hR hS (lv_sub hl [] rfl)
theorem mJ17_ensureCapacity {l : Launch} {G : gE} {A : Nat → Prop} {v0 : Nat} {v1 : Int32} {w : WH} {r : WH} (h : fJ17_ensureCapacity v0 v1 w = some r) : hM l G A yJ17_ensureCapacity cJ17_ensureCapacity 3 none 2 62 [.ref v0, .int v1] w none r :=
  h_of (by decide +kernel) (Nat.le_of_ble_eq_true rfl) (fun p e s m args below meth c ls B hnm hR hS hl => bJ17_ensureCapacity_0 B h hR hS hl)
noncomputable def fJ17_or_b100 (v0 : Nat) (w : WH) : Option (WH) :=
  (hIs w v0 0).bind fun _ =>
  (fJ17_checkInvariants v0 w).bind fun w1 =>
  some w1
theorem bJ17_or_100 {p : Program} {l : Launch} {e : Env} {s : State} {m : MethodId} {args : Array Value} {below : List Frame} {meth : Method} {c : Code} {H : Heap} {locs : List Loc} {ls : Array Slot} {G : gE} {A : Nat → Prop} {w0 : WH} (B : gB G RJ17 cJ17_or 4 none p s m args meth c) {v0 : Nat} {w : WH} {r : WH} (h : fJ17_or_b100 v0 w = some r)   (hR : RepH G A w H) (hS : Cu A s w0 w H locs) (hl : lv_has ls 4 [(0, .ref v0)]) : W p l e (hRm 3 84 w0) s m args below meth c H locs (wC w0 - wC w) (wS w0 - wS w) (hZ below args s G A w0 none r) (F0 m 100 ls []) := by
  have B0 := B
  obtain ⟨hx, hb, hml, hown, hts, hr, hlk, hK⟩ := B0
  unfold fJ17_or_b100 at h
  refine lv_aload_n hx hb dJ17_or_100 rfl (lv_at hl 0 rfl) ?_
  replace h := bo_o h
  obtain ⟨_, e2, h⟩ := h
  replace h := bo_o h
  obtain ⟨w1, e3, h⟩ := h
  refine h_callV 0 (ci := 0) (As := []) (rest := []) (v := none) (w' := w1) (st1 := []) hx hb hml hown hts hK hR hS (Nat.le_refl _) (Nat.le_refl _) rfl e2 (mJ17_checkInvariants e3) (lw_V q1136 q1138 qs18 q134 q1139) (by decide +kernel) (Nat.le_of_ble_eq_true rfl) (Nat.le_of_ble_eq_true rfl) rfl hl.1 (Nat.le_of_ble_eq_true rfl) dJ17_or_101 rfl rfl (fun H locs hR hS => ?_)
  have eR := Option.some.inj h
  subst eR
  exact h_vfin hx hb hr hlk hR hS dJ17_or_104
noncomputable def fJ17_or_b73 (v0 : Nat) (v1 : Nat) (v2 : Int32) (w : WH) : Option (WH) :=
  (gI w v1 0 1).bind fun x1 =>
  if x1 ≤ v2 then (
    fJ17_or_b100 v0 w
  ) else (
    (gR w v1 0 0).bind fun x4 =>
    (gR w v0 0 0).bind fun x6 =>
    (gI w v0 0 1).bind fun x8 =>
    x4.bind fun a10 =>
    x6.bind fun a12 =>
    (cpJ w a10 v2 a12 v2 (x8 - v2)).bind fun w14 =>
    fJ17_or_b100 v0 w14
  )
theorem bJ17_or_73 {p : Program} {l : Launch} {e : Env} {s : State} {m : MethodId} {args : Array Value} {below : List Frame} {meth : Method} {c : Code} {H : Heap} {locs : List Loc} {ls : Array Slot} {G : gE} {A : Nat → Prop} {w0 : WH} (B : gB G RJ17 cJ17_or 4 none p s m args meth c) {v0 : Nat} {v1 : Nat} {v2 : Int32} {w : WH} {r : WH} (h : fJ17_or_b73 v0 v1 v2 w = some r)   (hR : RepH G A w H) (hS : Cu A s w0 w H locs) (hl : lv_has ls 4 [(0, .ref v0), (1, .ref v1), (2, .int v2)]) : W p l e (hRm 3 84 w0) s m args below meth c H locs (wC w0 - wC w) (wS w0 - wS w) (hZ below args s G A w0 none r) (F0 m 73 ls []) := by
  have B0 := B
  obtain ⟨hx, hb, hml, hown, hts, hr, hlk, hK⟩ := B0
  unfold fJ17_or_b73 at h
  refine lv_iload_n hx hb dJ17_or_73 rfl (lv_at hl 2 rfl) ?_
  refine lv_aload_n hx hb dJ17_or_74 rfl (lv_at hl 1 rfl) ?_
  replace h := bo_o h
  obtain ⟨x1, e2, h⟩ := h
  refine h_get (ci := 0) (k := 1) (v := .int x1) hx hb hts hown hK hR in_J17 rfl (by decide) (fun _ _ => rfl) q575 (fun _ h9 => h9) (gI_o e2) dJ17_or_75 ?_
  refine lv_icmp_ge (tgt := 100) hx hb dJ17_or_78 (by decide) (fun c3 => ?_) (fun c3 => ?_)
  · replace h := it_o c3 h
    exact bJ17_or_100 B h  hR hS (lv_sub hl [0] rfl)
  · replace h := if_o c3 h
    refine lv_aload_n hx hb dJ17_or_81 rfl (lv_at hl 1 rfl) ?_
    replace h := bo_o h
    obtain ⟨x4, e5, h⟩ := h
    refine h_get (ci := 0) (k := 0) (v := va_rf x4) hx hb hts hown hK hR in_J17 rfl (by decide) (fun _ _ => rfl) q574 (fun _ h9 => h9) (gR_o e5) dJ17_or_82 ?_
    refine lv_iload_n hx hb dJ17_or_85 rfl (lv_at hl 2 rfl) ?_
    refine lv_aload_n hx hb dJ17_or_86 rfl (lv_at hl 0 rfl) ?_
    replace h := bo_o h
    obtain ⟨x6, e7, h⟩ := h
    refine h_get (ci := 0) (k := 0) (v := va_rf x6) hx hb hts hown hK hR in_J17 rfl (by decide) (fun _ _ => rfl) q574 (fun _ h9 => h9) (gR_o e7) dJ17_or_87 ?_
    refine lv_iload_n hx hb dJ17_or_90 rfl (lv_at hl 2 rfl) ?_
    refine lv_aload_n hx hb dJ17_or_91 rfl (lv_at hl 0 rfl) ?_
    replace h := bo_o h
    obtain ⟨x8, e9, h⟩ := h
    refine h_get (ci := 0) (k := 1) (v := .int x8) hx hb hts hown hK hR in_J17 rfl (by decide) (fun _ _ => rfl) q575 (fun _ h9 => h9) (gI_o e9) dJ17_or_92 ?_
    refine lv_iload_n hx hb dJ17_or_95 rfl (lv_at hl 2 rfl) ?_
    refine lv_isub hx hb dJ17_or_96 ?_
    replace h := bo_o h
    obtain ⟨a10, e11, h⟩ := h
    subst e11
    replace h := bo_o h
    obtain ⟨a12, e13, h⟩ := h
    subst e13
    replace h := bo_o h
    obtain ⟨w14, e15, h⟩ := h
    refine h_copyJ hx hb (hml.trans hl.1.symm) hts hown hK hR hS q1135 q317 q316 q129 (Nat.le_of_ble_eq_true rfl) (Nat.le_of_ble_eq_true rfl) e15 dJ17_or_97 (fun H locs hR hS => ?_)
    exact bJ17_or_100 B h  hR hS (lv_sub hl [0] rfl)
noncomputable def fJ17_or_b47 (v0 : Nat) (v1 : Nat) (v2 : Int32) (v3 : Int32) (w : WH) : Option (Sum (Int32 × WH) (WH)) :=
  if v2 ≤ v3 then (
    (fJ17_or_b73 v0 v1 v2 w).map (fun y => (.inr y))
  ) else (
    (gR w v0 0 0).bind fun x2 =>
    x2.bind fun a4 =>
    (ldJ w a4 v3).bind fun x6 =>
    (gR w v1 0 0).bind fun x8 =>
    x8.bind fun a10 =>
    (ldJ w a10 v3).bind fun x12 =>
    (stJ w a4 v3 (x6 ||| x12)).bind fun w14 =>
    some (.inl (v3 + 1, w14))
  )
theorem bJ17_or_47 {p : Program} {l : Launch} {e : Env} {s : State} {m : MethodId} {args : Array Value} {below : List Frame} {meth : Method} {c : Code} {H : Heap} {locs : List Loc} {ls : Array Slot} {G : gE} {A : Nat → Prop} {w0 : WH} (B : gB G RJ17 cJ17_or 4 none p s m args meth c) {v0 : Nat} {v1 : Nat} {v2 : Int32} {v3 : Int32} {w : WH} {x : Sum (Int32 × WH) (WH)} {r : WH} (h : fJ17_or_b47 v0 v1 v2 v3 w = some x)  (k47 : ∀ (v3' : Int32) (w' : WH), x = (.inl (v3', w')) → ∀ (H : Heap) (locs : List Loc) (ls : Array Slot), RepH G A w' H → Cu A s w0 w' H locs → lv_has ls 4 [(0, .ref v0), (1, .ref v1), (2, .int v2), (3, .int v3')] → W p l e (hRm 3 84 w0) s m args below meth c H locs (wC w0 - wC w') (wS w0 - wS w') (hZ below args s G A w0 none r) (F0 m 47 ls [])) (kR : ∀ q, x = (.inr q) → q = r) (hR : RepH G A w H) (hS : Cu A s w0 w H locs) (hl : lv_has ls 4 [(0, .ref v0), (1, .ref v1), (2, .int v2), (3, .int v3)]) : W p l e (hRm 3 84 w0) s m args below meth c H locs (wC w0 - wC w) (wS w0 - wS w) (hZ below args s G A w0 none r) (F0 m 47 ls []) := by
  have B0 := B
  obtain ⟨hx, hb, hml, hown, hts, hr, hlk, hK⟩ := B0
  unfold fJ17_or_b47 at h
  refine lv_iload_n hx hb dJ17_or_47 rfl (lv_at hl 3 rfl) ?_
  refine lv_iload_n hx hb dJ17_or_48 rfl (lv_at hl 2 rfl) ?_
  refine lv_icmp_ge (tgt := 73) hx hb dJ17_or_49 (by decide) (fun c1 => ?_) (fun c1 => ?_)
  · replace h := it_o c1 h
    obtain ⟨y, h, ey⟩ := mp_o h
    have ey := kR _ ey.symm
    subst ey
    exact bJ17_or_73 B h  hR hS (lv_sub hl [0, 1, 2] rfl)
  · replace h := if_o c1 h
    refine lv_aload_n hx hb dJ17_or_52 rfl (lv_at hl 0 rfl) ?_
    replace h := bo_o h
    obtain ⟨x2, e3, h⟩ := h
    refine h_get (ci := 0) (k := 0) (v := va_rf x2) hx hb hts hown hK hR in_J17 rfl (by decide) (fun _ _ => rfl) q574 (fun _ h9 => h9) (gR_o e3) dJ17_or_53 ?_
    refine lv_iload_n hx hb dJ17_or_56 rfl (lv_at hl 3 rfl) ?_
    refine lv_dup2_11 hx hb dJ17_or_57 (by first | rfl | exact rf_cat _) (by first | rfl | exact rf_cat _) ?_
    replace h := bo_o h
    obtain ⟨a4, e5, h⟩ := h
    subst e5
    replace h := bo_o h
    obtain ⟨x6, e7, h⟩ := h
    refine h_lald hx hb hK hR e7 dJ17_or_58 ?_
    refine lv_aload_n hx hb dJ17_or_59 rfl (lv_at hl 1 rfl) ?_
    replace h := bo_o h
    obtain ⟨x8, e9, h⟩ := h
    refine h_get (ci := 0) (k := 0) (v := va_rf x8) hx hb hts hown hK hR in_J17 rfl (by decide) (fun _ _ => rfl) q574 (fun _ h9 => h9) (gR_o e9) dJ17_or_60 ?_
    refine lv_iload_n hx hb dJ17_or_63 rfl (lv_at hl 3 rfl) ?_
    replace h := bo_o h
    obtain ⟨a10, e11, h⟩ := h
    subst e11
    replace h := bo_o h
    obtain ⟨x12, e13, h⟩ := h
    refine h_lald hx hb hK hR e13 dJ17_or_64 ?_
    refine lv_lor hx hb dJ17_or_65 ?_
    replace h := bo_o h
    obtain ⟨w14, e15, h⟩ := h
    refine h_last hx hb hK hR hS e15 dJ17_or_66 (fun H locs hR hS => ?_)
    refine lv_iinc (v := v3 + 1) (lv' := [(3, .int (v3 + 1)), (0, .ref v0), (1, .ref v1), (2, .int v2)]) hx hb dJ17_or_67 hl (k := 3) rfl rfl (by decide) rfl (fun ls hl => ?_)
    refine lv_goto (tgt := 47) hx hb dJ17_or_70 (by decide) ?_
    exact k47 _ _ (Option.some.inj h).symm H locs ls hR hS (lv_sub hl [1, 2, 3, 0] rfl)
noncomputable def fJ17_or_l47 (v0 : Nat) (v1 : Nat) (v2 : Int32) (v3 : Int32) (w : WH) : Option (WH) := whileO (fun q => fJ17_or_b47 v0 v1 v2 q.1 q.2) (v3, w)
theorem lJ17_or_47 {p : Program} {l : Launch} {e : Env} {s : State} {m : MethodId} {args : Array Value} {below : List Frame} {meth : Method} {c : Code} {G : gE} {A : Nat → Prop} {w0 : WH} (B : gB G RJ17 cJ17_or 4 none p s m args meth c) {v0 : Nat} {v1 : Nat} {v2 : Int32} {r : WH}   : ∀ (v3 : Int32) (w : WH), fJ17_or_l47 v0 v1 v2 v3 w = some r → ∀ (H : Heap) (locs : List Loc) (ls : Array Slot), RepH G A w H → Cu A s w0 w H locs → lv_has ls 4 [(0, .ref v0), (1, .ref v1), (2, .int v2), (3, .int v3)] → W p l e (hRm 3 84 w0) s m args below meth c H locs (wC w0 - wC w) (wS w0 - wS w) (hZ below args s G A w0 none r) (F0 m 47 ls []) := by
  intro v3 w h
  refine wh_walk (body := (fun q => fJ17_or_b47 v0 v1 v2 q.1 q.2)) (P := (fun q : (Int32 × WH) => ∀ (H : Heap) (locs : List Loc) (ls : Array Slot), RepH G A (q.2) H → Cu A s w0 (q.2) H locs → lv_has ls 4 [(0, .ref v0), (1, .ref v1), (2, .int v2), (3, .int (q.1))] → W p l e (hRm 3 84 w0) s m args below meth c H locs (wC w0 - wC (q.2)) (wS w0 - wS (q.2)) (hZ below args s G A w0 none r) (F0 m 47 ls []))) (r := r) ?_ (v3, w) h
  intro q y hy hL hr H locs ls hR hS hl
  exact bJ17_or_47 (r := r) B hy (fun a0 a1 e => hL (a0, a1) e) (fun q e => hr q e) hR hS hl
noncomputable def fJ17_or_b45 (v0 : Nat) (v1 : Nat) (v2 : Int32) (w : WH) : Option (WH) :=
  fJ17_or_l47 v0 v1 v2 0 w
theorem bJ17_or_45 {p : Program} {l : Launch} {e : Env} {s : State} {m : MethodId} {args : Array Value} {below : List Frame} {meth : Method} {c : Code} {H : Heap} {locs : List Loc} {ls : Array Slot} {G : gE} {A : Nat → Prop} {w0 : WH} (B : gB G RJ17 cJ17_or 4 none p s m args meth c) {v0 : Nat} {v1 : Nat} {v2 : Int32} {w : WH} {r : WH} (h : fJ17_or_b45 v0 v1 v2 w = some r)   (hR : RepH G A w H) (hS : Cu A s w0 w H locs) (hl : lv_has ls 4 [(0, .ref v0), (1, .ref v1), (2, .int v2)]) : W p l e (hRm 3 84 w0) s m args below meth c H locs (wC w0 - wC w) (wS w0 - wS w) (hZ below args s G A w0 none r) (F0 m 45 ls []) := by
  have B0 := B
  obtain ⟨hx, hb, hml, hown, hts, hr, hlk, hK⟩ := B0
  unfold fJ17_or_b45 at h
  refine lv_iconst (v := 0) hx hb dJ17_or_45 (by decide) ?_
  refine lv_istore_n (lv' := [(3, .int 0), (0, .ref v0), (1, .ref v1), (2, .int v2)]) hx hb dJ17_or_46 rfl hl (by decide) rfl (fun ls hl => ?_)
  exact lJ17_or_47 B _ _ h H locs ls hR hS (lv_sub hl [1, 2, 3, 0] rfl)
noncomputable def fJ17_or (v0 : Nat) (v1 : Nat) (w : WH) : Option (WH) :=
  if some v0 = some v1 then (
    some w
  ) else (
    (gI w v0 0 1).bind fun x2 =>
    (gI w v1 0 1).bind fun x4 =>
    nm_ (mnI x2 x4) fun x6 =>
    (gI w v0 0 1).bind fun x8 =>
    (gI w v1 0 1).bind fun x10 =>
    if x10 ≤ x8 then (
      fJ17_or_b45 v0 v1 x6 w
    ) else (
      (gI w v1 0 1).bind fun x13 =>
      (hIs w v0 0).bind fun _ =>
      (fJ17_ensureCapacity v0 x13 w).bind fun w15 =>
      (gI w15 v1 0 1).bind fun x18 =>
      (hPut w15 v0 0 1 (.int x18)).bind fun w20 =>
      fJ17_or_b45 v0 v1 x6 w20
    )
  )
theorem bJ17_or_0 {p : Program} {l : Launch} {e : Env} {s : State} {m : MethodId} {args : Array Value} {below : List Frame} {meth : Method} {c : Code} {H : Heap} {locs : List Loc} {ls : Array Slot} {G : gE} {A : Nat → Prop} {w0 : WH} (B : gB G RJ17 cJ17_or 4 none p s m args meth c) {v0 : Nat} {v1 : Nat} {w : WH} {r : WH} (h : fJ17_or v0 v1 w = some r)   (hR : RepH G A w H) (hS : Cu A s w0 w H locs) (hl : lv_has ls 4 [(0, .ref v0), (1, .ref v1)]) : W p l e (hRm 3 84 w0) s m args below meth c H locs (wC w0 - wC w) (wS w0 - wS w) (hZ below args s G A w0 none r) (F0 m 0 ls []) := by
  have B0 := B
  obtain ⟨hx, hb, hml, hown, hts, hr, hlk, hK⟩ := B0
  unfold fJ17_or at h
  refine lv_aload_n hx hb dJ17_or_0 rfl (lv_at hl 0 rfl) ?_
  refine lv_aload_n hx hb dJ17_or_1 rfl (lv_at hl 1 rfl) ?_
  refine lv_acmp_ne (rx := some v0) (ry := some v1) (tgt := 6) hx hb dJ17_or_2 (by decide) (fun c1 => ?_) (fun c1 => ?_)
  · replace h := if_o c1 h
    refine lv_aload_n hx hb dJ17_or_6 rfl (lv_at hl 0 rfl) ?_
    replace h := bo_o h
    obtain ⟨x2, e3, h⟩ := h
    refine h_get (ci := 0) (k := 1) (v := .int x2) hx hb hts hown hK hR in_J17 rfl (by decide) (fun _ _ => rfl) q575 (fun _ h9 => h9) (gI_o e3) dJ17_or_7 ?_
    refine lv_aload_n hx hb dJ17_or_10 rfl (lv_at hl 1 rfl) ?_
    replace h := bo_o h
    obtain ⟨x4, e5, h⟩ := h
    refine h_get (ci := 0) (k := 1) (v := .int x4) hx hb hts hown hK hR in_J17 rfl (by decide) (fun _ _ => rfl) q575 (fun _ h9 => h9) (gI_o e5) dJ17_or_11 ?_
    replace h := nm_o h
    obtain ⟨x6, e7, h⟩ := h
    refine va_mmin hx hb (hml.trans hl.1.symm) hown (hts _ q1121) (hts _ q313) (hts _ q127) (hts _ q314) (Nat.le_of_ble_eq_true rfl) (Nat.le_of_ble_eq_true rfl) (Nat.sub_le _ _) (Nat.sub_le _ _) dJ17_or_14 ?_
    refine W.eq (g2 := F0 m 17 ls [.int x6]) (by rw [e7]; rfl) ?_
    refine lv_istore_n (lv' := [(2, .int x6), (0, .ref v0), (1, .ref v1)]) hx hb dJ17_or_17 rfl hl (by decide) rfl (fun ls hl => ?_)
    refine lv_aload_n hx hb dJ17_or_18 rfl (lv_at hl 1 rfl) ?_
    replace h := bo_o h
    obtain ⟨x8, e9, h⟩ := h
    refine h_get (ci := 0) (k := 1) (v := .int x8) hx hb hts hown hK hR in_J17 rfl (by decide) (fun _ _ => rfl) q575 (fun _ h9 => h9) (gI_o e9) dJ17_or_19 ?_
    refine lv_aload_n hx hb dJ17_or_22 rfl (lv_at hl 2 rfl) ?_
    replace h := bo_o h
    obtain ⟨x10, e11, h⟩ := h
    refine h_get (ci := 0) (k := 1) (v := .int x10) hx hb hts hown hK hR in_J17 rfl (by decide) (fun _ _ => rfl) q575 (fun _ h9 => h9) (gI_o e11) dJ17_or_23 ?_
    refine lv_icmp_ge (tgt := 45) hx hb dJ17_or_26 (by decide) (fun c12 => ?_) (fun c12 => ?_)
    · replace h := it_o c12 h
      exact bJ17_or_45 B h  hR hS (lv_sub hl [1, 2, 0] rfl)
    · replace h := if_o c12 h
      refine lv_aload_n hx hb dJ17_or_29 rfl (lv_at hl 1 rfl) ?_
      refine lv_aload_n hx hb dJ17_or_30 rfl (lv_at hl 2 rfl) ?_
      replace h := bo_o h
      obtain ⟨x13, e14, h⟩ := h
      refine h_get (ci := 0) (k := 1) (v := .int x13) hx hb hts hown hK hR in_J17 rfl (by decide) (fun _ _ => rfl) q575 (fun _ h9 => h9) (gI_o e14) dJ17_or_31 ?_
      replace h := bo_o h
      obtain ⟨_, e16, h⟩ := h
      replace h := bo_o h
      obtain ⟨w15, e17, h⟩ := h
      refine h_callV 1 (ci := 0) (As := [.int x13]) (rest := []) (v := none) (w' := w15) (st1 := []) hx hb hml hown hts hK hR hS (Nat.le_refl _) (Nat.le_refl _) rfl e16 (mJ17_ensureCapacity e17) (lw_V q1122 q1124 qs17 q134 q1125) (by decide +kernel) (Nat.le_of_ble_eq_true rfl) (Nat.le_of_ble_eq_true rfl) rfl hl.1 (Nat.le_of_ble_eq_true rfl) dJ17_or_34 rfl rfl (fun H locs hR hS => ?_)
      refine lv_aload_n hx hb dJ17_or_37 rfl (lv_at hl 1 rfl) ?_
      refine lv_aload_n hx hb dJ17_or_38 rfl (lv_at hl 2 rfl) ?_
      replace h := bo_o h
      obtain ⟨x18, e19, h⟩ := h
      refine h_get (ci := 0) (k := 1) (v := .int x18) hx hb hts hown hK hR in_J17 rfl (by decide) (fun _ _ => rfl) q575 (fun _ h9 => h9) (gI_o e19) dJ17_or_39 ?_
      replace h := bo_o h
      obtain ⟨w20, e21, h⟩ := h
      refine h_put (ci := 0) (k := 1) (ty := tyJ17 1) hx hb hts hown hK hR hS in_J17 tyJ17 tyJ17_ok nmJ17 rfl (by decide) q575 (fun _ h9 => h9) rfl (tyJ17_ok 1 (by decide)) rfl rfl e21 dJ17_or_42 (fun H locs hR hS => ?_)
      exact bJ17_or_45 B h  hR hS (lv_sub hl [1, 2, 0] rfl)
  · replace h := it_o c1 h
    have eR := Option.some.inj h
    subst eR
    exact h_vfin hx hb hr hlk hR hS dJ17_or_5
theorem mJ17_or {l : Launch} {G : gE} {A : Nat → Prop} {v0 : Nat} {v1 : Nat} {w : WH} {r : WH} (h : fJ17_or v0 v1 w = some r) : hM l G A yJ17_or cJ17_or 4 none 3 84 [.ref v0, .ref v1] w none r :=
  h_of (by decide +kernel) (Nat.le_of_ble_eq_true rfl) (fun p e s m args below meth c ls B hnm hR hS hl => bJ17_or_0 B h hR hS hl)
noncomputable def fX2_init_2_b95  (w : WH) : Option (WH) :=
  some w
theorem bX2_init_2_95 {p : Program} {l : Launch} {e : Env} {s : State} {m : MethodId} {args : Array Value} {below : List Frame} {meth : Method} {c : Code} {H : Heap} {locs : List Loc} {ls : Array Slot} {G : gE} {A : Nat → Prop} {w0 : WH} (B : gB G RX2 cX2_init_2 2 none p s m args meth c) (hnm : meth.name = "<init>")  {w : WH} {r : WH} (h : fX2_init_2_b95 w = some r)   (hR : RepH G A w H) (hS : Cu A s w0 w H locs) (hl : lv_has ls 2 []) : W p l e (hRm 13 290 w0) s m args below meth c H locs (wC w0 - wC w) (wS w0 - wS w) (hZ below args s G A w0 none r) (F0 m 95 ls []) := by
  have B0 := B
  obtain ⟨hx, hb, hml, hown, hts, hr, hlk, hK⟩ := B0
  unfold fX2_init_2_b95 at h
  have eR := Option.some.inj h
  subst eR
  exact h_vfin hx hb hr hlk hR hS dX2_init_2_95
noncomputable def fX2_init_2_b46 (v0 : Nat) (v1 : Nat) (w : WH) : Option (WH) :=
  (gR w v1 21 1).bind fun x1 =>
  (gR w v0 21 1).bind fun x3 =>
  x1.bind fun a5 =>
  x3.bind fun a7 =>
  (cpI w 0 a5 0 a7 0 24).bind fun w9 =>
  (gR w9 v1 21 2).bind fun x11 =>
  (gR w9 v0 21 2).bind fun x13 =>
  x11.bind fun a15 =>
  x13.bind fun a17 =>
  (cpI w9 0 a15 0 a17 0 6).bind fun w19 =>
  (gR w19 v0 21 3).bind fun x21 =>
  (gR w19 v1 21 3).bind fun x23 =>
  x21.bind fun a25 =>
  x23.bind fun a27 =>
  (hIs w19 a25 0).bind fun _ =>
  (fJ17_or a25 a27 w19).bind fun w29 =>
  (gI w29 v1 21 4).bind fun x32 =>
  (fz_ .boolean x32).bind fun _ =>
  (hPut w29 v0 21 4 (.int x32)).bind fun w35 =>
  fX2_init_2_b95 w35
theorem bX2_init_2_46 {p : Program} {l : Launch} {e : Env} {s : State} {m : MethodId} {args : Array Value} {below : List Frame} {meth : Method} {c : Code} {H : Heap} {locs : List Loc} {ls : Array Slot} {G : gE} {A : Nat → Prop} {w0 : WH} (B : gB G RX2 cX2_init_2 2 none p s m args meth c) (hnm : meth.name = "<init>") {v0 : Nat} {v1 : Nat} {w : WH} {r : WH} (h : fX2_init_2_b46 v0 v1 w = some r)   (hR : RepH G A w H) (hS : Cu A s w0 w H locs) (hl : lv_has ls 2 [(0, .ref v0), (1, .ref v1)]) : W p l e (hRm 13 290 w0) s m args below meth c H locs (wC w0 - wC w) (wS w0 - wS w) (hZ below args s G A w0 none r) (F0 m 46 ls []) := by
  have B0 := B
  obtain ⟨hx, hb, hml, hown, hts, hr, hlk, hK⟩ := B0
  unfold fX2_init_2_b46 at h
  refine lv_aload_n hx hb dX2_init_2_46 rfl (lv_at hl 1 rfl) ?_
  replace h := bo_o h
  obtain ⟨x1, e2, h⟩ := h
  refine h_get (ci := 21) (k := 1) (v := va_rf x1) hx hb hts hown hK hR in_X2 rfl (by decide) (fun _ _ => rfl) q590 (fun _ h9 => h9) (gR_o e2) dX2_init_2_47 ?_
  refine lv_iconst (v := 0) hx hb dX2_init_2_50 (by decide) ?_
  refine lv_aload_n hx hb dX2_init_2_51 rfl (lv_at hl 0 rfl) ?_
  replace h := bo_o h
  obtain ⟨x3, e4, h⟩ := h
  refine h_get (ci := 21) (k := 1) (v := va_rf x3) hx hb hts hown hK hR in_X2 rfl (by decide) (fun _ _ => rfl) q590 (fun _ h9 => h9) (gR_o e4) dX2_init_2_52 ?_
  refine lv_iconst (v := 0) hx hb dX2_init_2_55 (by decide) ?_
  refine lv_bipush (v := 24) hx hb dX2_init_2_56 (by decide) ?_
  replace h := bo_o h
  obtain ⟨a5, e6, h⟩ := h
  subst e6
  replace h := bo_o h
  obtain ⟨a7, e8, h⟩ := h
  subst e8
  replace h := bo_o h
  obtain ⟨w9, e10, h⟩ := h
  refine h_copyI hx hb (hml.trans hl.1.symm) hts hown hK hR hS q585 q317 q316 q129 (Nat.le_of_ble_eq_true rfl) (Nat.le_of_ble_eq_true rfl) e10 dX2_init_2_58 (fun H locs hR hS => ?_)
  refine lv_aload_n hx hb dX2_init_2_61 rfl (lv_at hl 1 rfl) ?_
  replace h := bo_o h
  obtain ⟨x11, e12, h⟩ := h
  refine h_get (ci := 21) (k := 2) (v := va_rf x11) hx hb hts hown hK hR in_X2 rfl (by decide) (fun _ _ => rfl) q594 (fun _ h9 => h9) (gR_o e12) dX2_init_2_62 ?_
  refine lv_iconst (v := 0) hx hb dX2_init_2_65 (by decide) ?_
  refine lv_aload_n hx hb dX2_init_2_66 rfl (lv_at hl 0 rfl) ?_
  replace h := bo_o h
  obtain ⟨x13, e14, h⟩ := h
  refine h_get (ci := 21) (k := 2) (v := va_rf x13) hx hb hts hown hK hR in_X2 rfl (by decide) (fun _ _ => rfl) q594 (fun _ h9 => h9) (gR_o e14) dX2_init_2_67 ?_
  refine lv_iconst (v := 0) hx hb dX2_init_2_70 (by decide) ?_
  refine lv_bipush (v := 6) hx hb dX2_init_2_71 (by decide) ?_
  replace h := bo_o h
  obtain ⟨a15, e16, h⟩ := h
  subst e16
  replace h := bo_o h
  obtain ⟨a17, e18, h⟩ := h
  subst e18
  replace h := bo_o h
  obtain ⟨w19, e20, h⟩ := h
  refine h_copyI hx hb (hml.trans hl.1.symm) hts hown hK hR hS q585 q317 q316 q129 (Nat.le_of_ble_eq_true rfl) (Nat.le_of_ble_eq_true rfl) e20 dX2_init_2_73 (fun H locs hR hS => ?_)
  refine lv_aload_n hx hb dX2_init_2_76 rfl (lv_at hl 0 rfl) ?_
  replace h := bo_o h
  obtain ⟨x21, e22, h⟩ := h
  refine h_get (ci := 21) (k := 3) (v := va_rf x21) hx hb hts hown hK hR in_X2 rfl (by decide) (fun _ _ => rfl) q596 (fun _ h9 => h9) (gR_o e22) dX2_init_2_77 ?_
  refine lv_aload_n hx hb dX2_init_2_80 rfl (lv_at hl 1 rfl) ?_
  replace h := bo_o h
  obtain ⟨x23, e24, h⟩ := h
  refine h_get (ci := 21) (k := 3) (v := va_rf x23) hx hb hts hown hK hR in_X2 rfl (by decide) (fun _ _ => rfl) q596 (fun _ h9 => h9) (gR_o e24) dX2_init_2_81 ?_
  replace h := bo_o h
  obtain ⟨a25, e26, h⟩ := h
  subst e26
  replace h := bo_o h
  obtain ⟨a27, e28, h⟩ := h
  subst e28
  replace h := bo_o h
  obtain ⟨_, e30, h⟩ := h
  replace h := bo_o h
  obtain ⟨w29, e31, h⟩ := h
  refine h_callV 1 (ci := 0) (As := [.ref a27]) (rest := []) (v := none) (w' := w29) (st1 := []) hx hb hml hown hts hK hR hS (Nat.le_refl _) (Nat.le_refl _) rfl e30 (mJ17_or e31) (lw_V q1117 q1118 q1119 q134 q1120) (by decide +kernel) (Nat.le_of_ble_eq_true rfl) (Nat.le_of_ble_eq_true rfl) rfl hl.1 (Nat.le_of_ble_eq_true rfl) dX2_init_2_84 rfl rfl (fun H locs hR hS => ?_)
  refine lv_aload_n hx hb dX2_init_2_87 rfl (lv_at hl 0 rfl) ?_
  refine lv_aload_n hx hb dX2_init_2_88 rfl (lv_at hl 1 rfl) ?_
  replace h := bo_o h
  obtain ⟨x32, e33, h⟩ := h
  refine h_get (ci := 21) (k := 4) (v := .int x32) hx hb hts hown hK hR in_X2 rfl (by decide) (fun _ _ => rfl) q598 (fun _ h9 => h9) (gI_o e33) dX2_init_2_89 ?_
  replace h := bo_o h
  obtain ⟨_, e34, h⟩ := h
  replace h := bo_o h
  obtain ⟨w35, e36, h⟩ := h
  refine h_put (ci := 21) (k := 4) (ty := tyX2 4) hx hb hts hown hK hR hS in_X2 tyX2 tyX2_ok nmX2 rfl (by decide) q598 (fun _ h9 => h9) rfl (tyX2_ok 4 (by decide)) (fz_n (fun _ => ⟨_, rfl⟩) e34) (fz_f e34) e36 dX2_init_2_92 (fun H locs hR hS => ?_)
  exact bX2_init_2_95 B hnm h  hR hS (lv_sub hl [] rfl)
noncomputable def fX2_init_2 (v0 : Nat) (v1 : Nat) (w : WH) : Option (WH) :=
  b2_ (hNa w 0 24) fun a1 w2 =>
  (hPut w2 v0 21 1 (.ref a1)).bind fun w4 =>
  b2_ (hNa w4 0 6) fun a6 w7 =>
  (hPut w7 v0 21 2 (.ref a6)).bind fun w9 =>
  b2_ (hNw w9 3 0 [.null, .int 0, .int 0]) fun a11 w12 =>
  (fJ17_init a11 24 w12).bind fun w14 =>
  (hPut w14 v0 21 3 (.ref a11)).bind fun w16 =>
  (hPut w16 v0 21 4 (.int 1)).bind fun w18 =>
  (gR w18 v1 21 0).bind fun x20 =>
  (hPut w18 v0 21 0 (va_rf x20)).bind fun w22 =>
  fX2_init_2_b46 v0 v1 w22
theorem bX2_init_2_0 {p : Program} {l : Launch} {e : Env} {s : State} {m : MethodId} {args : Array Value} {below : List Frame} {meth : Method} {c : Code} {H : Heap} {locs : List Loc} {ls : Array Slot} {G : gE} {A : Nat → Prop} {w0 : WH} (B : gB G RX2 cX2_init_2 2 none p s m args meth c) (hnm : meth.name = "<init>") {v0 : Nat} {v1 : Nat} {w : WH} {r : WH} (h : fX2_init_2 v0 v1 w = some r)   (hR : RepH G A w H) (hS : Cu A s w0 w H locs) (hl : lv_has ls 2 [(0, .ref v0), (1, .ref v1)]) : W p l e (hRm 13 290 w0) s m args below meth c H locs (wC w0 - wC w) (wS w0 - wS w) (hZ below args s G A w0 none r) (F0 m 0 ls []) := by
  have B0 := B
  obtain ⟨hx, hb, hml, hown, hts, hr, hlk, hK⟩ := B0
  unfold fX2_init_2 at h
  refine lv_aload_n hx hb dX2_init_2_0 rfl (lv_at hl 0 rfl) ?_
  refine W.objInit hx hb hown (hts _ q560) (hts _ q168) (hts _ q169) rfl (by rw [hml]; exact hl.1) rfl dX2_init_2_1 (Nat.le_of_ble_eq_true rfl) (Nat.le_of_ble_eq_true rfl) ?_
  refine W.eq (g2 := F0 m 4 ls []) rfl ?_
  refine lv_aload_n hx hb dX2_init_2_4 rfl (lv_at hl 0 rfl) ?_
  refine lv_bipush (v := 24) hx hb dX2_init_2_5 (by decide) ?_
  replace h := b2_o h
  obtain ⟨a1, w2, e3, h⟩ := h
  refine h_newa (atype := .int) (t := 0) hx hb hts hK hR hS (Nat.le_refl _) (Nat.le_refl _) q556 rfl (by decide) (fun _ _ => rfl) e3 dX2_init_2_7 (fun H locs hR hS => ?_)
  replace h := bo_o h
  obtain ⟨w4, e5, h⟩ := h
  refine h_putF (ci := 21) (k := 1) (ty := tyX2 1) hx hb hts hown hK hR hS in_X2 tyX2 tyX2_ok nmX2 rfl (by decide) q590 (fun _ h9 => h9) rfl hnm rfl (tyX2_ok 1 (by decide)) rfl rfl e5 dX2_init_2_9 (fun H locs hR hS => ?_)
  refine lv_aload_n hx hb dX2_init_2_12 rfl (lv_at hl 0 rfl) ?_
  refine lv_bipush (v := 6) hx hb dX2_init_2_13 (by decide) ?_
  replace h := b2_o h
  obtain ⟨a6, w7, e8, h⟩ := h
  refine h_newa (atype := .int) (t := 0) hx hb hts hK hR hS (Nat.le_refl _) (Nat.le_refl _) q556 rfl (by decide) (fun _ _ => rfl) e8 dX2_init_2_15 (fun H locs hR hS => ?_)
  replace h := bo_o h
  obtain ⟨w9, e10, h⟩ := h
  refine h_putF (ci := 21) (k := 2) (ty := tyX2 2) hx hb hts hown hK hR hS in_X2 tyX2 tyX2_ok nmX2 rfl (by decide) q594 (fun _ h9 => h9) rfl hnm rfl (tyX2_ok 2 (by decide)) rfl rfl e10 dX2_init_2_17 (fun H locs hR hS => ?_)
  refine lv_aload_n hx hb dX2_init_2_20 rfl (lv_at hl 0 rfl) ?_
  replace h := b2_o h
  obtain ⟨a11, w12, e13, h⟩ := h
  refine h_new (ci := 0) (fs := [.null, .int 0, .int 0]) hx hb hts hown hK hR hS (Nat.le_refl _) (Nat.le_refl _) in_J17 tyJ17 tyJ17_ok rfl (by decide +kernel) q561 q562 q134 e13 dX2_init_2_21 (fun H locs hR hS => ?_)
  refine lv_dup hx hb dX2_init_2_24 rfl ?_
  refine lv_bipush (v := 24) hx hb dX2_init_2_25 (by decide) ?_
  replace h := bo_o h
  obtain ⟨w14, e15, h⟩ := h
  refine h_callI 1  (As := [.int 24]) (rest := [.ref a11, .ref v0]) (w' := w14) hx hb hml hown hts hK hR hS (Nat.le_refl _) (Nat.le_refl _) (mJ17_init e15) (lw_meth q565) q134 q563 q564 rfl (by decide +kernel) (Nat.le_of_ble_eq_true rfl) (Nat.le_of_ble_eq_true rfl) rfl hl.1 (Nat.le_of_ble_eq_true rfl) dX2_init_2_27 rfl (fun H locs hR hS => ?_)
  replace h := bo_o h
  obtain ⟨w16, e17, h⟩ := h
  refine h_putF (ci := 21) (k := 3) (ty := tyX2 3) hx hb hts hown hK hR hS in_X2 tyX2 tyX2_ok nmX2 rfl (by decide) q596 (fun _ h9 => h9) rfl hnm rfl (tyX2_ok 3 (by decide)) rfl rfl e17 dX2_init_2_30 (fun H locs hR hS => ?_)
  refine lv_aload_n hx hb dX2_init_2_33 rfl (lv_at hl 0 rfl) ?_
  refine lv_iconst (v := 1) hx hb dX2_init_2_34 (by decide) ?_
  replace h := bo_o h
  obtain ⟨w18, e19, h⟩ := h
  refine h_put (ci := 21) (k := 4) (ty := tyX2 4) hx hb hts hown hK hR hS in_X2 tyX2 tyX2_ok nmX2 rfl (by decide) q598 (fun _ h9 => h9) rfl (tyX2_ok 4 (by decide)) rfl rfl e19 dX2_init_2_35 (fun H locs hR hS => ?_)
  refine lv_aload_n hx hb dX2_init_2_38 rfl (lv_at hl 0 rfl) ?_
  refine lv_aload_n hx hb dX2_init_2_39 rfl (lv_at hl 1 rfl) ?_
  replace h := bo_o h
  obtain ⟨x20, e21, h⟩ := h
  refine h_get (ci := 21) (k := 0) (v := va_rf x20) hx hb hts hown hK hR in_X2 rfl (by decide) (fun _ _ => rfl) q586 (fun _ h9 => h9) (gR_o e21) dX2_init_2_40 ?_
  replace h := bo_o h
  obtain ⟨w22, e23, h⟩ := h
  refine h_putF (ci := 21) (k := 0) (ty := tyX2 0) hx hb hts hown hK hR hS in_X2 tyX2 tyX2_ok nmX2 rfl (by decide) q586 (fun _ h9 => h9) rfl hnm rfl (tyX2_ok 0 (by decide)) (by cases x20 <;> rfl) (by cases x20 <;> rfl) e23 dX2_init_2_43 (fun H locs hR hS => ?_)
  exact bX2_init_2_46 B hnm h  hR hS (lv_sub hl [0, 1] rfl)
theorem mX2_init_2 {l : Launch} {G : gE} {A : Nat → Prop} {v0 : Nat} {v1 : Nat} {w : WH} {r : WH} (h : fX2_init_2 v0 v1 w = some r) : hM l G A yX2_init_2 cX2_init_2 2 none 13 290 [.ref v0, .ref v1] w none r :=
  h_of (by decide +kernel) (Nat.le_of_ble_eq_true rfl) (fun p e s m args below meth c ls B hnm hR hS hl => bX2_init_2_0 B hnm h hR hS hl)
noncomputable def fJ18_addLast_b50  (w : WH) : Option (WH) :=
  some w
theorem bJ18_addLast_50 {p : Program} {l : Launch} {e : Env} {s : State} {m : MethodId} {args : Array Value} {below : List Frame} {meth : Method} {c : Code} {H : Heap} {locs : List Loc} {ls : Array Slot} {G : gE} {A : Nat → Prop} {w0 : WH} (B : gB G RJ18 cJ18_addLast 3 none p s m args meth c)  {w : WH} {r : WH} (h : fJ18_addLast_b50 w = some r)   (hR : RepH G A w H) (hS : Cu A s w0 w H locs) (hl : lv_has ls 3 []) : W p l e (hRm 1 21 w0) s m args below meth c H locs (wC w0 - wC w) (wS w0 - wS w) (hZ below args s G A w0 none r) (F0 m 50 ls []) := by
  have B0 := B
  obtain ⟨hx, hb, hml, hown, hts, hr, hlk, hK⟩ := B0
  unfold fJ18_addLast_b50 at h
  have eR := Option.some.inj h
  subst eR
  exact h_vfin hx hb hr hlk hR hS dJ18_addLast_50
noncomputable def fJ18_addLast (v0 : Nat) (v1 : Nat) (w : WH) : Option (WH) :=
  (gR w v0 1 0).bind fun x1 =>
  (gI w v0 1 2).bind fun x3 =>
  x1.bind fun a5 =>
  (aok w v1).bind fun _ =>
  (stR w a5 4 x3 (some v1)).bind fun w7 =>
  (gI w7 v0 1 1).bind fun x10 =>
  (gI w7 v0 1 2).bind fun x12 =>
  (aLn w7 a5).bind fun x14 =>
  b2_ (fJ18_inc x12 x14 w7) fun x18 w16 =>
  (hPut w16 v0 1 2 (.int x18)).bind fun w19 =>
  if x10 = x18 then (
    none
  ) else (
    fJ18_addLast_b50 w19
  )
theorem bJ18_addLast_0 {p : Program} {l : Launch} {e : Env} {s : State} {m : MethodId} {args : Array Value} {below : List Frame} {meth : Method} {c : Code} {H : Heap} {locs : List Loc} {ls : Array Slot} {G : gE} {A : Nat → Prop} {w0 : WH} (B : gB G RJ18 cJ18_addLast 3 none p s m args meth c) {v0 : Nat} {v1 : Nat} {w : WH} {r : WH} (h : fJ18_addLast v0 v1 w = some r)   (hR : RepH G A w H) (hS : Cu A s w0 w H locs) (hl : lv_has ls 3 [(0, .ref v0), (1, .ref v1)]) : W p l e (hRm 1 21 w0) s m args below meth c H locs (wC w0 - wC w) (wS w0 - wS w) (hZ below args s G A w0 none r) (F0 m 0 ls []) := by
  have B0 := B
  obtain ⟨hx, hb, hml, hown, hts, hr, hlk, hK⟩ := B0
  unfold fJ18_addLast at h
  refine lv_aload_n hx hb dJ18_addLast_0 rfl (lv_at hl 1 rfl) ?_
  refine lv_ifnonnull (tgt := 12) hx hb dJ18_addLast_1 (by decide) ?_
  refine lv_aload_n hx hb dJ18_addLast_12 rfl (lv_at hl 0 rfl) ?_
  replace h := bo_o h
  obtain ⟨x1, e2, h⟩ := h
  refine h_get (ci := 1) (k := 0) (v := va_rf x1) hx hb hts hown hK hR in_J18 rfl (by decide) (fun _ _ => rfl) q647 (fun _ h9 => h9) (gR_o e2) dJ18_addLast_13 ?_
  refine lv_astore_nq (lv' := [(2, va_rf x1), (0, .ref v0), (1, .ref v1)]) hx hb dJ18_addLast_16 rfl hl (by decide) rfl (fun ls hl => ?_)
  refine lv_aload_nq hx hb dJ18_addLast_17 rfl (lv_at hl 0 rfl) ?_
  refine lv_aload_n hx hb dJ18_addLast_18 rfl (lv_at hl 1 rfl) ?_
  replace h := bo_o h
  obtain ⟨x3, e4, h⟩ := h
  refine h_get (ci := 1) (k := 2) (v := .int x3) hx hb hts hown hK hR in_J18 rfl (by decide) (fun _ _ => rfl) q651 (fun _ h9 => h9) (gI_o e4) dJ18_addLast_19 ?_
  refine lv_aload_n hx hb dJ18_addLast_22 rfl (lv_at hl 2 rfl) ?_
  replace h := bo_o h
  obtain ⟨a5, e6, h⟩ := h
  subst e6
  replace h := bo_o h
  obtain ⟨_, e9, h⟩ := h
  replace h := bo_o h
  obtain ⟨w7, e8, h⟩ := h
  refine h_aastO hx hb hK hR hS e9 e8 dJ18_addLast_23 (fun H locs hR hS => ?_)
  refine lv_aload_n hx hb dJ18_addLast_24 rfl (lv_at hl 1 rfl) ?_
  replace h := bo_o h
  obtain ⟨x10, e11, h⟩ := h
  refine h_get (ci := 1) (k := 1) (v := .int x10) hx hb hts hown hK hR in_J18 rfl (by decide) (fun _ _ => rfl) q650 (fun _ h9 => h9) (gI_o e11) dJ18_addLast_25 ?_
  refine lv_aload_n hx hb dJ18_addLast_28 rfl (lv_at hl 1 rfl) ?_
  refine lv_aload_n hx hb dJ18_addLast_29 rfl (lv_at hl 1 rfl) ?_
  replace h := bo_o h
  obtain ⟨x12, e13, h⟩ := h
  refine h_get (ci := 1) (k := 2) (v := .int x12) hx hb hts hown hK hR in_J18 rfl (by decide) (fun _ _ => rfl) q651 (fun _ h9 => h9) (gI_o e13) dJ18_addLast_30 ?_
  refine lv_aload_n hx hb dJ18_addLast_33 rfl (lv_at hl 0 rfl) ?_
  replace h := bo_o h
  obtain ⟨x14, e15, h⟩ := h
  refine h_alen hx hb hK hR hS e15 dJ18_addLast_34 ?_
  replace h := b2_o h
  obtain ⟨x18, w16, e17, h⟩ := h
  refine h_callS 2  (As := [.int x12, .int x14]) (rest := [.ref v0, .int x10]) (v := (some (.int x18))) (w' := w16) (st1 := [.int x18, .ref v0, .int x10]) hx hb hml hown hts hK hR hS (Nat.le_refl _) (Nat.le_refl _) (mJ18_inc e17) (lw_S q1111 q1112 q136 q1113) (by decide +kernel) (Nat.le_of_ble_eq_true rfl) (Nat.le_of_ble_eq_true rfl) rfl hl.1 (Nat.le_of_ble_eq_true rfl) dJ18_addLast_35 rfl rfl (fun H locs hR hS => ?_)
  refine lv_dup_x1 hx hb dJ18_addLast_38 rfl rfl ?_
  replace h := bo_o h
  obtain ⟨w19, e20, h⟩ := h
  refine h_put (ci := 1) (k := 2) (ty := tyJ18 2) hx hb hts hown hK hR hS in_J18 tyJ18 tyJ18_ok nmJ18 rfl (by decide) q651 (fun _ h9 => h9) rfl (tyJ18_ok 2 (by decide)) rfl rfl e20 dJ18_addLast_39 (fun H locs hR hS => ?_)
  refine lv_icmp_ne (tgt := 50) hx hb dJ18_addLast_42 (by decide) (fun c21 => ?_) (fun c21 => ?_)
  · replace h := if_o c21 h
    exact bJ18_addLast_50 B h  hR hS (lv_sub hl [] rfl)
  · replace h := it_o c21 h
    refine lv_aload_n hx hb dJ18_addLast_45 rfl (lv_at hl 1 rfl) ?_
    refine lv_iconst (v := 1) hx hb dJ18_addLast_46 (by decide) ?_
    exact (nomatch h)
theorem mJ18_addLast {l : Launch} {G : gE} {A : Nat → Prop} {v0 : Nat} {v1 : Nat} {w : WH} {r : WH} (h : fJ18_addLast v0 v1 w = some r) : hM l G A yJ18_addLast cJ18_addLast 3 none 1 21 [.ref v0, .ref v1] w none r :=
  h_of (by decide +kernel) (Nat.le_of_ble_eq_true rfl) (fun p e s m args below meth c ls B hnm hR hS hl => bJ18_addLast_0 B h hR hS hl)
noncomputable def fX1_act_b23 (v0 : Nat) (w : WH) : Option (WH) :=
  (gR w v0 17 2).bind fun x1 =>
  b2_ (hNw w 5 21 [.null, .null, .null, .null, .int 0]) fun a3 w4 =>
  (gR w4 v0 17 0).bind fun x6 =>
  x6.bind fun a8 =>
  (fX2_init_2 a3 a8 w4).bind fun w10 =>
  x1.bind fun a12 =>
  (hIs w10 a12 1).bind fun _ =>
  (fJ18_addLast a12 a3 w10).bind fun w14 =>
  some w14
theorem bX1_act_23 {p : Program} {l : Launch} {e : Env} {s : State} {m : MethodId} {args : Array Value} {below : List Frame} {meth : Method} {c : Code} {H : Heap} {locs : List Loc} {ls : Array Slot} {G : gE} {A : Nat → Prop} {w0 : WH} (B : gB G RX1 cX1_act 2 none p s m args meth c) {v0 : Nat} {w : WH} {r : WH} (h : fX1_act_b23 v0 w = some r)   (hR : RepH G A w H) (hS : Cu A s w0 w H locs) (hl : lv_has ls 2 [(0, .ref v0)]) : W p l e (hRm 14 311 w0) s m args below meth c H locs (wC w0 - wC w) (wS w0 - wS w) (hZ below args s G A w0 none r) (F0 m 23 ls []) := by
  have B0 := B
  obtain ⟨hx, hb, hml, hown, hts, hr, hlk, hK⟩ := B0
  unfold fX1_act_b23 at h
  refine lv_aload_n hx hb dX1_act_23 rfl (lv_at hl 0 rfl) ?_
  replace h := bo_o h
  obtain ⟨x1, e2, h⟩ := h
  refine h_get (ci := 17) (k := 2) (v := va_rf x1) hx hb hts hown hK hR in_X1 rfl (by decide) (fun _ _ => rfl) q665 (fun _ h9 => h9) (gR_o e2) dX1_act_24 ?_
  replace h := b2_o h
  obtain ⟨a3, w4, e5, h⟩ := h
  refine h_new (ci := 21) (fs := [.null, .null, .null, .null, .int 0]) hx hb hts hown hK hR hS (Nat.le_refl _) (Nat.le_refl _) in_X2 tyX2 tyX2_ok rfl (by decide +kernel) q170 q171 q113 e5 dX1_act_27 (fun H locs hR hS => ?_)
  refine lv_dup hx hb dX1_act_30 rfl ?_
  refine lv_aload_n hx hb dX1_act_31 rfl (lv_at hl 0 rfl) ?_
  replace h := bo_o h
  obtain ⟨x6, e7, h⟩ := h
  refine h_get (ci := 17) (k := 0) (v := va_rf x6) hx hb hts hown hK hR in_X1 rfl (by decide) (fun _ _ => rfl) q662 (fun _ h9 => h9) (gR_o e7) dX1_act_32 ?_
  replace h := bo_o h
  obtain ⟨a8, e9, h⟩ := h
  subst e9
  replace h := bo_o h
  obtain ⟨w10, e11, h⟩ := h
  refine h_callI 1  (As := [.ref a8]) (rest := [.ref a3, va_rf x1]) (w' := w10) hx hb hml hown hts hK hR hS (Nat.le_refl _) (Nat.le_refl _) (mX2_init_2 e11) (lw_meth q1116) q113 q1114 q1115 rfl (by decide +kernel) (Nat.le_of_ble_eq_true rfl) (Nat.le_of_ble_eq_true rfl) rfl hl.1 (cat_le (Nat.le_of_ble_eq_true rfl)) dX1_act_35 rfl (fun H locs hR hS => ?_)
  replace h := bo_o h
  obtain ⟨a12, e13, h⟩ := h
  subst e13
  replace h := bo_o h
  obtain ⟨_, e15, h⟩ := h
  replace h := bo_o h
  obtain ⟨w14, e16, h⟩ := h
  refine h_callV 1 (ci := 1) (As := [.ref a3]) (rest := []) (v := none) (w' := w14) (st1 := []) hx hb hml hown hts hK hR hS (Nat.le_refl _) (Nat.le_refl _) rfl e15 (mJ18_addLast e16) (lw_V q1142 q1143 q1144 q136 q1145) (by decide +kernel) (Nat.le_of_ble_eq_true rfl) (Nat.le_of_ble_eq_true rfl) rfl hl.1 (Nat.le_of_ble_eq_true rfl) dX1_act_38 rfl rfl (fun H locs hR hS => ?_)
  have eR := Option.some.inj h
  subst eR
  exact h_vfin hx hb hr hlk hR hS dX1_act_41
noncomputable def fX1_act (v0 : Nat) (w : WH) : Option (WH) :=
  (gR w v0 17 2).bind fun x1 =>
  x1.bind fun a3 =>
  (hIs w a3 1).bind fun _ =>
  b2_ (fJ18_size a3 w) fun x8 w5 =>
  if x8 = 12 then (
    (gR w5 v0 17 2).bind fun x10 =>
    x10.bind fun a12 =>
    (hIs w5 a12 1).bind fun _ =>
    b2_ (fJ18_removeFirst a12 w5) fun x17 w14 =>
    x17.bind fun a18 =>
    (hIs w14 a18 21).bind fun _ =>
    fX1_act_b23 v0 w14
  ) else (
    fX1_act_b23 v0 w5
  )
theorem bX1_act_0 {p : Program} {l : Launch} {e : Env} {s : State} {m : MethodId} {args : Array Value} {below : List Frame} {meth : Method} {c : Code} {H : Heap} {locs : List Loc} {ls : Array Slot} {G : gE} {A : Nat → Prop} {w0 : WH} (B : gB G RX1 cX1_act 2 none p s m args meth c) {v0 : Nat} {w : WH} {r : WH} (h : fX1_act v0 w = some r)   (hR : RepH G A w H) (hS : Cu A s w0 w H locs) (hl : lv_has ls 2 [(0, .ref v0)]) : W p l e (hRm 14 311 w0) s m args below meth c H locs (wC w0 - wC w) (wS w0 - wS w) (hZ below args s G A w0 none r) (F0 m 0 ls []) := by
  have B0 := B
  obtain ⟨hx, hb, hml, hown, hts, hr, hlk, hK⟩ := B0
  unfold fX1_act at h
  refine lv_aload_n hx hb dX1_act_0 rfl (lv_at hl 0 rfl) ?_
  replace h := bo_o h
  obtain ⟨x1, e2, h⟩ := h
  refine h_get (ci := 17) (k := 2) (v := va_rf x1) hx hb hts hown hK hR in_X1 rfl (by decide) (fun _ _ => rfl) q665 (fun _ h9 => h9) (gR_o e2) dX1_act_1 ?_
  replace h := bo_o h
  obtain ⟨a3, e4, h⟩ := h
  subst e4
  replace h := bo_o h
  obtain ⟨_, e6, h⟩ := h
  replace h := b2_o h
  obtain ⟨x8, w5, e7, h⟩ := h
  refine h_callV 0 (ci := 1) (As := []) (rest := []) (v := (some (.int x8))) (w' := w5) (st1 := [.int x8]) hx hb hml hown hts hK hR hS (Nat.le_refl _) (Nat.le_refl _) rfl e6 (mJ18_size e7) (lw_V q1093 q1094 q1095 q136 q1096) (by decide +kernel) (Nat.le_of_ble_eq_true rfl) (Nat.le_of_ble_eq_true rfl) rfl hl.1 (Nat.le_of_ble_eq_true rfl) dX1_act_4 rfl rfl (fun H locs hR hS => ?_)
  refine lv_bipush (v := 12) hx hb dX1_act_7 (by decide) ?_
  refine lv_icmp_ne (tgt := 23) hx hb dX1_act_9 (by decide) (fun c9 => ?_) (fun c9 => ?_)
  · replace h := if_o c9 h
    exact bX1_act_23 B h  hR hS (lv_sub hl [0] rfl)
  · replace h := it_o c9 h
    refine lv_aload_n hx hb dX1_act_12 rfl (lv_at hl 0 rfl) ?_
    replace h := bo_o h
    obtain ⟨x10, e11, h⟩ := h
    refine h_get (ci := 17) (k := 2) (v := va_rf x10) hx hb hts hown hK hR in_X1 rfl (by decide) (fun _ _ => rfl) q665 (fun _ h9 => h9) (gR_o e11) dX1_act_13 ?_
    replace h := bo_o h
    obtain ⟨a12, e13, h⟩ := h
    subst e13
    replace h := bo_o h
    obtain ⟨_, e15, h⟩ := h
    replace h := b2_o h
    obtain ⟨x17, w14, e16, h⟩ := h
    refine h_callV 0 (ci := 1) (As := []) (rest := []) (v := (some (va_rf x17))) (w' := w14) (st1 := [va_rf x17]) hx hb hml hown hts hK hR hS (Nat.le_refl _) (Nat.le_refl _) rfl e15 (mJ18_removeFirst e16) (lw_V q1100 q1101 q1102 q136 q1103) (by decide +kernel) (Nat.le_of_ble_eq_true rfl) (Nat.le_of_ble_eq_true rfl) rfl hl.1 (Nat.le_of_ble_eq_true rfl) dX1_act_16 rfl rfl (fun H locs hR hS => ?_)
    replace h := bo_o h
    obtain ⟨a18, e19, h⟩ := h
    subst e19
    replace h := bo_o h
    obtain ⟨_, e20, h⟩ := h
    refine h_castS (ci := 21) hx hb hts hown hK hR hS rfl e20 q170 dX1_act_19 ?_
    refine lv_astore_n (lv' := [(1, .ref a18), (0, .ref v0)]) hx hb dX1_act_22 rfl hl (by decide) rfl (fun ls hl => ?_)
    exact bX1_act_23 B h  hR hS (lv_sub hl [1] rfl)
theorem mX1_act {l : Launch} {G : gE} {A : Nat → Prop} {v0 : Nat} {w : WH} {r : WH} (h : fX1_act v0 w = some r) : hM l G A yX1_act cX1_act 2 none 14 311 [.ref v0] w none r :=
  h_of (by decide +kernel) (Nat.le_of_ble_eq_true rfl) (fun p e s m args below meth c ls B hnm hR hS hl => bX1_act_0 B h hR hS hl)
noncomputable def fX1_clearTolls_b32 (v0 : Nat) (v2 : Int32) (s0 : Int32) (s1 : Int32) (w : WH) : Option (Sum (Int32 × Int32 × WH) ((Int32 × WH))) :=
  nm_ (s0 + s1) fun x1 =>
  (gR w v0 17 0).bind fun x3 =>
  x3.bind fun a5 =>
  (gR w a5 21 1).bind fun x7 =>
  x7.bind fun a9 =>
  (stI w a9 0 v2 0).bind fun w11 =>
  some (.inl (x1, v2 + 1, w11))
theorem bX1_clearTolls_32 {p : Program} {l : Launch} {e : Env} {s : State} {m : MethodId} {args : Array Value} {below : List Frame} {meth : Method} {c : Code} {H : Heap} {locs : List Loc} {ls : Array Slot} {G : gE} {A : Nat → Prop} {w0 : WH} (B : gB G RX1 cX1_clearTolls 3 (some .int) p s m args meth c) {v0 : Nat} {v2 : Int32} {s0 : Int32} {s1 : Int32} {w : WH} {x : Sum (Int32 × Int32 × WH) ((Int32 × WH))} {r : (Int32 × WH)} (h : fX1_clearTolls_b32 v0 v2 s0 s1 w = some x)  (k8 : ∀ (v1' : Int32) (v2' : Int32) (w' : WH), x = (.inl (v1', v2', w')) → ∀ (H : Heap) (locs : List Loc) (ls : Array Slot), RepH G A w' H → Cu A s w0 w' H locs → lv_has ls 3 [(0, .ref v0), (1, .int v1'), (2, .int v2')] → W p l e (hRm 15 332 w0) s m args below meth c H locs (wC w0 - wC w') (wS w0 - wS w') (hZ below args s G A w0 (some (.int r.1)) r.2) (F0 m 8 ls [])) (kR : ∀ q, x = (.inr q) → q = r) (hR : RepH G A w H) (hS : Cu A s w0 w H locs) (hl : lv_has ls 3 [(0, .ref v0), (2, .int v2)]) : W p l e (hRm 15 332 w0) s m args below meth c H locs (wC w0 - wC w) (wS w0 - wS w) (hZ below args s G A w0 (some (.int r.1)) r.2) (F0 m 32 ls [.int s1, .int s0]) := by
  have B0 := B
  obtain ⟨hx, hb, hml, hown, hts, hr, hlk, hK⟩ := B0
  unfold fX1_clearTolls_b32 at h
  refine lv_iadd hx hb dX1_clearTolls_32 ?_
  replace h := nm_o h
  obtain ⟨x1, e2, h⟩ := h
  refine lv_istore_n (lv' := [(1, .int x1), (0, .ref v0), (2, .int v2)]) hx hb dX1_clearTolls_33 rfl hl (by decide) (by subst e2; rfl) (fun ls hl => ?_)
  refine lv_aload_n hx hb dX1_clearTolls_34 rfl (lv_at hl 1 rfl) ?_
  replace h := bo_o h
  obtain ⟨x3, e4, h⟩ := h
  refine h_get (ci := 17) (k := 0) (v := va_rf x3) hx hb hts hown hK hR in_X1 rfl (by decide) (fun _ _ => rfl) q662 (fun _ h9 => h9) (gR_o e4) dX1_clearTolls_35 ?_
  replace h := bo_o h
  obtain ⟨a5, e6, h⟩ := h
  subst e6
  replace h := bo_o h
  obtain ⟨x7, e8, h⟩ := h
  refine h_getN (ci := 21) (k := 1) (v := va_rf x7) hx hb hts hown hK hR in_X2 rfl (by decide) (fun _ _ => rfl) (hK.fn 18 rfl) (fun _ h9 => h9) (gR_o e8) dX1_clearTolls_38 ?_
  refine lv_iload_n hx hb dX1_clearTolls_41 rfl (lv_at hl 2 rfl) ?_
  refine lv_iconst (v := 0) hx hb dX1_clearTolls_42 (by decide) ?_
  replace h := bo_o h
  obtain ⟨a9, e10, h⟩ := h
  subst e10
  replace h := bo_o h
  obtain ⟨w11, e12, h⟩ := h
  refine h_iast hx hb hK hR hS e12 dX1_clearTolls_43 (fun H locs hR hS => ?_)
  refine lv_iinc (v := v2 + 1) (lv' := [(2, .int (v2 + 1)), (1, .int x1), (0, .ref v0)]) hx hb dX1_clearTolls_44 hl (k := 2) rfl rfl (by decide) rfl (fun ls hl => ?_)
  refine lv_goto (tgt := 8) hx hb dX1_clearTolls_47 (by decide) ?_
  exact k8 _ _ _ (Option.some.inj h).symm H locs ls hR hS (lv_sub hl [2, 1, 0] rfl)
noncomputable def fX1_clearTolls_b8 (v0 : Nat) (v1 : Int32) (v2 : Int32) (w : WH) : Option (Sum (Int32 × Int32 × WH) ((Int32 × WH))) :=
  if 24 ≤ v2 then (
    some (.inr (v1, w))
  ) else (
    (gR w v0 17 0).bind fun x2 =>
    x2.bind fun a4 =>
    (gR w a4 21 1).bind fun x6 =>
    x6.bind fun a8 =>
    (ldI w a8 0 v2).bind fun x10 =>
    if x10 = 0 then (
      fX1_clearTolls_b32 v0 v2 v1 0 w
    ) else (
      fX1_clearTolls_b32 v0 v2 v1 1 w
    )
  )
theorem bX1_clearTolls_8 {p : Program} {l : Launch} {e : Env} {s : State} {m : MethodId} {args : Array Value} {below : List Frame} {meth : Method} {c : Code} {H : Heap} {locs : List Loc} {ls : Array Slot} {G : gE} {A : Nat → Prop} {w0 : WH} (B : gB G RX1 cX1_clearTolls 3 (some .int) p s m args meth c) {v0 : Nat} {v1 : Int32} {v2 : Int32} {w : WH} {x : Sum (Int32 × Int32 × WH) ((Int32 × WH))} {r : (Int32 × WH)} (h : fX1_clearTolls_b8 v0 v1 v2 w = some x)  (k8 : ∀ (v1' : Int32) (v2' : Int32) (w' : WH), x = (.inl (v1', v2', w')) → ∀ (H : Heap) (locs : List Loc) (ls : Array Slot), RepH G A w' H → Cu A s w0 w' H locs → lv_has ls 3 [(0, .ref v0), (1, .int v1'), (2, .int v2')] → W p l e (hRm 15 332 w0) s m args below meth c H locs (wC w0 - wC w') (wS w0 - wS w') (hZ below args s G A w0 (some (.int r.1)) r.2) (F0 m 8 ls [])) (kR : ∀ q, x = (.inr q) → q = r) (hR : RepH G A w H) (hS : Cu A s w0 w H locs) (hl : lv_has ls 3 [(0, .ref v0), (1, .int v1), (2, .int v2)]) : W p l e (hRm 15 332 w0) s m args below meth c H locs (wC w0 - wC w) (wS w0 - wS w) (hZ below args s G A w0 (some (.int r.1)) r.2) (F0 m 8 ls []) := by
  have B0 := B
  obtain ⟨hx, hb, hml, hown, hts, hr, hlk, hK⟩ := B0
  unfold fX1_clearTolls_b8 at h
  refine lv_iload_n hx hb dX1_clearTolls_8 rfl (lv_at hl 2 rfl) ?_
  refine lv_bipush (v := 24) hx hb dX1_clearTolls_9 (by decide) ?_
  refine lv_icmp_ge (tgt := 50) hx hb dX1_clearTolls_11 (by decide) (fun c1 => ?_) (fun c1 => ?_)
  · replace h := it_o c1 h
    refine lv_iload_n hx hb dX1_clearTolls_50 rfl (lv_at hl 1 rfl) ?_
    have eR := kR _ (Option.some.inj h).symm
    subst eR
    exact h_ifin hx hb hr hlk hR hS dX1_clearTolls_51
  · replace h := if_o c1 h
    refine lv_iload_n hx hb dX1_clearTolls_14 rfl (lv_at hl 1 rfl) ?_
    refine lv_aload_n hx hb dX1_clearTolls_15 rfl (lv_at hl 0 rfl) ?_
    replace h := bo_o h
    obtain ⟨x2, e3, h⟩ := h
    refine h_get (ci := 17) (k := 0) (v := va_rf x2) hx hb hts hown hK hR in_X1 rfl (by decide) (fun _ _ => rfl) q662 (fun _ h9 => h9) (gR_o e3) dX1_clearTolls_16 ?_
    replace h := bo_o h
    obtain ⟨a4, e5, h⟩ := h
    subst e5
    replace h := bo_o h
    obtain ⟨x6, e7, h⟩ := h
    refine h_getN (ci := 21) (k := 1) (v := va_rf x6) hx hb hts hown hK hR in_X2 rfl (by decide) (fun _ _ => rfl) (hK.fn 18 rfl) (fun _ h9 => h9) (gR_o e7) dX1_clearTolls_19 ?_
    refine lv_iload_n hx hb dX1_clearTolls_22 rfl (lv_at hl 2 rfl) ?_
    replace h := bo_o h
    obtain ⟨a8, e9, h⟩ := h
    subst e9
    replace h := bo_o h
    obtain ⟨x10, e11, h⟩ := h
    refine h_iald hx hb hK hR e11 dX1_clearTolls_23 ?_
    refine lv_if_eq (tgt := 31) hx hb dX1_clearTolls_24 (by decide) (fun c12 => ?_) (fun c12 => ?_)
    · replace h := it_o c12 h
      refine lv_iconst (v := 0) hx hb dX1_clearTolls_31 (by decide) ?_
      exact bX1_clearTolls_32 B h k8 kR hR hS (lv_sub hl [0, 2] rfl)
    · replace h := if_o c12 h
      refine lv_iconst (v := 1) hx hb dX1_clearTolls_27 (by decide) ?_
      refine lv_goto (tgt := 32) hx hb dX1_clearTolls_28 (by decide) ?_
      exact bX1_clearTolls_32 B h k8 kR hR hS (lv_sub hl [0, 2] rfl)
noncomputable def fX1_clearTolls_l8 (v0 : Nat) (v1 : Int32) (v2 : Int32) (w : WH) : Option ((Int32 × WH)) := whileO (fun q => fX1_clearTolls_b8 v0 q.1 q.2.1 q.2.2) (v1, v2, w)
theorem lX1_clearTolls_8 {p : Program} {l : Launch} {e : Env} {s : State} {m : MethodId} {args : Array Value} {below : List Frame} {meth : Method} {c : Code} {G : gE} {A : Nat → Prop} {w0 : WH} (B : gB G RX1 cX1_clearTolls 3 (some .int) p s m args meth c) {v0 : Nat} {r : (Int32 × WH)}   : ∀ (v1 : Int32) (v2 : Int32) (w : WH), fX1_clearTolls_l8 v0 v1 v2 w = some r → ∀ (H : Heap) (locs : List Loc) (ls : Array Slot), RepH G A w H → Cu A s w0 w H locs → lv_has ls 3 [(0, .ref v0), (1, .int v1), (2, .int v2)] → W p l e (hRm 15 332 w0) s m args below meth c H locs (wC w0 - wC w) (wS w0 - wS w) (hZ below args s G A w0 (some (.int r.1)) r.2) (F0 m 8 ls []) := by
  intro v1 v2 w h
  refine wh_walk (body := (fun q => fX1_clearTolls_b8 v0 q.1 q.2.1 q.2.2)) (P := (fun q : (Int32 × Int32 × WH) => ∀ (H : Heap) (locs : List Loc) (ls : Array Slot), RepH G A (q.2.2) H → Cu A s w0 (q.2.2) H locs → lv_has ls 3 [(0, .ref v0), (1, .int (q.1)), (2, .int (q.2.1))] → W p l e (hRm 15 332 w0) s m args below meth c H locs (wC w0 - wC (q.2.2)) (wS w0 - wS (q.2.2)) (hZ below args s G A w0 (some (.int r.1)) r.2) (F0 m 8 ls []))) (r := r) ?_ (v1, v2, w) h
  intro q y hy hL hr H locs ls hR hS hl
  exact bX1_clearTolls_8 (r := r) B hy (fun a0 a1 a2 e => hL (a0, a1, a2) e) (fun q e => hr q e) hR hS hl
noncomputable def fX1_clearTolls (v0 : Nat) (w : WH) : Option ((Int32 × WH)) :=
  (hIs w v0 17).bind fun _ =>
  (fX1_act v0 w).bind fun w1 =>
  fX1_clearTolls_l8 v0 0 0 w1
theorem bX1_clearTolls_0 {p : Program} {l : Launch} {e : Env} {s : State} {m : MethodId} {args : Array Value} {below : List Frame} {meth : Method} {c : Code} {H : Heap} {locs : List Loc} {ls : Array Slot} {G : gE} {A : Nat → Prop} {w0 : WH} (B : gB G RX1 cX1_clearTolls 3 (some .int) p s m args meth c) {v0 : Nat} {w : WH} {r : (Int32 × WH)} (h : fX1_clearTolls v0 w = some r)   (hR : RepH G A w H) (hS : Cu A s w0 w H locs) (hl : lv_has ls 3 [(0, .ref v0)]) : W p l e (hRm 15 332 w0) s m args below meth c H locs (wC w0 - wC w) (wS w0 - wS w) (hZ below args s G A w0 (some (.int r.1)) r.2) (F0 m 0 ls []) := by
  have B0 := B
  obtain ⟨hx, hb, hml, hown, hts, hr, hlk, hK⟩ := B0
  unfold fX1_clearTolls at h
  refine lv_aload_n hx hb dX1_clearTolls_0 rfl (lv_at hl 0 rfl) ?_
  replace h := bo_o h
  obtain ⟨_, e2, h⟩ := h
  replace h := bo_o h
  obtain ⟨w1, e3, h⟩ := h
  refine h_callV 0 (ci := 17) (As := []) (rest := []) (v := none) (w' := w1) (st1 := []) hx hb hml hown hts hK hR hS (Nat.le_refl _) (Nat.le_refl _) rfl e2 (mX1_act e3) (lw_V q1089 q1091 qs16 q112 q1092) (by decide +kernel) (Nat.le_of_ble_eq_true rfl) (Nat.le_of_ble_eq_true rfl) rfl hl.1 (Nat.le_of_ble_eq_true rfl) dX1_clearTolls_1 rfl rfl (fun H locs hR hS => ?_)
  refine lv_iconst (v := 0) hx hb dX1_clearTolls_4 (by decide) ?_
  refine lv_istore_n (lv' := [(1, .int 0), (0, .ref v0)]) hx hb dX1_clearTolls_5 rfl hl (by decide) rfl (fun ls hl => ?_)
  refine lv_iconst (v := 0) hx hb dX1_clearTolls_6 (by decide) ?_
  refine lv_istore_n (lv' := [(2, .int 0), (1, .int 0), (0, .ref v0)]) hx hb dX1_clearTolls_7 rfl hl (by decide) rfl (fun ls hl => ?_)
  exact lX1_clearTolls_8 B _ _ _ h H locs ls hR hS (lv_sub hl [2, 1, 0] rfl)
theorem mX1_clearTolls {l : Launch} {G : gE} {A : Nat → Prop} {v0 : Nat} {w : WH} {r : (Int32 × WH)} (h : fX1_clearTolls v0 w = some r) : hM l G A yX1_clearTolls cX1_clearTolls 3 (some .int) 15 332 [.ref v0] w (some (.int r.1)) r.2 :=
  h_of (by decide +kernel) (Nat.le_of_ble_eq_true rfl) (fun p e s m args below meth c ls B hnm hR hS hl => bX1_clearTolls_0 B h hR hS hl)
noncomputable def fX1_setTies (v0 : Nat) (v1 : Int32) (w : WH) : Option ((Int32 × WH)) :=
  (hIs w v0 17).bind fun _ =>
  (fX1_act v0 w).bind fun w1 =>
  (gR w1 v0 17 0).bind fun x4 =>
  x4.bind fun a6 =>
  (gI w1 a6 21 4).bind fun x8 =>
  (gR w1 v0 17 0).bind fun x10 =>
  x10.bind fun a12 =>
  (fz_ .boolean v1).bind fun _ =>
  (hPut w1 a12 21 4 (.int v1)).bind fun w15 =>
  (fz_ .boolean x8).bind fun _ =>
  some (x8, w15)
theorem bX1_setTies_0 {p : Program} {l : Launch} {e : Env} {s : State} {m : MethodId} {args : Array Value} {below : List Frame} {meth : Method} {c : Code} {H : Heap} {locs : List Loc} {ls : Array Slot} {G : gE} {A : Nat → Prop} {w0 : WH} (B : gB G RX1 cX1_setTies 3 (some .boolean) p s m args meth c) {v0 : Nat} {v1 : Int32} {w : WH} {r : (Int32 × WH)} (h : fX1_setTies v0 v1 w = some r)   (hR : RepH G A w H) (hS : Cu A s w0 w H locs) (hl : lv_has ls 3 [(0, .ref v0), (1, .int v1)]) : W p l e (hRm 15 332 w0) s m args below meth c H locs (wC w0 - wC w) (wS w0 - wS w) (hZ below args s G A w0 (some (.int r.1)) r.2) (F0 m 0 ls []) := by
  have B0 := B
  obtain ⟨hx, hb, hml, hown, hts, hr, hlk, hK⟩ := B0
  unfold fX1_setTies at h
  refine lv_aload_n hx hb dX1_setTies_0 rfl (lv_at hl 0 rfl) ?_
  replace h := bo_o h
  obtain ⟨_, e2, h⟩ := h
  replace h := bo_o h
  obtain ⟨w1, e3, h⟩ := h
  refine h_callV 0 (ci := 17) (As := []) (rest := []) (v := none) (w' := w1) (st1 := []) hx hb hml hown hts hK hR hS (Nat.le_refl _) (Nat.le_refl _) rfl e2 (mX1_act e3) (lw_V q1089 q1091 qs16 q112 q1092) (by decide +kernel) (Nat.le_of_ble_eq_true rfl) (Nat.le_of_ble_eq_true rfl) rfl hl.1 (Nat.le_of_ble_eq_true rfl) dX1_setTies_1 rfl rfl (fun H locs hR hS => ?_)
  refine lv_aload_n hx hb dX1_setTies_4 rfl (lv_at hl 0 rfl) ?_
  replace h := bo_o h
  obtain ⟨x4, e5, h⟩ := h
  refine h_get (ci := 17) (k := 0) (v := va_rf x4) hx hb hts hown hK hR in_X1 rfl (by decide) (fun _ _ => rfl) q662 (fun _ h9 => h9) (gR_o e5) dX1_setTies_5 ?_
  replace h := bo_o h
  obtain ⟨a6, e7, h⟩ := h
  subst e7
  replace h := bo_o h
  obtain ⟨x8, e9, h⟩ := h
  refine h_getN (ci := 21) (k := 4) (v := .int x8) hx hb hts hown hK hR in_X2 rfl (by decide) (fun _ _ => rfl) (hK.fn 22 rfl) (fun _ h9 => h9) (gI_o e9) dX1_setTies_8 ?_
  refine lv_istore_n (lv' := [(2, .int x8), (0, .ref v0), (1, .int v1)]) hx hb dX1_setTies_11 rfl hl (by decide) rfl (fun ls hl => ?_)
  refine lv_aload_n hx hb dX1_setTies_12 rfl (lv_at hl 1 rfl) ?_
  replace h := bo_o h
  obtain ⟨x10, e11, h⟩ := h
  refine h_get (ci := 17) (k := 0) (v := va_rf x10) hx hb hts hown hK hR in_X1 rfl (by decide) (fun _ _ => rfl) q662 (fun _ h9 => h9) (gR_o e11) dX1_setTies_13 ?_
  refine lv_iload_n hx hb dX1_setTies_16 rfl (lv_at hl 2 rfl) ?_
  replace h := bo_o h
  obtain ⟨a12, e13, h⟩ := h
  subst e13
  replace h := bo_o h
  obtain ⟨_, e14, h⟩ := h
  replace h := bo_o h
  obtain ⟨w15, e16, h⟩ := h
  refine h_putN (ci := 21) (k := 4) (ty := tyX2 4) hx hb hts hown hK hR hS in_X2 tyX2 tyX2_ok nmX2 rfl (by decide) (hK.fn 22 rfl) (fun _ h9 => h9) rfl (tyX2_ok 4 (by decide)) (fz_n (fun _ => ⟨_, rfl⟩) e14) (fz_f e14) e16 dX1_setTies_17 (fun H locs hR hS => ?_)
  refine lv_iload_n hx hb dX1_setTies_20 rfl (lv_at hl 0 rfl) ?_
  replace h := bo_o h
  obtain ⟨_, e17, h⟩ := h
  have eR := Option.some.inj h
  subst eR
  exact h_zfin hx hb hr hlk (fz_n (fun _ => ⟨_, rfl⟩) e17) hR hS dX1_setTies_21
theorem mX1_setTies {l : Launch} {G : gE} {A : Nat → Prop} {v0 : Nat} {v1 : Int32} {w : WH} {r : (Int32 × WH)} (h : fX1_setTies v0 v1 w = some r) : hM l G A yX1_setTies cX1_setTies 3 (some .boolean) 15 332 [.ref v0, .int v1] w (some (.int r.1)) r.2 :=
  h_of (by decide +kernel) (Nat.le_of_ble_eq_true rfl) (fun p e s m args below meth c ls B hnm hR hS hl => bX1_setTies_0 B h hR hS hl)
noncomputable def fX1_tiesForLeader (v0 : Nat) (w : WH) : Option ((Int32 × WH)) :=
  (gR w v0 17 0).bind fun x1 =>
  x1.bind fun a3 =>
  (gI w a3 21 4).bind fun x5 =>
  (fz_ .boolean x5).bind fun _ =>
  some (x5, w)
theorem bX1_tiesForLeader_0 {p : Program} {l : Launch} {e : Env} {s : State} {m : MethodId} {args : Array Value} {below : List Frame} {meth : Method} {c : Code} {H : Heap} {locs : List Loc} {ls : Array Slot} {G : gE} {A : Nat → Prop} {w0 : WH} (B : gB G RX1 cX1_tiesForLeader 1 (some .boolean) p s m args meth c) {v0 : Nat} {w : WH} {r : (Int32 × WH)} (h : fX1_tiesForLeader v0 w = some r)   (hR : RepH G A w H) (hS : Cu A s w0 w H locs) (hl : lv_has ls 1 [(0, .ref v0)]) : W p l e (hRm 0 0 w0) s m args below meth c H locs (wC w0 - wC w) (wS w0 - wS w) (hZ below args s G A w0 (some (.int r.1)) r.2) (F0 m 0 ls []) := by
  have B0 := B
  obtain ⟨hx, hb, hml, hown, hts, hr, hlk, hK⟩ := B0
  unfold fX1_tiesForLeader at h
  refine lv_aload_n hx hb dX1_tiesForLeader_0 rfl (lv_at hl 0 rfl) ?_
  replace h := bo_o h
  obtain ⟨x1, e2, h⟩ := h
  refine h_get (ci := 17) (k := 0) (v := va_rf x1) hx hb hts hown hK hR in_X1 rfl (by decide) (fun _ _ => rfl) q662 (fun _ h9 => h9) (gR_o e2) dX1_tiesForLeader_1 ?_
  replace h := bo_o h
  obtain ⟨a3, e4, h⟩ := h
  subst e4
  replace h := bo_o h
  obtain ⟨x5, e6, h⟩ := h
  refine h_getN (ci := 21) (k := 4) (v := .int x5) hx hb hts hown hK hR in_X2 rfl (by decide) (fun _ _ => rfl) (hK.fn 22 rfl) (fun _ h9 => h9) (gI_o e6) dX1_tiesForLeader_4 ?_
  replace h := bo_o h
  obtain ⟨_, e7, h⟩ := h
  have eR := Option.some.inj h
  subst eR
  exact h_zfin hx hb hr hlk (fz_n (fun _ => ⟨_, rfl⟩) e7) hR hS dX1_tiesForLeader_7
theorem mX1_tiesForLeader {l : Launch} {G : gE} {A : Nat → Prop} {v0 : Nat} {w : WH} {r : (Int32 × WH)} (h : fX1_tiesForLeader v0 w = some r) : hM l G A yX1_tiesForLeader cX1_tiesForLeader 1 (some .boolean) 0 0 [.ref v0] w (some (.int r.1)) r.2 :=
  h_of (by decide +kernel) (Nat.le_of_ble_eq_true rfl) (fun p e s m args below meth c ls B hnm hR hS hl => bX1_tiesForLeader_0 B h hR hS hl)
noncomputable def fJ18_isEmpty (v0 : Nat) (w : WH) : Option ((Int32 × WH)) :=
  (gI w v0 1 1).bind fun x1 =>
  (gI w v0 1 2).bind fun x3 =>
  if x1 = x3 then (
    some (1, w)
  ) else (
    some (0, w)
  )
theorem bJ18_isEmpty_0 {p : Program} {l : Launch} {e : Env} {s : State} {m : MethodId} {args : Array Value} {below : List Frame} {meth : Method} {c : Code} {H : Heap} {locs : List Loc} {ls : Array Slot} {G : gE} {A : Nat → Prop} {w0 : WH} (B : gB G RJ18 cJ18_isEmpty 1 (some .boolean) p s m args meth c) {v0 : Nat} {w : WH} {r : (Int32 × WH)} (h : fJ18_isEmpty v0 w = some r)   (hR : RepH G A w H) (hS : Cu A s w0 w H locs) (hl : lv_has ls 1 [(0, .ref v0)]) : W p l e (hRm 0 0 w0) s m args below meth c H locs (wC w0 - wC w) (wS w0 - wS w) (hZ below args s G A w0 (some (.int r.1)) r.2) (F0 m 0 ls []) := by
  have B0 := B
  obtain ⟨hx, hb, hml, hown, hts, hr, hlk, hK⟩ := B0
  unfold fJ18_isEmpty at h
  refine lv_aload_n hx hb dJ18_isEmpty_0 rfl (lv_at hl 0 rfl) ?_
  replace h := bo_o h
  obtain ⟨x1, e2, h⟩ := h
  refine h_get (ci := 1) (k := 1) (v := .int x1) hx hb hts hown hK hR in_J18 rfl (by decide) (fun _ _ => rfl) q650 (fun _ h9 => h9) (gI_o e2) dJ18_isEmpty_1 ?_
  refine lv_aload_n hx hb dJ18_isEmpty_4 rfl (lv_at hl 0 rfl) ?_
  replace h := bo_o h
  obtain ⟨x3, e4, h⟩ := h
  refine h_get (ci := 1) (k := 2) (v := .int x3) hx hb hts hown hK hR in_J18 rfl (by decide) (fun _ _ => rfl) q651 (fun _ h9 => h9) (gI_o e4) dJ18_isEmpty_5 ?_
  refine lv_icmp_ne (tgt := 15) hx hb dJ18_isEmpty_8 (by decide) (fun c5 => ?_) (fun c5 => ?_)
  · replace h := if_o c5 h
    refine lv_iconst (v := 0) hx hb dJ18_isEmpty_15 (by decide) ?_
    have eR := Option.some.inj h
    subst eR
    exact h_zfin hx hb hr hlk (by show narrow .boolean (.int 0) = .int 0; decide) hR hS dJ18_isEmpty_16
  · replace h := it_o c5 h
    refine lv_iconst (v := 1) hx hb dJ18_isEmpty_11 (by decide) ?_
    refine lv_goto (tgt := 16) hx hb dJ18_isEmpty_12 (by decide) ?_
    have eR := Option.some.inj h
    subst eR
    exact h_zfin hx hb hr hlk (by show narrow .boolean (.int 1) = .int 1; decide) hR hS dJ18_isEmpty_16
theorem mJ18_isEmpty {l : Launch} {G : gE} {A : Nat → Prop} {v0 : Nat} {w : WH} {r : (Int32 × WH)} (h : fJ18_isEmpty v0 w = some r) : hM l G A yJ18_isEmpty cJ18_isEmpty 1 (some .boolean) 0 0 [.ref v0] w (some (.int r.1)) r.2 :=
  h_of (by decide +kernel) (Nat.le_of_ble_eq_true rfl) (fun p e s m args below meth c ls B hnm hR hS hl => bJ18_isEmpty_0 B h hR hS hl)
noncomputable def fJ18_dec (v0 : Int32) (v1 : Int32) (w : WH) : Option ((Int32 × WH)) :=
  if 0 ≤ v0 + (-1) then (
    some (v0 + (-1), w)
  ) else (
    nm_ (v1 - 1) fun x2 =>
    some (x2, w)
  )
theorem bJ18_dec_0 {p : Program} {l : Launch} {e : Env} {s : State} {m : MethodId} {args : Array Value} {below : List Frame} {meth : Method} {c : Code} {H : Heap} {locs : List Loc} {ls : Array Slot} {G : gE} {A : Nat → Prop} {w0 : WH} (B : gB G RJ18 cJ18_dec 2 (some .int) p s m args meth c) {v0 : Int32} {v1 : Int32} {w : WH} {r : (Int32 × WH)} (h : fJ18_dec v0 v1 w = some r)   (hR : RepH G A w H) (hS : Cu A s w0 w H locs) (hl : lv_has ls 2 [(0, .int v0), (1, .int v1)]) : W p l e (hRm 0 0 w0) s m args below meth c H locs (wC w0 - wC w) (wS w0 - wS w) (hZ below args s G A w0 (some (.int r.1)) r.2) (F0 m 0 ls []) := by
  have B0 := B
  obtain ⟨hx, hb, hml, hown, hts, hr, hlk, hK⟩ := B0
  unfold fJ18_dec at h
  refine lv_iinc (v := v0 + (-1)) (lv' := [(0, .int (v0 + (-1))), (1, .int v1)]) hx hb dJ18_dec_0 hl (k := 0) rfl rfl (by decide) rfl (fun ls hl => ?_)
  refine lv_iload_n hx hb dJ18_dec_3 rfl (lv_at hl 0 rfl) ?_
  refine lv_if_ge (tgt := 11) hx hb dJ18_dec_4 (by decide) (fun c1 => ?_) (fun c1 => ?_)
  · replace h := it_o c1 h
    refine lv_iload_n hx hb dJ18_dec_11 rfl (lv_at hl 0 rfl) ?_
    have eR := Option.some.inj h
    subst eR
    exact h_ifin hx hb hr hlk hR hS dJ18_dec_12
  · replace h := if_o c1 h
    refine lv_iload_n hx hb dJ18_dec_7 rfl (lv_at hl 1 rfl) ?_
    refine lv_iconst (v := 1) hx hb dJ18_dec_8 (by decide) ?_
    refine lv_isub hx hb dJ18_dec_9 ?_
    replace h := nm_o h
    obtain ⟨x2, e3, h⟩ := h
    refine lv_istore_n (lv' := [(0, .int x2), (1, .int v1)]) hx hb dJ18_dec_10 rfl hl (by decide) (by subst e3; rfl) (fun ls hl => ?_)
    refine lv_iload_n hx hb dJ18_dec_11 rfl (lv_at hl 0 rfl) ?_
    have eR := Option.some.inj h
    subst eR
    exact h_ifin hx hb hr hlk hR hS dJ18_dec_12
theorem mJ18_dec {l : Launch} {G : gE} {A : Nat → Prop} {v0 : Int32} {v1 : Int32} {w : WH} {r : (Int32 × WH)} (h : fJ18_dec v0 v1 w = some r) : hM l G A yJ18_dec cJ18_dec 2 (some .int) 0 0 [.int v0, .int v1] w (some (.int r.1)) r.2 :=
  h_of (by decide +kernel) (Nat.le_of_ble_eq_true rfl) (fun p e s m args below meth c ls B hnm hR hS hl => bJ18_dec_0 B h hR hS hl)
