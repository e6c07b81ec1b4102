set_option maxRecDepth 100000
set_option maxHeartbeats 4000000

noncomputable def fJ13_copyOfRange_b10 (v0 : Nat) (v1 : Int32) (v2 : Int32) (w : WH) : Option ((Option Nat × WH)) :=
  b2_ (fJ13_copyOfRangeByte v0 v1 v2 w) fun x3 w1 =>
  some (x3, w1)
theorem bJ13_copyOfRange_10 {p : Program} {l : Launch} {e : Env} {s : State} {m : MethodId} {args : Array Value} {below : List Frame} {meth : Method} {c : Code} {H : Heap} {locs : List Loc} {ls : Array Slot} {G : gE} {A : Nat → Prop} {w0 : WH} (B : gB G RJ13 cJ13_copyOfRange 3 (some (.array .byte)) p s m args meth c) {v0 : Nat} {v1 : Int32} {v2 : Int32} {w : WH} {r : (Option Nat × WH)} (h : fJ13_copyOfRange_b10 v0 v1 v2 w = some r)   (hR : RepH G A w H) (hS : Cu A s w0 w H locs) (hl : lv_has ls 3 [(0, .ref v0), (1, .int v1), (2, .int v2)]) : W p l e (hRm 8 182 w0) s m args below meth c H locs (wC w0 - wC w) (wS w0 - wS w) (hZ below args s G A w0 (some (va_rf r.1)) r.2) (F0 m 10 ls []) := by
  have B0 := B
  obtain ⟨hx, hb, hml, hown, hts, hr, hlk, hK⟩ := B0
  unfold fJ13_copyOfRange_b10 at h
  refine lv_aload_n hx hb dJ13_copyOfRange_10 rfl (lv_at hl 0 rfl) ?_
  refine lv_iload_n hx hb dJ13_copyOfRange_11 rfl (lv_at hl 1 rfl) ?_
  refine lv_iload_n hx hb dJ13_copyOfRange_12 rfl (lv_at hl 2 rfl) ?_
  replace h := b2_o h
  obtain ⟨x3, w1, e2, h⟩ := h
  refine h_callS 3  (As := [.ref v0, .int v1, .int v2]) (rest := []) (v := (some (va_rf x3))) (w' := w1) (st1 := [va_rf x3]) hx hb hml hown hts hK hR hS (Nat.le_refl _) (Nat.le_refl _) (mJ13_copyOfRangeByte e2) (lw_S q447 q448 q128 q449) (by decide +kernel) (Nat.le_of_ble_eq_true rfl) (Nat.le_of_ble_eq_true rfl) rfl hl.1 (Nat.le_of_ble_eq_true rfl) dJ13_copyOfRange_13 rfl rfl (fun H locs hR hS => ?_)
  have eR := Option.some.inj h
  subst eR
  exact h_afin (x := x3) hx hb hr hlk (by first | exact Or.inl ⟨_, rfl⟩ | exact Or.inr ⟨_, rfl⟩) hR hS dJ13_copyOfRange_16
noncomputable def fJ13_copyOfRange (v0 : Nat) (v1 : Int32) (v2 : Int32) (w : WH) : Option ((Option Nat × WH)) :=
  if v1 = 0 then (
    (aLn w v0).bind fun x2 =>
    if v2 = x2 then (
      b2_ (hCn w v0) fun a5 w6 =>
      (hTa w6 a5 2).bind fun _ =>
      some (some a5, w6)
    ) else (
      fJ13_copyOfRange_b10 v0 v1 v2 w
    )
  ) else (
    fJ13_copyOfRange_b10 v0 v1 v2 w
  )
theorem bJ13_copyOfRange_0 {p : Program} {l : Launch} {e : Env} {s : State} {m : MethodId} {args : Array Value} {below : List Frame} {meth : Method} {c : Code} {H : Heap} {locs : List Loc} {ls : Array Slot} {G : gE} {A : Nat → Prop} {w0 : WH} (B : gB G RJ13 cJ13_copyOfRange 3 (some (.array .byte)) p s m args meth c) {v0 : Nat} {v1 : Int32} {v2 : Int32} {w : WH} {r : (Option Nat × WH)} (h : fJ13_copyOfRange v0 v1 v2 w = some r)   (hR : RepH G A w H) (hS : Cu A s w0 w H locs) (hl : lv_has ls 3 [(0, .ref v0), (1, .int v1), (2, .int v2)]) : W p l e (hRm 8 182 w0) s m args below meth c H locs (wC w0 - wC w) (wS w0 - wS w) (hZ below args s G A w0 (some (va_rf r.1)) r.2) (F0 m 0 ls []) := by
  have B0 := B
  obtain ⟨hx, hb, hml, hown, hts, hr, hlk, hK⟩ := B0
  unfold fJ13_copyOfRange at h
  refine lv_iload_n hx hb dJ13_copyOfRange_0 rfl (lv_at hl 1 rfl) ?_
  refine lv_if_ne (tgt := 10) hx hb dJ13_copyOfRange_1 (by decide) (fun c1 => ?_) (fun c1 => ?_)
  · replace h := if_o c1 h
    exact bJ13_copyOfRange_10 B h  hR hS (lv_sub hl [0, 1, 2] rfl)
  · replace h := it_o c1 h
    refine lv_iload_n hx hb dJ13_copyOfRange_4 rfl (lv_at hl 2 rfl) ?_
    refine lv_aload_n hx hb dJ13_copyOfRange_5 rfl (lv_at hl 0 rfl) ?_
    replace h := bo_o h
    obtain ⟨x2, e3, h⟩ := h
    refine h_alen hx hb hK hR hS e3 dJ13_copyOfRange_6 ?_
    refine lv_icmp_eq (tgt := 17) hx hb dJ13_copyOfRange_7 (by decide) (fun c4 => ?_) (fun c4 => ?_)
    · replace h := it_o c4 h
      refine lv_aload_n hx hb dJ13_copyOfRange_17 rfl (lv_at hl 0 rfl) ?_
      replace h := b2_o h
      obtain ⟨a5, w6, e7, h⟩ := h
      refine h_clone hx hb (hml.trans hl.1.symm) hts hown hK hR hS (Nat.le_refl _) (Nat.le_refl _) q305 q306 q307 q308 q309 (hK.ca 1 rfl) (Nat.le_of_ble_eq_true rfl) (Nat.le_of_ble_eq_true rfl) e7 dJ13_copyOfRange_18 (fun H locs hR hS => ?_)
      replace h := bo_o h
      obtain ⟨_, e8, h⟩ := h
      refine h_castB hx hb hts hown hK hR e8 q311 dJ13_copyOfRange_21 ?_
      have eR := Option.some.inj h
      subst eR
      exact h_afin (x := some a5) hx hb hr hlk (by first | exact Or.inl ⟨_, rfl⟩ | exact Or.inr ⟨_, rfl⟩) hR hS dJ13_copyOfRange_24
    · replace h := if_o c4 h
      exact bJ13_copyOfRange_10 B h  hR hS (lv_sub hl [0, 1, 2] rfl)
theorem mJ13_copyOfRange {l : Launch} {G : gE} {A : Nat → Prop} {v0 : Nat} {v1 : Int32} {v2 : Int32} {w : WH} {r : (Option Nat × WH)} (h : fJ13_copyOfRange v0 v1 v2 w = some r) : hM l G A yJ13_copyOfRange cJ13_copyOfRange 3 (some (.array .byte)) 8 182 [.ref v0, .int v1, .int v2] w (some (va_rf r.1)) r.2 :=
  h_of (by decide +kernel) (Nat.le_of_ble_eq_true rfl) (fun p e s m args below meth c ls B hnm hR hS hl => bJ13_copyOfRange_0 B h hR hS hl)
noncomputable def fJ9_init_2_b79 (v0 : Nat) (v3 : Option Nat) (v4 : Int32) (w : WH) : Option (WH) :=
  (hPut w v0 16 1 (.int 1)).bind fun w1 =>
  v3.bind fun a3 =>
  b2_ (fJ13_copyOfRange a3 0 (v4 <<< ((1 : Int32) &&& 31)) w1) fun x7 w5 =>
  (hPut w5 v0 16 0 (va_rf x7)).bind fun w8 =>
  some w8
theorem bJ9_init_2_79 {p : Program} {l : Launch} {e : Env} {s : State} {m : MethodId} {args : Array Value} {below : List Frame} {meth : Method} {c : Code} {H : Heap} {locs : List Loc} {ls : Array Slot} {G : gE} {A : Nat → Prop} {w0 : WH} (B : gB G RJ9 cJ9_init_2 5 none p s m args meth c) (hnm : meth.name = "<init>") {v0 : Nat} {v3 : Option Nat} {v4 : Int32} {w : WH} {r : WH} (h : fJ9_init_2_b79 v0 v3 v4 w = some r)   (hR : RepH G A w H) (hS : Cu A s w0 w H locs) (hl : lv_has ls 5 [(0, .ref v0), (3, va_rf v3), (4, .int v4)]) : W p l e (hRm 9 204 w0) s m args below meth c H locs (wC w0 - wC w) (wS w0 - wS w) (hZ below args s G A w0 none r) (F0 m 79 ls []) := by
  have B0 := B
  obtain ⟨hx, hb, hml, hown, hts, hr, hlk, hK⟩ := B0
  unfold fJ9_init_2_b79 at h
  refine lv_aload_n hx hb dJ9_init_2_79 rfl (lv_at hl 0 rfl) ?_
  refine lv_iconst (v := 1) hx hb dJ9_init_2_80 (by decide) ?_
  replace h := bo_o h
  obtain ⟨w1, e2, h⟩ := h
  refine h_putF (ci := 16) (k := 1) (ty := tyJ9 1) hx hb hts hown hK hR hS in_J9 tyJ9 tyJ9_ok nmJ9 rfl (by decide) q499 (fun _ h9 => h9) rfl hnm rfl (tyJ9_ok 1 (by decide)) rfl rfl e2 dJ9_init_2_81 (fun H locs hR hS => ?_)
  refine lv_aload_n hx hb dJ9_init_2_84 rfl (lv_at hl 0 rfl) ?_
  refine lv_aload_nq hx hb dJ9_init_2_85 rfl (lv_at hl 1 rfl) ?_
  refine lv_iconst (v := 0) hx hb dJ9_init_2_86 (by decide) ?_
  refine lv_iload hx hb dJ9_init_2_87 (lv_at hl 2 rfl) ?_
  refine lv_iconst (v := 1) hx hb dJ9_init_2_89 (by decide) ?_
  refine lv_ishl hx hb dJ9_init_2_90 ?_
  replace h := bo_o h
  obtain ⟨a3, e4, h⟩ := h
  subst e4
  replace h := b2_o h
  obtain ⟨x7, w5, e6, h⟩ := h
  refine h_callS 3  (As := [.ref a3, .int 0, .int (v4 <<< ((1 : Int32) &&& 31))]) (rest := [.ref v0]) (v := (some (va_rf x7))) (w' := w5) (st1 := [va_rf x7, .ref v0]) hx hb hml hown hts hK hR hS (Nat.le_refl _) (Nat.le_refl _) (mJ13_copyOfRange e6) (lw_S q444 q445 q128 q446) (by decide +kernel) (Nat.le_of_ble_eq_true rfl) (Nat.le_of_ble_eq_true rfl) rfl hl.1 (Nat.le_of_ble_eq_true rfl) dJ9_init_2_91 rfl rfl (fun H locs hR hS => ?_)
  replace h := bo_o h
  obtain ⟨w8, e9, h⟩ := h
  refine h_putF (ci := 16) (k := 0) (ty := tyJ9 0) hx hb hts hown hK hR hS in_J9 tyJ9 tyJ9_ok nmJ9 rfl (by decide) q498 (fun _ h9 => h9) rfl hnm rfl (tyJ9_ok 0 (by decide)) (by cases x7 <;> rfl) (by cases x7 <;> rfl) e9 dJ9_init_2_94 (fun H locs hR hS => ?_)
  have eR := Option.some.inj h
  subst eR
  exact h_vfin hx hb hr hlk hR hS dJ9_init_2_97
noncomputable def fJ9_init_2_b27 (v0 : Nat) (v3 : Option Nat) (v4 : Int32) (w : WH) : Option (WH) :=
  v3.bind fun a1 =>
  b2_ (fJ13_copyOfRange a1 0 v4 w) fun x5 w3 =>
  (hPut w3 v0 16 0 (va_rf x5)).bind fun w6 =>
  some w6
theorem bJ9_init_2_27 {p : Program} {l : Launch} {e : Env} {s : State} {m : MethodId} {args : Array Value} {below : List Frame} {meth : Method} {c : Code} {H : Heap} {locs : List Loc} {ls : Array Slot} {G : gE} {A : Nat → Prop} {w0 : WH} (B : gB G RJ9 cJ9_init_2 5 none p s m args meth c) (hnm : meth.name = "<init>") {v0 : Nat} {v3 : Option Nat} {v4 : Int32} {w : WH} {r : WH} (h : fJ9_init_2_b27 v0 v3 v4 w = some r)   (hR : RepH G A w H) (hS : Cu A s w0 w H locs) (hl : lv_has ls 5 [(0, .ref v0), (3, va_rf v3), (4, .int v4)]) : W p l e (hRm 9 204 w0) s m args below meth c H locs (wC w0 - wC w) (wS w0 - wS w) (hZ below args s G A w0 none r) (F0 m 27 ls []) := by
  have B0 := B
  obtain ⟨hx, hb, hml, hown, hts, hr, hlk, hK⟩ := B0
  unfold fJ9_init_2_b27 at h
  refine lv_aload_n hx hb dJ9_init_2_27 rfl (lv_at hl 0 rfl) ?_
  refine lv_aload_nq hx hb dJ9_init_2_28 rfl (lv_at hl 1 rfl) ?_
  refine lv_iconst (v := 0) hx hb dJ9_init_2_29 (by decide) ?_
  refine lv_iload hx hb dJ9_init_2_30 (lv_at hl 2 rfl) ?_
  replace h := bo_o h
  obtain ⟨a1, e2, h⟩ := h
  subst e2
  replace h := b2_o h
  obtain ⟨x5, w3, e4, h⟩ := h
  refine h_callS 3  (As := [.ref a1, .int 0, .int v4]) (rest := [.ref v0]) (v := (some (va_rf x5))) (w' := w3) (st1 := [va_rf x5, .ref v0]) hx hb hml hown hts hK hR hS (Nat.le_refl _) (Nat.le_refl _) (mJ13_copyOfRange e4) (lw_S q444 q445 q128 q446) (by decide +kernel) (Nat.le_of_ble_eq_true rfl) (Nat.le_of_ble_eq_true rfl) rfl hl.1 (Nat.le_of_ble_eq_true rfl) dJ9_init_2_32 rfl rfl (fun H locs hR hS => ?_)
  replace h := bo_o h
  obtain ⟨w6, e7, h⟩ := h
  refine h_putF (ci := 16) (k := 0) (ty := tyJ9 0) hx hb hts hown hK hR hS in_J9 tyJ9 tyJ9_ok nmJ9 rfl (by decide) q498 (fun _ h9 => h9) rfl hnm rfl (tyJ9_ok 0 (by decide)) (by cases x5 <;> rfl) (by cases x5 <;> rfl) e7 dJ9_init_2_35 (fun H locs hR hS => ?_)
  refine lv_goto (tgt := 97) hx hb dJ9_init_2_38 (by decide) ?_
  have eR := Option.some.inj h
  subst eR
  exact h_vfin hx hb hr hlk hR hS dJ9_init_2_97
noncomputable def fJ9_init_2 (v0 : Nat) (v1 : Nat) (v2 : Option Nat) (w : WH) : Option (WH) :=
  (hIs w v1 15).bind fun _ =>
  b2_ (fJ7_getValue v1 w) fun x4 w1 =>
  (hIs w1 v1 15).bind fun _ =>
  b2_ (fJ8_length v1 w1) fun x8 w5 =>
  (hIs w5 v1 15).bind fun _ =>
  b2_ (fJ7_isLatin1 v1 w5) fun x12 w9 =>
  if x12 = 0 then (
    if (1 : Int32) = 0 then (
      fJ9_init_2_b79 v0 x4 x8 w9
    ) else (
      (gI w9 v1 15 2).bind fun x15 =>
      if x15 = 0 then (
        fJ9_init_2_b79 v0 x4 x8 w9
      ) else (
        none
      )
    )
  ) else (
    (hPut w9 v0 16 1 (.int 0)).bind fun w18 =>
    fJ9_init_2_b27 v0 x4 x8 w18
  )
theorem bJ9_init_2_0 {p : Program} {l : Launch} {e : Env} {s : State} {m : MethodId} {args : Array Value} {below : List Frame} {meth : Method} {c : Code} {H : Heap} {locs : List Loc} {ls : Array Slot} {G : gE} {A : Nat → Prop} {w0 : WH} (B : gB G RJ9 cJ9_init_2 5 none p s m args meth c) (hnm : meth.name = "<init>") {v0 : Nat} {v1 : Nat} {v2 : Option Nat} {w : WH} {r : WH} (h : fJ9_init_2 v0 v1 v2 w = some r)   (hR : RepH G A w H) (hS : Cu A s w0 w H locs) (hl : lv_has ls 5 [(0, .ref v0), (1, .ref v1), (2, va_rf v2)]) : W p l e (hRm 9 204 w0) s m args below meth c H locs (wC w0 - wC w) (wS w0 - wS w) (hZ below args s G A w0 none r) (F0 m 0 ls []) := by
  have B0 := B
  obtain ⟨hx, hb, hml, hown, hts, hr, hlk, hK⟩ := B0
  unfold fJ9_init_2 at h
  refine lv_aload_n hx hb dJ9_init_2_0 rfl (lv_at hl 0 rfl) ?_
  refine W.objInit hx hb hown (hts _ q429) (hts _ q168) (hts _ q169) rfl (by rw [hml]; exact hl.1) rfl dJ9_init_2_1 (Nat.le_of_ble_eq_true rfl) (Nat.le_of_ble_eq_true rfl) ?_
  refine W.eq (g2 := F0 m 4 ls []) rfl ?_
  refine lv_aload_n hx hb dJ9_init_2_4 rfl (lv_at hl 1 rfl) ?_
  replace h := bo_o h
  obtain ⟨_, e2, h⟩ := h
  replace h := b2_o h
  obtain ⟨x4, w1, e3, h⟩ := h
  refine h_callX 0 (ci := 15) (As := []) (rest := []) (v := (some (va_rf x4))) (w' := w1) (st1 := [va_rf x4]) hx hb hml hown hts hK hR hS (Nat.le_refl _) (Nat.le_refl _) rfl e2 (mJ7_getValue e3) (lw_meth q434) q122 q430 q431 (hts _ q433) (by decide +kernel) (Nat.le_of_ble_eq_true rfl) (Nat.le_of_ble_eq_true rfl) rfl hl.1 (Nat.le_of_ble_eq_true rfl) dJ9_init_2_5 rfl rfl (fun H locs hR hS => ?_)
  refine lv_astore_nq (lv' := [(3, va_rf x4), (0, .ref v0), (1, .ref v1), (2, va_rf v2)]) hx hb dJ9_init_2_8 rfl hl (by decide) (by cases v2 <;> rfl) (fun ls hl => ?_)
  refine lv_aload_n hx hb dJ9_init_2_9 rfl (lv_at hl 2 rfl) ?_
  replace h := bo_o h
  obtain ⟨_, e6, h⟩ := h
  replace h := b2_o h
  obtain ⟨x8, w5, e7, h⟩ := h
  refine h_callO 0 (ci := 15) (owner := "java/lang/AbstractStringBuilder") (x := ⟨"java/lang/AbstractStringBuilder", "length", "()I"⟩) (As := []) (rest := []) (v := (some (.int x8))) (w' := w5) (st1 := [.int x8]) hx hb hml hown hts hK hR hS (Nat.le_refl _) (Nat.le_refl _) rfl e6 (mJ8_length e7) (lw_app (a := [.methodLink _ _ _, .sameMethod _ _ _ _, .instanceMethod _, .selects _ _ _, .instanceMethod _, .initialized _]) (lw_6 q435 q437 q436 q438 q439 q123) (lw_meth q440)) q442 (by decide +kernel) (Nat.le_of_ble_eq_true rfl) (Nat.le_of_ble_eq_true rfl) rfl hl.1 (Nat.le_of_ble_eq_true rfl) dJ9_init_2_10 rfl rfl (fun H locs hR hS => ?_)
  refine lv_istore (lv' := [(4, .int x8), (3, va_rf x4), (0, .ref v0), (1, .ref v1), (2, va_rf v2)]) hx hb dJ9_init_2_13 hl (by decide) (by cases x4 <;> rfl) (fun ls hl => ?_)
  refine lv_aload_n hx hb dJ9_init_2_15 rfl (lv_at hl 3 rfl) ?_
  replace h := bo_o h
  obtain ⟨_, e10, h⟩ := h
  replace h := b2_o h
  obtain ⟨x12, w9, e11, h⟩ := h
  refine h_callX 0 (ci := 15) (As := []) (rest := []) (v := (some (.int x12))) (w' := w9) (st1 := [.int x12]) hx hb hml hown hts hK hR hS (Nat.le_refl _) (Nat.le_refl _) rfl e10 (mJ7_isLatin1 e11) (lw_meth q322) q122 q443 q319 (hts _ q321) (by decide +kernel) (Nat.le_of_ble_eq_true rfl) (Nat.le_of_ble_eq_true rfl) rfl hl.1 (Nat.le_of_ble_eq_true rfl) dJ9_init_2_16 rfl rfl (fun H locs hR hS => ?_)
  refine lv_if_eq (tgt := 41) hx hb dJ9_init_2_19 (by decide) (fun c13 => ?_) (fun c13 => ?_)
  · replace h := it_o c13 h
    refine h_gets (v := .int 1) hx hb hts hown hR hS (hK.2.2.2.1 _ (List.mem_of_getElem? (i := 0) rfl)) q357 (fun _ h9 => h9) dJ9_init_2_41 ?_
    refine lv_if_eq (tgt := 79) hx hb dJ9_init_2_44 (by decide) (fun c14 => ?_) (fun c14 => ?_)
    · replace h := it_o c14 h
      exact bJ9_init_2_79 B hnm h  hR hS (lv_sub hl [2, 1, 0] rfl)
    · replace h := if_o c14 h
      refine lv_aload_n hx hb dJ9_init_2_47 rfl (lv_at hl 3 rfl) ?_
      replace h := bo_o h
      obtain ⟨x15, e16, h⟩ := h
      refine h_get (ci := 15) (k := 2) (v := .int x15) hx hb hts hown hK hR in_J8 rfl (by decide) (fun _ _ => rfl) q259 (fun _ h9 => h9) (gI_o e16) dJ9_init_2_48 ?_
      refine lv_if_eq (tgt := 79) hx hb dJ9_init_2_51 (by decide) (fun c17 => ?_) (fun c17 => ?_)
      · replace h := it_o c17 h
        exact bJ9_init_2_79 B hnm h  hR hS (lv_sub hl [2, 1, 0] rfl)
      · replace h := if_o c17 h
        refine lv_aload_n hx hb dJ9_init_2_54 rfl (lv_at hl 2 rfl) ?_
        refine lv_aload_nq hx hb dJ9_init_2_55 rfl (lv_at hl 1 rfl) ?_
        refine lv_iconst (v := 0) hx hb dJ9_init_2_56 (by decide) ?_
        refine lv_iload hx hb dJ9_init_2_57 (lv_at hl 0 rfl) ?_
        exact (nomatch h)
  · replace h := if_o c13 h
    refine lv_aload_n hx hb dJ9_init_2_22 rfl (lv_at hl 2 rfl) ?_
    refine lv_iconst (v := 0) hx hb dJ9_init_2_23 (by decide) ?_
    replace h := bo_o h
    obtain ⟨w18, e19, h⟩ := h
    refine h_putF (ci := 16) (k := 1) (ty := tyJ9 1) hx hb hts hown hK hR hS in_J9 tyJ9 tyJ9_ok nmJ9 rfl (by decide) q499 (fun _ h9 => h9) rfl hnm rfl (tyJ9_ok 1 (by decide)) rfl rfl e19 dJ9_init_2_24 (fun H locs hR hS => ?_)
    exact bJ9_init_2_27 B hnm h  hR hS (lv_sub hl [2, 1, 0] rfl)
theorem mJ9_init_2 {l : Launch} {G : gE} {A : Nat → Prop} {v0 : Nat} {v1 : Nat} {v2 : Option Nat} {w : WH} {r : WH} (h : fJ9_init_2 v0 v1 v2 w = some r) : hM l G A yJ9_init_2 cJ9_init_2 5 none 9 204 [.ref v0, .ref v1, va_rf v2] w none r :=
  h_of (by decide +kernel) (by cases v2 <;> exact Nat.le_of_ble_eq_true rfl) (fun p e s m args below meth c ls B hnm hR hS hl => bJ9_init_2_0 B hnm h hR hS (Eq.mp (congrArg (lv_has ls 5) (by cases v2 <;> rfl)) hl))
noncomputable def fJ9_init (v0 : Nat) (v1 : Nat) (w : WH) : Option (WH) :=
  (fJ9_init_2 v0 v1 none w).bind fun w1 =>
  some w1
theorem bJ9_init_0 {p : Program} {l : Launch} {e : Env} {s : State} {m : MethodId} {args : Array Value} {below : List Frame} {meth : Method} {c : Code} {H : Heap} {locs : List Loc} {ls : Array Slot} {G : gE} {A : Nat → Prop} {w0 : WH} (B : gB G RJ9 cJ9_init 2 none p s m args meth c) (hnm : meth.name = "<init>") {v0 : Nat} {v1 : Nat} {w : WH} {r : WH} (h : fJ9_init v0 v1 w = some r)   (hR : RepH G A w H) (hS : Cu A s w0 w H locs) (hl : lv_has ls 2 [(0, .ref v0), (1, .ref v1)]) : W p l e (hRm 10 228 w0) s m args below meth c H locs (wC w0 - wC w) (wS w0 - wS w) (hZ below args s G A w0 none r) (F0 m 0 ls []) := by
  have B0 := B
  obtain ⟨hx, hb, hml, hown, hts, hr, hlk, hK⟩ := B0
  unfold fJ9_init at h
  refine lv_aload_n hx hb dJ9_init_0 rfl (lv_at hl 0 rfl) ?_
  refine lv_aload_n hx hb dJ9_init_1 rfl (lv_at hl 1 rfl) ?_
  refine lv_null hx hb dJ9_init_2 ?_
  replace h := bo_o h
  obtain ⟨w1, e2, h⟩ := h
  refine h_callI 2  (As := [.ref v1, .null]) (rest := []) (w' := w1) hx hb hml hown hts hK hR hS (Nat.le_refl _) (Nat.le_refl _) (mJ9_init_2 e2) (lw_meth q428) q124 q426 q427 rfl (by decide +kernel) (Nat.le_of_ble_eq_true rfl) (Nat.le_of_ble_eq_true rfl) rfl hl.1 (Nat.le_of_ble_eq_true rfl) dJ9_init_3 rfl (fun H locs hR hS => ?_)
  have eR := Option.some.inj h
  subst eR
  exact h_vfin hx hb hr hlk hR hS dJ9_init_6
theorem mJ9_init {l : Launch} {G : gE} {A : Nat → Prop} {v0 : Nat} {v1 : Nat} {w : WH} {r : WH} (h : fJ9_init v0 v1 w = some r) : hM l G A yJ9_init cJ9_init 2 none 10 228 [.ref v0, .ref v1] w none r :=
  h_of (by decide +kernel) (Nat.le_of_ble_eq_true rfl) (fun p e s m args below meth c ls B hnm hR hS hl => bJ9_init_0 B hnm h hR hS hl)
noncomputable def fJ8_toString (v0 : Nat) (w : WH) : Option ((Option Nat × WH)) :=
  b2_ (hNw w 4 16 [.null, .int 0, .int 0, .int 0]) fun a1 w2 =>
  (fJ9_init a1 v0 w2).bind fun w4 =>
  some (some a1, w4)
theorem bJ8_toString_0 {p : Program} {l : Launch} {e : Env} {s : State} {m : MethodId} {args : Array Value} {below : List Frame} {meth : Method} {c : Code} {H : Heap} {locs : List Loc} {ls : Array Slot} {G : gE} {A : Nat → Prop} {w0 : WH} (B : gB G RJ8 cJ8_toString 1 (some (.object "java/lang/String")) p s m args meth c) {v0 : Nat} {w : WH} {r : (Option Nat × WH)} (h : fJ8_toString v0 w = some r)   (hR : RepH G A w H) (hS : Cu A s w0 w H locs) (hl : lv_has ls 1 [(0, .ref v0)]) : W p l e (hRm 11 249 w0) s m args below meth c H locs (wC w0 - wC w) (wS w0 - wS w) (hZ below args s G A w0 (some (va_rf r.1)) r.2) (F0 m 0 ls []) := by
  have B0 := B
  obtain ⟨hx, hb, hml, hown, hts, hr, hlk, hK⟩ := B0
  unfold fJ8_toString at h
  replace h := b2_o h
  obtain ⟨a1, w2, e3, h⟩ := h
  refine h_new (ci := 16) (fs := [.null, .int 0, .int 0, .int 0]) hx hb hts hown hK hR hS (Nat.le_refl _) (Nat.le_refl _) in_J9 tyJ9 tyJ9_ok rfl (by decide +kernel) q421 q422 q124 e3 dJ8_toString_0 (fun H locs hR hS => ?_)
  refine lv_dup hx hb dJ8_toString_3 rfl ?_
  refine lv_aload_n hx hb dJ8_toString_4 rfl (lv_at hl 0 rfl) ?_
  replace h := bo_o h
  obtain ⟨w4, e5, h⟩ := h
  refine h_callI 1  (As := [.ref v0]) (rest := [.ref a1]) (w' := w4) hx hb hml hown hts hK hR hS (Nat.le_refl _) (Nat.le_refl _) (mJ9_init e5) (lw_meth q425) q124 q423 q424 rfl (by decide +kernel) (Nat.le_of_ble_eq_true rfl) (Nat.le_of_ble_eq_true rfl) rfl hl.1 (Nat.le_of_ble_eq_true rfl) dJ8_toString_5 rfl (fun H locs hR hS => ?_)
  have eR := Option.some.inj h
  subst eR
  exact h_afin (x := some a1) hx hb hr hlk (by first | exact Or.inl ⟨_, rfl⟩ | exact Or.inr ⟨_, rfl⟩) hR hS dJ8_toString_8
theorem mJ8_toString {l : Launch} {G : gE} {A : Nat → Prop} {v0 : Nat} {w : WH} {r : (Option Nat × WH)} (h : fJ8_toString v0 w = some r) : hM l G A yJ8_toString cJ8_toString 1 (some (.object "java/lang/String")) 11 249 [.ref v0] w (some (va_rf r.1)) r.2 :=
  h_of (by decide +kernel) (Nat.le_of_ble_eq_true rfl) (fun p e s m args below meth c ls B hnm hR hS hl => bJ8_toString_0 B h hR hS hl)
noncomputable def fJ11_newLength_b21 (v0 : Int32) (v1 : Int32) (w : WH) : Option ((Int32 × WH)) :=
  none
theorem bJ11_newLength_21 {p : Program} {l : Launch} {e : Env} {s : State} {m : MethodId} {args : Array Value} {below : List Frame} {meth : Method} {c : Code} {H : Heap} {locs : List Loc} {ls : Array Slot} {G : gE} {A : Nat → Prop} {w0 : WH} (B : gB G RJ11 cJ11_newLength 4 (some .int) p s m args meth c) {v0 : Int32} {v1 : Int32} {w : WH} {r : (Int32 × WH)} (h : fJ11_newLength_b21 v0 v1 w = some r)   (hR : RepH G A w H) (hS : Cu A s w0 w H locs) (hl : lv_has ls 4 [(0, .int v0), (1, .int v1)]) : W p l e (hRm 1 23 w0) s m args below meth c H locs (wC w0 - wC w) (wS w0 - wS w) (hZ below args s G A w0 (some (.int r.1)) r.2) (F0 m 21 ls []) := by
  have B0 := B
  obtain ⟨hx, hb, hml, hown, hts, hr, hlk, hK⟩ := B0
  unfold fJ11_newLength_b21 at h
  refine lv_iload_n hx hb dJ11_newLength_21 rfl (lv_at hl 0 rfl) ?_
  refine lv_iload_n hx hb dJ11_newLength_22 rfl (lv_at hl 1 rfl) ?_
  exact (nomatch h)
noncomputable def fJ11_newLength (v0 : Int32) (v1 : Int32) (v2 : Int32) (w : WH) : Option ((Int32 × WH)) :=
  nm_ (mxI v1 v2) fun x1 =>
  nm_ (v0 + x1) fun x3 =>
  if x3 ≤ 0 then (
    fJ11_newLength_b21 v0 v1 w
  ) else (
    if 2147483639 < x3 then (
      fJ11_newLength_b21 v0 v1 w
    ) else (
      some (x3, w)
    )
  )
theorem bJ11_newLength_0 {p : Program} {l : Launch} {e : Env} {s : State} {m : MethodId} {args : Array Value} {below : List Frame} {meth : Method} {c : Code} {H : Heap} {locs : List Loc} {ls : Array Slot} {G : gE} {A : Nat → Prop} {w0 : WH} (B : gB G RJ11 cJ11_newLength 4 (some .int) p s m args meth c) {v0 : Int32} {v1 : Int32} {v2 : Int32} {w : WH} {r : (Int32 × WH)} (h : fJ11_newLength v0 v1 v2 w = some r)   (hR : RepH G A w H) (hS : Cu A s w0 w H locs) (hl : lv_has ls 4 [(0, .int v0), (1, .int v1), (2, .int v2)]) : W p l e (hRm 1 23 w0) s m args below meth c H locs (wC w0 - wC w) (wS w0 - wS w) (hZ below args s G A w0 (some (.int r.1)) r.2) (F0 m 0 ls []) := by
  have B0 := B
  obtain ⟨hx, hb, hml, hown, hts, hr, hlk, hK⟩ := B0
  unfold fJ11_newLength at h
  refine lv_iload_n hx hb dJ11_newLength_0 rfl (lv_at hl 0 rfl) ?_
  refine lv_iload_n hx hb dJ11_newLength_1 rfl (lv_at hl 1 rfl) ?_
  refine lv_iload_n hx hb dJ11_newLength_2 rfl (lv_at hl 2 rfl) ?_
  replace h := nm_o h
  obtain ⟨x1, e2, h⟩ := h
  refine va_mmax hx hb (hml.trans hl.1.symm) hown (hts _ q294) (hts _ q295) (hts _ q127) (hts _ q296) (Nat.le_of_ble_eq_true rfl) (Nat.le_of_ble_eq_true rfl) (Nat.sub_le _ _) (Nat.sub_le _ _) dJ11_newLength_3 ?_
  refine W.eq (g2 := F0 m 6 ls [.int x1, .int v0]) (by rw [e2]; rfl) ?_
  refine lv_iadd hx hb dJ11_newLength_6 ?_
  replace h := nm_o h
  obtain ⟨x3, e4, h⟩ := h
  refine lv_istore_n (lv' := [(3, .int x3), (0, .int v0), (1, .int v1), (2, .int v2)]) hx hb dJ11_newLength_7 rfl hl (by decide) (by subst e4; rfl) (fun ls hl => ?_)
  refine lv_iconst (v := 0) hx hb dJ11_newLength_8 (by decide) ?_
  refine lv_iload_n hx hb dJ11_newLength_9 rfl (lv_at hl 0 rfl) ?_
  refine lv_icmp_ge (tgt := 21) hx hb dJ11_newLength_10 (by decide) (fun c5 => ?_) (fun c5 => ?_)
  · replace h := it_o c5 h
    exact bJ11_newLength_21 B h  hR hS (lv_sub hl [1, 2] rfl)
  · replace h := if_o c5 h
    refine lv_iload_n hx hb dJ11_newLength_13 rfl (lv_at hl 0 rfl) ?_
    refine lv_ldc (v := 2147483639) hx hb hown (hts _ q297) dJ11_newLength_14 ?_
    refine lv_icmp_gt (tgt := 21) hx hb dJ11_newLength_16 (by decide) (fun c6 => ?_) (fun c6 => ?_)
    · replace h := it_o c6 h
      exact bJ11_newLength_21 B h  hR hS (lv_sub hl [1, 2] rfl)
    · replace h := if_o c6 h
      refine lv_iload_n hx hb dJ11_newLength_19 rfl (lv_at hl 0 rfl) ?_
      have eR := Option.some.inj h
      subst eR
      exact h_ifin hx hb hr hlk hR hS dJ11_newLength_20
theorem mJ11_newLength {l : Launch} {G : gE} {A : Nat → Prop} {v0 : Int32} {v1 : Int32} {v2 : Int32} {w : WH} {r : (Int32 × WH)} (h : fJ11_newLength v0 v1 v2 w = some r) : hM l G A yJ11_newLength cJ11_newLength 4 (some .int) 1 23 [.int v0, .int v1, .int v2] w (some (.int r.1)) r.2 :=
  h_of (by decide +kernel) (Nat.le_of_ble_eq_true rfl) (fun p e s m args below meth c ls B hnm hR hS hl => bJ11_newLength_0 B h hR hS hl)
noncomputable def fJ7_newCapacity_b34 (v0 : Nat) (v5 : Int32) (w : WH) : Option ((Int32 × WH)) :=
  if v5 = 2147483647 then (
    none
  ) else (
    (gI w v0 15 1).bind fun x2 =>
    some (v5 >>> (x2 &&& 31), w)
  )
theorem bJ7_newCapacity_34 {p : Program} {l : Launch} {e : Env} {s : State} {m : MethodId} {args : Array Value} {below : List Frame} {meth : Method} {c : Code} {H : Heap} {locs : List Loc} {ls : Array Slot} {G : gE} {A : Nat → Prop} {w0 : WH} (B : gB G RJ7 cJ7_newCapacity 6 (some .int) p s m args meth c) {v0 : Nat} {v5 : Int32} {w : WH} {r : (Int32 × WH)} (h : fJ7_newCapacity_b34 v0 v5 w = some r)   (hR : RepH G A w H) (hS : Cu A s w0 w H locs) (hl : lv_has ls 6 [(0, .ref v0), (5, .int v5)]) : W p l e (hRm 2 46 w0) s m args below meth c H locs (wC w0 - wC w) (wS w0 - wS w) (hZ below args s G A w0 (some (.int r.1)) r.2) (F0 m 34 ls []) := by
  have B0 := B
  obtain ⟨hx, hb, hml, hown, hts, hr, hlk, hK⟩ := B0
  unfold fJ7_newCapacity_b34 at h
  refine lv_iload hx hb dJ7_newCapacity_34 (lv_at hl 1 rfl) ?_
  refine lv_ldc (v := 2147483647) hx hb hown (hts _ q301) dJ7_newCapacity_36 ?_
  refine lv_icmp_ne (tgt := 51) hx hb dJ7_newCapacity_38 (by decide) (fun c1 => ?_) (fun c1 => ?_)
  · replace h := if_o c1 h
    refine lv_iload hx hb dJ7_newCapacity_51 (lv_at hl 1 rfl) ?_
    refine lv_aload_n hx hb dJ7_newCapacity_53 rfl (lv_at hl 0 rfl) ?_
    replace h := bo_o h
    obtain ⟨x2, e3, h⟩ := h
    refine h_get (ci := 15) (k := 1) (v := .int x2) hx hb hts hown hK hR in_J8 rfl (by decide) (fun _ _ => rfl) q257 (fun _ h9 => h9) (gI_o e3) dJ7_newCapacity_54 ?_
    refine lv_ishr hx hb dJ7_newCapacity_57 ?_
    have eR := Option.some.inj h
    subst eR
    exact h_ifin hx hb hr hlk hR hS dJ7_newCapacity_58
  · replace h := it_o c1 h
    exact (nomatch h)
noncomputable def fJ7_newCapacity (v0 : Nat) (v1 : Int32) (w : WH) : Option ((Int32 × WH)) :=
  (gR w v0 15 0).bind fun x1 =>
  x1.bind fun a3 =>
  (aLn w a3).bind fun x5 =>
  (gI w v0 15 1).bind fun x7 =>
  nm_ (v1 <<< (x7 &&& 31)) fun x9 =>
  nm_ (x9 - x5) fun x11 =>
  (gI w v0 15 1).bind fun x13 =>
  b2_ (fJ11_newLength x5 x11 (x5 + ((2 : Int32) <<< (x13 &&& 31))) w) fun x17 w15 =>
  fJ7_newCapacity_b34 v0 x17 w15
theorem bJ7_newCapacity_0 {p : Program} {l : Launch} {e : Env} {s : State} {m : MethodId} {args : Array Value} {below : List Frame} {meth : Method} {c : Code} {H : Heap} {locs : List Loc} {ls : Array Slot} {G : gE} {A : Nat → Prop} {w0 : WH} (B : gB G RJ7 cJ7_newCapacity 6 (some .int) p s m args meth c) {v0 : Nat} {v1 : Int32} {w : WH} {r : (Int32 × WH)} (h : fJ7_newCapacity v0 v1 w = some r)   (hR : RepH G A w H) (hS : Cu A s w0 w H locs) (hl : lv_has ls 6 [(0, .ref v0), (1, .int v1)]) : W p l e (hRm 2 46 w0) s m args below meth c H locs (wC w0 - wC w) (wS w0 - wS w) (hZ below args s G A w0 (some (.int r.1)) r.2) (F0 m 0 ls []) := by
  have B0 := B
  obtain ⟨hx, hb, hml, hown, hts, hr, hlk, hK⟩ := B0
  unfold fJ7_newCapacity at h
  refine lv_aload_n hx hb dJ7_newCapacity_0 rfl (lv_at hl 0 rfl) ?_
  replace h := bo_o h
  obtain ⟨x1, e2, h⟩ := h
  refine h_get (ci := 15) (k := 0) (v := va_rf x1) hx hb hts hown hK hR in_J8 rfl (by decide) (fun _ _ => rfl) q256 (fun _ h9 => h9) (gR_o e2) dJ7_newCapacity_1 ?_
  replace h := bo_o h
  obtain ⟨a3, e4, h⟩ := h
  subst e4
  replace h := bo_o h
  obtain ⟨x5, e6, h⟩ := h
  refine h_alen hx hb hK hR hS e6 dJ7_newCapacity_4 ?_
  refine lv_istore_n (lv' := [(2, .int x5), (0, .ref v0), (1, .int v1)]) hx hb dJ7_newCapacity_5 rfl hl (by decide) rfl (fun ls hl => ?_)
  refine lv_iload_n hx hb dJ7_newCapacity_6 rfl (lv_at hl 2 rfl) ?_
  refine lv_aload_n hx hb dJ7_newCapacity_7 rfl (lv_at hl 1 rfl) ?_
  replace h := bo_o h
  obtain ⟨x7, e8, h⟩ := h
  refine h_get (ci := 15) (k := 1) (v := .int x7) hx hb hts hown hK hR in_J8 rfl (by decide) (fun _ _ => rfl) q257 (fun _ h9 => h9) (gI_o e8) dJ7_newCapacity_8 ?_
  refine lv_ishl hx hb dJ7_newCapacity_11 ?_
  replace h := nm_o h
  obtain ⟨x9, e10, h⟩ := h
  refine lv_istore_n (lv' := [(3, .int x9), (2, .int x5), (0, .ref v0), (1, .int v1)]) hx hb dJ7_newCapacity_12 rfl hl (by decide) (by subst e10; rfl) (fun ls hl => ?_)
  refine lv_iload_n hx hb dJ7_newCapacity_13 rfl (lv_at hl 0 rfl) ?_
  refine lv_iload_n hx hb dJ7_newCapacity_14 rfl (lv_at hl 1 rfl) ?_
  refine lv_isub hx hb dJ7_newCapacity_15 ?_
  replace h := nm_o h
  obtain ⟨x11, e12, h⟩ := h
  refine lv_istore (lv' := [(4, .int x11), (3, .int x9), (2, .int x5), (0, .ref v0), (1, .int v1)]) hx hb dJ7_newCapacity_16 hl (by decide) (by subst e12; rfl) (fun ls hl => ?_)
  refine lv_iload_n hx hb dJ7_newCapacity_18 rfl (lv_at hl 2 rfl) ?_
  refine lv_iload hx hb dJ7_newCapacity_19 (lv_at hl 0 rfl) ?_
  refine lv_iload_n hx hb dJ7_newCapacity_21 rfl (lv_at hl 2 rfl) ?_
  refine lv_iconst (v := 2) hx hb dJ7_newCapacity_22 (by decide) ?_
  refine lv_aload_n hx hb dJ7_newCapacity_23 rfl (lv_at hl 3 rfl) ?_
  replace h := bo_o h
  obtain ⟨x13, e14, h⟩ := h
  refine h_get (ci := 15) (k := 1) (v := .int x13) hx hb hts hown hK hR in_J8 rfl (by decide) (fun _ _ => rfl) q257 (fun _ h9 => h9) (gI_o e14) dJ7_newCapacity_24 ?_
  refine lv_ishl hx hb dJ7_newCapacity_27 ?_
  refine lv_iadd hx hb dJ7_newCapacity_28 ?_
  replace h := b2_o h
  obtain ⟨x17, w15, e16, h⟩ := h
  refine h_callS 3  (As := [.int x5, .int x11, .int (x5 + ((2 : Int32) <<< (x13 &&& 31)))]) (rest := []) (v := (some (.int x17))) (w' := w15) (st1 := [.int x17]) hx hb hml hown hts hK hR hS (Nat.le_refl _) (Nat.le_refl _) (mJ11_newLength e16) (lw_S q291 q292 q126 q293) (by decide +kernel) (Nat.le_of_ble_eq_true rfl) (Nat.le_of_ble_eq_true rfl) rfl hl.1 (Nat.le_of_ble_eq_true rfl) dJ7_newCapacity_29 rfl rfl (fun H locs hR hS => ?_)
  refine lv_istore (lv' := [(5, .int x17), (4, .int x11), (3, .int x9), (2, .int x5), (0, .ref v0), (1, .int v1)]) hx hb dJ7_newCapacity_32 hl (by decide) rfl (fun ls hl => ?_)
  exact bJ7_newCapacity_34 B h  hR hS (lv_sub hl [4, 0] rfl)
theorem mJ7_newCapacity {l : Launch} {G : gE} {A : Nat → Prop} {v0 : Nat} {v1 : Int32} {w : WH} {r : (Int32 × WH)} (h : fJ7_newCapacity v0 v1 w = some r) : hM l G A yJ7_newCapacity cJ7_newCapacity 6 (some .int) 2 46 [.ref v0, .int v1] w (some (.int r.1)) r.2 :=
  h_of (by decide +kernel) (Nat.le_of_ble_eq_true rfl) (fun p e s m args below meth c ls B hnm hR hS hl => bJ7_newCapacity_0 B h hR hS hl)
noncomputable def fJ13_copyOf (v0 : Nat) (v1 : Int32) (w : WH) : Option ((Option Nat × WH)) :=
  (aLn w v0).bind fun x1 =>
  if v1 = x1 then (
    b2_ (hCn w v0) fun a4 w5 =>
    (hTa w5 a4 2).bind fun _ =>
    some (some a4, w5)
  ) else (
    b2_ (hNa w 2 v1) fun a8 w9 =>
    (aLn w9 v0).bind fun x11 =>
    nm_ (mnI x11 v1) fun x13 =>
    (cpI w9 2 v0 0 a8 0 x13).bind fun w15 =>
    some (some a8, w15)
  )
theorem bJ13_copyOf_0 {p : Program} {l : Launch} {e : Env} {s : State} {m : MethodId} {args : Array Value} {below : List Frame} {meth : Method} {c : Code} {H : Heap} {locs : List Loc} {ls : Array Slot} {G : gE} {A : Nat → Prop} {w0 : WH} (B : gB G RJ13 cJ13_copyOf 3 (some (.array .byte)) p s m args meth c) {v0 : Nat} {v1 : Int32} {w : WH} {r : (Option Nat × WH)} (h : fJ13_copyOf v0 v1 w = some r)   (hR : RepH G A w H) (hS : Cu A s w0 w H locs) (hl : lv_has ls 3 [(0, .ref v0), (1, .int v1)]) : W p l e (hRm 1 40 w0) s m args below meth c H locs (wC w0 - wC w) (wS w0 - wS w) (hZ below args s G A w0 (some (va_rf r.1)) r.2) (F0 m 0 ls []) := by
  have B0 := B
  obtain ⟨hx, hb, hml, hown, hts, hr, hlk, hK⟩ := B0
  unfold fJ13_copyOf at h
  refine lv_iload_n hx hb dJ13_copyOf_0 rfl (lv_at hl 1 rfl) ?_
  refine lv_aload_n hx hb dJ13_copyOf_1 rfl (lv_at hl 0 rfl) ?_
  replace h := bo_o h
  obtain ⟨x1, e2, h⟩ := h
  refine h_alen hx hb hK hR hS e2 dJ13_copyOf_2 ?_
  refine lv_icmp_ne (tgt := 14) hx hb dJ13_copyOf_3 (by decide) (fun c3 => ?_) (fun c3 => ?_)
  · replace h := if_o c3 h
    refine lv_iload_n hx hb dJ13_copyOf_14 rfl (lv_at hl 1 rfl) ?_
    replace h := b2_o h
    obtain ⟨a8, w9, e10, h⟩ := h
    refine h_newa (atype := .byte) (t := 2) hx hb hts hK hR hS (Nat.le_refl _) (Nat.le_refl _) q270 rfl (by decide) (fun _ _ => rfl) e10 dJ13_copyOf_15 (fun H locs hR hS => ?_)
    refine lv_astore_n (lv' := [(2, .ref a8), (0, .ref v0), (1, .int v1)]) hx hb dJ13_copyOf_17 rfl hl (by decide) rfl (fun ls hl => ?_)
    refine lv_aload_n hx hb dJ13_copyOf_18 rfl (lv_at hl 1 rfl) ?_
    refine lv_iconst (v := 0) hx hb dJ13_copyOf_19 (by decide) ?_
    refine lv_aload_n hx hb dJ13_copyOf_20 rfl (lv_at hl 0 rfl) ?_
    refine lv_iconst (v := 0) hx hb dJ13_copyOf_21 (by decide) ?_
    refine lv_aload_n hx hb dJ13_copyOf_22 rfl (lv_at hl 1 rfl) ?_
    replace h := bo_o h
    obtain ⟨x11, e12, h⟩ := h
    refine h_alen hx hb hK hR hS e12 dJ13_copyOf_23 ?_
    refine lv_iload_n hx hb dJ13_copyOf_24 rfl (lv_at hl 2 rfl) ?_
    replace h := nm_o h
    obtain ⟨x13, e14, h⟩ := h
    refine va_mmin hx hb (hml.trans hl.1.symm) hown (hts _ q312) (hts _ q313) (hts _ q127) (hts _ q314) (Nat.le_of_ble_eq_true rfl) (Nat.le_of_ble_eq_true rfl) (Nat.sub_le _ _) (Nat.sub_le _ _) dJ13_copyOf_25 ?_
    refine W.eq (g2 := F0 m 28 ls [.int x13, .int 0, .ref a8, .int 0, .ref v0]) (by rw [e14]; rfl) ?_
    replace h := bo_o h
    obtain ⟨w15, e16, h⟩ := h
    refine h_copyB hx hb (hml.trans hl.1.symm) hts hown hK hR hS q315 q317 q316 q129 (Nat.le_of_ble_eq_true rfl) (Nat.le_of_ble_eq_true rfl) e16 dJ13_copyOf_28 (fun H locs hR hS => ?_)
    refine lv_aload_n hx hb dJ13_copyOf_31 rfl (lv_at hl 0 rfl) ?_
    have eR := Option.some.inj h
    subst eR
    exact h_afin (x := some a8) hx hb hr hlk (by first | exact Or.inl ⟨_, rfl⟩ | exact Or.inr ⟨_, rfl⟩) hR hS dJ13_copyOf_32
  · replace h := it_o c3 h
    refine lv_aload_n hx hb dJ13_copyOf_6 rfl (lv_at hl 0 rfl) ?_
    replace h := b2_o h
    obtain ⟨a4, w5, e6, h⟩ := h
    refine h_clone hx hb (hml.trans hl.1.symm) hts hown hK hR hS (Nat.le_refl _) (Nat.le_refl _) q305 q306 q307 q308 q309 (hK.ca 1 rfl) (Nat.le_of_ble_eq_true rfl) (Nat.le_of_ble_eq_true rfl) e6 dJ13_copyOf_7 (fun H locs hR hS => ?_)
    replace h := bo_o h
    obtain ⟨_, e7, h⟩ := h
    refine h_castB hx hb hts hown hK hR e7 q311 dJ13_copyOf_10 ?_
    have eR := Option.some.inj h
    subst eR
    exact h_afin (x := some a4) hx hb hr hlk (by first | exact Or.inl ⟨_, rfl⟩ | exact Or.inr ⟨_, rfl⟩) hR hS dJ13_copyOf_13
theorem mJ13_copyOf {l : Launch} {G : gE} {A : Nat → Prop} {v0 : Nat} {v1 : Int32} {w : WH} {r : (Option Nat × WH)} (h : fJ13_copyOf v0 v1 w = some r) : hM l G A yJ13_copyOf cJ13_copyOf 3 (some (.array .byte)) 1 40 [.ref v0, .int v1] w (some (va_rf r.1)) r.2 :=
  h_of (by decide +kernel) (Nat.le_of_ble_eq_true rfl) (fun p e s m args below meth c ls B hnm hR hS hl => bJ13_copyOf_0 B h hR hS hl)
noncomputable def fJ7_ensureCapacityInternal_b38  (w : WH) : Option (WH) :=
  some w
theorem bJ7_ensureCapacityInternal_38 {p : Program} {l : Launch} {e : Env} {s : State} {m : MethodId} {args : Array Value} {below : List Frame} {meth : Method} {c : Code} {H : Heap} {locs : List Loc} {ls : Array Slot} {G : gE} {A : Nat → Prop} {w0 : WH} (B : gB G RJ7 cJ7_ensureCapacityInternal 3 none p s m args meth c)  {w : WH} {r : WH} (h : fJ7_ensureCapacityInternal_b38 w = some r)   (hR : RepH G A w H) (hS : Cu A s w0 w H locs) (hl : lv_has ls 3 []) : W p l e (hRm 3 71 w0) s m args below meth c H locs (wC w0 - wC w) (wS w0 - wS w) (hZ below args s G A w0 none r) (F0 m 38 ls []) := by
  have B0 := B
  obtain ⟨hx, hb, hml, hown, hts, hr, hlk, hK⟩ := B0
  unfold fJ7_ensureCapacityInternal_b38 at h
  have eR := Option.some.inj h
  subst eR
  exact h_vfin hx hb hr hlk hR hS dJ7_ensureCapacityInternal_38
noncomputable def fJ7_ensureCapacityInternal (v0 : Nat) (v1 : Int32) (w : WH) : Option (WH) :=
  (gR w v0 15 0).bind fun x1 =>
  x1.bind fun a3 =>
  (aLn w a3).bind fun x5 =>
  (gI w v0 15 1).bind fun x7 =>
  nm_ (x5 >>> (x7 &&& 31)) fun x9 =>
  if v1 - x9 ≤ 0 then (
    some w
  ) else (
    (gR w v0 15 0).bind fun x12 =>
    (hIs w v0 15).bind fun _ =>
    b2_ (fJ7_newCapacity v0 v1 w) fun x17 w14 =>
    (gI w14 v0 15 1).bind fun x18 =>
    x12.bind fun a20 =>
    b2_ (fJ13_copyOf a20 (x17 <<< (x18 &&& 31)) w14) fun x24 w22 =>
    (hPut w22 v0 15 0 (va_rf x24)).bind fun w25 =>
    fJ7_ensureCapacityInternal_b38 w25
  )
theorem bJ7_ensureCapacityInternal_0 {p : Program} {l : Launch} {e : Env} {s : State} {m : MethodId} {args : Array Value} {below : List Frame} {meth : Method} {c : Code} {H : Heap} {locs : List Loc} {ls : Array Slot} {G : gE} {A : Nat → Prop} {w0 : WH} (B : gB G RJ7 cJ7_ensureCapacityInternal 3 none p s m args meth c) {v0 : Nat} {v1 : Int32} {w : WH} {r : WH} (h : fJ7_ensureCapacityInternal v0 v1 w = some r)   (hR : RepH G A w H) (hS : Cu A s w0 w H locs) (hl : lv_has ls 3 [(0, .ref v0), (1, .int v1)]) : W p l e (hRm 3 71 w0) s m args below meth c H locs (wC w0 - wC w) (wS w0 - wS w) (hZ below args s G A w0 none r) (F0 m 0 ls []) := by
  have B0 := B
  obtain ⟨hx, hb, hml, hown, hts, hr, hlk, hK⟩ := B0
  unfold fJ7_ensureCapacityInternal at h
  refine lv_aload_n hx hb dJ7_ensureCapacityInternal_0 rfl (lv_at hl 0 rfl) ?_
  replace h := bo_o h
  obtain ⟨x1, e2, h⟩ := h
  refine h_get (ci := 15) (k := 0) (v := va_rf x1) hx hb hts hown hK hR in_J8 rfl (by decide) (fun _ _ => rfl) q256 (fun _ h9 => h9) (gR_o e2) dJ7_ensureCapacityInternal_1 ?_
  replace h := bo_o h
  obtain ⟨a3, e4, h⟩ := h
  subst e4
  replace h := bo_o h
  obtain ⟨x5, e6, h⟩ := h
  refine h_alen hx hb hK hR hS e6 dJ7_ensureCapacityInternal_4 ?_
  refine lv_aload_n hx hb dJ7_ensureCapacityInternal_5 rfl (lv_at hl 0 rfl) ?_
  replace h := bo_o h
  obtain ⟨x7, e8, h⟩ := h
  refine h_get (ci := 15) (k := 1) (v := .int x7) hx hb hts hown hK hR in_J8 rfl (by decide) (fun _ _ => rfl) q257 (fun _ h9 => h9) (gI_o e8) dJ7_ensureCapacityInternal_6 ?_
  refine lv_ishr hx hb dJ7_ensureCapacityInternal_9 ?_
  replace h := nm_o h
  obtain ⟨x9, e10, h⟩ := h
  refine lv_istore_n (lv' := [(2, .int x9), (0, .ref v0), (1, .int v1)]) hx hb dJ7_ensureCapacityInternal_10 rfl hl (by decide) (by subst e10; rfl) (fun ls hl => ?_)
  refine lv_iload_n hx hb dJ7_ensureCapacityInternal_11 rfl (lv_at hl 2 rfl) ?_
  refine lv_iload_n hx hb dJ7_ensureCapacityInternal_12 rfl (lv_at hl 0 rfl) ?_
  refine lv_isub hx hb dJ7_ensureCapacityInternal_13 ?_
  refine lv_if_le (tgt := 38) hx hb dJ7_ensureCapacityInternal_14 (by decide) (fun c11 => ?_) (fun c11 => ?_)
  · replace h := it_o c11 h
    have eR := Option.some.inj h
    subst eR
    exact h_vfin hx hb hr hlk hR hS dJ7_ensureCapacityInternal_38
  · replace h := if_o c11 h
    refine lv_aload_n hx hb dJ7_ensureCapacityInternal_17 rfl (lv_at hl 1 rfl) ?_
    refine lv_aload_n hx hb dJ7_ensureCapacityInternal_18 rfl (lv_at hl 1 rfl) ?_
    replace h := bo_o h
    obtain ⟨x12, e13, h⟩ := h
    refine h_get (ci := 15) (k := 0) (v := va_rf x12) hx hb hts hown hK hR in_J8 rfl (by decide) (fun _ _ => rfl) q256 (fun _ h9 => h9) (gR_o e13) dJ7_ensureCapacityInternal_19 ?_
    refine lv_aload_n hx hb dJ7_ensureCapacityInternal_22 rfl (lv_at hl 1 rfl) ?_
    refine lv_iload_n hx hb dJ7_ensureCapacityInternal_23 rfl (lv_at hl 2 rfl) ?_
    replace h := bo_o h
    obtain ⟨_, e15, h⟩ := h
    replace h := b2_o h
    obtain ⟨x17, w14, e16, h⟩ := h
    refine h_callX 1 (ci := 15) (As := [.int v1]) (rest := [va_rf x12, .ref v0]) (v := (some (.int x17))) (w' := w14) (st1 := [.int x17, va_rf x12, .ref v0]) hx hb hml hown hts hK hR hS (Nat.le_refl _) (Nat.le_refl _) rfl e15 (mJ7_newCapacity e16) (lw_meth q290) q122 q287 q289 (hK.sl 1 rfl) (by decide +kernel) (Nat.le_of_ble_eq_true rfl) (Nat.le_of_ble_eq_true rfl) rfl hl.1 (cat_le (Nat.le_of_ble_eq_true rfl)) dJ7_ensureCapacityInternal_24 rfl rfl (fun H locs hR hS => ?_)
    refine lv_aload_n hx hb dJ7_ensureCapacityInternal_27 rfl (lv_at hl 1 rfl) ?_
    replace h := bo_o h
    obtain ⟨x18, e19, h⟩ := h
    refine h_get (ci := 15) (k := 1) (v := .int x18) hx hb hts hown hK hR in_J8 rfl (by decide) (fun _ _ => rfl) q257 (fun _ h9 => h9) (gI_o e19) dJ7_ensureCapacityInternal_28 ?_
    refine lv_ishl hx hb dJ7_ensureCapacityInternal_31 ?_
    replace h := bo_o h
    obtain ⟨a20, e21, h⟩ := h
    subst e21
    replace h := b2_o h
    obtain ⟨x24, w22, e23, h⟩ := h
    refine h_callS 2  (As := [.ref a20, .int (x17 <<< (x18 &&& 31))]) (rest := [.ref v0]) (v := (some (va_rf x24))) (w' := w22) (st1 := [va_rf x24, .ref v0]) hx hb hml hown hts hK hR hS (Nat.le_refl _) (Nat.le_refl _) (mJ13_copyOf e23) (lw_S q302 q303 q128 q304) (by decide +kernel) (Nat.le_of_ble_eq_true rfl) (Nat.le_of_ble_eq_true rfl) rfl hl.1 (Nat.le_of_ble_eq_true rfl) dJ7_ensureCapacityInternal_32 rfl rfl (fun H locs hR hS => ?_)
    replace h := bo_o h
    obtain ⟨w25, e26, h⟩ := h
    refine h_put (ci := 15) (k := 0) (ty := tyJ8 0) hx hb hts hown hK hR hS in_J8 tyJ8 tyJ8_ok nmJ8 rfl (by decide) q256 (fun _ h9 => h9) rfl (tyJ8_ok 0 (by decide)) (by cases x24 <;> rfl) (by cases x24 <;> rfl) e26 dJ7_ensureCapacityInternal_35 (fun H locs hR hS => ?_)
    exact bJ7_ensureCapacityInternal_38 B h  hR hS (lv_sub hl [] rfl)
theorem mJ7_ensureCapacityInternal {l : Launch} {G : gE} {A : Nat → Prop} {v0 : Nat} {v1 : Int32} {w : WH} {r : WH} (h : fJ7_ensureCapacityInternal v0 v1 w = some r) : hM l G A yJ7_ensureCapacityInternal cJ7_ensureCapacityInternal 3 none 3 71 [.ref v0, .int v1] w none r :=
  h_of (by decide +kernel) (Nat.le_of_ble_eq_true rfl) (fun p e s m args below meth c ls B hnm hR hS hl => bJ7_ensureCapacityInternal_0 B h hR hS hl)
noncomputable def fJ15_canEncode (v0 : Int32) (w : WH) : Option ((Int32 × WH)) :=
  if 255 < v0 then (
    some (0, w)
  ) else (
    some (1, w)
  )
theorem bJ15_canEncode_0 {p : Program} {l : Launch} {e : Env} {s : State} {m : MethodId} {args : Array Value} {below : List Frame} {meth : Method} {c : Code} {H : Heap} {locs : List Loc} {ls : Array Slot} {G : gE} {A : Nat → Prop} {w0 : WH} (B : gB G RJ15 cJ15_canEncode 1 (some .boolean) p s m args meth c) {v0 : Int32} {w : WH} {r : (Int32 × WH)} (h : fJ15_canEncode v0 w = some r)   (hR : RepH G A w H) (hS : Cu A s w0 w H locs) (hl : lv_has ls 1 [(0, .int v0)]) : W p l e (hRm 0 0 w0) s m args below meth c H locs (wC w0 - wC w) (wS w0 - wS w) (hZ below args s G A w0 (some (.int r.1)) r.2) (F0 m 0 ls []) := by
  have B0 := B
  obtain ⟨hx, hb, hml, hown, hts, hr, hlk, hK⟩ := B0
  unfold fJ15_canEncode at h
  refine lv_iload_n hx hb dJ15_canEncode_0 rfl (lv_at hl 0 rfl) ?_
  refine lv_sipush (v := 255) hx hb dJ15_canEncode_1 (by decide) ?_
  refine lv_icmp_gt (tgt := 11) hx hb dJ15_canEncode_4 (by decide) (fun c1 => ?_) (fun c1 => ?_)
  · replace h := it_o c1 h
    refine lv_iconst (v := 0) hx hb dJ15_canEncode_11 (by decide) ?_
    have eR := Option.some.inj h
    subst eR
    exact h_zfin hx hb hr hlk (by show narrow .boolean (.int 0) = .int 0; decide) hR hS dJ15_canEncode_12
  · replace h := if_o c1 h
    refine lv_iconst (v := 1) hx hb dJ15_canEncode_7 (by decide) ?_
    refine lv_goto (tgt := 12) hx hb dJ15_canEncode_8 (by decide) ?_
    have eR := Option.some.inj h
    subst eR
    exact h_zfin hx hb hr hlk (by show narrow .boolean (.int 1) = .int 1; decide) hR hS dJ15_canEncode_12
theorem mJ15_canEncode {l : Launch} {G : gE} {A : Nat → Prop} {v0 : Int32} {w : WH} {r : (Int32 × WH)} (h : fJ15_canEncode v0 w = some r) : hM l G A yJ15_canEncode cJ15_canEncode 1 (some .boolean) 0 0 [.int v0] w (some (.int r.1)) r.2 :=
  h_of (by decide +kernel) (Nat.le_of_ble_eq_true rfl) (fun p e s m args below meth c ls B hnm hR hS hl => bJ15_canEncode_0 B h hR hS hl)
noncomputable def fJ7_append_3_b56 (v0 : Nat) (v1 : Int32) (w : WH) : Option ((Option Nat × WH)) :=
  (gR w v0 15 0).bind fun x1 =>
  (gI w v0 15 3).bind fun x3 =>
  (hPut w v0 15 3 (.int (x3 + 1))).bind fun w5 =>
  none
theorem bJ7_append_3_56 {p : Program} {l : Launch} {e : Env} {s : State} {m : MethodId} {args : Array Value} {below : List Frame} {meth : Method} {c : Code} {H : Heap} {locs : List Loc} {ls : Array Slot} {G : gE} {A : Nat → Prop} {w0 : WH} (B : gB G RJ7 cJ7_append_3 2 (some (.object "java/lang/AbstractStringBuilder")) p s m args meth c) {v0 : Nat} {v1 : Int32} {w : WH} {r : (Option Nat × WH)} (h : fJ7_append_3_b56 v0 v1 w = some r)   (hR : RepH G A w H) (hS : Cu A s w0 w H locs) (hl : lv_has ls 2 [(0, .ref v0), (1, .int v1)]) : W p l e (hRm 4 93 w0) s m args below meth c H locs (wC w0 - wC w) (wS w0 - wS w) (hZ below args s G A w0 (some (va_rf r.1)) r.2) (F0 m 56 ls []) := by
  have B0 := B
  obtain ⟨hx, hb, hml, hown, hts, hr, hlk, hK⟩ := B0
  unfold fJ7_append_3_b56 at h
  refine lv_aload_n hx hb dJ7_append_3_56 rfl (lv_at hl 0 rfl) ?_
  replace h := bo_o h
  obtain ⟨x1, e2, h⟩ := h
  refine h_get (ci := 15) (k := 0) (v := va_rf x1) hx hb hts hown hK hR in_J8 rfl (by decide) (fun _ _ => rfl) q256 (fun _ h9 => h9) (gR_o e2) dJ7_append_3_57 ?_
  refine lv_aload_n hx hb dJ7_append_3_60 rfl (lv_at hl 0 rfl) ?_
  refine lv_dup hx hb dJ7_append_3_61 rfl ?_
  replace h := bo_o h
  obtain ⟨x3, e4, h⟩ := h
  refine h_get (ci := 15) (k := 3) (v := .int x3) hx hb hts hown hK hR in_J8 rfl (by decide) (fun _ _ => rfl) q260 (fun _ h9 => h9) (gI_o e4) dJ7_append_3_62 ?_
  refine lv_dup_x1 hx hb dJ7_append_3_65 rfl rfl ?_
  refine lv_iconst (v := 1) hx hb dJ7_append_3_66 (by decide) ?_
  refine lv_iadd hx hb dJ7_append_3_67 ?_
  replace h := bo_o h
  obtain ⟨w5, e6, h⟩ := h
  refine h_put (ci := 15) (k := 3) (ty := tyJ8 3) hx hb hts hown hK hR hS in_J8 tyJ8 tyJ8_ok nmJ8 rfl (by decide) q260 (fun _ h9 => h9) rfl (tyJ8_ok 3 (by decide)) rfl rfl e6 dJ7_append_3_68 (fun H locs hR hS => ?_)
  refine lv_iload_n hx hb dJ7_append_3_71 rfl (lv_at hl 1 rfl) ?_
  exact (nomatch h)
noncomputable def fJ7_append_3_b45 (v0 : Nat) (v1 : Int32) (w : WH) : Option ((Option Nat × WH)) :=
  (hIs w v0 15).bind fun _ =>
  b2_ (fJ7_isLatin1 v0 w) fun x4 w1 =>
  if x4 = 0 then (
    fJ7_append_3_b56 v0 v1 w1
  ) else (
    none
  )
theorem bJ7_append_3_45 {p : Program} {l : Launch} {e : Env} {s : State} {m : MethodId} {args : Array Value} {below : List Frame} {meth : Method} {c : Code} {H : Heap} {locs : List Loc} {ls : Array Slot} {G : gE} {A : Nat → Prop} {w0 : WH} (B : gB G RJ7 cJ7_append_3 2 (some (.object "java/lang/AbstractStringBuilder")) p s m args meth c) {v0 : Nat} {v1 : Int32} {w : WH} {r : (Option Nat × WH)} (h : fJ7_append_3_b45 v0 v1 w = some r)   (hR : RepH G A w H) (hS : Cu A s w0 w H locs) (hl : lv_has ls 2 [(0, .ref v0), (1, .int v1)]) : W p l e (hRm 4 93 w0) s m args below meth c H locs (wC w0 - wC w) (wS w0 - wS w) (hZ below args s G A w0 (some (va_rf r.1)) r.2) (F0 m 45 ls []) := by
  have B0 := B
  obtain ⟨hx, hb, hml, hown, hts, hr, hlk, hK⟩ := B0
  unfold fJ7_append_3_b45 at h
  refine lv_aload_n hx hb dJ7_append_3_45 rfl (lv_at hl 0 rfl) ?_
  replace h := bo_o h
  obtain ⟨_, e2, h⟩ := h
  replace h := b2_o h
  obtain ⟨x4, w1, e3, h⟩ := h
  refine h_callX 0 (ci := 15) (As := []) (rest := []) (v := (some (.int x4))) (w' := w1) (st1 := [.int x4]) hx hb hml hown hts hK hR hS (Nat.le_refl _) (Nat.le_refl _) rfl e2 (mJ7_isLatin1 e3) (lw_meth q322) q122 q318 q319 (hts _ q321) (by decide +kernel) (Nat.le_of_ble_eq_true rfl) (Nat.le_of_ble_eq_true rfl) rfl hl.1 (Nat.le_of_ble_eq_true rfl) dJ7_append_3_46 rfl rfl (fun H locs hR hS => ?_)
  refine lv_if_eq (tgt := 56) hx hb dJ7_append_3_49 (by decide) (fun c5 => ?_) (fun c5 => ?_)
  · replace h := it_o c5 h
    exact bJ7_append_3_56 B h  hR hS (lv_sub hl [0, 1] rfl)
  · replace h := if_o c5 h
    refine lv_aload_n hx hb dJ7_append_3_52 rfl (lv_at hl 0 rfl) ?_
    exact (nomatch h)
noncomputable def fJ7_append_3_b42 (v0 : Nat) (w : WH) : Option ((Option Nat × WH)) :=
  some (some v0, w)
theorem bJ7_append_3_42 {p : Program} {l : Launch} {e : Env} {s : State} {m : MethodId} {args : Array Value} {below : List Frame} {meth : Method} {c : Code} {H : Heap} {locs : List Loc} {ls : Array Slot} {G : gE} {A : Nat → Prop} {w0 : WH} (B : gB G RJ7 cJ7_append_3 2 (some (.object "java/lang/AbstractStringBuilder")) p s m args meth c) {v0 : Nat} {w : WH} {r : (Option Nat × WH)} (h : fJ7_append_3_b42 v0 w = some r)   (hR : RepH G A w H) (hS : Cu A s w0 w H locs) (hl : lv_has ls 2 [(0, .ref v0)]) : W p l e (hRm 4 93 w0) s m args below meth c H locs (wC w0 - wC w) (wS w0 - wS w) (hZ below args s G A w0 (some (va_rf r.1)) r.2) (F0 m 42 ls []) := by
  have B0 := B
  obtain ⟨hx, hb, hml, hown, hts, hr, hlk, hK⟩ := B0
  unfold fJ7_append_3_b42 at h
  refine lv_goto (tgt := 75) hx hb dJ7_append_3_42 (by decide) ?_
  refine lv_aload_n hx hb dJ7_append_3_75 rfl (lv_at hl 0 rfl) ?_
  have eR := Option.some.inj h
  subst eR
  exact h_afin (x := some v0) hx hb hr hlk (by first | exact Or.inl ⟨_, rfl⟩ | exact Or.inr ⟨_, rfl⟩) hR hS dJ7_append_3_76
noncomputable def fJ7_append_3 (v0 : Nat) (v1 : Int32) (w : WH) : Option ((Option Nat × WH)) :=
  (gI w v0 15 3).bind fun x1 =>
  (hIs w v0 15).bind fun _ =>
  (fJ7_ensureCapacityInternal v0 (x1 + 1) w).bind fun w3 =>
  (hIs w3 v0 15).bind fun _ =>
  b2_ (fJ7_isLatin1 v0 w3) fun x9 w6 =>
  if x9 = 0 then (
    fJ7_append_3_b45 v0 v1 w6
  ) else (
    b2_ (fJ15_canEncode v1 w6) fun x13 w11 =>
    if x13 = 0 then (
      fJ7_append_3_b45 v0 v1 w11
    ) else (
      (gR w11 v0 15 0).bind fun x15 =>
      (gI w11 v0 15 3).bind fun x17 =>
      (hPut w11 v0 15 3 (.int (x17 + 1))).bind fun w19 =>
      x15.bind fun a21 =>
      (stI w19 a21 2 x17 (vp_nar .byte (v1.toInt8.toInt32))).bind fun w23 =>
      fJ7_append_3_b42 v0 w23
    )
  )
theorem bJ7_append_3_0 {p : Program} {l : Launch} {e : Env} {s : State} {m : MethodId} {args : Array Value} {below : List Frame} {meth : Method} {c : Code} {H : Heap} {locs : List Loc} {ls : Array Slot} {G : gE} {A : Nat → Prop} {w0 : WH} (B : gB G RJ7 cJ7_append_3 2 (some (.object "java/lang/AbstractStringBuilder")) p s m args meth c) {v0 : Nat} {v1 : Int32} {w : WH} {r : (Option Nat × WH)} (h : fJ7_append_3 v0 v1 w = some r)   (hR : RepH G A w H) (hS : Cu A s w0 w H locs) (hl : lv_has ls 2 [(0, .ref v0), (1, .int v1)]) : W p l e (hRm 4 93 w0) s m args below meth c H locs (wC w0 - wC w) (wS w0 - wS w) (hZ below args s G A w0 (some (va_rf r.1)) r.2) (F0 m 0 ls []) := by
  have B0 := B
  obtain ⟨hx, hb, hml, hown, hts, hr, hlk, hK⟩ := B0
  unfold fJ7_append_3 at h
  refine lv_aload_n hx hb dJ7_append_3_0 rfl (lv_at hl 0 rfl) ?_
  refine lv_aload_n hx hb dJ7_append_3_1 rfl (lv_at hl 0 rfl) ?_
  replace h := bo_o h
  obtain ⟨x1, e2, h⟩ := h
  refine h_get (ci := 15) (k := 3) (v := .int x1) hx hb hts hown hK hR in_J8 rfl (by decide) (fun _ _ => rfl) q260 (fun _ h9 => h9) (gI_o e2) dJ7_append_3_2 ?_
  refine lv_iconst (v := 1) hx hb dJ7_append_3_5 (by decide) ?_
  refine lv_iadd hx hb dJ7_append_3_6 ?_
  replace h := bo_o h
  obtain ⟨_, e4, h⟩ := h
  replace h := bo_o h
  obtain ⟨w3, e5, h⟩ := h
  refine h_callX 1 (ci := 15) (As := [.int (x1 + 1)]) (rest := []) (v := none) (w' := w3) (st1 := []) hx hb hml hown hts hK hR hS (Nat.le_refl _) (Nat.le_refl _) rfl e4 (mJ7_ensureCapacityInternal e5) (lw_meth q286) q122 q283 q285 (hK.sl 0 rfl) (by decide +kernel) (Nat.le_of_ble_eq_true rfl) (Nat.le_of_ble_eq_true rfl) rfl hl.1 (Nat.le_of_ble_eq_true rfl) dJ7_append_3_7 rfl rfl (fun H locs hR hS => ?_)
  refine lv_aload_n hx hb dJ7_append_3_10 rfl (lv_at hl 0 rfl) ?_
  replace h := bo_o h
  obtain ⟨_, e7, h⟩ := h
  replace h := b2_o h
  obtain ⟨x9, w6, e8, h⟩ := h
  refine h_callX 0 (ci := 15) (As := []) (rest := []) (v := (some (.int x9))) (w' := w6) (st1 := [.int x9]) hx hb hml hown hts hK hR hS (Nat.le_refl _) (Nat.le_refl _) rfl e7 (mJ7_isLatin1 e8) (lw_meth q322) q122 q318 q319 (hts _ q321) (by decide +kernel) (Nat.le_of_ble_eq_true rfl) (Nat.le_of_ble_eq_true rfl) rfl hl.1 (Nat.le_of_ble_eq_true rfl) dJ7_append_3_11 rfl rfl (fun H locs hR hS => ?_)
  refine lv_if_eq (tgt := 45) hx hb dJ7_append_3_14 (by decide) (fun c10 => ?_) (fun c10 => ?_)
  · replace h := it_o c10 h
    exact bJ7_append_3_45 B h  hR hS (lv_sub hl [0, 1] rfl)
  · replace h := if_o c10 h
    refine lv_iload_n hx hb dJ7_append_3_17 rfl (lv_at hl 1 rfl) ?_
    replace h := b2_o h
    obtain ⟨x13, w11, e12, h⟩ := h
    refine h_callS 1  (As := [.int v1]) (rest := []) (v := (some (.int x13))) (w' := w11) (st1 := [.int x13]) hx hb hml hown hts hK hR hS (Nat.le_refl _) (Nat.le_refl _) (mJ15_canEncode e12) (lw_S q790 q791 q131 q792) (by decide +kernel) (Nat.le_of_ble_eq_true rfl) (Nat.le_of_ble_eq_true rfl) rfl hl.1 (Nat.le_of_ble_eq_true rfl) dJ7_append_3_18 rfl rfl (fun H locs hR hS => ?_)
    refine lv_if_eq (tgt := 45) hx hb dJ7_append_3_21 (by decide) (fun c14 => ?_) (fun c14 => ?_)
    · replace h := it_o c14 h
      exact bJ7_append_3_45 B h  hR hS (lv_sub hl [0, 1] rfl)
    · replace h := if_o c14 h
      refine lv_aload_n hx hb dJ7_append_3_24 rfl (lv_at hl 0 rfl) ?_
      replace h := bo_o h
      obtain ⟨x15, e16, h⟩ := h
      refine h_get (ci := 15) (k := 0) (v := va_rf x15) hx hb hts hown hK hR in_J8 rfl (by decide) (fun _ _ => rfl) q256 (fun _ h9 => h9) (gR_o e16) dJ7_append_3_25 ?_
      refine lv_aload_n hx hb dJ7_append_3_28 rfl (lv_at hl 0 rfl) ?_
      refine lv_dup hx hb dJ7_append_3_29 rfl ?_
      replace h := bo_o h
      obtain ⟨x17, e18, h⟩ := h
      refine h_get (ci := 15) (k := 3) (v := .int x17) hx hb hts hown hK hR in_J8 rfl (by decide) (fun _ _ => rfl) q260 (fun _ h9 => h9) (gI_o e18) dJ7_append_3_30 ?_
      refine lv_dup_x1 hx hb dJ7_append_3_33 rfl rfl ?_
      refine lv_iconst (v := 1) hx hb dJ7_append_3_34 (by decide) ?_
      refine lv_iadd hx hb dJ7_append_3_35 ?_
      replace h := bo_o h
      obtain ⟨w19, e20, h⟩ := h
      refine h_put (ci := 15) (k := 3) (ty := tyJ8 3) hx hb hts hown hK hR hS in_J8 tyJ8 tyJ8_ok nmJ8 rfl (by decide) q260 (fun _ h9 => h9) rfl (tyJ8_ok 3 (by decide)) rfl rfl e20 dJ7_append_3_36 (fun H locs hR hS => ?_)
      refine lv_iload_n hx hb dJ7_append_3_39 rfl (lv_at hl 1 rfl) ?_
      refine lv_i2b hx hb dJ7_append_3_40 rfl ?_
      replace h := bo_o h
      obtain ⟨a21, e22, h⟩ := h
      subst e22
      replace h := bo_o h
      obtain ⟨w23, e24, h⟩ := h
      refine h_bast hx hb hK hR hS e24 dJ7_append_3_41 (fun H locs hR hS => ?_)
      exact bJ7_append_3_42 B h  hR hS (lv_sub hl [0] rfl)
theorem mJ7_append_3 {l : Launch} {G : gE} {A : Nat → Prop} {v0 : Nat} {v1 : Int32} {w : WH} {r : (Option Nat × WH)} (h : fJ7_append_3 v0 v1 w = some r) : hM l G A yJ7_append_3 cJ7_append_3 2 (some (.object "java/lang/AbstractStringBuilder")) 4 93 [.ref v0, .int v1] w (some (va_rf r.1)) r.2 :=
  h_of (by decide +kernel) (Nat.le_of_ble_eq_true rfl) (fun p e s m args below meth c ls B hnm hR hS hl => bJ7_append_3_0 B h hR hS hl)
noncomputable def fJ8_append_3 (v0 : Nat) (v1 : Int32) (w : WH) : Option ((Option Nat × WH)) :=
  (hIs w v0 15).bind fun _ =>
  b2_ (fJ7_append_3 v0 v1 w) fun x4 w1 =>
  some (some v0, w1)
theorem bJ8_append_3_0 {p : Program} {l : Launch} {e : Env} {s : State} {m : MethodId} {args : Array Value} {below : List Frame} {meth : Method} {c : Code} {H : Heap} {locs : List Loc} {ls : Array Slot} {G : gE} {A : Nat → Prop} {w0 : WH} (B : gB G RJ8 cJ8_append_3 2 (some (.object "java/lang/StringBuilder")) p s m args meth c) {v0 : Nat} {v1 : Int32} {w : WH} {r : (Option Nat × WH)} (h : fJ8_append_3 v0 v1 w = some r)   (hR : RepH G A w H) (hS : Cu A s w0 w H locs) (hl : lv_has ls 2 [(0, .ref v0), (1, .int v1)]) : W p l e (hRm 5 114 w0) s m args below meth c H locs (wC w0 - wC w) (wS w0 - wS w) (hZ below args s G A w0 (some (va_rf r.1)) r.2) (F0 m 0 ls []) := by
  have B0 := B
  obtain ⟨hx, hb, hml, hown, hts, hr, hlk, hK⟩ := B0
  unfold fJ8_append_3 at h
  refine lv_aload_n hx hb dJ8_append_3_0 rfl (lv_at hl 0 rfl) ?_
  refine lv_iload_n hx hb dJ8_append_3_1 rfl (lv_at hl 1 rfl) ?_
  replace h := bo_o h
  obtain ⟨_, e2, h⟩ := h
  replace h := b2_o h
  obtain ⟨x4, w1, e3, h⟩ := h
  refine h_callSU 1 (ci := 15) (As := [.int v1]) (rest := []) (v := (some (va_rf x4))) (w' := w1) (st1 := [va_rf x4]) hx hb hml hown hts hK hR hS (Nat.le_refl _) (Nat.le_refl _) rfl e2 (mJ7_append_3 e3) (lw_app (a := [.methodLink _ _ _, .sameMethod _ _ _ _, .superclass _ _, .instanceMethod _, .initialized _]) (lw_5 q787 q3043 q269 q788 q122) (lw_meth q789)) (by decide +kernel) (Nat.le_of_ble_eq_true rfl) (Nat.le_of_ble_eq_true rfl) rfl hl.1 (Nat.le_of_ble_eq_true rfl) dJ8_append_3_2 rfl rfl (fun H locs hR hS => ?_)
  refine lv_pop hx hb dJ8_append_3_5 (rf_cat _) ?_
  refine lv_aload_n hx hb dJ8_append_3_6 rfl (lv_at hl 0 rfl) ?_
  have eR := Option.some.inj h
  subst eR
  exact h_afin (x := some v0) hx hb hr hlk (by first | exact Or.inl ⟨_, rfl⟩ | exact Or.inr ⟨_, rfl⟩) hR hS dJ8_append_3_7
theorem mJ8_append_3 {l : Launch} {G : gE} {A : Nat → Prop} {v0 : Nat} {v1 : Int32} {w : WH} {r : (Option Nat × WH)} (h : fJ8_append_3 v0 v1 w = some r) : hM l G A yJ8_append_3 cJ8_append_3 2 (some (.object "java/lang/StringBuilder")) 5 114 [.ref v0, .int v1] w (some (va_rf r.1)) r.2 :=
  h_of (by decide +kernel) (Nat.le_of_ble_eq_true rfl) (fun p e s m args below meth c ls B hnm hR hS hl => bJ8_append_3_0 B h hR hS hl)
noncomputable def fX6_word_b69 (v1 : Nat) (w : WH) : Option (((Sum (Option Nat) (Nat × Nat)) × WH)) :=
  (hIs w v1 15).bind fun _ =>
  b2_ (fJ8_toString v1 w) fun x4 w1 =>
  some (.inl x4, w1)
theorem bX6_word_69 {p : Program} {l : Launch} {e : Env} {s : State} {m : MethodId} {args : Array Value} {below : List Frame} {meth : Method} {c : Code} {H : Heap} {locs : List Loc} {ls : Array Slot} {G : gE} {A : Nat → Prop} {w0 : WH} (B : gB G RX6 cX6_word 2 (some (.object "java/lang/String")) p s m args meth c) (hT : ∀ x ∈ c.exceptionTable.toList, False) (hl0 : l.stackTraces = false) {v1 : Nat} {w : WH} {r : ((Sum (Option Nat) (Nat × Nat)) × WH)} (h : fX6_word_b69 v1 w = some r)   (hR : RepH G A w H) (hS : Cu A s w0 w H locs) (hl : lv_has ls 2 [(1, .ref v1)]) : W p l e (hRm 12 269 w0) s m args below meth c H locs (wC w0 - wC w) (wS w0 - wS w) (hZX below args s G A w0 (oR r.1) r.2) (F0 m 69 ls []) := by
  have B0 := B
  obtain ⟨hx, hb, hml, hown, hts, hr, hlk, hK⟩ := B0
  unfold fX6_word_b69 at h
  refine lv_aload_n hx hb dX6_word_69 rfl (lv_at hl 0 rfl) ?_
  replace h := bo_o h
  obtain ⟨_, e2, h⟩ := h
  replace h := b2_o h
  obtain ⟨x4, w1, e3, h⟩ := h
  refine h_callV 0 (ci := 15) (As := []) (rest := []) (v := (some (va_rf x4))) (w' := w1) (st1 := [va_rf x4]) hx hb hml hown hts hK hR hS (Nat.le_refl _) (Nat.le_refl _) rfl e2 (mJ8_toString e3) (lw_V q805 q418 q419 q123 q420) (by decide +kernel) (Nat.le_of_ble_eq_true rfl) (Nat.le_of_ble_eq_true rfl) rfl hl.1 (Nat.le_of_ble_eq_true rfl) dX6_word_70 rfl rfl (fun H locs hR hS => ?_)
  have eR := Option.some.inj h
  subst eR
  exact h_afinX (x := x4) hx hb hr hlk (by first | exact Or.inl ⟨_, rfl⟩ | exact Or.inr ⟨_, rfl⟩) hR hS dX6_word_73
noncomputable def fX6_word_b27 (v0 : Nat) (v1 : Nat) (w : WH) : Option (Sum (WH) (((Sum (Option Nat) (Nat × Nat)) × WH))) :=
  (hIs w v0 25).bind fun _ =>
  b2_ (fX6_isAt v0 97 122 w) fun x4 w1 =>
  if x4 = 0 then (
    (fX6_word_b69 v1 w1).map (fun y => (.inr y))
  ) else (
    (gR w1 v0 25 4).bind fun x6 =>
    x6.bind fun a8 =>
    (gR w1 a8 17 4).bind fun x10 =>
    (gI w1 v0 25 1).bind fun x12 =>
    x10.bind fun a14 =>
    (ldI w1 a14 2 x12).bind fun x16 =>
    (hIs w1 v1 15).bind fun _ =>
    b2_ (fJ8_append_3 v1 ((x16.toUInt32 % 65536).toInt32) w1) fun x21 w18 =>
    (gI w18 v0 25 1).bind fun x22 =>
    (hPut w18 v0 25 1 (.int (x22 + 1))).bind fun w24 =>
    some (.inl w24)
  )
theorem bX6_word_27 {p : Program} {l : Launch} {e : Env} {s : State} {m : MethodId} {args : Array Value} {below : List Frame} {meth : Method} {c : Code} {H : Heap} {locs : List Loc} {ls : Array Slot} {G : gE} {A : Nat → Prop} {w0 : WH} (B : gB G RX6 cX6_word 2 (some (.object "java/lang/String")) p s m args meth c) (hT : ∀ x ∈ c.exceptionTable.toList, False) (hl0 : l.stackTraces = false) {v0 : Nat} {v1 : Nat} {w : WH} {x : Sum (WH) (((Sum (Option Nat) (Nat × Nat)) × WH))} {r : ((Sum (Option Nat) (Nat × Nat)) × WH)} (h : fX6_word_b27 v0 v1 w = some x)  (k27 : ∀  (w' : WH), x = (.inl w') → ∀ (H : Heap) (locs : List Loc) (ls : Array Slot), RepH G A w' H → Cu A s w0 w' H locs → lv_has ls 2 [(0, .ref v0), (1, .ref v1)] → W p l e (hRm 12 269 w0) s m args below meth c H locs (wC w0 - wC w') (wS w0 - wS w') (hZX below args s G A w0 (oR r.1) r.2) (F0 m 27 ls [])) (kR : ∀ q, x = (.inr q) → q = r) (hR : RepH G A w H) (hS : Cu A s w0 w H locs) (hl : lv_has ls 2 [(0, .ref v0), (1, .ref v1)]) : W p l e (hRm 12 269 w0) s m args below meth c H locs (wC w0 - wC w) (wS w0 - wS w) (hZX below args s G A w0 (oR r.1) r.2) (F0 m 27 ls []) := by
  have B0 := B
  obtain ⟨hx, hb, hml, hown, hts, hr, hlk, hK⟩ := B0
  unfold fX6_word_b27 at h
  refine lv_aload_n hx hb dX6_word_27 rfl (lv_at hl 0 rfl) ?_
  refine lv_bipush (v := 97) hx hb dX6_word_28 (by decide) ?_
  refine lv_bipush (v := 122) hx hb dX6_word_30 (by decide) ?_
  replace h := bo_o h
  obtain ⟨_, e2, h⟩ := h
  replace h := b2_o h
  obtain ⟨x4, w1, e3, h⟩ := h
  refine h_callV 2 (ci := 25) (As := [.int 97, .int 122]) (rest := []) (v := (some (.int x4))) (w' := w1) (st1 := [.int x4]) hx hb hml hown hts hK hR hS (Nat.le_refl _) (Nat.le_refl _) rfl e2 (mX6_isAt e3) (lw_V q779 q781 qs5 q138 q782) (by decide +kernel) (Nat.le_of_ble_eq_true rfl) (Nat.le_of_ble_eq_true rfl) rfl hl.1 (Nat.le_of_ble_eq_true rfl) dX6_word_32 rfl rfl (fun H locs hR hS => ?_)
  refine lv_if_eq (tgt := 69) hx hb dX6_word_35 (by decide) (fun c5 => ?_) (fun c5 => ?_)
  · replace h := it_o c5 h
    obtain ⟨y, h, ey⟩ := mp_o h
    have ey := kR _ ey.symm
    subst ey
    exact bX6_word_69 B hT hl0 h  hR hS (lv_sub hl [1] rfl)
  · replace h := if_o c5 h
    refine lv_aload_n hx hb dX6_word_38 rfl (lv_at hl 1 rfl) ?_
    refine lv_aload_n hx hb dX6_word_39 rfl (lv_at hl 0 rfl) ?_
    replace h := bo_o h
    obtain ⟨x6, e7, h⟩ := h
    refine h_get (ci := 25) (k := 4) (v := va_rf x6) hx hb hts hown hK hR in_X6 rfl (by decide) (fun _ _ => rfl) q716 (fun _ h9 => h9) (gR_o e7) dX6_word_40 ?_
    replace h := bo_o h
    obtain ⟨a8, e9, h⟩ := h
    subst e9
    replace h := bo_o h
    obtain ⟨x10, e11, h⟩ := h
    refine h_getN (ci := 17) (k := 4) (v := va_rf x10) hx hb hts hown hK hR in_X1 rfl (by decide) (fun _ _ => rfl) (hK.fn 26 rfl) (fun _ h9 => h9) (gR_o e11) dX6_word_43 ?_
    refine lv_aload_n hx hb dX6_word_46 rfl (lv_at hl 0 rfl) ?_
    replace h := bo_o h
    obtain ⟨x12, e13, h⟩ := h
    refine h_get (ci := 25) (k := 1) (v := .int x12) hx hb hts hown hK hR in_X6 rfl (by decide) (fun _ _ => rfl) q712 (fun _ h9 => h9) (gI_o e13) dX6_word_47 ?_
    replace h := bo_o h
    obtain ⟨a14, e15, h⟩ := h
    subst e15
    replace h := bo_o h
    obtain ⟨x16, e17, h⟩ := h
    refine h_bald hx hb hK hR hS e17 dX6_word_50 ?_
    refine lv_i2c hx hb dX6_word_51 rfl ?_
    replace h := bo_o h
    obtain ⟨_, e19, h⟩ := h
    replace h := b2_o h
    obtain ⟨x21, w18, e20, h⟩ := h
    refine h_callV 1 (ci := 15) (As := [.int ((x16.toUInt32 % 65536).toInt32)]) (rest := []) (v := (some (va_rf x21))) (w' := w18) (st1 := [va_rf x21]) hx hb hml hown hts hK hR hS (Nat.le_refl _) (Nat.le_refl _) rfl e19 (mJ8_append_3 e20) (lw_V q783 q784 q785 q123 q786) (by decide +kernel) (Nat.le_of_ble_eq_true rfl) (Nat.le_of_ble_eq_true rfl) rfl hl.1 (Nat.le_of_ble_eq_true rfl) dX6_word_52 rfl rfl (fun H locs hR hS => ?_)
    refine lv_pop hx hb dX6_word_55 (rf_cat _) ?_
    refine lv_aload_n hx hb dX6_word_56 rfl (lv_at hl 0 rfl) ?_
    refine lv_dup hx hb dX6_word_57 rfl ?_
    replace h := bo_o h
    obtain ⟨x22, e23, h⟩ := h
    refine h_get (ci := 25) (k := 1) (v := .int x22) hx hb hts hown hK hR in_X6 rfl (by decide) (fun _ _ => rfl) q712 (fun _ h9 => h9) (gI_o e23) dX6_word_58 ?_
    refine lv_iconst (v := 1) hx hb dX6_word_61 (by decide) ?_
    refine lv_iadd hx hb dX6_word_62 ?_
    replace h := bo_o h
    obtain ⟨w24, e25, h⟩ := h
    refine h_put (ci := 25) (k := 1) (ty := tyX6 1) hx hb hts hown hK hR hS in_X6 tyX6 tyX6_ok nmX6 rfl (by decide) q712 (fun _ h9 => h9) rfl (tyX6_ok 1 (by decide)) rfl rfl e25 dX6_word_63 (fun H locs hR hS => ?_)
    refine lv_goto (tgt := 27) hx hb dX6_word_66 (by decide) ?_
    exact k27 _ (Option.some.inj h).symm H locs ls hR hS (lv_sub hl [0, 1] rfl)
noncomputable def fX6_word_l27 (v0 : Nat) (v1 : Nat) (w : WH) : Option (((Sum (Option Nat) (Nat × Nat)) × WH)) := whileO (fun q => fX6_word_b27 v0 v1 q) w
theorem lX6_word_27 {p : Program} {l : Launch} {e : Env} {s : State} {m : MethodId} {args : Array Value} {below : List Frame} {meth : Method} {c : Code} {G : gE} {A : Nat → Prop} {w0 : WH} (B : gB G RX6 cX6_word 2 (some (.object "java/lang/String")) p s m args meth c) (hT : ∀ x ∈ c.exceptionTable.toList, False) (hl0 : l.stackTraces = false) {v0 : Nat} {v1 : Nat} {r : ((Sum (Option Nat) (Nat × Nat)) × WH)}   : ∀ (w : WH), fX6_word_l27 v0 v1 w = some r → ∀ (H : Heap) (locs : List Loc) (ls : Array Slot), RepH G A w H → Cu A s w0 w H locs → lv_has ls 2 [(0, .ref v0), (1, .ref v1)] → W p l e (hRm 12 269 w0) s m args below meth c H locs (wC w0 - wC w) (wS w0 - wS w) (hZX below args s G A w0 (oR r.1) r.2) (F0 m 27 ls []) := by
  intro  w h
  refine wh_walk (body := (fun q => fX6_word_b27 v0 v1 q)) (P := (fun q : (WH) => ∀ (H : Heap) (locs : List Loc) (ls : Array Slot), RepH G A q H → Cu A s w0 q H locs → lv_has ls 2 [(0, .ref v0), (1, .ref v1)] → W p l e (hRm 12 269 w0) s m args below meth c H locs (wC w0 - wC q) (wS w0 - wS q) (hZX below args s G A w0 (oR r.1) r.2) (F0 m 27 ls []))) (r := r) ?_ w h
  intro q y hy hL hr H locs ls hR hS hl
  exact bX6_word_27 (r := r) B hT hl0 hy (fun a0 e => hL a0 e) (fun q e => hr q e) hR hS hl
noncomputable def fX6_word (v0 : Nat) (w : WH) : Option (((Sum (Option Nat) (Nat × Nat)) × WH)) :=
  (hIs w v0 25).bind fun _ =>
  b2_ (fX6_peek v0 w) fun x4 w1 =>
  b2_ (fX1_inRange (x4.toInt64) 97 122 w1) fun x7 w5 =>
  (hIs w5 v0 25).bind fun _ =>
  b2_ (fX6_require v0 x7 1 w5) fun o10 w8 => ex_ o10 (fun _ =>
    b2_ (hNw w8 4 15 [.null, .int 0, .int 0, .int 0]) fun a14 w15 =>
    (fJ8_init a14 w15).bind fun w17 =>
    fX6_word_l27 v0 a14 w17) (fun q13 =>
    some (.inr q13, w8))
theorem bX6_word_0 {p : Program} {l : Launch} {e : Env} {s : State} {m : MethodId} {args : Array Value} {below : List Frame} {meth : Method} {c : Code} {H : Heap} {locs : List Loc} {ls : Array Slot} {G : gE} {A : Nat → Prop} {w0 : WH} (B : gB G RX6 cX6_word 2 (some (.object "java/lang/String")) p s m args meth c) (hT : ∀ x ∈ c.exceptionTable.toList, False) (hl0 : l.stackTraces = false) {v0 : Nat} {w : WH} {r : ((Sum (Option Nat) (Nat × Nat)) × WH)} (h : fX6_word v0 w = some r)   (hR : RepH G A w H) (hS : Cu A s w0 w H locs) (hl : lv_has ls 2 [(0, .ref v0)]) : W p l e (hRm 12 269 w0) s m args below meth c H locs (wC w0 - wC w) (wS w0 - wS w) (hZX below args s G A w0 (oR r.1) r.2) (F0 m 0 ls []) := by
  have B0 := B
  obtain ⟨hx, hb, hml, hown, hts, hr, hlk, hK⟩ := B0
  unfold fX6_word at h
  refine lv_aload_n hx hb dX6_word_0 rfl (lv_at hl 0 rfl) ?_
  refine lv_aload_n hx hb dX6_word_1 rfl (lv_at hl 0 rfl) ?_
  replace h := bo_o h
  obtain ⟨_, e2, h⟩ := h
  replace h := b2_o h
  obtain ⟨x4, w1, e3, h⟩ := h
  refine h_callV 0 (ci := 25) (As := []) (rest := [.ref v0]) (v := (some (.int x4))) (w' := w1) (st1 := [.int x4, .ref v0]) hx hb hml hown hts hK hR hS (Nat.le_refl _) (Nat.le_refl _) rfl e2 (mX6_peek e3) (lw_V q736 q738 qs3 q138 q739) (by decide +kernel) (Nat.le_of_ble_eq_true rfl) (Nat.le_of_ble_eq_true rfl) rfl hl.1 (Nat.le_of_ble_eq_true rfl) dX6_word_2 rfl rfl (fun H locs hR hS => ?_)
  refine lv_i2l hx hb dX6_word_5 rfl ?_
  refine lv_ldc2 (v := 97) hx hb hown (hts _ q740) dX6_word_6 ?_
  refine lv_ldc2 (v := 122) hx hb hown (hts _ q741) dX6_word_9 ?_
  replace h := b2_o h
  obtain ⟨x7, w5, e6, h⟩ := h
  refine h_callSN 3  (As := [.long (x4.toInt64), .long 97, .long 122]) (rest := [.ref v0]) (v := (some (.int x7))) (w' := w5) (st1 := [.int x7, .ref v0]) hx hb hml hown hts hK hR hS (Nat.le_refl _) (Nat.le_refl _) (mX1_inRange e6) (lw_meth q744) (hK.mn 2 rfl) q112 q743 (by decide +kernel) (Nat.le_of_ble_eq_true rfl) (Nat.le_of_ble_eq_true rfl) rfl hl.1 (Nat.le_of_ble_eq_true rfl) dX6_word_12 rfl rfl (fun H locs hR hS => ?_)
  refine lv_iconst (v := 1) hx hb dX6_word_15 (by decide) ?_
  replace h := bo_o h
  obtain ⟨_, e9, h⟩ := h
  replace h := b2_o h
  obtain ⟨o10, w8, e11, h⟩ := h
  refine h_callVX 2 (ci := 25) (As := [.int x7, .int 1]) (rest := []) (o := oV o10) (w' := w8) hx hb hml hown hts hK hR hS (Nat.le_refl _) (Nat.le_refl _) rfl e9 (mX6_require hl0 e11) (lw_V q745 q747 qs4 q138 q748) (by decide +kernel) (Nat.le_of_ble_eq_true rfl) (Nat.le_of_ble_eq_true rfl) rfl hl.1 (Nat.le_of_ble_eq_true rfl) dX6_word_16 rfl (fun v9 hv9 H locs hR hS => ?_) (fun E9 q9 hq9 H locs hR hS hce => ?_)
  · cases o10 with
    | inr q => cases hv9
    | inl x12 =>
      cases hv9
      replace h := exl_o h
      refine W.eq (g2 := F0 m 19 ls []) rfl ?_
      replace h := b2_o h
      obtain ⟨a14, w15, e16, h⟩ := h
      refine h_new (ci := 15) (fs := [.null, .int 0, .int 0, .int 0]) hx hb hts hown hK hR hS (Nat.le_refl _) (Nat.le_refl _) in_J8 tyJ8 tyJ8_ok rfl (by decide +kernel) q777 q239 q123 e16 dX6_word_19 (fun H locs hR hS => ?_)
      refine lv_dup hx hb dX6_word_22 rfl ?_
      replace h := bo_o h
      obtain ⟨w17, e18, h⟩ := h
      refine h_callI 0  (As := []) (rest := [.ref a14]) (w' := w17) hx hb hml hown hts hK hR hS (Nat.le_refl _) (Nat.le_refl _) (mJ8_init e18) (lw_meth q242) q123 q778 q241 rfl (by decide +kernel) (Nat.le_of_ble_eq_true rfl) (Nat.le_of_ble_eq_true rfl) rfl hl.1 (Nat.le_of_ble_eq_true rfl) dX6_word_23 rfl (fun H locs hR hS => ?_)
      refine lv_astore_n (lv' := [(1, .ref a14), (0, .ref v0)]) hx hb dX6_word_26 rfl hl (by decide) rfl (fun ls hl => ?_)
      exact lX6_word_27 B hT hl0 _ h H locs ls hR hS (lv_sub hl [1, 0] rfl)
  · cases o10 with
    | inl q => cases hq9
    | inr q13 =>
      cases hq9
      replace h := exr_o h
      have eR := Option.some.inj h
      subst eR
      exact h_out hT hlk hR hS hce
theorem mX6_word {l : Launch} {G : gE} {A : Nat → Prop} {v0 : Nat} {w : WH} {r : ((Sum (Option Nat) (Nat × Nat)) × WH)} (hl0 : l.stackTraces = false) (h : fX6_word v0 w = some r) : hMX l G A yX6_word cX6_word 2 (some (.object "java/lang/String")) 12 269 [.ref v0] w (oR r.1) r.2 :=
  h_ofX (by decide +kernel) (Nat.le_of_ble_eq_true rfl) (fun p e s m args below meth c ls B hnm hT hR hS hl => bX6_word_0 B hT hl0 h hR hS hl)
