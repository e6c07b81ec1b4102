set_option maxRecDepth 100000
set_option maxHeartbeats 4000000

noncomputable def fJ31_node_b47 (v1 : Int32) (v2 : Option Nat) (v3 : Int32) (w : WH) : Option (Sum (Option Nat × Int32 × WH) ((Option Nat × WH))) :=
  if v3 ≤ v1 then (
    some (.inr (v2, w))
  ) else (
    v2.bind fun a2 =>
    (gR w a2 3 2).bind fun x4 =>
    some (.inl (x4, v3 + (-1), w))
  )
theorem bJ31_node_47 {p : Program} {l : Launch} {e : Env} {s : State} {m : MethodId} {args : Array Value} {below : List Frame} {meth : Method} {c : Code} {H : Heap} {locs : List Loc} {ls : Array Slot} {G : gE} {A : Nat → Prop} {w0 : WH} (B : gB G RJ31 cJ31_node 4 (some (.object "java/util/LinkedList$Node")) p s m args meth c) {v1 : Int32} {v2 : Option Nat} {v3 : Int32} {w : WH} {x : Sum (Option Nat × Int32 × WH) ((Option Nat × WH))} {r : (Option Nat × WH)} (h : fJ31_node_b47 v1 v2 v3 w = some x)  (k47 : ∀ (v2' : Option Nat) (v3' : Int32) (w' : WH), x = (.inl (v2', v3', w')) → ∀ (H : Heap) (locs : List Loc) (ls : Array Slot), RepH G A w' H → Cu A s w0 w' H locs → lv_has ls 4 [(1, .int v1), (2, va_rf v2'), (3, .int v3')] → W p l e (hRm 0 0 w0) s m args below meth c H locs (wC w0 - wC w') (wS w0 - wS w') (hZ below args s G A w0 (some (va_rf r.1)) r.2) (F0 m 47 ls [])) (kR : ∀ q, x = (.inr q) → q = r) (hR : RepH G A w H) (hS : Cu A s w0 w H locs) (hl : lv_has ls 4 [(1, .int v1), (2, va_rf v2), (3, .int v3)]) : W p l e (hRm 0 0 w0) s m args below meth c H locs (wC w0 - wC w) (wS w0 - wS w) (hZ below args s G A w0 (some (va_rf r.1)) r.2) (F0 m 47 ls []) := by
  have B0 := B
  obtain ⟨hx, hb, hml, hown, hts, hr, hlk, hK⟩ := B0
  unfold fJ31_node_b47 at h
  refine lv_iload_n hx hb dJ31_node_47 rfl (lv_at hl 2 rfl) ?_
  refine lv_iload_n hx hb dJ31_node_48 rfl (lv_at hl 0 rfl) ?_
  refine lv_icmp_le (tgt := 63) hx hb dJ31_node_49 (by decide) (fun c1 => ?_) (fun c1 => ?_)
  · replace h := it_o c1 h
    refine lv_aload_nq hx hb dJ31_node_63 rfl (lv_at hl 1 rfl) ?_
    have eR := kR _ (Option.some.inj h).symm
    subst eR
    exact h_afin (x := v2) hx hb hr hlk (by first | exact Or.inl ⟨_, rfl⟩ | exact Or.inr ⟨_, rfl⟩) hR hS dJ31_node_64
  · replace h := if_o c1 h
    refine lv_aload_nq hx hb dJ31_node_52 rfl (lv_at hl 1 rfl) ?_
    replace h := bo_o h
    obtain ⟨a2, e3, h⟩ := h
    subst e3
    replace h := bo_o h
    obtain ⟨x4, e5, h⟩ := h
    refine h_get (ci := 3) (k := 2) (v := va_rf x4) hx hb hts hown hK hR in_J20 rfl (by decide) (fun _ _ => rfl) q1040 (fun _ h9 => h9) (gR_o e5) dJ31_node_53 ?_
    refine lv_astore_nq (lv' := [(2, va_rf x4), (1, .int v1), (3, .int v3)]) hx hb dJ31_node_56 rfl hl (by decide) rfl (fun ls hl => ?_)
    refine lv_iinc (v := v3 + (-1)) (lv' := [(3, .int (v3 + (-1))), (2, va_rf x4), (1, .int v1)]) hx hb dJ31_node_57 hl (k := 2) rfl rfl (by decide) (by cases x4 <;> rfl) (fun ls hl => ?_)
    refine lv_goto (tgt := 47) hx hb dJ31_node_60 (by decide) ?_
    exact k47 _ _ _ (Option.some.inj h).symm H locs ls hR hS (lv_sub hl [2, 1, 0] rfl)
noncomputable def fJ31_node_l47 (v1 : Int32) (v2 : Option Nat) (v3 : Int32) (w : WH) : Option ((Option Nat × WH)) := whileO (fun q => fJ31_node_b47 v1 q.1 q.2.1 q.2.2) (v2, v3, w)
theorem lJ31_node_47 {p : Program} {l : Launch} {e : Env} {s : State} {m : MethodId} {args : Array Value} {below : List Frame} {meth : Method} {c : Code} {G : gE} {A : Nat → Prop} {w0 : WH} (B : gB G RJ31 cJ31_node 4 (some (.object "java/util/LinkedList$Node")) p s m args meth c) {v1 : Int32} {r : (Option Nat × WH)}   : ∀ (v2 : Option Nat) (v3 : Int32) (w : WH), fJ31_node_l47 v1 v2 v3 w = some r → ∀ (H : Heap) (locs : List Loc) (ls : Array Slot), RepH G A w H → Cu A s w0 w H locs → lv_has ls 4 [(1, .int v1), (2, va_rf v2), (3, .int v3)] → W p l e (hRm 0 0 w0) s m args below meth c H locs (wC w0 - wC w) (wS w0 - wS w) (hZ below args s G A w0 (some (va_rf r.1)) r.2) (F0 m 47 ls []) := by
  intro v2 v3 w h
  refine wh_walk (body := (fun q => fJ31_node_b47 v1 q.1 q.2.1 q.2.2)) (P := (fun q : (Option Nat × Int32 × WH) => ∀ (H : Heap) (locs : List Loc) (ls : Array Slot), RepH G A (q.2.2) H → Cu A s w0 (q.2.2) H locs → lv_has ls 4 [(1, .int v1), (2, va_rf (q.1)), (3, .int (q.2.1))] → W p l e (hRm 0 0 w0) s m args below meth c H locs (wC w0 - wC (q.2.2)) (wS w0 - wS (q.2.2)) (hZ below args s G A w0 (some (va_rf r.1)) r.2) (F0 m 47 ls []))) (r := r) ?_ (v2, v3, w) h
  intro q y hy hL hr H locs ls hR hS hl
  exact bJ31_node_47 (r := r) B hy (fun a0 a1 a2 e => hL (a0, a1, a2) e) (fun q e => hr q e) hR hS hl
noncomputable def fJ31_node_b17 (v1 : Int32) (v2 : Option Nat) (v3 : Int32) (w : WH) : Option (Sum (Option Nat × Int32 × WH) ((Option Nat × WH))) :=
  if v1 ≤ v3 then (
    some (.inr (v2, w))
  ) else (
    v2.bind fun a2 =>
    (gR w a2 3 1).bind fun x4 =>
    some (.inl (x4, v3 + 1, w))
  )
theorem bJ31_node_17 {p : Program} {l : Launch} {e : Env} {s : State} {m : MethodId} {args : Array Value} {below : List Frame} {meth : Method} {c : Code} {H : Heap} {locs : List Loc} {ls : Array Slot} {G : gE} {A : Nat → Prop} {w0 : WH} (B : gB G RJ31 cJ31_node 4 (some (.object "java/util/LinkedList$Node")) p s m args meth c) {v1 : Int32} {v2 : Option Nat} {v3 : Int32} {w : WH} {x : Sum (Option Nat × Int32 × WH) ((Option Nat × WH))} {r : (Option Nat × WH)} (h : fJ31_node_b17 v1 v2 v3 w = some x)  (k17 : ∀ (v2' : Option Nat) (v3' : Int32) (w' : WH), x = (.inl (v2', v3', w')) → ∀ (H : Heap) (locs : List Loc) (ls : Array Slot), RepH G A w' H → Cu A s w0 w' H locs → lv_has ls 4 [(1, .int v1), (2, va_rf v2'), (3, .int v3')] → W p l e (hRm 0 0 w0) s m args below meth c H locs (wC w0 - wC w') (wS w0 - wS w') (hZ below args s G A w0 (some (va_rf r.1)) r.2) (F0 m 17 ls [])) (kR : ∀ q, x = (.inr q) → q = r) (hR : RepH G A w H) (hS : Cu A s w0 w H locs) (hl : lv_has ls 4 [(1, .int v1), (2, va_rf v2), (3, .int v3)]) : W p l e (hRm 0 0 w0) s m args below meth c H locs (wC w0 - wC w) (wS w0 - wS w) (hZ below args s G A w0 (some (va_rf r.1)) r.2) (F0 m 17 ls []) := by
  have B0 := B
  obtain ⟨hx, hb, hml, hown, hts, hr, hlk, hK⟩ := B0
  unfold fJ31_node_b17 at h
  refine lv_iload_n hx hb dJ31_node_17 rfl (lv_at hl 2 rfl) ?_
  refine lv_iload_n hx hb dJ31_node_18 rfl (lv_at hl 0 rfl) ?_
  refine lv_icmp_ge (tgt := 33) hx hb dJ31_node_19 (by decide) (fun c1 => ?_) (fun c1 => ?_)
  · replace h := it_o c1 h
    refine lv_aload_nq hx hb dJ31_node_33 rfl (lv_at hl 1 rfl) ?_
    have eR := kR _ (Option.some.inj h).symm
    subst eR
    exact h_afin (x := v2) hx hb hr hlk (by first | exact Or.inl ⟨_, rfl⟩ | exact Or.inr ⟨_, rfl⟩) hR hS dJ31_node_34
  · replace h := if_o c1 h
    refine lv_aload_nq hx hb dJ31_node_22 rfl (lv_at hl 1 rfl) ?_
    replace h := bo_o h
    obtain ⟨a2, e3, h⟩ := h
    subst e3
    replace h := bo_o h
    obtain ⟨x4, e5, h⟩ := h
    refine h_get (ci := 3) (k := 1) (v := va_rf x4) hx hb hts hown hK hR in_J20 rfl (by decide) (fun _ _ => rfl) q1038 (fun _ h9 => h9) (gR_o e5) dJ31_node_23 ?_
    refine lv_astore_nq (lv' := [(2, va_rf x4), (1, .int v1), (3, .int v3)]) hx hb dJ31_node_26 rfl hl (by decide) rfl (fun ls hl => ?_)
    refine lv_iinc (v := v3 + 1) (lv' := [(3, .int (v3 + 1)), (2, va_rf x4), (1, .int v1)]) hx hb dJ31_node_27 hl (k := 2) rfl rfl (by decide) (by cases x4 <;> rfl) (fun ls hl => ?_)
    refine lv_goto (tgt := 17) hx hb dJ31_node_30 (by decide) ?_
    exact k17 _ _ _ (Option.some.inj h).symm H locs ls hR hS (lv_sub hl [2, 1, 0] rfl)
noncomputable def fJ31_node_l17 (v1 : Int32) (v2 : Option Nat) (v3 : Int32) (w : WH) : Option ((Option Nat × WH)) := whileO (fun q => fJ31_node_b17 v1 q.1 q.2.1 q.2.2) (v2, v3, w)
theorem lJ31_node_17 {p : Program} {l : Launch} {e : Env} {s : State} {m : MethodId} {args : Array Value} {below : List Frame} {meth : Method} {c : Code} {G : gE} {A : Nat → Prop} {w0 : WH} (B : gB G RJ31 cJ31_node 4 (some (.object "java/util/LinkedList$Node")) p s m args meth c) {v1 : Int32} {r : (Option Nat × WH)}   : ∀ (v2 : Option Nat) (v3 : Int32) (w : WH), fJ31_node_l17 v1 v2 v3 w = some r → ∀ (H : Heap) (locs : List Loc) (ls : Array Slot), RepH G A w H → Cu A s w0 w H locs → lv_has ls 4 [(1, .int v1), (2, va_rf v2), (3, .int v3)] → W p l e (hRm 0 0 w0) s m args below meth c H locs (wC w0 - wC w) (wS w0 - wS w) (hZ below args s G A w0 (some (va_rf r.1)) r.2) (F0 m 17 ls []) := by
  intro v2 v3 w h
  refine wh_walk (body := (fun q => fJ31_node_b17 v1 q.1 q.2.1 q.2.2)) (P := (fun q : (Option Nat × Int32 × WH) => ∀ (H : Heap) (locs : List Loc) (ls : Array Slot), RepH G A (q.2.2) H → Cu A s w0 (q.2.2) H locs → lv_has ls 4 [(1, .int v1), (2, va_rf (q.1)), (3, .int (q.2.1))] → W p l e (hRm 0 0 w0) s m args below meth c H locs (wC w0 - wC (q.2.2)) (wS w0 - wS (q.2.2)) (hZ below args s G A w0 (some (va_rf r.1)) r.2) (F0 m 17 ls []))) (r := r) ?_ (v2, v3, w) h
  intro q y hy hL hr H locs ls hR hS hl
  exact bJ31_node_17 (r := r) B hy (fun a0 a1 a2 e => hL (a0, a1, a2) e) (fun q e => hr q e) hR hS hl
noncomputable def fJ31_node (v0 : Nat) (v1 : Int32) (w : WH) : Option ((Option Nat × WH)) :=
  (gI w v0 11 1).bind fun x1 =>
  if x1 >>> ((1 : Int32) &&& 31) ≤ v1 then (
    (gR w v0 11 3).bind fun x4 =>
    (gI w v0 11 1).bind fun x6 =>
    nm_ (x6 - 1) fun x8 =>
    fJ31_node_l47 v1 x4 x8 w
  ) else (
    (gR w v0 11 2).bind fun x10 =>
    fJ31_node_l17 v1 x10 0 w
  )
theorem bJ31_node_0 {p : Program} {l : Launch} {e : Env} {s : State} {m : MethodId} {args : Array Value} {below : List Frame} {meth : Method} {c : Code} {H : Heap} {locs : List Loc} {ls : Array Slot} {G : gE} {A : Nat → Prop} {w0 : WH} (B : gB G RJ31 cJ31_node 4 (some (.object "java/util/LinkedList$Node")) p s m args meth c) {v0 : Nat} {v1 : Int32} {w : WH} {r : (Option Nat × WH)} (h : fJ31_node v0 v1 w = some r)   (hR : RepH G A w H) (hS : Cu A s w0 w H locs) (hl : lv_has ls 4 [(0, .ref v0), (1, .int v1)]) : W p l e (hRm 0 0 w0) s m args below meth c H locs (wC w0 - wC w) (wS w0 - wS w) (hZ below args s G A w0 (some (va_rf r.1)) r.2) (F0 m 0 ls []) := by
  have B0 := B
  obtain ⟨hx, hb, hml, hown, hts, hr, hlk, hK⟩ := B0
  unfold fJ31_node at h
  refine lv_iload_n hx hb dJ31_node_0 rfl (lv_at hl 1 rfl) ?_
  refine lv_aload_n hx hb dJ31_node_1 rfl (lv_at hl 0 rfl) ?_
  replace h := bo_o h
  obtain ⟨x1, e2, h⟩ := h
  refine h_get (ci := 11) (k := 1) (v := .int x1) hx hb hts hown hK hR in_J31 rfl (by decide) (fun _ _ => rfl) q2057 (fun _ h9 => h9) (gI_o e2) dJ31_node_2 ?_
  refine lv_iconst (v := 1) hx hb dJ31_node_5 (by decide) ?_
  refine lv_ishr hx hb dJ31_node_6 ?_
  refine lv_icmp_ge (tgt := 35) hx hb dJ31_node_7 (by decide) (fun c3 => ?_) (fun c3 => ?_)
  · replace h := it_o c3 h
    refine lv_aload_n hx hb dJ31_node_35 rfl (lv_at hl 0 rfl) ?_
    replace h := bo_o h
    obtain ⟨x4, e5, h⟩ := h
    refine h_get (ci := 11) (k := 3) (v := va_rf x4) hx hb hts hown hK hR in_J31 rfl (by decide) (fun _ _ => rfl) q2060 (fun _ h9 => h9) (gR_o e5) dJ31_node_36 ?_
    refine lv_astore_nq (lv' := [(2, va_rf x4), (0, .ref v0), (1, .int v1)]) hx hb dJ31_node_39 rfl hl (by decide) rfl (fun ls hl => ?_)
    refine lv_aload_n hx hb dJ31_node_40 rfl (lv_at hl 1 rfl) ?_
    replace h := bo_o h
    obtain ⟨x6, e7, h⟩ := h
    refine h_get (ci := 11) (k := 1) (v := .int x6) hx hb hts hown hK hR in_J31 rfl (by decide) (fun _ _ => rfl) q2057 (fun _ h9 => h9) (gI_o e7) dJ31_node_41 ?_
    refine lv_iconst (v := 1) hx hb dJ31_node_44 (by decide) ?_
    refine lv_isub hx hb dJ31_node_45 ?_
    replace h := nm_o h
    obtain ⟨x8, e9, h⟩ := h
    refine lv_istore_n (lv' := [(3, .int x8), (2, va_rf x4), (0, .ref v0), (1, .int v1)]) hx hb dJ31_node_46 rfl hl (by decide) (by subst e9; cases x4 <;> rfl) (fun ls hl => ?_)
    exact lJ31_node_47 B _ _ _ h H locs ls hR hS (lv_sub hl [3, 1, 0] rfl)
  · replace h := if_o c3 h
    refine lv_aload_n hx hb dJ31_node_10 rfl (lv_at hl 0 rfl) ?_
    replace h := bo_o h
    obtain ⟨x10, e11, h⟩ := h
    refine h_get (ci := 11) (k := 2) (v := va_rf x10) hx hb hts hown hK hR in_J31 rfl (by decide) (fun _ _ => rfl) q2059 (fun _ h9 => h9) (gR_o e11) dJ31_node_11 ?_
    refine lv_astore_nq (lv' := [(2, va_rf x10), (0, .ref v0), (1, .int v1)]) hx hb dJ31_node_14 rfl hl (by decide) rfl (fun ls hl => ?_)
    refine lv_iconst (v := 0) hx hb dJ31_node_15 (by decide) ?_
    refine lv_istore_n (lv' := [(3, .int 0), (2, va_rf x10), (0, .ref v0), (1, .int v1)]) hx hb dJ31_node_16 rfl hl (by decide) (by cases x10 <;> rfl) (fun ls hl => ?_)
    exact lJ31_node_17 B _ _ _ h H locs ls hR hS (lv_sub hl [3, 1, 0] rfl)
theorem mJ31_node {l : Launch} {G : gE} {A : Nat → Prop} {v0 : Nat} {v1 : Int32} {w : WH} {r : (Option Nat × WH)} (h : fJ31_node v0 v1 w = some r) : hM l G A yJ31_node cJ31_node 4 (some (.object "java/util/LinkedList$Node")) 0 0 [.ref v0, .int v1] w (some (va_rf r.1)) r.2 :=
  h_of (by decide +kernel) (Nat.le_of_ble_eq_true rfl) (fun p e s m args below meth c ls B hnm hR hS hl => bJ31_node_0 B h hR hS hl)
noncomputable def fJ31_get (v0 : Nat) (v1 : Int32) (w : WH) : Option ((Option Nat × WH)) :=
  (hIs w v0 11).bind fun _ =>
  (fJ31_checkElementIndex v0 v1 w).bind fun w1 =>
  (hIs w1 v0 11).bind fun _ =>
  b2_ (fJ31_node v0 v1 w1) fun x7 w4 =>
  x7.bind fun a8 =>
  (gR w4 a8 3 0).bind fun x10 =>
  some (x10, w4)
theorem bJ31_get_0 {p : Program} {l : Launch} {e : Env} {s : State} {m : MethodId} {args : Array Value} {below : List Frame} {meth : Method} {c : Code} {H : Heap} {locs : List Loc} {ls : Array Slot} {G : gE} {A : Nat → Prop} {w0 : WH} (B : gB G RJ31 cJ31_get 2 (some (.object "java/lang/Object")) p s m args meth c) {v0 : Nat} {v1 : Int32} {w : WH} {r : (Option Nat × WH)} (h : fJ31_get v0 v1 w = some r)   (hR : RepH G A w H) (hS : Cu A s w0 w H locs) (hl : lv_has ls 2 [(0, .ref v0), (1, .int v1)]) : W p l e (hRm 7 125 w0) s m args below meth c H locs (wC w0 - wC w) (wS w0 - wS w) (hZ below args s G A w0 (some (va_rf r.1)) r.2) (F0 m 0 ls []) := by
  have B0 := B
  obtain ⟨hx, hb, hml, hown, hts, hr, hlk, hK⟩ := B0
  unfold fJ31_get at h
  refine lv_aload_n hx hb dJ31_get_0 rfl (lv_at hl 0 rfl) ?_
  refine lv_iload_n hx hb dJ31_get_1 rfl (lv_at hl 1 rfl) ?_
  replace h := bo_o h
  obtain ⟨_, e2, h⟩ := h
  replace h := bo_o h
  obtain ⟨w1, e3, h⟩ := h
  refine h_callV 1 (ci := 11) (As := [.int v1]) (rest := []) (v := none) (w' := w1) (st1 := []) hx hb hml hown hts hK hR hS (Nat.le_refl _) (Nat.le_refl _) rfl e2 (mJ31_checkElementIndex e3) (lw_V q1226 q1228 qs24 q156 q1230) (by decide +kernel) (Nat.le_of_ble_eq_true rfl) (Nat.le_of_ble_eq_true rfl) rfl hl.1 (Nat.le_of_ble_eq_true rfl) dJ31_get_2 rfl rfl (fun H locs hR hS => ?_)
  refine lv_aload_n hx hb dJ31_get_5 rfl (lv_at hl 0 rfl) ?_
  refine lv_iload_n hx hb dJ31_get_6 rfl (lv_at hl 1 rfl) ?_
  replace h := bo_o h
  obtain ⟨_, e5, h⟩ := h
  replace h := b2_o h
  obtain ⟨x7, w4, e6, h⟩ := h
  refine h_callV 1 (ci := 11) (As := [.int v1]) (rest := []) (v := (some (va_rf x7))) (w' := w4) (st1 := [va_rf x7]) hx hb hml hown hts hK hR hS (Nat.le_refl _) (Nat.le_refl _) rfl e5 (mJ31_node e6) (lw_V q1261 q1262 q1263 q156 q1264) (by decide +kernel) (Nat.le_of_ble_eq_true rfl) (Nat.le_of_ble_eq_true rfl) rfl hl.1 (Nat.le_of_ble_eq_true rfl) dJ31_get_7 rfl rfl (fun H locs hR hS => ?_)
  replace h := bo_o h
  obtain ⟨a8, e9, h⟩ := h
  subst e9
  replace h := bo_o h
  obtain ⟨x10, e11, h⟩ := h
  refine h_get (ci := 3) (k := 0) (v := va_rf x10) hx hb hts hown hK hR in_J20 rfl (by decide) (fun _ _ => rfl) q1035 (fun _ h9 => h9) (gR_o e11) dJ31_get_10 ?_
  have eR := Option.some.inj h
  subst eR
  exact h_afin (x := x10) hx hb hr hlk (by first | exact Or.inl ⟨_, rfl⟩ | exact Or.inr ⟨_, rfl⟩) hR hS dJ31_get_13
theorem mJ31_get {l : Launch} {G : gE} {A : Nat → Prop} {v0 : Nat} {v1 : Int32} {w : WH} {r : (Option Nat × WH)} (h : fJ31_get v0 v1 w = some r) : hM l G A yJ31_get cJ31_get 2 (some (.object "java/lang/Object")) 7 125 [.ref v0, .int v1] w (some (va_rf r.1)) r.2 :=
  h_of (by decide +kernel) (Nat.le_of_ble_eq_true rfl) (fun p e s m args below meth c ls B hnm hR hS hl => bJ31_get_0 B h hR hS hl)
noncomputable def fX1_pathArc (v0 : Nat) (v1 : Int32) (v2 : Int32) (w : WH) : Option (((Sum (Int32) (Nat × Nat)) × WH)) :=
  (hIs w v0 17).bind fun _ =>
  b2_ (fX1_pathOf v0 v1 w) fun o3 w1 => ex_ o3 (fun x5 =>
    if x5 = none then (
      some (.inl (-1), w1)
    ) else (
      x5.bind fun a8 =>
      (hIs w1 a8 11).bind fun _ =>
      b2_ (fJ31_size a8 w1) fun x13 w10 =>
      b2_ (fX1_inRange (v2.toInt64) 0 ((x13 - 1).toInt64) w10) fun x16 w14 =>
      if x16 = 0 then (
        some (.inl (-1), w14)
      ) else (
        (hIs w14 a8 11).bind fun _ =>
        b2_ (fJ31_get a8 v2 w14) fun x21 w18 =>
        x21.bind fun a22 =>
        (hIs w18 a22 27).bind fun _ =>
        (hIs w18 a22 27).bind fun _ =>
        b2_ (fX8_number a22 w18) fun x28 w25 =>
        some (.inl x28, w25)
      )
    )) (fun q6 =>
    some (.inr q6, w1))
theorem bX1_pathArc_0 {p : Program} {l : Launch} {e : Env} {s : State} {m : MethodId} {args : Array Value} {below : List Frame} {meth : Method} {c : Code} {H : Heap} {locs : List Loc} {ls : Array Slot} {G : gE} {A : Nat → Prop} {w0 : WH} (B : gB G RX1 cX1_pathArc 4 (some .int) p s m args meth c) (hT : ∀ x ∈ c.exceptionTable.toList, False) (hl0 : l.stackTraces = false) {v0 : Nat} {v1 : Int32} {v2 : Int32} {w : WH} {r : ((Sum (Int32) (Nat × Nat)) × WH)} (h : fX1_pathArc v0 v1 v2 w = some r)   (hR : RepH G A w H) (hS : Cu A s w0 w H locs) (hl : lv_has ls 4 [(0, .ref v0), (1, .int v1), (2, .int v2)]) : W p l e (hRm 19 433 w0) s m args below meth c H locs (wC w0 - wC w) (wS w0 - wS w) (hZX below args s G A w0 (oI r.1) r.2) (F0 m 0 ls []) := by
  have B0 := B
  obtain ⟨hx, hb, hml, hown, hts, hr, hlk, hK⟩ := B0
  unfold fX1_pathArc at h
  refine lv_aload_n hx hb dX1_pathArc_0 rfl (lv_at hl 0 rfl) ?_
  refine lv_iload_n hx hb dX1_pathArc_1 rfl (lv_at hl 1 rfl) ?_
  replace h := bo_o h
  obtain ⟨_, e2, h⟩ := h
  replace h := b2_o h
  obtain ⟨o3, w1, e4, h⟩ := h
  refine h_callVX 1 (ci := 17) (As := [.int v1]) (rest := []) (o := oR o3) (w' := w1) hx hb hml hown hts hK hR hS (Nat.le_refl _) (Nat.le_refl _) rfl e2 (mX1_pathOf hl0 e4) (lw_V q2045 q2047 qs50 q112 q2048) (by decide +kernel) (Nat.le_of_ble_eq_true rfl) (Nat.le_of_ble_eq_true rfl) rfl hl.1 (Nat.le_of_ble_eq_true rfl) dX1_pathArc_2 rfl (fun v9 hv9 H locs hR hS => ?_) (fun E9 q9 hq9 H locs hR hS hce => ?_)
  · cases o3 with
    | inr q => cases hv9
    | inl x5 =>
      cases hv9
      replace h := exl_o h
      refine W.eq (g2 := F0 m 5 ls [va_rf x5]) rfl ?_
      refine lv_astore_nq (lv' := [(3, va_rf x5), (0, .ref v0), (1, .int v1), (2, .int v2)]) hx hb dX1_pathArc_5 rfl hl (by decide) rfl (fun ls hl => ?_)
      refine lv_aload_nq hx hb dX1_pathArc_6 rfl (lv_at hl 0 rfl) ?_
      refine lv_ifnullq (tgt := 26) hx hb dX1_pathArc_7 (by decide) (fun c7 => ?_) (fun c7 => ?_)
      · replace h := it_o c7 h
        refine lv_iconst (v := (-1)) hx hb dX1_pathArc_26 (by decide) ?_
        refine lv_goto (tgt := 41) hx hb dX1_pathArc_27 (by decide) ?_
        have eR := Option.some.inj h
        subst eR
        exact h_ifinX hx hb hr hlk hR hS dX1_pathArc_41
      · replace h := if_o c7 h
        refine lv_iload_n hx hb dX1_pathArc_10 rfl (lv_at hl 3 rfl) ?_
        refine lv_i2l hx hb dX1_pathArc_11 rfl ?_
        refine lv_lconst (v := 0) hx hb dX1_pathArc_12 (by decide) ?_
        refine lv_aload_nq hx hb dX1_pathArc_13 rfl (lv_at hl 0 rfl) ?_
        replace h := bo_o h
        obtain ⟨a8, e9, h⟩ := h
        subst e9
        replace h := bo_o h
        obtain ⟨_, e11, h⟩ := h
        replace h := b2_o h
        obtain ⟨x13, w10, e12, h⟩ := h
        refine h_callV 0 (ci := 11) (As := []) (rest := [.long 0, .long (v2.toInt64)]) (v := (some (.int x13))) (w' := w10) (st1 := [.int x13, .long 0, .long (v2.toInt64)]) hx hb hml hown hts hK hR hS (Nat.le_refl _) (Nat.le_refl _) rfl e11 (mJ31_size e12) (lw_V q2077 q911 q3048 q156 q913) (by decide +kernel) (Nat.le_of_ble_eq_true rfl) (Nat.le_of_ble_eq_true rfl) rfl hl.1 (Nat.le_of_ble_eq_true rfl) dX1_pathArc_14 rfl rfl (fun H locs hR hS => ?_)
        refine lv_iconst (v := 1) hx hb dX1_pathArc_17 (by decide) ?_
        refine lv_isub hx hb dX1_pathArc_18 ?_
        refine lv_i2l hx hb dX1_pathArc_19 rfl ?_
        replace h := b2_o h
        obtain ⟨x16, w14, e15, h⟩ := h
        refine h_callS 3  (As := [.long (v2.toInt64), .long 0, .long ((x13 - 1).toInt64)]) (rest := []) (v := (some (.int x16))) (w' := w14) (st1 := [.int x16]) hx hb hml hown hts hK hR hS (Nat.le_refl _) (Nat.le_refl _) (mX1_inRange e15) (lw_S q1900 q743 q112 q744) (by decide +kernel) (Nat.le_of_ble_eq_true rfl) (Nat.le_of_ble_eq_true rfl) rfl hl.1 (Nat.le_of_ble_eq_true rfl) dX1_pathArc_20 rfl rfl (fun H locs hR hS => ?_)
        refine lv_if_ne (tgt := 30) hx hb dX1_pathArc_23 (by decide) (fun c17 => ?_) (fun c17 => ?_)
        · replace h := if_o c17 h
          refine lv_aload_n hx hb dX1_pathArc_30 rfl (lv_at hl 0 rfl) ?_
          refine lv_iload_n hx hb dX1_pathArc_31 rfl (lv_at hl 3 rfl) ?_
          replace h := bo_o h
          obtain ⟨_, e19, h⟩ := h
          replace h := b2_o h
          obtain ⟨x21, w18, e20, h⟩ := h
          refine h_callV 1 (ci := 11) (As := [.int v2]) (rest := []) (v := (some (va_rf x21))) (w' := w18) (st1 := [va_rf x21]) hx hb hml hown hts hK hR hS (Nat.le_refl _) (Nat.le_refl _) rfl e19 (mJ31_get e20) (lw_V q2085 q1223 q3049 q156 q1225) (by decide +kernel) (Nat.le_of_ble_eq_true rfl) (Nat.le_of_ble_eq_true rfl) rfl hl.1 (Nat.le_of_ble_eq_true rfl) dX1_pathArc_32 rfl rfl (fun H locs hR hS => ?_)
          replace h := bo_o h
          obtain ⟨a22, e23, h⟩ := h
          subst e23
          replace h := bo_o h
          obtain ⟨_, e24, h⟩ := h
          refine h_castS (ci := 27) hx hb hts hown hK hR hS rfl e24 q1768 dX1_pathArc_35 ?_
          replace h := bo_o h
          obtain ⟨_, e26, h⟩ := h
          replace h := b2_o h
          obtain ⟨x28, w25, e27, h⟩ := h
          refine h_callV 0 (ci := 27) (As := []) (rest := []) (v := (some (.int x28))) (w' := w25) (st1 := [.int x28]) hx hb hml hown hts hK hR hS (Nat.le_refl _) (Nat.le_refl _) rfl e26 (mX8_number e27) (lw_V q1791 q1305 q1306 q141 q1307) (by decide +kernel) (Nat.le_of_ble_eq_true rfl) (Nat.le_of_ble_eq_true rfl) rfl hl.1 (Nat.le_of_ble_eq_true rfl) dX1_pathArc_38 rfl rfl (fun H locs hR hS => ?_)
          have eR := Option.some.inj h
          subst eR
          exact h_ifinX hx hb hr hlk hR hS dX1_pathArc_41
        · replace h := it_o c17 h
          refine lv_iconst (v := (-1)) hx hb dX1_pathArc_26 (by decide) ?_
          refine lv_goto (tgt := 41) hx hb dX1_pathArc_27 (by decide) ?_
          have eR := Option.some.inj h
          subst eR
          exact h_ifinX hx hb hr hlk hR hS dX1_pathArc_41
  · cases o3 with
    | inl q => cases hq9
    | inr q6 =>
      cases hq9
      replace h := exr_o h
      have eR := Option.some.inj h
      subst eR
      exact h_out hT hlk hR hS hce
theorem mX1_pathArc {l : Launch} {G : gE} {A : Nat → Prop} {v0 : Nat} {v1 : Int32} {v2 : Int32} {w : WH} {r : ((Sum (Int32) (Nat × Nat)) × WH)} (hl0 : l.stackTraces = false) (h : fX1_pathArc v0 v1 v2 w = some r) : hMX l G A yX1_pathArc cX1_pathArc 4 (some .int) 19 433 [.ref v0, .int v1, .int v2] w (oI r.1) r.2 :=
  h_ofX (by decide +kernel) (Nat.le_of_ble_eq_true rfl) (fun p e s m args below meth c ls B hnm hT hR hS hl => bX1_pathArc_0 B hT hl0 h hR hS hl)
noncomputable def fX4_costs_b4 (v0 : Nat) (v1 : Nat) (v2 : Int32) (v3 : Int32) (w : WH) : Option (Sum (Int32 × Int32 × WH) ((Int32 × WH))) :=
  (gI w v0 23 5).bind fun x1 =>
  if x1 ≤ v3 then (
    some (.inr (v2, w))
  ) else (
    (gR w v1 21 0).bind fun x4 =>
    x4.bind fun a6 =>
    (gR w a6 22 1).bind fun x8 =>
    (gR w v0 23 2).bind fun x10 =>
    x10.bind fun a12 =>
    (ldI w a12 0 v3).bind fun x14 =>
    x8.bind fun a16 =>
    (hIs w a16 2).bind fun _ =>
    b2_ (fJ2_get a16 x14 w) fun x21 w18 =>
    x21.bind fun a22 =>
    (hIs w18 a22 27).bind fun _ =>
    (hIs w18 a22 27).bind fun _ =>
    b2_ (fX8_cost a22 w18) fun x28 w25 =>
    nm_ (v2 + x28) fun x29 =>
    some (.inl (x29, v3 + 1, w25))
  )
theorem bX4_costs_4 {p : Program} {l : Launch} {e : Env} {s : State} {m : MethodId} {args : Array Value} {below : List Frame} {meth : Method} {c : Code} {H : Heap} {locs : List Loc} {ls : Array Slot} {G : gE} {A : Nat → Prop} {w0 : WH} (B : gB G RX4 cX4_costs 4 (some .int) p s m args meth c) {v0 : Nat} {v1 : Nat} {v2 : Int32} {v3 : Int32} {w : WH} {x : Sum (Int32 × Int32 × WH) ((Int32 × WH))} {r : (Int32 × WH)} (h : fX4_costs_b4 v0 v1 v2 v3 w = some x)  (k4 : ∀ (v2' : Int32) (v3' : Int32) (w' : WH), x = (.inl (v2', v3', w')) → ∀ (H : Heap) (locs : List Loc) (ls : Array Slot), RepH G A w' H → Cu A s w0 w' H locs → lv_has ls 4 [(0, .ref v0), (1, .ref v1), (2, .int v2'), (3, .int v3')] → W p l e (hRm 3 64 w0) s m args below meth c H locs (wC w0 - wC w') (wS w0 - wS w') (hZ below args s G A w0 (some (.int r.1)) r.2) (F0 m 4 ls [])) (kR : ∀ q, x = (.inr q) → q = r) (hR : RepH G A w H) (hS : Cu A s w0 w H locs) (hl : lv_has ls 4 [(0, .ref v0), (1, .ref v1), (2, .int v2), (3, .int v3)]) : W p l e (hRm 3 64 w0) s m args below meth c H locs (wC w0 - wC w) (wS w0 - wS w) (hZ below args s G A w0 (some (.int r.1)) r.2) (F0 m 4 ls []) := by
  have B0 := B
  obtain ⟨hx, hb, hml, hown, hts, hr, hlk, hK⟩ := B0
  unfold fX4_costs_b4 at h
  refine lv_iload_n hx hb dX4_costs_4 rfl (lv_at hl 3 rfl) ?_
  refine lv_aload_n hx hb dX4_costs_5 rfl (lv_at hl 0 rfl) ?_
  replace h := bo_o h
  obtain ⟨x1, e2, h⟩ := h
  refine h_get (ci := 23) (k := 5) (v := .int x1) hx hb hts hown hK hR in_X4 rfl (by decide) (fun _ _ => rfl) q624 (fun _ h9 => h9) (gI_o e2) dX4_costs_6 ?_
  refine lv_icmp_ge (tgt := 45) hx hb dX4_costs_9 (by decide) (fun c3 => ?_) (fun c3 => ?_)
  · replace h := it_o c3 h
    refine lv_iload_n hx hb dX4_costs_45 rfl (lv_at hl 2 rfl) ?_
    have eR := kR _ (Option.some.inj h).symm
    subst eR
    exact h_ifin hx hb hr hlk hR hS dX4_costs_46
  · replace h := if_o c3 h
    refine lv_iload_n hx hb dX4_costs_12 rfl (lv_at hl 2 rfl) ?_
    refine lv_aload_n hx hb dX4_costs_13 rfl (lv_at hl 1 rfl) ?_
    replace h := bo_o h
    obtain ⟨x4, e5, h⟩ := h
    refine h_getN (ci := 21) (k := 0) (v := va_rf x4) hx hb hts hown hK hR in_X2 rfl (by decide) (fun _ _ => rfl) (hK.fn 14 rfl) (fun _ h9 => h9) (gR_o e5) dX4_costs_14 ?_
    replace h := bo_o h
    obtain ⟨a6, e7, h⟩ := h
    subst e7
    replace h := bo_o h
    obtain ⟨x8, e9, h⟩ := h
    refine h_getN (ci := 22) (k := 1) (v := va_rf x8) hx hb hts hown hK hR in_X3 rfl (by decide) (fun _ _ => rfl) (hK.fn 5 rfl) (fun _ h9 => h9) (gR_o e9) dX4_costs_17 ?_
    refine lv_aload_n hx hb dX4_costs_20 rfl (lv_at hl 0 rfl) ?_
    replace h := bo_o h
    obtain ⟨x10, e11, h⟩ := h
    refine h_get (ci := 23) (k := 2) (v := va_rf x10) hx hb hts hown hK hR in_X4 rfl (by decide) (fun _ _ => rfl) q620 (fun _ h9 => h9) (gR_o e11) dX4_costs_21 ?_
    refine lv_iload_n hx hb dX4_costs_24 rfl (lv_at hl 3 rfl) ?_
    replace h := bo_o h
    obtain ⟨a12, e13, h⟩ := h
    subst e13
    replace h := bo_o h
    obtain ⟨x14, e15, h⟩ := h
    refine h_iald hx hb hK hR e15 dX4_costs_25 ?_
    replace h := bo_o h
    obtain ⟨a16, e17, h⟩ := h
    subst e17
    replace h := bo_o h
    obtain ⟨_, e19, h⟩ := h
    replace h := b2_o h
    obtain ⟨x21, w18, e20, h⟩ := h
    refine h_callF 1  (As := [.int x14]) (rest := [.int v2]) (v := (some (va_rf x21))) (w' := w18) (st1 := [va_rf x21, .int v2]) hx hb hml hown hts hK hR hS (Nat.le_refl _) (Nat.le_refl _) (h_recv (ci := 2) hK hR hS rfl e19) (mJ2_get e20) (lw_app (a := [.methodLink _ _ _, .selects _ _ _, .instanceMethod _, .initialized _]) (lw_4 q1284 q1208 q1210 q117) (lw_meth q1212)) (hK.fw 1 rfl) (by decide +kernel) (Nat.le_of_ble_eq_true rfl) (Nat.le_of_ble_eq_true rfl) rfl hl.1 (Nat.le_of_ble_eq_true rfl) dX4_costs_26 rfl rfl (fun H locs hR hS => ?_)
    replace h := bo_o h
    obtain ⟨a22, e23, h⟩ := h
    subst e23
    replace h := bo_o h
    obtain ⟨_, e24, h⟩ := h
    refine h_castS (ci := 27) hx hb hts hown hK hR hS rfl e24 q1285 dX4_costs_31 ?_
    replace h := bo_o h
    obtain ⟨_, e26, h⟩ := h
    replace h := b2_o h
    obtain ⟨x28, w25, e27, h⟩ := h
    refine h_callV 0 (ci := 27) (As := []) (rest := [.int v2]) (v := (some (.int x28))) (w' := w25) (st1 := [.int x28, .int v2]) hx hb hml hown hts hK hR hS (Nat.le_refl _) (Nat.le_refl _) rfl e26 (mX8_cost e27) (lw_V q2097 q1328 q1329 q141 q1330) (by decide +kernel) (Nat.le_of_ble_eq_true rfl) (Nat.le_of_ble_eq_true rfl) rfl hl.1 (Nat.le_of_ble_eq_true rfl) dX4_costs_34 rfl rfl (fun H locs hR hS => ?_)
    refine lv_iadd hx hb dX4_costs_37 ?_
    replace h := nm_o h
    obtain ⟨x29, e30, h⟩ := h
    refine lv_istore_n (lv' := [(2, .int x29), (0, .ref v0), (1, .ref v1), (3, .int v3)]) hx hb dX4_costs_38 rfl hl (by decide) (by subst e30; rfl) (fun ls hl => ?_)
    refine lv_iinc (v := v3 + 1) (lv' := [(3, .int (v3 + 1)), (2, .int x29), (0, .ref v0), (1, .ref v1)]) hx hb dX4_costs_39 hl (k := 3) rfl rfl (by decide) rfl (fun ls hl => ?_)
    refine lv_goto (tgt := 4) hx hb dX4_costs_42 (by decide) ?_
    exact k4 _ _ _ (Option.some.inj h).symm H locs ls hR hS (lv_sub hl [2, 3, 1, 0] rfl)
noncomputable def fX4_costs_l4 (v0 : Nat) (v1 : Nat) (v2 : Int32) (v3 : Int32) (w : WH) : Option ((Int32 × WH)) := whileO (fun q => fX4_costs_b4 v0 v1 q.1 q.2.1 q.2.2) (v2, v3, w)
theorem lX4_costs_4 {p : Program} {l : Launch} {e : Env} {s : State} {m : MethodId} {args : Array Value} {below : List Frame} {meth : Method} {c : Code} {G : gE} {A : Nat → Prop} {w0 : WH} (B : gB G RX4 cX4_costs 4 (some .int) p s m args meth c) {v0 : Nat} {v1 : Nat} {r : (Int32 × WH)}   : ∀ (v2 : Int32) (v3 : Int32) (w : WH), fX4_costs_l4 v0 v1 v2 v3 w = some r → ∀ (H : Heap) (locs : List Loc) (ls : Array Slot), RepH G A w H → Cu A s w0 w H locs → lv_has ls 4 [(0, .ref v0), (1, .ref v1), (2, .int v2), (3, .int v3)] → W p l e (hRm 3 64 w0) s m args below meth c H locs (wC w0 - wC w) (wS w0 - wS w) (hZ below args s G A w0 (some (.int r.1)) r.2) (F0 m 4 ls []) := by
  intro v2 v3 w h
  refine wh_walk (body := (fun q => fX4_costs_b4 v0 v1 q.1 q.2.1 q.2.2)) (P := (fun q : (Int32 × Int32 × WH) => ∀ (H : Heap) (locs : List Loc) (ls : Array Slot), RepH G A (q.2.2) H → Cu A s w0 (q.2.2) H locs → lv_has ls 4 [(0, .ref v0), (1, .ref v1), (2, .int (q.1)), (3, .int (q.2.1))] → W p l e (hRm 3 64 w0) s m args below meth c H locs (wC w0 - wC (q.2.2)) (wS w0 - wS (q.2.2)) (hZ below args s G A w0 (some (.int r.1)) r.2) (F0 m 4 ls []))) (r := r) ?_ (v2, v3, w) h
  intro q y hy hL hr H locs ls hR hS hl
  exact bX4_costs_4 (r := r) B hy (fun a0 a1 a2 e => hL (a0, a1, a2) e) (fun q e => hr q e) hR hS hl
noncomputable def fX4_costs (v0 : Nat) (v1 : Nat) (w : WH) : Option ((Int32 × WH)) :=
  fX4_costs_l4 v0 v1 0 0 w
theorem bX4_costs_0 {p : Program} {l : Launch} {e : Env} {s : State} {m : MethodId} {args : Array Value} {below : List Frame} {meth : Method} {c : Code} {H : Heap} {locs : List Loc} {ls : Array Slot} {G : gE} {A : Nat → Prop} {w0 : WH} (B : gB G RX4 cX4_costs 4 (some .int) p s m args meth c) {v0 : Nat} {v1 : Nat} {w : WH} {r : (Int32 × WH)} (h : fX4_costs v0 v1 w = some r)   (hR : RepH G A w H) (hS : Cu A s w0 w H locs) (hl : lv_has ls 4 [(0, .ref v0), (1, .ref v1)]) : W p l e (hRm 3 64 w0) s m args below meth c H locs (wC w0 - wC w) (wS w0 - wS w) (hZ below args s G A w0 (some (.int r.1)) r.2) (F0 m 0 ls []) := by
  have B0 := B
  obtain ⟨hx, hb, hml, hown, hts, hr, hlk, hK⟩ := B0
  unfold fX4_costs at h
  refine lv_iconst (v := 0) hx hb dX4_costs_0 (by decide) ?_
  refine lv_istore_n (lv' := [(2, .int 0), (0, .ref v0), (1, .ref v1)]) hx hb dX4_costs_1 rfl hl (by decide) rfl (fun ls hl => ?_)
  refine lv_iconst (v := 0) hx hb dX4_costs_2 (by decide) ?_
  refine lv_istore_n (lv' := [(3, .int 0), (2, .int 0), (0, .ref v0), (1, .ref v1)]) hx hb dX4_costs_3 rfl hl (by decide) rfl (fun ls hl => ?_)
  exact lX4_costs_4 B _ _ _ h H locs ls hR hS (lv_sub hl [2, 3, 1, 0] rfl)
theorem mX4_costs {l : Launch} {G : gE} {A : Nat → Prop} {v0 : Nat} {v1 : Nat} {w : WH} {r : (Int32 × WH)} (h : fX4_costs v0 v1 w = some r) : hM l G A yX4_costs cX4_costs 4 (some .int) 3 64 [.ref v0, .ref v1] w (some (.int r.1)) r.2 :=
  h_of (by decide +kernel) (Nat.le_of_ble_eq_true rfl) (fun p e s m args below meth c ls B hnm hR hS hl => bX4_costs_0 B h hR hS hl)
noncomputable def fX1_pathCost (v0 : Nat) (v1 : Int32) (w : WH) : Option (((Sum (Int32) (Nat × Nat)) × WH)) :=
  (gR w v0 17 1).bind fun x1 =>
  (gR w v0 17 0).bind fun x3 =>
  (hIs w v0 17).bind fun _ =>
  b2_ (fX1_tripAt v0 v1 w) fun o7 w5 => ex_ o7 (fun x9 =>
    x1.bind fun a11 =>
    x3.bind fun a13 =>
    x9.bind fun a15 =>
    (hIs w5 a11 23).bind fun _ =>
    b2_ (fX4_walk a11 a13 a15 w5) fun x20 w17 =>
    if x20 = 0 then (
      some (.inl (-1), w17)
    ) else (
      (gR w17 v0 17 1).bind fun x22 =>
      (gR w17 v0 17 0).bind fun x24 =>
      x22.bind fun a26 =>
      x24.bind fun a28 =>
      (hIs w17 a26 23).bind fun _ =>
      b2_ (fX4_costs a26 a28 w17) fun x33 w30 =>
      some (.inl x33, w30)
    )) (fun q10 =>
    some (.inr q10, w5))
theorem bX1_pathCost_0 {p : Program} {l : Launch} {e : Env} {s : State} {m : MethodId} {args : Array Value} {below : List Frame} {meth : Method} {c : Code} {H : Heap} {locs : List Loc} {ls : Array Slot} {G : gE} {A : Nat → Prop} {w0 : WH} (B : gB G RX1 cX1_pathCost 2 (some .int) p s m args meth c) (hT : ∀ x ∈ c.exceptionTable.toList, False) (hl0 : l.stackTraces = false) {v0 : Nat} {v1 : Int32} {w : WH} {r : ((Sum (Int32) (Nat × Nat)) × WH)} (h : fX1_pathCost v0 v1 w = some r)   (hR : RepH G A w H) (hS : Cu A s w0 w H locs) (hl : lv_has ls 2 [(0, .ref v0), (1, .int v1)]) : W p l e (hRm 18 410 w0) s m args below meth c H locs (wC w0 - wC w) (wS w0 - wS w) (hZX below args s G A w0 (oI r.1) r.2) (F0 m 0 ls []) := by
  have B0 := B
  obtain ⟨hx, hb, hml, hown, hts, hr, hlk, hK⟩ := B0
  unfold fX1_pathCost at h
  refine lv_aload_n hx hb dX1_pathCost_0 rfl (lv_at hl 0 rfl) ?_
  replace h := bo_o h
  obtain ⟨x1, e2, h⟩ := h
  refine h_get (ci := 17) (k := 1) (v := va_rf x1) hx hb hts hown hK hR in_X1 rfl (by decide) (fun _ _ => rfl) q664 (fun _ h9 => h9) (gR_o e2) dX1_pathCost_1 ?_
  refine lv_aload_n hx hb dX1_pathCost_4 rfl (lv_at hl 0 rfl) ?_
  replace h := bo_o h
  obtain ⟨x3, e4, h⟩ := h
  refine h_get (ci := 17) (k := 0) (v := va_rf x3) hx hb hts hown hK hR in_X1 rfl (by decide) (fun _ _ => rfl) q662 (fun _ h9 => h9) (gR_o e4) dX1_pathCost_5 ?_
  refine lv_aload_n hx hb dX1_pathCost_8 rfl (lv_at hl 0 rfl) ?_
  refine lv_iload_n hx hb dX1_pathCost_9 rfl (lv_at hl 1 rfl) ?_
  replace h := bo_o h
  obtain ⟨_, e6, h⟩ := h
  replace h := b2_o h
  obtain ⟨o7, w5, e8, h⟩ := h
  refine h_callVX 1 (ci := 17) (As := [.int v1]) (rest := [va_rf x3, va_rf x1]) (o := oR o7) (w' := w5) hx hb hml hown hts hK hR hS (Nat.le_refl _) (Nat.le_refl _) rfl e6 (mX1_tripAt hl0 e8) (lw_V q1975 q1977 qs48 q112 q1978) (by decide +kernel) (Nat.le_of_ble_eq_true rfl) (Nat.le_of_ble_eq_true rfl) rfl hl.1 (cat_le (Nat.le_of_ble_eq_true rfl)) dX1_pathCost_10 rfl (fun v9 hv9 H locs hR hS => ?_) (fun E9 q9 hq9 H locs hR hS hce => ?_)
  · cases o7 with
    | inr q => cases hv9
    | inl x9 =>
      cases hv9
      replace h := exl_o h
      refine W.eq (g2 := F0 m 13 ls [va_rf x9, va_rf x3, va_rf x1]) rfl ?_
      replace h := bo_o h
      obtain ⟨a11, e12, h⟩ := h
      subst e12
      replace h := bo_o h
      obtain ⟨a13, e14, h⟩ := h
      subst e14
      replace h := bo_o h
      obtain ⟨a15, e16, h⟩ := h
      subst e16
      replace h := bo_o h
      obtain ⟨_, e18, h⟩ := h
      replace h := b2_o h
      obtain ⟨x20, w17, e19, h⟩ := h
      refine h_callV 2 (ci := 23) (As := [.ref a13, .ref a15]) (rest := []) (v := (some (.int x20))) (w' := w17) (st1 := [.int x20]) hx hb hml hown hts hK hR hS (Nat.le_refl _) (Nat.le_refl _) rfl e18 (mX4_walk e19) (lw_V q1266 q1267 q1268 q135 q1269) (by decide +kernel) (Nat.le_of_ble_eq_true rfl) (Nat.le_of_ble_eq_true rfl) rfl hl.1 (Nat.le_of_ble_eq_true rfl) dX1_pathCost_13 rfl rfl (fun H locs hR hS => ?_)
      refine lv_if_eq (tgt := 33) hx hb dX1_pathCost_16 (by decide) (fun c21 => ?_) (fun c21 => ?_)
      · replace h := it_o c21 h
        refine lv_iconst (v := (-1)) hx hb dX1_pathCost_33 (by decide) ?_
        have eR := Option.some.inj h
        subst eR
        exact h_ifinX hx hb hr hlk hR hS dX1_pathCost_34
      · replace h := if_o c21 h
        refine lv_aload_n hx hb dX1_pathCost_19 rfl (lv_at hl 0 rfl) ?_
        replace h := bo_o h
        obtain ⟨x22, e23, h⟩ := h
        refine h_get (ci := 17) (k := 1) (v := va_rf x22) hx hb hts hown hK hR in_X1 rfl (by decide) (fun _ _ => rfl) q664 (fun _ h9 => h9) (gR_o e23) dX1_pathCost_20 ?_
        refine lv_aload_n hx hb dX1_pathCost_23 rfl (lv_at hl 0 rfl) ?_
        replace h := bo_o h
        obtain ⟨x24, e25, h⟩ := h
        refine h_get (ci := 17) (k := 0) (v := va_rf x24) hx hb hts hown hK hR in_X1 rfl (by decide) (fun _ _ => rfl) q662 (fun _ h9 => h9) (gR_o e25) dX1_pathCost_24 ?_
        replace h := bo_o h
        obtain ⟨a26, e27, h⟩ := h
        subst e27
        replace h := bo_o h
        obtain ⟨a28, e29, h⟩ := h
        subst e29
        replace h := bo_o h
        obtain ⟨_, e31, h⟩ := h
        replace h := b2_o h
        obtain ⟨x33, w30, e32, h⟩ := h
        refine h_callV 1 (ci := 23) (As := [.ref a28]) (rest := []) (v := (some (.int x33))) (w' := w30) (st1 := [.int x33]) hx hb hml hown hts hK hR hS (Nat.le_refl _) (Nat.le_refl _) rfl e31 (mX4_costs e32) (lw_V q2093 q2094 q2095 q135 q2096) (by decide +kernel) (Nat.le_of_ble_eq_true rfl) (Nat.le_of_ble_eq_true rfl) rfl hl.1 (Nat.le_of_ble_eq_true rfl) dX1_pathCost_27 rfl rfl (fun H locs hR hS => ?_)
        refine lv_goto (tgt := 34) hx hb dX1_pathCost_30 (by decide) ?_
        have eR := Option.some.inj h
        subst eR
        exact h_ifinX hx hb hr hlk hR hS dX1_pathCost_34
  · cases o7 with
    | inl q => cases hq9
    | inr q10 =>
      cases hq9
      replace h := exr_o h
      have eR := Option.some.inj h
      subst eR
      exact h_out hT hlk hR hS hce
theorem mX1_pathCost {l : Launch} {G : gE} {A : Nat → Prop} {v0 : Nat} {v1 : Int32} {w : WH} {r : ((Sum (Int32) (Nat × Nat)) × WH)} (hl0 : l.stackTraces = false) (h : fX1_pathCost v0 v1 w = some r) : hMX l G A yX1_pathCost cX1_pathCost 2 (some .int) 18 410 [.ref v0, .int v1] w (oI r.1) r.2 :=
  h_ofX (by decide +kernel) (Nat.le_of_ble_eq_true rfl) (fun p e s m args below meth c ls B hnm hT hR hS hl => bX1_pathCost_0 B hT hl0 h hR hS hl)
noncomputable def fX1_pathToll (v0 : Nat) (v1 : Int32) (w : WH) : Option (((Sum (Int32) (Nat × Nat)) × WH)) :=
  (gR w v0 17 1).bind fun x1 =>
  (gR w v0 17 0).bind fun x3 =>
  (hIs w v0 17).bind fun _ =>
  b2_ (fX1_tripAt v0 v1 w) fun o7 w5 => ex_ o7 (fun x9 =>
    x1.bind fun a11 =>
    x3.bind fun a13 =>
    x9.bind fun a15 =>
    (hIs w5 a11 23).bind fun _ =>
    b2_ (fX4_walk a11 a13 a15 w5) fun x20 w17 =>
    if x20 = 0 then (
      some (.inl (-1), w17)
    ) else (
      (gR w17 v0 17 1).bind fun x22 =>
      (gR w17 v0 17 0).bind fun x24 =>
      x22.bind fun a26 =>
      x24.bind fun a28 =>
      (hIs w17 a26 23).bind fun _ =>
      b2_ (fX4_tolls a26 a28 w17) fun x33 w30 =>
      some (.inl x33, w30)
    )) (fun q10 =>
    some (.inr q10, w5))
theorem bX1_pathToll_0 {p : Program} {l : Launch} {e : Env} {s : State} {m : MethodId} {args : Array Value} {below : List Frame} {meth : Method} {c : Code} {H : Heap} {locs : List Loc} {ls : Array Slot} {G : gE} {A : Nat → Prop} {w0 : WH} (B : gB G RX1 cX1_pathToll 2 (some .int) p s m args meth c) (hT : ∀ x ∈ c.exceptionTable.toList, False) (hl0 : l.stackTraces = false) {v0 : Nat} {v1 : Int32} {w : WH} {r : ((Sum (Int32) (Nat × Nat)) × WH)} (h : fX1_pathToll v0 v1 w = some r)   (hR : RepH G A w H) (hS : Cu A s w0 w H locs) (hl : lv_has ls 2 [(0, .ref v0), (1, .int v1)]) : W p l e (hRm 18 410 w0) s m args below meth c H locs (wC w0 - wC w) (wS w0 - wS w) (hZX below args s G A w0 (oI r.1) r.2) (F0 m 0 ls []) := by
  have B0 := B
  obtain ⟨hx, hb, hml, hown, hts, hr, hlk, hK⟩ := B0
  unfold fX1_pathToll at h
  refine lv_aload_n hx hb dX1_pathToll_0 rfl (lv_at hl 0 rfl) ?_
  replace h := bo_o h
  obtain ⟨x1, e2, h⟩ := h
  refine h_get (ci := 17) (k := 1) (v := va_rf x1) hx hb hts hown hK hR in_X1 rfl (by decide) (fun _ _ => rfl) q664 (fun _ h9 => h9) (gR_o e2) dX1_pathToll_1 ?_
  refine lv_aload_n hx hb dX1_pathToll_4 rfl (lv_at hl 0 rfl) ?_
  replace h := bo_o h
  obtain ⟨x3, e4, h⟩ := h
  refine h_get (ci := 17) (k := 0) (v := va_rf x3) hx hb hts hown hK hR in_X1 rfl (by decide) (fun _ _ => rfl) q662 (fun _ h9 => h9) (gR_o e4) dX1_pathToll_5 ?_
  refine lv_aload_n hx hb dX1_pathToll_8 rfl (lv_at hl 0 rfl) ?_
  refine lv_iload_n hx hb dX1_pathToll_9 rfl (lv_at hl 1 rfl) ?_
  replace h := bo_o h
  obtain ⟨_, e6, h⟩ := h
  replace h := b2_o h
  obtain ⟨o7, w5, e8, h⟩ := h
  refine h_callVX 1 (ci := 17) (As := [.int v1]) (rest := [va_rf x3, va_rf x1]) (o := oR o7) (w' := w5) hx hb hml hown hts hK hR hS (Nat.le_refl _) (Nat.le_refl _) rfl e6 (mX1_tripAt hl0 e8) (lw_V q1975 q1977 qs48 q112 q1978) (by decide +kernel) (Nat.le_of_ble_eq_true rfl) (Nat.le_of_ble_eq_true rfl) rfl hl.1 (cat_le (Nat.le_of_ble_eq_true rfl)) dX1_pathToll_10 rfl (fun v9 hv9 H locs hR hS => ?_) (fun E9 q9 hq9 H locs hR hS hce => ?_)
  · cases o7 with
    | inr q => cases hv9
    | inl x9 =>
      cases hv9
      replace h := exl_o h
      refine W.eq (g2 := F0 m 13 ls [va_rf x9, va_rf x3, va_rf x1]) rfl ?_
      replace h := bo_o h
      obtain ⟨a11, e12, h⟩ := h
      subst e12
      replace h := bo_o h
      obtain ⟨a13, e14, h⟩ := h
      subst e14
      replace h := bo_o h
      obtain ⟨a15, e16, h⟩ := h
      subst e16
      replace h := bo_o h
      obtain ⟨_, e18, h⟩ := h
      replace h := b2_o h
      obtain ⟨x20, w17, e19, h⟩ := h
      refine h_callV 2 (ci := 23) (As := [.ref a13, .ref a15]) (rest := []) (v := (some (.int x20))) (w' := w17) (st1 := [.int x20]) hx hb hml hown hts hK hR hS (Nat.le_refl _) (Nat.le_refl _) rfl e18 (mX4_walk e19) (lw_V q1266 q1267 q1268 q135 q1269) (by decide +kernel) (Nat.le_of_ble_eq_true rfl) (Nat.le_of_ble_eq_true rfl) rfl hl.1 (Nat.le_of_ble_eq_true rfl) dX1_pathToll_13 rfl rfl (fun H locs hR hS => ?_)
      refine lv_if_eq (tgt := 33) hx hb dX1_pathToll_16 (by decide) (fun c21 => ?_) (fun c21 => ?_)
      · replace h := it_o c21 h
        refine lv_iconst (v := (-1)) hx hb dX1_pathToll_33 (by decide) ?_
        have eR := Option.some.inj h
        subst eR
        exact h_ifinX hx hb hr hlk hR hS dX1_pathToll_34
      · replace h := if_o c21 h
        refine lv_aload_n hx hb dX1_pathToll_19 rfl (lv_at hl 0 rfl) ?_
        replace h := bo_o h
        obtain ⟨x22, e23, h⟩ := h
        refine h_get (ci := 17) (k := 1) (v := va_rf x22) hx hb hts hown hK hR in_X1 rfl (by decide) (fun _ _ => rfl) q664 (fun _ h9 => h9) (gR_o e23) dX1_pathToll_20 ?_
        refine lv_aload_n hx hb dX1_pathToll_23 rfl (lv_at hl 0 rfl) ?_
        replace h := bo_o h
        obtain ⟨x24, e25, h⟩ := h
        refine h_get (ci := 17) (k := 0) (v := va_rf x24) hx hb hts hown hK hR in_X1 rfl (by decide) (fun _ _ => rfl) q662 (fun _ h9 => h9) (gR_o e25) dX1_pathToll_24 ?_
        replace h := bo_o h
        obtain ⟨a26, e27, h⟩ := h
        subst e27
        replace h := bo_o h
        obtain ⟨a28, e29, h⟩ := h
        subst e29
        replace h := bo_o h
        obtain ⟨_, e31, h⟩ := h
        replace h := b2_o h
        obtain ⟨x33, w30, e32, h⟩ := h
        refine h_callV 1 (ci := 23) (As := [.ref a28]) (rest := []) (v := (some (.int x33))) (w' := w30) (st1 := [.int x33]) hx hb hml hown hts hK hR hS (Nat.le_refl _) (Nat.le_refl _) rfl e31 (mX4_tolls e32) (lw_V q1735 q1736 q1737 q135 q1738) (by decide +kernel) (Nat.le_of_ble_eq_true rfl) (Nat.le_of_ble_eq_true rfl) rfl hl.1 (Nat.le_of_ble_eq_true rfl) dX1_pathToll_27 rfl rfl (fun H locs hR hS => ?_)
        refine lv_goto (tgt := 34) hx hb dX1_pathToll_30 (by decide) ?_
        have eR := Option.some.inj h
        subst eR
        exact h_ifinX hx hb hr hlk hR hS dX1_pathToll_34
  · cases o7 with
    | inl q => cases hq9
    | inr q10 =>
      cases hq9
      replace h := exr_o h
      have eR := Option.some.inj h
      subst eR
      exact h_out hT hlk hR hS hce
theorem mX1_pathToll {l : Launch} {G : gE} {A : Nat → Prop} {v0 : Nat} {v1 : Int32} {w : WH} {r : ((Sum (Int32) (Nat × Nat)) × WH)} (hl0 : l.stackTraces = false) (h : fX1_pathToll v0 v1 w = some r) : hMX l G A yX1_pathToll cX1_pathToll 2 (some .int) 18 410 [.ref v0, .int v1] w (oI r.1) r.2 :=
  h_ofX (by decide +kernel) (Nat.le_of_ble_eq_true rfl) (fun p e s m args below meth c ls B hnm hT hR hS hl => bX1_pathToll_0 B hT hl0 h hR hS hl)
noncomputable def fX1_felt (v0 : Nat) (v1 : Int32) (w : WH) : Option (((Sum (Int32) (Nat × Nat)) × WH)) :=
  (hIs w v0 17).bind fun _ =>
  b2_ (fX1_tripAt v0 v1 w) fun o3 w1 => ex_ o3 (fun x5 =>
    x5.bind fun a7 =>
    (hIs w1 v0 17).bind fun _ =>
    b2_ (fX1_feltBy v0 a7 w1) fun x12 w9 =>
    if lg_cmp x12 2305843009213693951 = 0 then (
      some (.inl (-1), w9)
    ) else (
      some (.inl (x12.toInt32), w9)
    )) (fun q6 =>
    some (.inr q6, w1))
theorem bX1_felt_0 {p : Program} {l : Launch} {e : Env} {s : State} {m : MethodId} {args : Array Value} {below : List Frame} {meth : Method} {c : Code} {H : Heap} {locs : List Loc} {ls : Array Slot} {G : gE} {A : Nat → Prop} {w0 : WH} (B : gB G RX1 cX1_felt 4 (some .int) p s m args meth c) (hT : ∀ x ∈ c.exceptionTable.toList, False) (hl0 : l.stackTraces = false) {v0 : Nat} {v1 : Int32} {w : WH} {r : ((Sum (Int32) (Nat × Nat)) × WH)} (h : fX1_felt v0 v1 w = some r)   (hR : RepH G A w H) (hS : Cu A s w0 w H locs) (hl : lv_has ls 4 [(0, .ref v0), (1, .int v1)]) : W p l e (hRm 18 407 w0) s m args below meth c H locs (wC w0 - wC w) (wS w0 - wS w) (hZX below args s G A w0 (oI r.1) r.2) (F0 m 0 ls []) := by
  have B0 := B
  obtain ⟨hx, hb, hml, hown, hts, hr, hlk, hK⟩ := B0
  unfold fX1_felt at h
  refine lv_aload_n hx hb dX1_felt_0 rfl (lv_at hl 0 rfl) ?_
  refine lv_aload_n hx hb dX1_felt_1 rfl (lv_at hl 0 rfl) ?_
  refine lv_iload_n hx hb dX1_felt_2 rfl (lv_at hl 1 rfl) ?_
  replace h := bo_o h
  obtain ⟨_, e2, h⟩ := h
  replace h := b2_o h
  obtain ⟨o3, w1, e4, h⟩ := h
  refine h_callVX 1 (ci := 17) (As := [.int v1]) (rest := [.ref v0]) (o := oR o3) (w' := w1) hx hb hml hown hts hK hR hS (Nat.le_refl _) (Nat.le_refl _) rfl e2 (mX1_tripAt hl0 e4) (lw_V q1975 q1977 qs48 q112 q1978) (by decide +kernel) (Nat.le_of_ble_eq_true rfl) (Nat.le_of_ble_eq_true rfl) rfl hl.1 (Nat.le_of_ble_eq_true rfl) dX1_felt_3 rfl (fun v9 hv9 H locs hR hS => ?_) (fun E9 q9 hq9 H locs hR hS hce => ?_)
  · cases o3 with
    | inr q => cases hv9
    | inl x5 =>
      cases hv9
      replace h := exl_o h
      refine W.eq (g2 := F0 m 6 ls [va_rf x5, .ref v0]) rfl ?_
      replace h := bo_o h
      obtain ⟨a7, e8, h⟩ := h
      subst e8
      replace h := bo_o h
      obtain ⟨_, e10, h⟩ := h
      replace h := b2_o h
      obtain ⟨x12, w9, e11, h⟩ := h
      refine h_callV 1 (ci := 17) (As := [.ref a7]) (rest := []) (v := (some (.long x12))) (w' := w9) (st1 := [.long x12]) hx hb hml hown hts hK hR hS (Nat.le_refl _) (Nat.le_refl _) rfl e10 (mX1_feltBy e11) (lw_V q1743 q1745 qs39 q112 q1746) (by decide +kernel) (Nat.le_of_ble_eq_true rfl) (Nat.le_of_ble_eq_true rfl) rfl hl.1 (Nat.le_of_ble_eq_true rfl) dX1_felt_6 rfl rfl (fun H locs hR hS => ?_)
      refine lv_lstore_n (lv' := [(2, .long x12), (0, .ref v0), (1, .int v1)]) hx hb dX1_felt_9 rfl hl (by decide) rfl (fun ls hl => ?_)
      refine lv_lload_n hx hb dX1_felt_10 rfl (lv_at hl 0 rfl) ?_
      refine lv_ldc2 (v := 2305843009213693951) hx hb hown (hts _ q1750) dX1_felt_11 ?_
      refine W.lcmp hx hb dX1_felt_14 ?_
      refine lv_if_ne (tgt := 22) hx hb dX1_felt_15 (by decide) (fun c13 => ?_) (fun c13 => ?_)
      · replace h := if_o c13 h
        refine lv_lload_n hx hb dX1_felt_22 rfl (lv_at hl 0 rfl) ?_
        refine lv_l2i hx hb dX1_felt_23 rfl ?_
        have eR := Option.some.inj h
        subst eR
        exact h_ifinX hx hb hr hlk hR hS dX1_felt_24
      · replace h := it_o c13 h
        refine lv_iconst (v := (-1)) hx hb dX1_felt_18 (by decide) ?_
        refine lv_goto (tgt := 24) hx hb dX1_felt_19 (by decide) ?_
        have eR := Option.some.inj h
        subst eR
        exact h_ifinX hx hb hr hlk hR hS dX1_felt_24
  · cases o3 with
    | inl q => cases hq9
    | inr q6 =>
      cases hq9
      replace h := exr_o h
      have eR := Option.some.inj h
      subst eR
      exact h_out hT hlk hR hS hce
theorem mX1_felt {l : Launch} {G : gE} {A : Nat → Prop} {v0 : Nat} {v1 : Int32} {w : WH} {r : ((Sum (Int32) (Nat × Nat)) × WH)} (hl0 : l.stackTraces = false) (h : fX1_felt v0 v1 w = some r) : hMX l G A yX1_felt cX1_felt 4 (some .int) 18 407 [.ref v0, .int v1] w (oI r.1) r.2 :=
  h_ofX (by decide +kernel) (Nat.le_of_ble_eq_true rfl) (fun p e s m args below meth c ls B hnm hT hR hS hl => bX1_felt_0 B hT hl0 h hR hS hl)
noncomputable def fX1_uses_b21 (v0 : Nat) (v1 : Int32) (v2 : Int32) (s0 : Int32) (w : WH) : Option (((Sum (Int32) (Nat × Nat)) × WH)) :=
  b2_ (fX1_requireIndex s0 w) fun o2 w1 => ex_ o2 (fun _ =>
    (hIs w1 v0 17).bind fun _ =>
    b2_ (fX1_usesIt v0 v1 v2 w1) fun x9 w6 =>
    (fz_ .boolean x9).bind fun _ =>
    some (.inl x9, w6)) (fun q5 =>
    some (.inr q5, w1))
theorem bX1_uses_21 {p : Program} {l : Launch} {e : Env} {s : State} {m : MethodId} {args : Array Value} {below : List Frame} {meth : Method} {c : Code} {H : Heap} {locs : List Loc} {ls : Array Slot} {G : gE} {A : Nat → Prop} {w0 : WH} (B : gB G RX1 cX1_uses 3 (some .boolean) p s m args meth c) (hT : ∀ x ∈ c.exceptionTable.toList, False) (hl0 : l.stackTraces = false) {v0 : Nat} {v1 : Int32} {v2 : Int32} {s0 : Int32} {w : WH} {r : ((Sum (Int32) (Nat × Nat)) × WH)} (h : fX1_uses_b21 v0 v1 v2 s0 w = some r)   (hR : RepH G A w H) (hS : Cu A s w0 w H locs) (hl : lv_has ls 3 [(0, .ref v0), (1, .int v1), (2, .int v2)]) : W p l e (hRm 19 432 w0) s m args below meth c H locs (wC w0 - wC w) (wS w0 - wS w) (hZX below args s G A w0 (oI r.1) r.2) (F0 m 21 ls [.int s0]) := by
  have B0 := B
  obtain ⟨hx, hb, hml, hown, hts, hr, hlk, hK⟩ := B0
  unfold fX1_uses_b21 at h
  replace h := b2_o h
  obtain ⟨o2, w1, e3, h⟩ := h
  refine h_callSX 1 (As := [.int s0]) (rest := []) (o := oV o2) (w' := w1)  hx hb hml hown hts hK hR hS (Nat.le_refl _) (Nat.le_refl _) (mX1_requireIndex hl0 e3) (lw_S q1956 q1957 q112 q1958) (by decide +kernel) (Nat.le_of_ble_eq_true rfl) (Nat.le_of_ble_eq_true rfl) rfl hl.1 (Nat.le_of_ble_eq_true rfl) dX1_uses_21 rfl (fun v9 hv9 H locs hR hS => ?_) (fun E9 q9 hq9 H locs hR hS hce => ?_)
  · cases o2 with
    | inr q => cases hv9
    | inl x4 =>
      cases hv9
      replace h := exl_o h
      refine W.eq (g2 := F0 m 24 ls []) rfl ?_
      refine lv_aload_n hx hb dX1_uses_24 rfl (lv_at hl 0 rfl) ?_
      refine lv_iload_n hx hb dX1_uses_25 rfl (lv_at hl 1 rfl) ?_
      refine lv_iload_n hx hb dX1_uses_26 rfl (lv_at hl 2 rfl) ?_
      replace h := bo_o h
      obtain ⟨_, e7, h⟩ := h
      replace h := b2_o h
      obtain ⟨x9, w6, e8, h⟩ := h
      refine h_callV 2 (ci := 17) (As := [.int v1, .int v2]) (rest := []) (v := (some (.int x9))) (w' := w6) (st1 := [.int x9]) hx hb hml hown hts hK hR hS (Nat.le_refl _) (Nat.le_refl _) rfl e7 (mX1_usesIt e8) (lw_V q1200 q1202 qs23 q112 q1203) (by decide +kernel) (Nat.le_of_ble_eq_true rfl) (Nat.le_of_ble_eq_true rfl) rfl hl.1 (Nat.le_of_ble_eq_true rfl) dX1_uses_27 rfl rfl (fun H locs hR hS => ?_)
      replace h := bo_o h
      obtain ⟨_, e10, h⟩ := h
      have eR := Option.some.inj h
      subst eR
      exact h_zfinX hx hb hr hlk (fz_n (fun _ => ⟨_, rfl⟩) e10) hR hS dX1_uses_30
  · cases o2 with
    | inl q => cases hq9
    | inr q5 =>
      cases hq9
      replace h := exr_o h
      have eR := Option.some.inj h
      subst eR
      exact h_out hT hlk hR hS hce
noncomputable def fX1_uses_b20 (v0 : Nat) (v1 : Int32) (v2 : Int32) (w : WH) : Option (((Sum (Int32) (Nat × Nat)) × WH)) :=
  fX1_uses_b21 v0 v1 v2 0 w
theorem bX1_uses_20 {p : Program} {l : Launch} {e : Env} {s : State} {m : MethodId} {args : Array Value} {below : List Frame} {meth : Method} {c : Code} {H : Heap} {locs : List Loc} {ls : Array Slot} {G : gE} {A : Nat → Prop} {w0 : WH} (B : gB G RX1 cX1_uses 3 (some .boolean) p s m args meth c) (hT : ∀ x ∈ c.exceptionTable.toList, False) (hl0 : l.stackTraces = false) {v0 : Nat} {v1 : Int32} {v2 : Int32} {w : WH} {r : ((Sum (Int32) (Nat × Nat)) × WH)} (h : fX1_uses_b20 v0 v1 v2 w = some r)   (hR : RepH G A w H) (hS : Cu A s w0 w H locs) (hl : lv_has ls 3 [(0, .ref v0), (1, .int v1), (2, .int v2)]) : W p l e (hRm 19 432 w0) s m args below meth c H locs (wC w0 - wC w) (wS w0 - wS w) (hZX below args s G A w0 (oI r.1) r.2) (F0 m 20 ls []) := by
  have B0 := B
  obtain ⟨hx, hb, hml, hown, hts, hr, hlk, hK⟩ := B0
  unfold fX1_uses_b20 at h
  refine lv_iconst (v := 0) hx hb dX1_uses_20 (by decide) ?_
  exact bX1_uses_21 B hT hl0 h  hR hS (lv_sub hl [0, 1, 2] rfl)
noncomputable def fX1_uses (v0 : Nat) (v1 : Int32) (v2 : Int32) (w : WH) : Option (((Sum (Int32) (Nat × Nat)) × WH)) :=
  (hIs w v0 17).bind fun _ =>
  b2_ (fX1_isTrip v0 v1 w) fun x4 w1 =>
  if x4 = 0 then (
    fX1_uses_b20 v0 v1 v2 w1
  ) else (
    (hIs w1 v0 17).bind fun _ =>
    b2_ (fX1_isArc v0 v2 w1) fun x9 w6 =>
    if x9 = 0 then (
      fX1_uses_b20 v0 v1 v2 w6
    ) else (
      fX1_uses_b21 v0 v1 v2 1 w6
    )
  )
theorem bX1_uses_0 {p : Program} {l : Launch} {e : Env} {s : State} {m : MethodId} {args : Array Value} {below : List Frame} {meth : Method} {c : Code} {H : Heap} {locs : List Loc} {ls : Array Slot} {G : gE} {A : Nat → Prop} {w0 : WH} (B : gB G RX1 cX1_uses 3 (some .boolean) p s m args meth c) (hT : ∀ x ∈ c.exceptionTable.toList, False) (hl0 : l.stackTraces = false) {v0 : Nat} {v1 : Int32} {v2 : Int32} {w : WH} {r : ((Sum (Int32) (Nat × Nat)) × WH)} (h : fX1_uses v0 v1 v2 w = some r)   (hR : RepH G A w H) (hS : Cu A s w0 w H locs) (hl : lv_has ls 3 [(0, .ref v0), (1, .int v1), (2, .int v2)]) : W p l e (hRm 19 432 w0) s m args below meth c H locs (wC w0 - wC w) (wS w0 - wS w) (hZX below args s G A w0 (oI r.1) r.2) (F0 m 0 ls []) := by
  have B0 := B
  obtain ⟨hx, hb, hml, hown, hts, hr, hlk, hK⟩ := B0
  unfold fX1_uses at h
  refine lv_aload_n hx hb dX1_uses_0 rfl (lv_at hl 0 rfl) ?_
  refine lv_iload_n hx hb dX1_uses_1 rfl (lv_at hl 1 rfl) ?_
  replace h := bo_o h
  obtain ⟨_, e2, h⟩ := h
  replace h := b2_o h
  obtain ⟨x4, w1, e3, h⟩ := h
  refine h_callV 1 (ci := 17) (As := [.int v1]) (rest := []) (v := (some (.int x4))) (w' := w1) (st1 := [.int x4]) hx hb hml hown hts hK hR hS (Nat.le_refl _) (Nat.le_refl _) rfl e2 (mX1_isTrip e3) (lw_V q1979 q1981 qs49 q112 q1982) (by decide +kernel) (Nat.le_of_ble_eq_true rfl) (Nat.le_of_ble_eq_true rfl) rfl hl.1 (Nat.le_of_ble_eq_true rfl) dX1_uses_2 rfl rfl (fun H locs hR hS => ?_)
  refine lv_if_eq (tgt := 20) hx hb dX1_uses_5 (by decide) (fun c5 => ?_) (fun c5 => ?_)
  · replace h := it_o c5 h
    exact bX1_uses_20 B hT hl0 h  hR hS (lv_sub hl [0, 1, 2] rfl)
  · replace h := if_o c5 h
    refine lv_aload_n hx hb dX1_uses_8 rfl (lv_at hl 0 rfl) ?_
    refine lv_iload_n hx hb dX1_uses_9 rfl (lv_at hl 2 rfl) ?_
    replace h := bo_o h
    obtain ⟨_, e7, h⟩ := h
    replace h := b2_o h
    obtain ⟨x9, w6, e8, h⟩ := h
    refine h_callV 1 (ci := 17) (As := [.int v2]) (rest := []) (v := (some (.int x9))) (w' := w6) (st1 := [.int x9]) hx hb hml hown hts hK hR hS (Nat.le_refl _) (Nat.le_refl _) rfl e7 (mX1_isArc e8) (lw_V q1952 q1954 qs47 q112 q1955) (by decide +kernel) (Nat.le_of_ble_eq_true rfl) (Nat.le_of_ble_eq_true rfl) rfl hl.1 (Nat.le_of_ble_eq_true rfl) dX1_uses_10 rfl rfl (fun H locs hR hS => ?_)
    refine lv_if_eq (tgt := 20) hx hb dX1_uses_13 (by decide) (fun c10 => ?_) (fun c10 => ?_)
    · replace h := it_o c10 h
      exact bX1_uses_20 B hT hl0 h  hR hS (lv_sub hl [0, 1, 2] rfl)
    · replace h := if_o c10 h
      refine lv_iconst (v := 1) hx hb dX1_uses_16 (by decide) ?_
      refine lv_goto (tgt := 21) hx hb dX1_uses_17 (by decide) ?_
      exact bX1_uses_21 B hT hl0 h  hR hS (lv_sub hl [0, 1, 2] rfl)
theorem mX1_uses {l : Launch} {G : gE} {A : Nat → Prop} {v0 : Nat} {v1 : Int32} {v2 : Int32} {w : WH} {r : ((Sum (Int32) (Nat × Nat)) × WH)} (hl0 : l.stackTraces = false) (h : fX1_uses v0 v1 v2 w = some r) : hMX l G A yX1_uses cX1_uses 3 (some .boolean) 19 432 [.ref v0, .int v1, .int v2] w (oI r.1) r.2 :=
  h_ofX (by decide +kernel) (Nat.le_of_ble_eq_true rfl) (fun p e s m args below meth c ls B hnm hT hR hS hl => bX1_uses_0 B hT hl0 h hR hS hl)
noncomputable def fX1_users (v0 : Nat) (v1 : Int32) (w : WH) : Option (((Sum (Int32) (Nat × Nat)) × WH)) :=
  (hIs w v0 17).bind fun _ =>
  b2_ (fX1_isArc v0 v1 w) fun x4 w1 =>
  b2_ (fX1_requireIndex x4 w1) fun o6 w5 => ex_ o6 (fun _ =>
    (hIs w5 v0 17).bind fun _ =>
    b2_ (fX1_usersOf v0 v1 w5) fun x13 w10 =>
    some (.inl x13, w10)) (fun q9 =>
    some (.inr q9, w5))
theorem bX1_users_0 {p : Program} {l : Launch} {e : Env} {s : State} {m : MethodId} {args : Array Value} {below : List Frame} {meth : Method} {c : Code} {H : Heap} {locs : List Loc} {ls : Array Slot} {G : gE} {A : Nat → Prop} {w0 : WH} (B : gB G RX1 cX1_users 2 (some .int) p s m args meth c) (hT : ∀ x ∈ c.exceptionTable.toList, False) (hl0 : l.stackTraces = false) {v0 : Nat} {v1 : Int32} {w : WH} {r : ((Sum (Int32) (Nat × Nat)) × WH)} (h : fX1_users v0 v1 w = some r)   (hR : RepH G A w H) (hS : Cu A s w0 w H locs) (hl : lv_has ls 2 [(0, .ref v0), (1, .int v1)]) : W p l e (hRm 20 455 w0) s m args below meth c H locs (wC w0 - wC w) (wS w0 - wS w) (hZX below args s G A w0 (oI r.1) r.2) (F0 m 0 ls []) := by
  have B0 := B
  obtain ⟨hx, hb, hml, hown, hts, hr, hlk, hK⟩ := B0
  unfold fX1_users at h
  refine lv_aload_n hx hb dX1_users_0 rfl (lv_at hl 0 rfl) ?_
  refine lv_iload_n hx hb dX1_users_1 rfl (lv_at hl 1 rfl) ?_
  replace h := bo_o h
  obtain ⟨_, e2, h⟩ := h
  replace h := b2_o h
  obtain ⟨x4, w1, e3, h⟩ := h
  refine h_callV 1 (ci := 17) (As := [.int v1]) (rest := []) (v := (some (.int x4))) (w' := w1) (st1 := [.int x4]) hx hb hml hown hts hK hR hS (Nat.le_refl _) (Nat.le_refl _) rfl e2 (mX1_isArc e3) (lw_V q1952 q1954 qs47 q112 q1955) (by decide +kernel) (Nat.le_of_ble_eq_true rfl) (Nat.le_of_ble_eq_true rfl) rfl hl.1 (Nat.le_of_ble_eq_true rfl) dX1_users_2 rfl rfl (fun H locs hR hS => ?_)
  replace h := b2_o h
  obtain ⟨o6, w5, e7, h⟩ := h
  refine h_callSX 1 (As := [.int x4]) (rest := []) (o := oV o6) (w' := w5)  hx hb hml hown hts hK hR hS (Nat.le_refl _) (Nat.le_refl _) (mX1_requireIndex hl0 e7) (lw_S q1956 q1957 q112 q1958) (by decide +kernel) (Nat.le_of_ble_eq_true rfl) (Nat.le_of_ble_eq_true rfl) rfl hl.1 (Nat.le_of_ble_eq_true rfl) dX1_users_5 rfl (fun v9 hv9 H locs hR hS => ?_) (fun E9 q9 hq9 H locs hR hS hce => ?_)
  · cases o6 with
    | inr q => cases hv9
    | inl x8 =>
      cases hv9
      replace h := exl_o h
      refine W.eq (g2 := F0 m 8 ls []) rfl ?_
      refine lv_aload_n hx hb dX1_users_8 rfl (lv_at hl 0 rfl) ?_
      refine lv_iload_n hx hb dX1_users_9 rfl (lv_at hl 1 rfl) ?_
      replace h := bo_o h
      obtain ⟨_, e11, h⟩ := h
      replace h := b2_o h
      obtain ⟨x13, w10, e12, h⟩ := h
      refine h_callV 1 (ci := 17) (As := [.int v1]) (rest := []) (v := (some (.int x13))) (w' := w10) (st1 := [.int x13]) hx hb hml hown hts hK hR hS (Nat.le_refl _) (Nat.le_refl _) rfl e11 (mX1_usersOf e12) (lw_V q1196 q1198 qs22 q112 q1199) (by decide +kernel) (Nat.le_of_ble_eq_true rfl) (Nat.le_of_ble_eq_true rfl) rfl hl.1 (Nat.le_of_ble_eq_true rfl) dX1_users_10 rfl rfl (fun H locs hR hS => ?_)
      have eR := Option.some.inj h
      subst eR
      exact h_ifinX hx hb hr hlk hR hS dX1_users_13
  · cases o6 with
    | inl q => cases hq9
    | inr q9 =>
      cases hq9
      replace h := exr_o h
      have eR := Option.some.inj h
      subst eR
      exact h_out hT hlk hR hS hce
theorem mX1_users {l : Launch} {G : gE} {A : Nat → Prop} {v0 : Nat} {v1 : Int32} {w : WH} {r : ((Sum (Int32) (Nat × Nat)) × WH)} (hl0 : l.stackTraces = false) (h : fX1_users v0 v1 w = some r) : hMX l G A yX1_users cX1_users 2 (some .int) 20 455 [.ref v0, .int v1] w (oI r.1) r.2 :=
  h_ofX (by decide +kernel) (Nat.le_of_ble_eq_true rfl) (fun p e s m args below meth c ls B hnm hT hR hS hl => bX1_users_0 B hT hl0 h hR hS hl)
noncomputable def fX1_flow (v0 : Nat) (v1 : Int32) (w : WH) : Option (((Sum (Int32) (Nat × Nat)) × WH)) :=
  (hIs w v0 17).bind fun _ =>
  b2_ (fX1_isArc v0 v1 w) fun x4 w1 =>
  b2_ (fX1_requireIndex x4 w1) fun o6 w5 => ex_ o6 (fun _ =>
    (hIs w5 v0 17).bind fun _ =>
    b2_ (fX1_flowOf v0 v1 w5) fun x13 w10 =>
    some (.inl x13, w10)) (fun q9 =>
    some (.inr q9, w5))
theorem bX1_flow_0 {p : Program} {l : Launch} {e : Env} {s : State} {m : MethodId} {args : Array Value} {below : List Frame} {meth : Method} {c : Code} {H : Heap} {locs : List Loc} {ls : Array Slot} {G : gE} {A : Nat → Prop} {w0 : WH} (B : gB G RX1 cX1_flow 2 (some .int) p s m args meth c) (hT : ∀ x ∈ c.exceptionTable.toList, False) (hl0 : l.stackTraces = false) {v0 : Nat} {v1 : Int32} {w : WH} {r : ((Sum (Int32) (Nat × Nat)) × WH)} (h : fX1_flow v0 v1 w = some r)   (hR : RepH G A w H) (hS : Cu A s w0 w H locs) (hl : lv_has ls 2 [(0, .ref v0), (1, .int v1)]) : W p l e (hRm 21 479 w0) s m args below meth c H locs (wC w0 - wC w) (wS w0 - wS w) (hZX below args s G A w0 (oI r.1) r.2) (F0 m 0 ls []) := by
  have B0 := B
  obtain ⟨hx, hb, hml, hown, hts, hr, hlk, hK⟩ := B0
  unfold fX1_flow at h
  refine lv_aload_n hx hb dX1_flow_0 rfl (lv_at hl 0 rfl) ?_
  refine lv_iload_n hx hb dX1_flow_1 rfl (lv_at hl 1 rfl) ?_
  replace h := bo_o h
  obtain ⟨_, e2, h⟩ := h
  replace h := b2_o h
  obtain ⟨x4, w1, e3, h⟩ := h
  refine h_callV 1 (ci := 17) (As := [.int v1]) (rest := []) (v := (some (.int x4))) (w' := w1) (st1 := [.int x4]) hx hb hml hown hts hK hR hS (Nat.le_refl _) (Nat.le_refl _) rfl e2 (mX1_isArc e3) (lw_V q1952 q1954 qs47 q112 q1955) (by decide +kernel) (Nat.le_of_ble_eq_true rfl) (Nat.le_of_ble_eq_true rfl) rfl hl.1 (Nat.le_of_ble_eq_true rfl) dX1_flow_2 rfl rfl (fun H locs hR hS => ?_)
  replace h := b2_o h
  obtain ⟨o6, w5, e7, h⟩ := h
  refine h_callSX 1 (As := [.int x4]) (rest := []) (o := oV o6) (w' := w5)  hx hb hml hown hts hK hR hS (Nat.le_refl _) (Nat.le_refl _) (mX1_requireIndex hl0 e7) (lw_S q1956 q1957 q112 q1958) (by decide +kernel) (Nat.le_of_ble_eq_true rfl) (Nat.le_of_ble_eq_true rfl) rfl hl.1 (Nat.le_of_ble_eq_true rfl) dX1_flow_5 rfl (fun v9 hv9 H locs hR hS => ?_) (fun E9 q9 hq9 H locs hR hS hce => ?_)
  · cases o6 with
    | inr q => cases hv9
    | inl x8 =>
      cases hv9
      replace h := exl_o h
      refine W.eq (g2 := F0 m 8 ls []) rfl ?_
      refine lv_aload_n hx hb dX1_flow_8 rfl (lv_at hl 0 rfl) ?_
      refine lv_iload_n hx hb dX1_flow_9 rfl (lv_at hl 1 rfl) ?_
      replace h := bo_o h
      obtain ⟨_, e11, h⟩ := h
      replace h := b2_o h
      obtain ⟨x13, w10, e12, h⟩ := h
      refine h_callV 1 (ci := 17) (As := [.int v1]) (rest := []) (v := (some (.int x13))) (w' := w10) (st1 := [.int x13]) hx hb hml hown hts hK hR hS (Nat.le_refl _) (Nat.le_refl _) rfl e11 (mX1_flowOf e12) (lw_V q1192 q1194 qs21 q112 q1195) (by decide +kernel) (Nat.le_of_ble_eq_true rfl) (Nat.le_of_ble_eq_true rfl) rfl hl.1 (Nat.le_of_ble_eq_true rfl) dX1_flow_10 rfl rfl (fun H locs hR hS => ?_)
      have eR := Option.some.inj h
      subst eR
      exact h_ifinX hx hb hr hlk hR hS dX1_flow_13
  · cases o6 with
    | inl q => cases hq9
    | inr q9 =>
      cases hq9
      replace h := exr_o h
      have eR := Option.some.inj h
      subst eR
      exact h_out hT hlk hR hS hce
theorem mX1_flow {l : Launch} {G : gE} {A : Nat → Prop} {v0 : Nat} {v1 : Int32} {w : WH} {r : ((Sum (Int32) (Nat × Nat)) × WH)} (hl0 : l.stackTraces = false) (h : fX1_flow v0 v1 w = some r) : hMX l G A yX1_flow cX1_flow 2 (some .int) 21 479 [.ref v0, .int v1] w (oI r.1) r.2 :=
  h_ofX (by decide +kernel) (Nat.le_of_ble_eq_true rfl) (fun p e s m args below meth c ls B hnm hT hR hS hl => bX1_flow_0 B hT hl0 h hR hS hl)
noncomputable def fX4_countFrom_b208 (rec : Nat → Nat → Nat → Int32 → WH → Option (Int64 × WH)) (v0 : Nat) (v3 : Int32) (v4 : Int64) (w : WH) : Option ((Int64 × WH)) :=
  (gR w v0 23 1).bind fun x1 =>
  x1.bind fun a3 =>
  (stJ w a3 v3 v4).bind fun w5 =>
  some (v4, w5)
theorem bX4_countFrom_208 {p : Program} {l : Launch} {e : Env} {s : State} {m : MethodId} {args : Array Value} {below : List Frame} {meth : Method} {c : Code} {H : Heap} {locs : List Loc} {ls : Array Slot} {G : gE} {A : Nat → Prop} {w0 : WH} {d : Nat} {rec : Nat → Nat → Nat → Int32 → WH → Option (Int64 × WH)} (hrec : ∀ (v0 : Nat) (v1 : Nat) (v2 : Nat) (v3 : Int32) (wa : WH) (ra : (Int64 × WH)), rec v0 v1 v2 v3 wa = some ra → hM l G A yX4_countFrom cX4_countFrom 12 (some .long) (16 + d) (361 + d * 80) [.ref v0, .ref v1, .ref v2, .int v3] wa (some (.long ra.1)) ra.2) (B : gB G RX4 cX4_countFrom 12 (some .long) p s m args meth c) {v0 : Nat} {v3 : Int32} {v4 : Int64} {w : WH} {r : (Int64 × WH)} (h : fX4_countFrom_b208 rec v0 v3 v4 w = some r)   (hR : RepH G A w H) (hS : Cu A s w0 w H locs) (hl : lv_has ls 12 [(0, .ref v0), (3, .int v3), (4, .long v4)]) : W p l e (hRm (16 + (d + 1)) (361 + (d + 1) * 80) w0) s m args below meth c H locs (wC w0 - wC w) (wS w0 - wS w) (hZ below args s G A w0 (some (.long r.1)) r.2) (F0 m 208 ls []) := by
  have B0 := B
  obtain ⟨hx, hb, hml, hown, hts, hr, hlk, hK⟩ := B0
  unfold fX4_countFrom_b208 at h
  refine lv_aload_n hx hb dX4_countFrom_208 rfl (lv_at hl 0 rfl) ?_
  replace h := bo_o h
  obtain ⟨x1, e2, h⟩ := h
  refine h_get (ci := 23) (k := 1) (v := va_rf x1) hx hb hts hown hK hR in_X4 rfl (by decide) (fun _ _ => rfl) q619 (fun _ h9 => h9) (gR_o e2) dX4_countFrom_209 ?_
  refine lv_iload_n hx hb dX4_countFrom_212 rfl (lv_at hl 1 rfl) ?_
  refine lv_lload hx hb dX4_countFrom_213 (lv_at hl 2 rfl) ?_
  replace h := bo_o h
  obtain ⟨a3, e4, h⟩ := h
  subst e4
  replace h := bo_o h
  obtain ⟨w5, e6, h⟩ := h
  refine h_last hx hb hK hR hS e6 dX4_countFrom_215 (fun H locs hR hS => ?_)
  refine lv_lload hx hb dX4_countFrom_216 (lv_at hl 2 rfl) ?_
  have eR := Option.some.inj h
  subst eR
  exact h_lfin hx hb hr hlk hR hS dX4_countFrom_218
noncomputable def fX4_countFrom_b202 (rec : Nat → Nat → Nat → Int32 → WH → Option (Int64 × WH)) (v0 : Nat) (v1 : Nat) (v2 : Nat) (v3 : Int32) (v4 : Int64) (v6 : Int32) (w : WH) : Option (Sum (Int64 × Int32 × WH) ((Int64 × WH))) :=
  some (.inl (v4, v6 + 1, w))
theorem bX4_countFrom_202 {p : Program} {l : Launch} {e : Env} {s : State} {m : MethodId} {args : Array Value} {below : List Frame} {meth : Method} {c : Code} {H : Heap} {locs : List Loc} {ls : Array Slot} {G : gE} {A : Nat → Prop} {w0 : WH} {d : Nat} {rec : Nat → Nat → Nat → Int32 → WH → Option (Int64 × WH)} (hrec : ∀ (v0 : Nat) (v1 : Nat) (v2 : Nat) (v3 : Int32) (wa : WH) (ra : (Int64 × WH)), rec v0 v1 v2 v3 wa = some ra → hM l G A yX4_countFrom cX4_countFrom 12 (some .long) (16 + d) (361 + d * 80) [.ref v0, .ref v1, .ref v2, .int v3] wa (some (.long ra.1)) ra.2) (B : gB G RX4 cX4_countFrom 12 (some .long) p s m args meth c) {v0 : Nat} {v1 : Nat} {v2 : Nat} {v3 : Int32} {v4 : Int64} {v6 : Int32} {w : WH} {x : Sum (Int64 × Int32 × WH) ((Int64 × WH))} {r : (Int64 × WH)} (h : fX4_countFrom_b202 rec v0 v1 v2 v3 v4 v6 w = some x)  (k24 : ∀ (v4' : Int64) (v6' : Int32) (w' : WH), x = (.inl (v4', v6', w')) → ∀ (H : Heap) (locs : List Loc) (ls : Array Slot), RepH G A w' H → Cu A s w0 w' H locs → lv_has ls 12 [(0, .ref v0), (1, .ref v1), (2, .ref v2), (3, .int v3), (4, .long v4'), (6, .int v6')] → W p l e (hRm (16 + (d + 1)) (361 + (d + 1) * 80) w0) s m args below meth c H locs (wC w0 - wC w') (wS w0 - wS w') (hZ below args s G A w0 (some (.long r.1)) r.2) (F0 m 24 ls [])) (kR : ∀ q, x = (.inr q) → q = r) (hR : RepH G A w H) (hS : Cu A s w0 w H locs) (hl : lv_has ls 12 [(0, .ref v0), (1, .ref v1), (2, .ref v2), (3, .int v3), (4, .long v4), (6, .int v6)]) : W p l e (hRm (16 + (d + 1)) (361 + (d + 1) * 80) w0) s m args below meth c H locs (wC w0 - wC w) (wS w0 - wS w) (hZ below args s G A w0 (some (.long r.1)) r.2) (F0 m 202 ls []) := by
  have B0 := B
  obtain ⟨hx, hb, hml, hown, hts, hr, hlk, hK⟩ := B0
  unfold fX4_countFrom_b202 at h
  refine lv_iinc (v := v6 + 1) (lv' := [(6, .int (v6 + 1)), (0, .ref v0), (1, .ref v1), (2, .ref v2), (3, .int v3), (4, .long v4)]) hx hb dX4_countFrom_202 hl (k := 5) rfl rfl (by decide) rfl (fun ls hl => ?_)
  refine lv_goto (tgt := 24) hx hb dX4_countFrom_205 (by decide) ?_
  exact k24 _ _ _ (Option.some.inj h).symm H locs ls hR hS (lv_sub hl [1, 2, 3, 4, 5, 0] rfl)
noncomputable def fX4_countFrom_b83 (rec : Nat → Nat → Nat → Int32 → WH → Option (Int64 × WH)) (v0 : Nat) (v1 : Nat) (v2 : Nat) (v3 : Int32) (v4 : Int64) (v6 : Int32) (w : WH) : Option (Sum (Int64 × Int32 × WH) ((Int64 × WH))) :=
  fX4_countFrom_b202 rec v0 v1 v2 v3 v4 v6 w
theorem bX4_countFrom_83 {p : Program} {l : Launch} {e : Env} {s : State} {m : MethodId} {args : Array Value} {below : List Frame} {meth : Method} {c : Code} {H : Heap} {locs : List Loc} {ls : Array Slot} {G : gE} {A : Nat → Prop} {w0 : WH} {d : Nat} {rec : Nat → Nat → Nat → Int32 → WH → Option (Int64 × WH)} (hrec : ∀ (v0 : Nat) (v1 : Nat) (v2 : Nat) (v3 : Int32) (wa : WH) (ra : (Int64 × WH)), rec v0 v1 v2 v3 wa = some ra → hM l G A yX4_countFrom cX4_countFrom 12 (some .long) (16 + d) (361 + d * 80) [.ref v0, .ref v1, .ref v2, .int v3] wa (some (.long ra.1)) ra.2) (B : gB G RX4 cX4_countFrom 12 (some .long) p s m args meth c) {v0 : Nat} {v1 : Nat} {v2 : Nat} {v3 : Int32} {v4 : Int64} {v6 : Int32} {w : WH} {x : Sum (Int64 × Int32 × WH) ((Int64 × WH))} {r : (Int64 × WH)} (h : fX4_countFrom_b83 rec v0 v1 v2 v3 v4 v6 w = some x)  (k24 : ∀ (v4' : Int64) (v6' : Int32) (w' : WH), x = (.inl (v4', v6', w')) → ∀ (H : Heap) (locs : List Loc) (ls : Array Slot), RepH G A w' H → Cu A s w0 w' H locs → lv_has ls 12 [(0, .ref v0), (1, .ref v1), (2, .ref v2), (3, .int v3), (4, .long v4'), (6, .int v6')] → W p l e (hRm (16 + (d + 1)) (361 + (d + 1) * 80) w0) s m args below meth c H locs (wC w0 - wC w') (wS w0 - wS w') (hZ below args s G A w0 (some (.long r.1)) r.2) (F0 m 24 ls [])) (kR : ∀ q, x = (.inr q) → q = r) (hR : RepH G A w H) (hS : Cu A s w0 w H locs) (hl : lv_has ls 12 [(0, .ref v0), (1, .ref v1), (2, .ref v2), (3, .int v3), (4, .long v4), (6, .int v6)]) : W p l e (hRm (16 + (d + 1)) (361 + (d + 1) * 80) w0) s m args below meth c H locs (wC w0 - wC w) (wS w0 - wS w) (hZ below args s G A w0 (some (.long r.1)) r.2) (F0 m 83 ls []) := by
  have B0 := B
  obtain ⟨hx, hb, hml, hown, hts, hr, hlk, hK⟩ := B0
  unfold fX4_countFrom_b83 at h
  refine lv_goto (tgt := 202) hx hb dX4_countFrom_83 (by decide) ?_
  exact bX4_countFrom_202 hrec B h k24 kR hR hS (lv_sub hl [0, 1, 2, 3, 4, 5] rfl)
noncomputable def fX4_countFrom_b194 (rec : Nat → Nat → Nat → Int32 → WH → Option (Int64 × WH)) (v0 : Nat) (v1 : Nat) (v2 : Nat) (v3 : Int32) (v4 : Int64) (v6 : Int32) (v8 : Int64) (s0 : Option Nat) (s1 : Int32) (s2 : Int32) (w : WH) : Option (Sum (Int64 × Int32 × WH) ((Int64 × WH))) :=
  s0.bind fun a1 =>
  (stI w a1 0 s1 s2).bind fun w3 =>
  nm_ (v4 + v8) fun x5 =>
  fX4_countFrom_b202 rec v0 v1 v2 v3 x5 v6 w3
theorem bX4_countFrom_194 {p : Program} {l : Launch} {e : Env} {s : State} {m : MethodId} {args : Array Value} {below : List Frame} {meth : Method} {c : Code} {H : Heap} {locs : List Loc} {ls : Array Slot} {G : gE} {A : Nat → Prop} {w0 : WH} {d : Nat} {rec : Nat → Nat → Nat → Int32 → WH → Option (Int64 × WH)} (hrec : ∀ (v0 : Nat) (v1 : Nat) (v2 : Nat) (v3 : Int32) (wa : WH) (ra : (Int64 × WH)), rec v0 v1 v2 v3 wa = some ra → hM l G A yX4_countFrom cX4_countFrom 12 (some .long) (16 + d) (361 + d * 80) [.ref v0, .ref v1, .ref v2, .int v3] wa (some (.long ra.1)) ra.2) (B : gB G RX4 cX4_countFrom 12 (some .long) p s m args meth c) {v0 : Nat} {v1 : Nat} {v2 : Nat} {v3 : Int32} {v4 : Int64} {v6 : Int32} {v8 : Int64} {s0 : Option Nat} {s1 : Int32} {s2 : Int32} {w : WH} {x : Sum (Int64 × Int32 × WH) ((Int64 × WH))} {r : (Int64 × WH)} (h : fX4_countFrom_b194 rec v0 v1 v2 v3 v4 v6 v8 s0 s1 s2 w = some x)  (k24 : ∀ (v4' : Int64) (v6' : Int32) (w' : WH), x = (.inl (v4', v6', w')) → ∀ (H : Heap) (locs : List Loc) (ls : Array Slot), RepH G A w' H → Cu A s w0 w' H locs → lv_has ls 12 [(0, .ref v0), (1, .ref v1), (2, .ref v2), (3, .int v3), (4, .long v4'), (6, .int v6')] → W p l e (hRm (16 + (d + 1)) (361 + (d + 1) * 80) w0) s m args below meth c H locs (wC w0 - wC w') (wS w0 - wS w') (hZ below args s G A w0 (some (.long r.1)) r.2) (F0 m 24 ls [])) (kR : ∀ q, x = (.inr q) → q = r) (hR : RepH G A w H) (hS : Cu A s w0 w H locs) (hl : lv_has ls 12 [(0, .ref v0), (1, .ref v1), (2, .ref v2), (3, .int v3), (4, .long v4), (6, .int v6), (8, .long v8)]) : W p l e (hRm (16 + (d + 1)) (361 + (d + 1) * 80) w0) s m args below meth c H locs (wC w0 - wC w) (wS w0 - wS w) (hZ below args s G A w0 (some (.long r.1)) r.2) (F0 m 194 ls [.int s2, .int s1, va_rf s0]) := by
  have B0 := B
  obtain ⟨hx, hb, hml, hown, hts, hr, hlk, hK⟩ := B0
  unfold fX4_countFrom_b194 at h
  replace h := bo_o h
  obtain ⟨a1, e2, h⟩ := h
  subst e2
  replace h := bo_o h
  obtain ⟨w3, e4, h⟩ := h
  refine h_iast hx hb hK hR hS e4 dX4_countFrom_194 (fun H locs hR hS => ?_)
  refine lv_lload hx hb dX4_countFrom_195 (lv_at hl 4 rfl) ?_
  refine lv_lload hx hb dX4_countFrom_197 (lv_at hl 6 rfl) ?_
  refine lv_ladd hx hb dX4_countFrom_199 ?_
  replace h := nm_o h
  obtain ⟨x5, e6, h⟩ := h
  refine lv_lstore (lv' := [(4, .long x5), (0, .ref v0), (1, .ref v1), (2, .ref v2), (3, .int v3), (6, .int v6), (8, .long v8)]) hx hb dX4_countFrom_200 hl (by decide) (by subst e6; rfl) (fun ls hl => ?_)
  exact bX4_countFrom_202 hrec B h k24 kR hR hS (lv_sub hl [1, 2, 3, 4, 0, 5] rfl)
noncomputable def fX4_countFrom_b165 (rec : Nat → Nat → Nat → Int32 → WH → Option (Int64 × WH)) (v0 : Nat) (v1 : Nat) (v2 : Nat) (v3 : Int32) (v4 : Int64) (v6 : Int32) (v8 : Int64) (v11 : Int32) (s0 : Option Nat) (s1 : Int32) (s2 : Int32) (w : WH) : Option (Sum (Int64 × Int32 × WH) ((Int64 × WH))) :=
  s0.bind fun a1 =>
  (stI w a1 0 s1 s2).bind fun w3 =>
  (gR w3 v0 23 4).bind fun x5 =>
  if lg_cmp v4 0 = 0 then (
    fX4_countFrom_b194 rec v0 v1 v2 v3 v4 v6 v8 x5 v3 v11 w3
  ) else (
    (gR w3 v0 23 4).bind fun x8 =>
    x8.bind fun a10 =>
    (ldI w3 a10 0 v3).bind fun x12 =>
    nm_ (mnI x12 v11) fun x14 =>
    fX4_countFrom_b194 rec v0 v1 v2 v3 v4 v6 v8 x5 v3 x14 w3
  )
theorem bX4_countFrom_165 {p : Program} {l : Launch} {e : Env} {s : State} {m : MethodId} {args : Array Value} {below : List Frame} {meth : Method} {c : Code} {H : Heap} {locs : List Loc} {ls : Array Slot} {G : gE} {A : Nat → Prop} {w0 : WH} {d : Nat} {rec : Nat → Nat → Nat → Int32 → WH → Option (Int64 × WH)} (hrec : ∀ (v0 : Nat) (v1 : Nat) (v2 : Nat) (v3 : Int32) (wa : WH) (ra : (Int64 × WH)), rec v0 v1 v2 v3 wa = some ra → hM l G A yX4_countFrom cX4_countFrom 12 (some .long) (16 + d) (361 + d * 80) [.ref v0, .ref v1, .ref v2, .int v3] wa (some (.long ra.1)) ra.2) (B : gB G RX4 cX4_countFrom 12 (some .long) p s m args meth c) {v0 : Nat} {v1 : Nat} {v2 : Nat} {v3 : Int32} {v4 : Int64} {v6 : Int32} {v8 : Int64} {v11 : Int32} {s0 : Option Nat} {s1 : Int32} {s2 : Int32} {w : WH} {x : Sum (Int64 × Int32 × WH) ((Int64 × WH))} {r : (Int64 × WH)} (h : fX4_countFrom_b165 rec v0 v1 v2 v3 v4 v6 v8 v11 s0 s1 s2 w = some x)  (k24 : ∀ (v4' : Int64) (v6' : Int32) (w' : WH), x = (.inl (v4', v6', w')) → ∀ (H : Heap) (locs : List Loc) (ls : Array Slot), RepH G A w' H → Cu A s w0 w' H locs → lv_has ls 12 [(0, .ref v0), (1, .ref v1), (2, .ref v2), (3, .int v3), (4, .long v4'), (6, .int v6')] → W p l e (hRm (16 + (d + 1)) (361 + (d + 1) * 80) w0) s m args below meth c H locs (wC w0 - wC w') (wS w0 - wS w') (hZ below args s G A w0 (some (.long r.1)) r.2) (F0 m 24 ls [])) (kR : ∀ q, x = (.inr q) → q = r) (hR : RepH G A w H) (hS : Cu A s w0 w H locs) (hl : lv_has ls 12 [(0, .ref v0), (1, .ref v1), (2, .ref v2), (3, .int v3), (4, .long v4), (6, .int v6), (8, .long v8), (11, .int v11)]) : W p l e (hRm (16 + (d + 1)) (361 + (d + 1) * 80) w0) s m args below meth c H locs (wC w0 - wC w) (wS w0 - wS w) (hZ below args s G A w0 (some (.long r.1)) r.2) (F0 m 165 ls [.int s2, .int s1, va_rf s0]) := by
  have B0 := B
  obtain ⟨hx, hb, hml, hown, hts, hr, hlk, hK⟩ := B0
  unfold fX4_countFrom_b165 at h
  replace h := bo_o h
  obtain ⟨a1, e2, h⟩ := h
  subst e2
  replace h := bo_o h
  obtain ⟨w3, e4, h⟩ := h
  refine h_iast hx hb hK hR hS e4 dX4_countFrom_165 (fun H locs hR hS => ?_)
  refine lv_aload_n hx hb dX4_countFrom_166 rfl (lv_at hl 0 rfl) ?_
  replace h := bo_o h
  obtain ⟨x5, e6, h⟩ := h
  refine h_get (ci := 23) (k := 4) (v := va_rf x5) hx hb hts hown hK hR in_X4 rfl (by decide) (fun _ _ => rfl) q623 (fun _ h9 => h9) (gR_o e6) dX4_countFrom_167 ?_
  refine lv_iload_n hx hb dX4_countFrom_170 rfl (lv_at hl 3 rfl) ?_
  refine lv_lload hx hb dX4_countFrom_171 (lv_at hl 4 rfl) ?_
  refine lv_lconst (v := 0) hx hb dX4_countFrom_173 (by decide) ?_
  refine W.lcmp hx hb dX4_countFrom_174 ?_
  refine lv_if_ne (tgt := 183) hx hb dX4_countFrom_175 (by decide) (fun c7 => ?_) (fun c7 => ?_)
  · replace h := if_o c7 h
    refine lv_aload_n hx hb dX4_countFrom_183 rfl (lv_at hl 0 rfl) ?_
    replace h := bo_o h
    obtain ⟨x8, e9, h⟩ := h
    refine h_get (ci := 23) (k := 4) (v := va_rf x8) hx hb hts hown hK hR in_X4 rfl (by decide) (fun _ _ => rfl) q623 (fun _ h9 => h9) (gR_o e9) dX4_countFrom_184 ?_
    refine lv_iload_n hx hb dX4_countFrom_187 rfl (lv_at hl 3 rfl) ?_
    replace h := bo_o h
    obtain ⟨a10, e11, h⟩ := h
    subst e11
    replace h := bo_o h
    obtain ⟨x12, e13, h⟩ := h
    refine h_iald hx hb hK hR e13 dX4_countFrom_188 ?_
    refine lv_iload hx hb dX4_countFrom_189 (lv_at hl 7 rfl) ?_
    replace h := nm_o h
    obtain ⟨x14, e15, h⟩ := h
    refine va_mmin hx hb (hml.trans hl.1.symm) hown (hts _ q2152) (hts _ q313) (hts _ q127) (hts _ q314) (by simp only [hRm]; omega) (by simp only [List.map, rf_cat, hRm, List.sum_cons, List.sum_nil]; (try simp only [Value.category]); omega) (Nat.sub_le _ _) (Nat.sub_le _ _) dX4_countFrom_191 ?_
    refine W.eq (g2 := F0 m 194 ls [.int x14, .int v3, va_rf x5]) (by rw [e15]; rfl) ?_
    exact bX4_countFrom_194 hrec B h k24 kR hR hS (lv_sub hl [0, 1, 2, 3, 4, 5, 6] rfl)
  · replace h := it_o c7 h
    refine lv_iload hx hb dX4_countFrom_178 (lv_at hl 7 rfl) ?_
    refine lv_goto (tgt := 194) hx hb dX4_countFrom_180 (by decide) ?_
    exact bX4_countFrom_194 hrec B h k24 kR hR hS (lv_sub hl [0, 1, 2, 3, 4, 5, 6] rfl)
noncomputable def fX4_countFrom_b137 (rec : Nat → Nat → Nat → Int32 → WH → Option (Int64 × WH)) (v0 : Nat) (v1 : Nat) (v2 : Nat) (v3 : Int32) (v4 : Int64) (v6 : Int32) (v8 : Int64) (v10 : Int32) (v11 : Int32) (w : WH) : Option (Sum (Int64 × Int32 × WH) ((Int64 × WH))) :=
  (gR w v0 23 3).bind fun x1 =>
  if lg_cmp v4 0 = 0 then (
    fX4_countFrom_b165 rec v0 v1 v2 v3 v4 v6 v8 v11 x1 v3 v10 w
  ) else (
    (gR w v0 23 3).bind fun x4 =>
    x4.bind fun a6 =>
    (ldI w a6 0 v3).bind fun x8 =>
    nm_ (mxI x8 v10) fun x10 =>
    fX4_countFrom_b165 rec v0 v1 v2 v3 v4 v6 v8 v11 x1 v3 x10 w
  )
theorem bX4_countFrom_137 {p : Program} {l : Launch} {e : Env} {s : State} {m : MethodId} {args : Array Value} {below : List Frame} {meth : Method} {c : Code} {H : Heap} {locs : List Loc} {ls : Array Slot} {G : gE} {A : Nat → Prop} {w0 : WH} {d : Nat} {rec : Nat → Nat → Nat → Int32 → WH → Option (Int64 × WH)} (hrec : ∀ (v0 : Nat) (v1 : Nat) (v2 : Nat) (v3 : Int32) (wa : WH) (ra : (Int64 × WH)), rec v0 v1 v2 v3 wa = some ra → hM l G A yX4_countFrom cX4_countFrom 12 (some .long) (16 + d) (361 + d * 80) [.ref v0, .ref v1, .ref v2, .int v3] wa (some (.long ra.1)) ra.2) (B : gB G RX4 cX4_countFrom 12 (some .long) p s m args meth c) {v0 : Nat} {v1 : Nat} {v2 : Nat} {v3 : Int32} {v4 : Int64} {v6 : Int32} {v8 : Int64} {v10 : Int32} {v11 : Int32} {w : WH} {x : Sum (Int64 × Int32 × WH) ((Int64 × WH))} {r : (Int64 × WH)} (h : fX4_countFrom_b137 rec v0 v1 v2 v3 v4 v6 v8 v10 v11 w = some x)  (k24 : ∀ (v4' : Int64) (v6' : Int32) (w' : WH), x = (.inl (v4', v6', w')) → ∀ (H : Heap) (locs : List Loc) (ls : Array Slot), RepH G A w' H → Cu A s w0 w' H locs → lv_has ls 12 [(0, .ref v0), (1, .ref v1), (2, .ref v2), (3, .int v3), (4, .long v4'), (6, .int v6')] → W p l e (hRm (16 + (d + 1)) (361 + (d + 1) * 80) w0) s m args below meth c H locs (wC w0 - wC w') (wS w0 - wS w') (hZ below args s G A w0 (some (.long r.1)) r.2) (F0 m 24 ls [])) (kR : ∀ q, x = (.inr q) → q = r) (hR : RepH G A w H) (hS : Cu A s w0 w H locs) (hl : lv_has ls 12 [(0, .ref v0), (1, .ref v1), (2, .ref v2), (3, .int v3), (4, .long v4), (6, .int v6), (8, .long v8), (10, .int v10), (11, .int v11)]) : W p l e (hRm (16 + (d + 1)) (361 + (d + 1) * 80) w0) s m args below meth c H locs (wC w0 - wC w) (wS w0 - wS w) (hZ below args s G A w0 (some (.long r.1)) r.2) (F0 m 137 ls []) := by
  have B0 := B
  obtain ⟨hx, hb, hml, hown, hts, hr, hlk, hK⟩ := B0
  unfold fX4_countFrom_b137 at h
  refine lv_aload_n hx hb dX4_countFrom_137 rfl (lv_at hl 0 rfl) ?_
  replace h := bo_o h
  obtain ⟨x1, e2, h⟩ := h
  refine h_get (ci := 23) (k := 3) (v := va_rf x1) hx hb hts hown hK hR in_X4 rfl (by decide) (fun _ _ => rfl) q622 (fun _ h9 => h9) (gR_o e2) dX4_countFrom_138 ?_
  refine lv_iload_n hx hb dX4_countFrom_141 rfl (lv_at hl 3 rfl) ?_
  refine lv_lload hx hb dX4_countFrom_142 (lv_at hl 4 rfl) ?_
  refine lv_lconst (v := 0) hx hb dX4_countFrom_144 (by decide) ?_
  refine W.lcmp hx hb dX4_countFrom_145 ?_
  refine lv_if_ne (tgt := 154) hx hb dX4_countFrom_146 (by decide) (fun c3 => ?_) (fun c3 => ?_)
  · replace h := if_o c3 h
    refine lv_aload_n hx hb dX4_countFrom_154 rfl (lv_at hl 0 rfl) ?_
    replace h := bo_o h
    obtain ⟨x4, e5, h⟩ := h
    refine h_get (ci := 23) (k := 3) (v := va_rf x4) hx hb hts hown hK hR in_X4 rfl (by decide) (fun _ _ => rfl) q622 (fun _ h9 => h9) (gR_o e5) dX4_countFrom_155 ?_
    refine lv_iload_n hx hb dX4_countFrom_158 rfl (lv_at hl 3 rfl) ?_
    replace h := bo_o h
    obtain ⟨a6, e7, h⟩ := h
    subst e7
    replace h := bo_o h
    obtain ⟨x8, e9, h⟩ := h
    refine h_iald hx hb hK hR e9 dX4_countFrom_159 ?_
    refine lv_iload hx hb dX4_countFrom_160 (lv_at hl 7 rfl) ?_
    replace h := nm_o h
    obtain ⟨x10, e11, h⟩ := h
    refine va_mmax hx hb (hml.trans hl.1.symm) hown (hts _ q2151) (hts _ q295) (hts _ q127) (hts _ q296) (by simp only [hRm]; omega) (by simp only [List.map, rf_cat, hRm, List.sum_cons, List.sum_nil]; (try simp only [Value.category]); omega) (Nat.sub_le _ _) (Nat.sub_le _ _) dX4_countFrom_162 ?_
    refine W.eq (g2 := F0 m 165 ls [.int x10, .int v3, va_rf x1]) (by rw [e11]; rfl) ?_
    exact bX4_countFrom_165 hrec B h k24 kR hR hS (lv_sub hl [0, 1, 2, 3, 4, 5, 6, 8] rfl)
  · replace h := it_o c3 h
    refine lv_iload hx hb dX4_countFrom_149 (lv_at hl 7 rfl) ?_
    refine lv_goto (tgt := 165) hx hb dX4_countFrom_151 (by decide) ?_
    exact bX4_countFrom_165 hrec B h k24 kR hR hS (lv_sub hl [0, 1, 2, 3, 4, 5, 6, 8] rfl)
noncomputable def fX4_countFrom_b86 (rec : Nat → Nat → Nat → Int32 → WH → Option (Int64 × WH)) (v0 : Nat) (v1 : Nat) (v2 : Nat) (v3 : Int32) (v4 : Int64) (v6 : Int32) (v7 : Nat) (w : WH) : Option (Sum (Int64 × Int32 × WH) ((Int64 × WH))) :=
  (hIs w v7 27).bind fun _ =>
  b2_ (fX8_to v7 w) fun x4 w1 =>
  (hIs w1 v0 23).bind fun _ =>
  b2_ (rec v0 v1 v2 x4 w1) fun x8 w5 =>
  (gR w5 v0 23 3).bind fun x9 =>
  (hIs w5 v7 27).bind fun _ =>
  b2_ (fX8_to v7 w5) fun x14 w11 =>
  x9.bind fun a15 =>
  (ldI w11 a15 0 x14).bind fun x17 =>
  (hIs w11 v1 21).bind fun _ =>
  b2_ (fX2_toll v1 v7 w11) fun x22 w19 =>
  nm_ (x17 + x22) fun x23 =>
  (gR w19 v0 23 4).bind fun x25 =>
  (hIs w19 v7 27).bind fun _ =>
  b2_ (fX8_to v7 w19) fun x30 w27 =>
  x25.bind fun a31 =>
  (ldI w27 a31 0 x30).bind fun x33 =>
  (hIs w27 v1 21).bind fun _ =>
  b2_ (fX2_toll v1 v7 w27) fun x38 w35 =>
  nm_ (x33 + x38) fun x39 =>
  fX4_countFrom_b137 rec v0 v1 v2 v3 v4 v6 x8 x23 x39 w35
theorem bX4_countFrom_86 {p : Program} {l : Launch} {e : Env} {s : State} {m : MethodId} {args : Array Value} {below : List Frame} {meth : Method} {c : Code} {H : Heap} {locs : List Loc} {ls : Array Slot} {G : gE} {A : Nat → Prop} {w0 : WH} {d : Nat} {rec : Nat → Nat → Nat → Int32 → WH → Option (Int64 × WH)} (hrec : ∀ (v0 : Nat) (v1 : Nat) (v2 : Nat) (v3 : Int32) (wa : WH) (ra : (Int64 × WH)), rec v0 v1 v2 v3 wa = some ra → hM l G A yX4_countFrom cX4_countFrom 12 (some .long) (16 + d) (361 + d * 80) [.ref v0, .ref v1, .ref v2, .int v3] wa (some (.long ra.1)) ra.2) (B : gB G RX4 cX4_countFrom 12 (some .long) p s m args meth c) {v0 : Nat} {v1 : Nat} {v2 : Nat} {v3 : Int32} {v4 : Int64} {v6 : Int32} {v7 : Nat} {w : WH} {x : Sum (Int64 × Int32 × WH) ((Int64 × WH))} {r : (Int64 × WH)} (h : fX4_countFrom_b86 rec v0 v1 v2 v3 v4 v6 v7 w = some x)  (k24 : ∀ (v4' : Int64) (v6' : Int32) (w' : WH), x = (.inl (v4', v6', w')) → ∀ (H : Heap) (locs : List Loc) (ls : Array Slot), RepH G A w' H → Cu A s w0 w' H locs → lv_has ls 12 [(0, .ref v0), (1, .ref v1), (2, .ref v2), (3, .int v3), (4, .long v4'), (6, .int v6')] → W p l e (hRm (16 + (d + 1)) (361 + (d + 1) * 80) w0) s m args below meth c H locs (wC w0 - wC w') (wS w0 - wS w') (hZ below args s G A w0 (some (.long r.1)) r.2) (F0 m 24 ls [])) (kR : ∀ q, x = (.inr q) → q = r) (hR : RepH G A w H) (hS : Cu A s w0 w H locs) (hl : lv_has ls 12 [(0, .ref v0), (1, .ref v1), (2, .ref v2), (3, .int v3), (4, .long v4), (6, .int v6), (7, .ref v7)]) : W p l e (hRm (16 + (d + 1)) (361 + (d + 1) * 80) w0) s m args below meth c H locs (wC w0 - wC w) (wS w0 - wS w) (hZ below args s G A w0 (some (.long r.1)) r.2) (F0 m 86 ls []) := by
  have B0 := B
  obtain ⟨hx, hb, hml, hown, hts, hr, hlk, hK⟩ := B0
  unfold fX4_countFrom_b86 at h
  refine lv_aload_n hx hb dX4_countFrom_86 rfl (lv_at hl 0 rfl) ?_
  refine lv_aload_n hx hb dX4_countFrom_87 rfl (lv_at hl 1 rfl) ?_
  refine lv_aload_n hx hb dX4_countFrom_88 rfl (lv_at hl 2 rfl) ?_
  refine lv_aload hx hb dX4_countFrom_89 (lv_at hl 6 rfl) ?_
  replace h := bo_o h
  obtain ⟨_, e2, h⟩ := h
  replace h := b2_o h
  obtain ⟨x4, w1, e3, h⟩ := h
  refine h_callV 0 (ci := 27) (As := []) (rest := [.ref v2, .ref v1, .ref v0]) (v := (some (.int x4))) (w' := w1) (st1 := [.int x4, .ref v2, .ref v1, .ref v0]) hx hb hml hown hts hK hR hS (Nat.le_refl _) (Nat.le_refl _) rfl e2 (mX8_to e3) (lw_V q1362 q1363 q1364 q141 q1365) (by decide +kernel) (by simp only [hRm]; omega) (by simp only [hRm]; omega) rfl hl.1 (Nat.le_of_ble_eq_true rfl) dX4_countFrom_91 rfl rfl (fun H locs hR hS => ?_)
  replace h := bo_o h
  obtain ⟨_, e6, h⟩ := h
  replace h := b2_o h
  obtain ⟨x8, w5, e7, h⟩ := h
  refine h_callV 3 (ci := 23) (As := [.ref v1, .ref v2, .int x4]) (rest := []) (v := (some (.long x8))) (w' := w5) (st1 := [.long x8]) hx hb hml hown hts hK hR hS (Nat.le_refl _) (Nat.le_refl _) rfl e6 (hrec _ _ _ _ _ _ e7) (lw_V q2146 q2148 qs52 q135 q2149) (by decide +kernel) (by simp only [hRm]; omega) (by simp only [hRm]; omega) rfl hl.1 (Nat.le_of_ble_eq_true rfl) dX4_countFrom_94 rfl rfl (fun H locs hR hS => ?_)
  refine lv_lstore (lv' := [(8, .long x8), (0, .ref v0), (1, .ref v1), (2, .ref v2), (3, .int v3), (4, .long v4), (6, .int v6), (7, .ref v7)]) hx hb dX4_countFrom_97 hl (by decide) rfl (fun ls hl => ?_)
  refine lv_aload_n hx hb dX4_countFrom_99 rfl (lv_at hl 1 rfl) ?_
  replace h := bo_o h
  obtain ⟨x9, e10, h⟩ := h
  refine h_get (ci := 23) (k := 3) (v := va_rf x9) hx hb hts hown hK hR in_X4 rfl (by decide) (fun _ _ => rfl) q622 (fun _ h9 => h9) (gR_o e10) dX4_countFrom_100 ?_
  refine lv_aload hx hb dX4_countFrom_103 (lv_at hl 7 rfl) ?_
  replace h := bo_o h
  obtain ⟨_, e12, h⟩ := h
  replace h := b2_o h
  obtain ⟨x14, w11, e13, h⟩ := h
  refine h_callV 0 (ci := 27) (As := []) (rest := [va_rf x9]) (v := (some (.int x14))) (w' := w11) (st1 := [.int x14, va_rf x9]) hx hb hml hown hts hK hR hS (Nat.le_refl _) (Nat.le_refl _) rfl e12 (mX8_to e13) (lw_V q1362 q1363 q1364 q141 q1365) (by decide +kernel) (by simp only [hRm]; omega) (by simp only [hRm]; omega) rfl hl.1 (cat_le (Nat.le_of_ble_eq_true rfl)) dX4_countFrom_105 rfl rfl (fun H locs hR hS => ?_)
  replace h := bo_o h
  obtain ⟨a15, e16, h⟩ := h
  subst e16
  replace h := bo_o h
  obtain ⟨x17, e18, h⟩ := h
  refine h_iald hx hb hK hR e18 dX4_countFrom_108 ?_
  refine lv_aload_n hx hb dX4_countFrom_109 rfl (lv_at hl 2 rfl) ?_
  refine lv_aload hx hb dX4_countFrom_110 (lv_at hl 7 rfl) ?_
  replace h := bo_o h
  obtain ⟨_, e20, h⟩ := h
  replace h := b2_o h
  obtain ⟨x22, w19, e21, h⟩ := h
  refine h_callV 1 (ci := 21) (As := [.ref v7]) (rest := [.int x17]) (v := (some (.int x22))) (w' := w19) (st1 := [.int x22, .int x17]) hx hb hml hown hts hK hR hS (Nat.le_refl _) (Nat.le_refl _) rfl e20 (mX2_toll e21) (lw_V q2150 q1332 q1333 q113 q1334) (by decide +kernel) (by simp only [hRm]; omega) (by simp only [hRm]; omega) rfl hl.1 (Nat.le_of_ble_eq_true rfl) dX4_countFrom_112 rfl rfl (fun H locs hR hS => ?_)
  refine lv_iadd hx hb dX4_countFrom_115 ?_
  replace h := nm_o h
  obtain ⟨x23, e24, h⟩ := h
  refine lv_istore (lv' := [(10, .int x23), (8, .long x8), (0, .ref v0), (1, .ref v1), (2, .ref v2), (3, .int v3), (4, .long v4), (6, .int v6), (7, .ref v7)]) hx hb dX4_countFrom_116 hl (by decide) (by subst e24; rfl) (fun ls hl => ?_)
  refine lv_aload_n hx hb dX4_countFrom_118 rfl (lv_at hl 2 rfl) ?_
  replace h := bo_o h
  obtain ⟨x25, e26, h⟩ := h
  refine h_get (ci := 23) (k := 4) (v := va_rf x25) hx hb hts hown hK hR in_X4 rfl (by decide) (fun _ _ => rfl) q623 (fun _ h9 => h9) (gR_o e26) dX4_countFrom_119 ?_
  refine lv_aload hx hb dX4_countFrom_122 (lv_at hl 8 rfl) ?_
  replace h := bo_o h
  obtain ⟨_, e28, h⟩ := h
  replace h := b2_o h
  obtain ⟨x30, w27, e29, h⟩ := h
  refine h_callV 0 (ci := 27) (As := []) (rest := [va_rf x25]) (v := (some (.int x30))) (w' := w27) (st1 := [.int x30, va_rf x25]) hx hb hml hown hts hK hR hS (Nat.le_refl _) (Nat.le_refl _) rfl e28 (mX8_to e29) (lw_V q1362 q1363 q1364 q141 q1365) (by decide +kernel) (by simp only [hRm]; omega) (by simp only [hRm]; omega) rfl hl.1 (cat_le (Nat.le_of_ble_eq_true rfl)) dX4_countFrom_124 rfl rfl (fun H locs hR hS => ?_)
  replace h := bo_o h
  obtain ⟨a31, e32, h⟩ := h
  subst e32
  replace h := bo_o h
  obtain ⟨x33, e34, h⟩ := h
  refine h_iald hx hb hK hR e34 dX4_countFrom_127 ?_
  refine lv_aload_n hx hb dX4_countFrom_128 rfl (lv_at hl 3 rfl) ?_
  refine lv_aload hx hb dX4_countFrom_129 (lv_at hl 8 rfl) ?_
  replace h := bo_o h
  obtain ⟨_, e36, h⟩ := h
  replace h := b2_o h
  obtain ⟨x38, w35, e37, h⟩ := h
  refine h_callV 1 (ci := 21) (As := [.ref v7]) (rest := [.int x33]) (v := (some (.int x38))) (w' := w35) (st1 := [.int x38, .int x33]) hx hb hml hown hts hK hR hS (Nat.le_refl _) (Nat.le_refl _) rfl e36 (mX2_toll e37) (lw_V q2150 q1332 q1333 q113 q1334) (by decide +kernel) (by simp only [hRm]; omega) (by simp only [hRm]; omega) rfl hl.1 (Nat.le_of_ble_eq_true rfl) dX4_countFrom_131 rfl rfl (fun H locs hR hS => ?_)
  refine lv_iadd hx hb dX4_countFrom_134 ?_
  replace h := nm_o h
  obtain ⟨x39, e40, h⟩ := h
  refine lv_istore (lv' := [(11, .int x39), (10, .int x23), (8, .long x8), (0, .ref v0), (1, .ref v1), (2, .ref v2), (3, .int v3), (4, .long v4), (6, .int v6), (7, .ref v7)]) hx hb dX4_countFrom_135 hl (by decide) (by subst e40; rfl) (fun ls hl => ?_)
  exact bX4_countFrom_137 hrec B h k24 kR hR hS (lv_sub hl [3, 4, 5, 6, 7, 8, 2, 1, 0] rfl)
noncomputable def fX4_countFrom_b24 (rec : Nat → Nat → Nat → Int32 → WH → Option (Int64 × WH)) (v0 : Nat) (v1 : Nat) (v2 : Nat) (v3 : Int32) (v4 : Int64) (v6 : Int32) (w : WH) : Option (Sum (Int64 × Int32 × WH) ((Int64 × WH))) :=
  (gR w v1 21 0).bind fun x1 =>
  x1.bind fun a3 =>
  (gR w a3 22 1).bind fun x5 =>
  x5.bind fun a7 =>
  (hIs w a7 2).bind fun _ =>
  b2_ (fJ2_size a7 w) fun x12 w9 =>
  if x12 ≤ v6 then (
    (fX4_countFrom_b208 rec v0 v3 v4 w9).map (fun y => (.inr y))
  ) else (
    (gR w9 v1 21 0).bind fun x14 =>
    x14.bind fun a16 =>
    (gR w9 a16 22 1).bind fun x18 =>
    x18.bind fun a20 =>
    (hIs w9 a20 2).bind fun _ =>
    b2_ (fJ2_get a20 v6 w9) fun x25 w22 =>
    x25.bind fun a26 =>
    (hIs w22 a26 27).bind fun _ =>
    (hIs w22 a26 27).bind fun _ =>
    b2_ (fX8_from a26 w22) fun x32 w29 =>
    if x32 = v3 then (
      (hIs w29 v0 23).bind fun _ =>
      b2_ (fX4_isTight v0 v1 a26 v2 (wK w29 6) w29) fun x37 w34 =>
      if x37 = 0 then (
        fX4_countFrom_b83 rec v0 v1 v2 v3 v4 v6 w34
      ) else (
        fX4_countFrom_b86 rec v0 v1 v2 v3 v4 v6 a26 w34
      )
    ) else (
      fX4_countFrom_b202 rec v0 v1 v2 v3 v4 v6 w29
    )
  )
theorem bX4_countFrom_24 {p : Program} {l : Launch} {e : Env} {s : State} {m : MethodId} {args : Array Value} {below : List Frame} {meth : Method} {c : Code} {H : Heap} {locs : List Loc} {ls : Array Slot} {G : gE} {A : Nat → Prop} {w0 : WH} {d : Nat} {rec : Nat → Nat → Nat → Int32 → WH → Option (Int64 × WH)} (hrec : ∀ (v0 : Nat) (v1 : Nat) (v2 : Nat) (v3 : Int32) (wa : WH) (ra : (Int64 × WH)), rec v0 v1 v2 v3 wa = some ra → hM l G A yX4_countFrom cX4_countFrom 12 (some .long) (16 + d) (361 + d * 80) [.ref v0, .ref v1, .ref v2, .int v3] wa (some (.long ra.1)) ra.2) (B : gB G RX4 cX4_countFrom 12 (some .long) p s m args meth c) {v0 : Nat} {v1 : Nat} {v2 : Nat} {v3 : Int32} {v4 : Int64} {v6 : Int32} {w : WH} {x : Sum (Int64 × Int32 × WH) ((Int64 × WH))} {r : (Int64 × WH)} (h : fX4_countFrom_b24 rec v0 v1 v2 v3 v4 v6 w = some x)  (k24 : ∀ (v4' : Int64) (v6' : Int32) (w' : WH), x = (.inl (v4', v6', w')) → ∀ (H : Heap) (locs : List Loc) (ls : Array Slot), RepH G A w' H → Cu A s w0 w' H locs → lv_has ls 12 [(0, .ref v0), (1, .ref v1), (2, .ref v2), (3, .int v3), (4, .long v4'), (6, .int v6')] → W p l e (hRm (16 + (d + 1)) (361 + (d + 1) * 80) w0) s m args below meth c H locs (wC w0 - wC w') (wS w0 - wS w') (hZ below args s G A w0 (some (.long r.1)) r.2) (F0 m 24 ls [])) (kR : ∀ q, x = (.inr q) → q = r) (hR : RepH G A w H) (hS : Cu A s w0 w H locs) (hl : lv_has ls 12 [(0, .ref v0), (1, .ref v1), (2, .ref v2), (3, .int v3), (4, .long v4), (6, .int v6)]) : W p l e (hRm (16 + (d + 1)) (361 + (d + 1) * 80) w0) s m args below meth c H locs (wC w0 - wC w) (wS w0 - wS w) (hZ below args s G A w0 (some (.long r.1)) r.2) (F0 m 24 ls []) := by
  have B0 := B
  obtain ⟨hx, hb, hml, hown, hts, hr, hlk, hK⟩ := B0
  unfold fX4_countFrom_b24 at h
  refine lv_iload hx hb dX4_countFrom_24 (lv_at hl 5 rfl) ?_
  refine lv_aload_n hx hb dX4_countFrom_26 rfl (lv_at hl 1 rfl) ?_
  replace h := bo_o h
  obtain ⟨x1, e2, h⟩ := h
  refine h_getN (ci := 21) (k := 0) (v := va_rf x1) hx hb hts hown hK hR in_X2 rfl (by decide) (fun _ _ => rfl) (hK.fn 14 rfl) (fun _ h9 => h9) (gR_o e2) dX4_countFrom_27 ?_
  replace h := bo_o h
  obtain ⟨a3, e4, h⟩ := h
  subst e4
  replace h := bo_o h
  obtain ⟨x5, e6, h⟩ := h
  refine h_getN (ci := 22) (k := 1) (v := va_rf x5) hx hb hts hown hK hR in_X3 rfl (by decide) (fun _ _ => rfl) (hK.fn 5 rfl) (fun _ h9 => h9) (gR_o e6) dX4_countFrom_30 ?_
  replace h := bo_o h
  obtain ⟨a7, e8, h⟩ := h
  subst e8
  replace h := bo_o h
  obtain ⟨_, e10, h⟩ := h
  replace h := b2_o h
  obtain ⟨x12, w9, e11, h⟩ := h
  refine h_callF 0  (As := []) (rest := [.int v6]) (v := (some (.int x12))) (w' := w9) (st1 := [.int x12, .int v6]) hx hb hml hown hts hK hR hS (Nat.le_refl _) (Nat.le_refl _) (h_recv (ci := 2) hK hR hS rfl e10) (mJ2_size e11) (lw_app (a := [.methodLink _ _ _, .selects _ _ _, .instanceMethod _, .initialized _]) (lw_4 q1282 q903 q905 q117) (lw_meth q907)) (hK.fw 0 rfl) (by decide +kernel) (by simp only [hRm]; omega) (by simp only [hRm]; omega) rfl hl.1 (Nat.le_of_ble_eq_true rfl) dX4_countFrom_33 rfl rfl (fun H locs hR hS => ?_)
  refine lv_icmp_ge (tgt := 208) hx hb dX4_countFrom_38 (by decide) (fun c13 => ?_) (fun c13 => ?_)
  · replace h := it_o c13 h
    obtain ⟨y, h, ey⟩ := mp_o h
    have ey := kR _ ey.symm
    subst ey
    exact bX4_countFrom_208 hrec B h  hR hS (lv_sub hl [0, 3, 4] rfl)
  · replace h := if_o c13 h
    refine lv_aload_n hx hb dX4_countFrom_41 rfl (lv_at hl 1 rfl) ?_
    replace h := bo_o h
    obtain ⟨x14, e15, h⟩ := h
    refine h_getN (ci := 21) (k := 0) (v := va_rf x14) hx hb hts hown hK hR in_X2 rfl (by decide) (fun _ _ => rfl) (hK.fn 14 rfl) (fun _ h9 => h9) (gR_o e15) dX4_countFrom_42 ?_
    replace h := bo_o h
    obtain ⟨a16, e17, h⟩ := h
    subst e17
    replace h := bo_o h
    obtain ⟨x18, e19, h⟩ := h
    refine h_getN (ci := 22) (k := 1) (v := va_rf x18) hx hb hts hown hK hR in_X3 rfl (by decide) (fun _ _ => rfl) (hK.fn 5 rfl) (fun _ h9 => h9) (gR_o e19) dX4_countFrom_45 ?_
    refine lv_iload hx hb dX4_countFrom_48 (lv_at hl 5 rfl) ?_
    replace h := bo_o h
    obtain ⟨a20, e21, h⟩ := h
    subst e21
    replace h := bo_o h
    obtain ⟨_, e23, h⟩ := h
    replace h := b2_o h
    obtain ⟨x25, w22, e24, h⟩ := h
    refine h_callF 1  (As := [.int v6]) (rest := []) (v := (some (va_rf x25))) (w' := w22) (st1 := [va_rf x25]) hx hb hml hown hts hK hR hS (Nat.le_refl _) (Nat.le_refl _) (h_recv (ci := 2) hK hR hS rfl e23) (mJ2_get e24) (lw_app (a := [.methodLink _ _ _, .selects _ _ _, .instanceMethod _, .initialized _]) (lw_4 q1284 q1208 q1210 q117) (lw_meth q1212)) (hK.fw 1 rfl) (by decide +kernel) (by simp only [hRm]; omega) (by simp only [hRm]; omega) rfl hl.1 (Nat.le_of_ble_eq_true rfl) dX4_countFrom_50 rfl rfl (fun H locs hR hS => ?_)
    replace h := bo_o h
    obtain ⟨a26, e27, h⟩ := h
    subst e27
    replace h := bo_o h
    obtain ⟨_, e28, h⟩ := h
    refine h_castS (ci := 27) hx hb hts hown hK hR hS rfl e28 q1285 dX4_countFrom_55 ?_
    refine lv_astore (lv' := [(7, .ref a26), (0, .ref v0), (1, .ref v1), (2, .ref v2), (3, .int v3), (4, .long v4), (6, .int v6)]) hx hb dX4_countFrom_58 hl (by decide) rfl (fun ls hl => ?_)
    refine lv_aload hx hb dX4_countFrom_60 (lv_at hl 0 rfl) ?_
    replace h := bo_o h
    obtain ⟨_, e30, h⟩ := h
    replace h := b2_o h
    obtain ⟨x32, w29, e31, h⟩ := h
    refine h_callV 0 (ci := 27) (As := []) (rest := []) (v := (some (.int x32))) (w' := w29) (st1 := [.int x32]) hx hb hml hown hts hK hR hS (Nat.le_refl _) (Nat.le_refl _) rfl e30 (mX8_from e31) (lw_V q1366 q1367 q1368 q141 q1369) (by decide +kernel) (by simp only [hRm]; omega) (by simp only [hRm]; omega) rfl hl.1 (Nat.le_of_ble_eq_true rfl) dX4_countFrom_62 rfl rfl (fun H locs hR hS => ?_)
    refine lv_iload_n hx hb dX4_countFrom_65 rfl (lv_at hl 4 rfl) ?_
    refine lv_icmp_ne (tgt := 202) hx hb dX4_countFrom_66 (by decide) (fun c33 => ?_) (fun c33 => ?_)
    · replace h := if_o c33 h
      exact bX4_countFrom_202 hrec B h k24 kR hR hS (lv_sub hl [1, 2, 3, 4, 5, 6] rfl)
    · replace h := it_o c33 h
      refine lv_aload_n hx hb dX4_countFrom_69 rfl (lv_at hl 1 rfl) ?_
      refine lv_aload_n hx hb dX4_countFrom_70 rfl (lv_at hl 2 rfl) ?_
      refine lv_aload hx hb dX4_countFrom_71 (lv_at hl 0 rfl) ?_
      refine lv_aload_n hx hb dX4_countFrom_73 rfl (lv_at hl 3 rfl) ?_
      refine h_getsKN (i := 1) hx hb hown hK hR hS rfl (hK.fn 34 rfl) (fun _ h9 => h9) dX4_countFrom_74 ?_
      replace h := bo_o h
      obtain ⟨_, e35, h⟩ := h
      replace h := b2_o h
      obtain ⟨x37, w34, e36, h⟩ := h
      refine h_callV 4 (ci := 23) (As := [.ref v1, .ref a26, .ref v2, .ref (wK w29 6)]) (rest := []) (v := (some (.int x37))) (w' := w34) (st1 := [.int x37]) hx hb hml hown hts hK hR hS (Nat.le_refl _) (Nat.le_refl _) rfl e35 (mX4_isTight e36) (lw_V q1378 q1380 qs29 q135 q1381) (by decide +kernel) (by simp only [hRm]; omega) (by simp only [hRm]; omega) rfl hl.1 (Nat.le_of_ble_eq_true rfl) dX4_countFrom_77 rfl rfl (fun H locs hR hS => ?_)
      refine lv_if_ne (tgt := 86) hx hb dX4_countFrom_80 (by decide) (fun c38 => ?_) (fun c38 => ?_)
      · replace h := if_o c38 h
        exact bX4_countFrom_86 hrec B h k24 kR hR hS (lv_sub hl [1, 2, 3, 4, 5, 6, 0] rfl)
      · replace h := it_o c38 h
        exact bX4_countFrom_83 hrec B h k24 kR hR hS (lv_sub hl [1, 2, 3, 4, 5, 6] rfl)
noncomputable def fX4_countFrom_l24 (rec : Nat → Nat → Nat → Int32 → WH → Option (Int64 × WH)) (v0 : Nat) (v1 : Nat) (v2 : Nat) (v3 : Int32) (v4 : Int64) (v6 : Int32) (w : WH) : Option ((Int64 × WH)) := whileO (fun q => fX4_countFrom_b24 rec v0 v1 v2 v3 q.1 q.2.1 q.2.2) (v4, v6, w)
theorem lX4_countFrom_24 {p : Program} {l : Launch} {e : Env} {s : State} {m : MethodId} {args : Array Value} {below : List Frame} {meth : Method} {c : Code} {G : gE} {A : Nat → Prop} {w0 : WH} {d : Nat} {rec : Nat → Nat → Nat → Int32 → WH → Option (Int64 × WH)} (hrec : ∀ (v0 : Nat) (v1 : Nat) (v2 : Nat) (v3 : Int32) (wa : WH) (ra : (Int64 × WH)), rec v0 v1 v2 v3 wa = some ra → hM l G A yX4_countFrom cX4_countFrom 12 (some .long) (16 + d) (361 + d * 80) [.ref v0, .ref v1, .ref v2, .int v3] wa (some (.long ra.1)) ra.2) (B : gB G RX4 cX4_countFrom 12 (some .long) p s m args meth c) {v0 : Nat} {v1 : Nat} {v2 : Nat} {v3 : Int32} {r : (Int64 × WH)}   : ∀ (v4 : Int64) (v6 : Int32) (w : WH), fX4_countFrom_l24 rec v0 v1 v2 v3 v4 v6 w = some r → ∀ (H : Heap) (locs : List Loc) (ls : Array Slot), RepH G A w H → Cu A s w0 w H locs → lv_has ls 12 [(0, .ref v0), (1, .ref v1), (2, .ref v2), (3, .int v3), (4, .long v4), (6, .int v6)] → W p l e (hRm (16 + (d + 1)) (361 + (d + 1) * 80) w0) s m args below meth c H locs (wC w0 - wC w) (wS w0 - wS w) (hZ below args s G A w0 (some (.long r.1)) r.2) (F0 m 24 ls []) := by
  intro v4 v6 w h
  refine wh_walk (body := (fun q => fX4_countFrom_b24 rec v0 v1 v2 v3 q.1 q.2.1 q.2.2)) (P := (fun q : (Int64 × Int32 × WH) => ∀ (H : Heap) (locs : List Loc) (ls : Array Slot), RepH G A (q.2.2) H → Cu A s w0 (q.2.2) H locs → lv_has ls 12 [(0, .ref v0), (1, .ref v1), (2, .ref v2), (3, .int v3), (4, .long (q.1)), (6, .int (q.2.1))] → W p l e (hRm (16 + (d + 1)) (361 + (d + 1) * 80) w0) s m args below meth c H locs (wC w0 - wC (q.2.2)) (wS w0 - wS (q.2.2)) (hZ below args s G A w0 (some (.long r.1)) r.2) (F0 m 24 ls []))) (r := r) ?_ (v4, v6, w) h
  intro q y hy hL hr H locs ls hR hS hl
  exact bX4_countFrom_24 (r := r) hrec B hy (fun a0 a1 a2 e => hL (a0, a1, a2) e) (fun q e => hr q e) hR hS hl
noncomputable def fX4_countFrom_r (rec : Nat → Nat → Nat → Int32 → WH → Option (Int64 × WH)) (v0 : Nat) (v1 : Nat) (v2 : Nat) (v3 : Int32) (w : WH) : Option ((Int64 × WH)) :=
  (gR w v0 23 1).bind fun x1 =>
  x1.bind fun a3 =>
  (ldJ w a3 v3).bind fun x5 =>
  if lg_cmp x5 0 < 0 then (
    fX4_countFrom_l24 rec v0 v1 v2 v3 0 0 w
  ) else (
    (gR w v0 23 1).bind fun x8 =>
    x8.bind fun a10 =>
    (ldJ w a10 v3).bind fun x12 =>
    some (x12, w)
  )
theorem bX4_countFrom_0 {p : Program} {l : Launch} {e : Env} {s : State} {m : MethodId} {args : Array Value} {below : List Frame} {meth : Method} {c : Code} {H : Heap} {locs : List Loc} {ls : Array Slot} {G : gE} {A : Nat → Prop} {w0 : WH} {d : Nat} {rec : Nat → Nat → Nat → Int32 → WH → Option (Int64 × WH)} (hrec : ∀ (v0 : Nat) (v1 : Nat) (v2 : Nat) (v3 : Int32) (wa : WH) (ra : (Int64 × WH)), rec v0 v1 v2 v3 wa = some ra → hM l G A yX4_countFrom cX4_countFrom 12 (some .long) (16 + d) (361 + d * 80) [.ref v0, .ref v1, .ref v2, .int v3] wa (some (.long ra.1)) ra.2) (B : gB G RX4 cX4_countFrom 12 (some .long) p s m args meth c) {v0 : Nat} {v1 : Nat} {v2 : Nat} {v3 : Int32} {w : WH} {r : (Int64 × WH)} (h : fX4_countFrom_r rec v0 v1 v2 v3 w = some r)   (hR : RepH G A w H) (hS : Cu A s w0 w H locs) (hl : lv_has ls 12 [(0, .ref v0), (1, .ref v1), (2, .ref v2), (3, .int v3)]) : W p l e (hRm (16 + (d + 1)) (361 + (d + 1) * 80) w0) s m args below meth c H locs (wC w0 - wC w) (wS w0 - wS w) (hZ below args s G A w0 (some (.long r.1)) r.2) (F0 m 0 ls []) := by
  have B0 := B
  obtain ⟨hx, hb, hml, hown, hts, hr, hlk, hK⟩ := B0
  unfold fX4_countFrom_r at h
  refine lv_aload_n hx hb dX4_countFrom_0 rfl (lv_at hl 0 rfl) ?_
  replace h := bo_o h
  obtain ⟨x1, e2, h⟩ := h
  refine h_get (ci := 23) (k := 1) (v := va_rf x1) hx hb hts hown hK hR in_X4 rfl (by decide) (fun _ _ => rfl) q619 (fun _ h9 => h9) (gR_o e2) dX4_countFrom_1 ?_
  refine lv_iload_n hx hb dX4_countFrom_4 rfl (lv_at hl 3 rfl) ?_
  replace h := bo_o h
  obtain ⟨a3, e4, h⟩ := h
  subst e4
  replace h := bo_o h
  obtain ⟨x5, e6, h⟩ := h
  refine h_lald hx hb hK hR e6 dX4_countFrom_5 ?_
  refine lv_lconst (v := 0) hx hb dX4_countFrom_6 (by decide) ?_
  refine W.lcmp hx hb dX4_countFrom_7 ?_
  refine lv_if_lt (tgt := 18) hx hb dX4_countFrom_8 (by decide) (fun c7 => ?_) (fun c7 => ?_)
  · replace h := it_o c7 h
    refine lv_lconst (v := 0) hx hb dX4_countFrom_18 (by decide) ?_
    refine lv_lstore (lv' := [(4, .long 0), (0, .ref v0), (1, .ref v1), (2, .ref v2), (3, .int v3)]) hx hb dX4_countFrom_19 hl (by decide) rfl (fun ls hl => ?_)
    refine lv_iconst (v := 0) hx hb dX4_countFrom_21 (by decide) ?_
    refine lv_istore (lv' := [(6, .int 0), (4, .long 0), (0, .ref v0), (1, .ref v1), (2, .ref v2), (3, .int v3)]) hx hb dX4_countFrom_22 hl (by decide) rfl (fun ls hl => ?_)
    exact lX4_countFrom_24 hrec B _ _ _ h H locs ls hR hS (lv_sub hl [2, 3, 4, 5, 1, 0] rfl)
  · replace h := if_o c7 h
    refine lv_aload_n hx hb dX4_countFrom_11 rfl (lv_at hl 0 rfl) ?_
    replace h := bo_o h
    obtain ⟨x8, e9, h⟩ := h
    refine h_get (ci := 23) (k := 1) (v := va_rf x8) hx hb hts hown hK hR in_X4 rfl (by decide) (fun _ _ => rfl) q619 (fun _ h9 => h9) (gR_o e9) dX4_countFrom_12 ?_
    refine lv_iload_n hx hb dX4_countFrom_15 rfl (lv_at hl 3 rfl) ?_
    replace h := bo_o h
    obtain ⟨a10, e11, h⟩ := h
    subst e11
    replace h := bo_o h
    obtain ⟨x12, e13, h⟩ := h
    refine h_lald hx hb hK hR e13 dX4_countFrom_16 ?_
    have eR := Option.some.inj h
    subst eR
    exact h_lfin hx hb hr hlk hR hS dX4_countFrom_17
noncomputable def fX4_countFrom : Nat → Nat → Nat → Nat → Int32 → WH → Option (Int64 × WH)
  | 0, _, _, _, _, _ => none
  | d + 1, v0, v1, v2, v3, w => fX4_countFrom_r (fX4_countFrom d) v0 v1 v2 v3 w
theorem mX4_countFrom {l : Launch} {G : gE} {A : Nat → Prop} {d : Nat} : ∀ {v0 : Nat} {v1 : Nat} {v2 : Nat} {v3 : Int32} {w : WH} {r : (Int64 × WH)}, fX4_countFrom d v0 v1 v2 v3 w = some r → hM l G A yX4_countFrom cX4_countFrom 12 (some .long) (16 + d) (361 + d * 80) [.ref v0, .ref v1, .ref v2, .int v3] w (some (.long r.1)) r.2 := by
  induction d with
  | zero => intro v0 v1 v2 v3 w r h; exact nomatch h
  | succ d ih =>
    intro v0 v1 v2 v3 w r h
    exact h_of (by decide +kernel) (Nat.le_of_ble_eq_true rfl) (fun p e s m args below meth c ls B hnm hR hS hl => bX4_countFrom_0 (fun v0 v1 v2 v3 wa ra e => ih e) B h hR hS hl)
noncomputable def fX4_count_b46 (v0 : Nat) (v1 : Nat) (v2 : Nat) (w : WH) : Option ((Int64 × WH)) :=
  (gR w v0 23 1).bind fun x1 =>
  (hIs w v2 28).bind fun _ =>
  b2_ (fX9_to v2 w) fun x6 w3 =>
  x1.bind fun a7 =>
  (stJ w3 a7 x6 1).bind fun w9 =>
  (gR w9 v0 23 3).bind fun x11 =>
  (hIs w9 v2 28).bind fun _ =>
  b2_ (fX9_to v2 w9) fun x16 w13 =>
  x11.bind fun a17 =>
  (stI w13 a17 0 x16 0).bind fun w19 =>
  (gR w19 v0 23 4).bind fun x21 =>
  (hIs w19 v2 28).bind fun _ =>
  b2_ (fX9_to v2 w19) fun x26 w23 =>
  x21.bind fun a27 =>
  (stI w23 a27 0 x26 0).bind fun w29 =>
  (hIs w29 v2 28).bind fun _ =>
  b2_ (fX9_from v2 w29) fun x34 w31 =>
  (hIs w31 v0 23).bind fun _ =>
  b2_ (fX4_countFrom 14 v0 v1 v2 x34 w31) fun x38 w35 =>
  some (x38, w35)
theorem bX4_count_46 {p : Program} {l : Launch} {e : Env} {s : State} {m : MethodId} {args : Array Value} {below : List Frame} {meth : Method} {c : Code} {H : Heap} {locs : List Loc} {ls : Array Slot} {G : gE} {A : Nat → Prop} {w0 : WH} (B : gB G RX4 cX4_count 4 (some .long) p s m args meth c) {v0 : Nat} {v1 : Nat} {v2 : Nat} {w : WH} {r : (Int64 × WH)} (h : fX4_count_b46 v0 v1 v2 w = some r)   (hR : RepH G A w H) (hS : Cu A s w0 w H locs) (hl : lv_has ls 4 [(0, .ref v0), (1, .ref v1), (2, .ref v2)]) : W p l e (hRm 31 1512 w0) s m args below meth c H locs (wC w0 - wC w) (wS w0 - wS w) (hZ below args s G A w0 (some (.long r.1)) r.2) (F0 m 46 ls []) := by
  have B0 := B
  obtain ⟨hx, hb, hml, hown, hts, hr, hlk, hK⟩ := B0
  unfold fX4_count_b46 at h
  refine lv_aload_n hx hb dX4_count_46 rfl (lv_at hl 0 rfl) ?_
  replace h := bo_o h
  obtain ⟨x1, e2, h⟩ := h
  refine h_get (ci := 23) (k := 1) (v := va_rf x1) hx hb hts hown hK hR in_X4 rfl (by decide) (fun _ _ => rfl) q619 (fun _ h9 => h9) (gR_o e2) dX4_count_47 ?_
  refine lv_aload_n hx hb dX4_count_50 rfl (lv_at hl 2 rfl) ?_
  replace h := bo_o h
  obtain ⟨_, e4, h⟩ := h
  replace h := b2_o h
  obtain ⟨x6, w3, e5, h⟩ := h
  refine h_callV 0 (ci := 28) (As := []) (rest := [va_rf x1]) (v := (some (.int x6))) (w' := w3) (st1 := [.int x6, va_rf x1]) hx hb hml hown hts hK hR hS (Nat.le_refl _) (Nat.le_refl _) rfl e4 (mX9_to e5) (lw_V q1277 q1278 q1279 q143 q1280) (by decide +kernel) (Nat.le_of_ble_eq_true rfl) (Nat.le_of_ble_eq_true rfl) rfl hl.1 (cat_le (Nat.le_of_ble_eq_true rfl)) dX4_count_51 rfl rfl (fun H locs hR hS => ?_)
  refine lv_lconst (v := 1) hx hb dX4_count_54 (by decide) ?_
  replace h := bo_o h
  obtain ⟨a7, e8, h⟩ := h
  subst e8
  replace h := bo_o h
  obtain ⟨w9, e10, h⟩ := h
  refine h_last hx hb hK hR hS e10 dX4_count_55 (fun H locs hR hS => ?_)
  refine lv_aload_n hx hb dX4_count_56 rfl (lv_at hl 0 rfl) ?_
  replace h := bo_o h
  obtain ⟨x11, e12, h⟩ := h
  refine h_get (ci := 23) (k := 3) (v := va_rf x11) hx hb hts hown hK hR in_X4 rfl (by decide) (fun _ _ => rfl) q622 (fun _ h9 => h9) (gR_o e12) dX4_count_57 ?_
  refine lv_aload_n hx hb dX4_count_60 rfl (lv_at hl 2 rfl) ?_
  replace h := bo_o h
  obtain ⟨_, e14, h⟩ := h
  replace h := b2_o h
  obtain ⟨x16, w13, e15, h⟩ := h
  refine h_callV 0 (ci := 28) (As := []) (rest := [va_rf x11]) (v := (some (.int x16))) (w' := w13) (st1 := [.int x16, va_rf x11]) hx hb hml hown hts hK hR hS (Nat.le_refl _) (Nat.le_refl _) rfl e14 (mX9_to e15) (lw_V q1277 q1278 q1279 q143 q1280) (by decide +kernel) (Nat.le_of_ble_eq_true rfl) (Nat.le_of_ble_eq_true rfl) rfl hl.1 (cat_le (Nat.le_of_ble_eq_true rfl)) dX4_count_61 rfl rfl (fun H locs hR hS => ?_)
  refine lv_iconst (v := 0) hx hb dX4_count_64 (by decide) ?_
  replace h := bo_o h
  obtain ⟨a17, e18, h⟩ := h
  subst e18
  replace h := bo_o h
  obtain ⟨w19, e20, h⟩ := h
  refine h_iast hx hb hK hR hS e20 dX4_count_65 (fun H locs hR hS => ?_)
  refine lv_aload_n hx hb dX4_count_66 rfl (lv_at hl 0 rfl) ?_
  replace h := bo_o h
  obtain ⟨x21, e22, h⟩ := h
  refine h_get (ci := 23) (k := 4) (v := va_rf x21) hx hb hts hown hK hR in_X4 rfl (by decide) (fun _ _ => rfl) q623 (fun _ h9 => h9) (gR_o e22) dX4_count_67 ?_
  refine lv_aload_n hx hb dX4_count_70 rfl (lv_at hl 2 rfl) ?_
  replace h := bo_o h
  obtain ⟨_, e24, h⟩ := h
  replace h := b2_o h
  obtain ⟨x26, w23, e25, h⟩ := h
  refine h_callV 0 (ci := 28) (As := []) (rest := [va_rf x21]) (v := (some (.int x26))) (w' := w23) (st1 := [.int x26, va_rf x21]) hx hb hml hown hts hK hR hS (Nat.le_refl _) (Nat.le_refl _) rfl e24 (mX9_to e25) (lw_V q1277 q1278 q1279 q143 q1280) (by decide +kernel) (Nat.le_of_ble_eq_true rfl) (Nat.le_of_ble_eq_true rfl) rfl hl.1 (cat_le (Nat.le_of_ble_eq_true rfl)) dX4_count_71 rfl rfl (fun H locs hR hS => ?_)
  refine lv_iconst (v := 0) hx hb dX4_count_74 (by decide) ?_
  replace h := bo_o h
  obtain ⟨a27, e28, h⟩ := h
  subst e28
  replace h := bo_o h
  obtain ⟨w29, e30, h⟩ := h
  refine h_iast hx hb hK hR hS e30 dX4_count_75 (fun H locs hR hS => ?_)
  refine lv_aload_n hx hb dX4_count_76 rfl (lv_at hl 0 rfl) ?_
  refine lv_aload_n hx hb dX4_count_77 rfl (lv_at hl 1 rfl) ?_
  refine lv_aload_n hx hb dX4_count_78 rfl (lv_at hl 2 rfl) ?_
  refine lv_aload_n hx hb dX4_count_79 rfl (lv_at hl 2 rfl) ?_
  replace h := bo_o h
  obtain ⟨_, e32, h⟩ := h
  replace h := b2_o h
  obtain ⟨x34, w31, e33, h⟩ := h
  refine h_callV 0 (ci := 28) (As := []) (rest := [.ref v2, .ref v1, .ref v0]) (v := (some (.int x34))) (w' := w31) (st1 := [.int x34, .ref v2, .ref v1, .ref v0]) hx hb hml hown hts hK hR hS (Nat.le_refl _) (Nat.le_refl _) rfl e32 (mX9_from e33) (lw_V q1370 q1371 q1372 q143 q1373) (by decide +kernel) (Nat.le_of_ble_eq_true rfl) (Nat.le_of_ble_eq_true rfl) rfl hl.1 (Nat.le_of_ble_eq_true rfl) dX4_count_80 rfl rfl (fun H locs hR hS => ?_)
  replace h := bo_o h
  obtain ⟨_, e36, h⟩ := h
  replace h := b2_o h
  obtain ⟨x38, w35, e37, h⟩ := h
  refine h_callV 3 (ci := 23) (As := [.ref v1, .ref v2, .int x34]) (rest := []) (v := (some (.long x38))) (w' := w35) (st1 := [.long x38]) hx hb hml hown hts hK hR hS (Nat.le_refl _) (Nat.le_refl _) rfl e36 (mX4_countFrom (d := 14) e37) (lw_V q2146 q2148 qs52 q135 q2149) (by decide +kernel) (Nat.le_of_ble_eq_true rfl) (Nat.le_of_ble_eq_true rfl) rfl hl.1 (Nat.le_of_ble_eq_true rfl) dX4_count_83 rfl rfl (fun H locs hR hS => ?_)
  have eR := Option.some.inj h
  subst eR
  exact h_lfin hx hb hr hlk hR hS dX4_count_86
noncomputable def fX4_count_b20 (v0 : Nat) (v1 : Nat) (v2 : Nat) (v3 : Int32) (w : WH) : Option (Sum (Int32 × WH) ((Int64 × WH))) :=
  (gR w v1 21 0).bind fun x1 =>
  x1.bind fun a3 =>
  (gI w a3 22 0).bind fun x5 =>
  if x5 ≤ v3 then (
    (fX4_count_b46 v0 v1 v2 w).map (fun y => (.inr y))
  ) else (
    (gR w v0 23 1).bind fun x8 =>
    x8.bind fun a10 =>
    (stJ w a10 v3 (-1)).bind fun w12 =>
    some (.inl (v3 + 1, w12))
  )
theorem bX4_count_20 {p : Program} {l : Launch} {e : Env} {s : State} {m : MethodId} {args : Array Value} {below : List Frame} {meth : Method} {c : Code} {H : Heap} {locs : List Loc} {ls : Array Slot} {G : gE} {A : Nat → Prop} {w0 : WH} (B : gB G RX4 cX4_count 4 (some .long) p s m args meth c) {v0 : Nat} {v1 : Nat} {v2 : Nat} {v3 : Int32} {w : WH} {x : Sum (Int32 × WH) ((Int64 × WH))} {r : (Int64 × WH)} (h : fX4_count_b20 v0 v1 v2 v3 w = some x)  (k20 : ∀ (v3' : Int32) (w' : WH), x = (.inl (v3', w')) → ∀ (H : Heap) (locs : List Loc) (ls : Array Slot), RepH G A w' H → Cu A s w0 w' H locs → lv_has ls 4 [(0, .ref v0), (1, .ref v1), (2, .ref v2), (3, .int v3')] → W p l e (hRm 31 1512 w0) s m args below meth c H locs (wC w0 - wC w') (wS w0 - wS w') (hZ below args s G A w0 (some (.long r.1)) r.2) (F0 m 20 ls [])) (kR : ∀ q, x = (.inr q) → q = r) (hR : RepH G A w H) (hS : Cu A s w0 w H locs) (hl : lv_has ls 4 [(0, .ref v0), (1, .ref v1), (2, .ref v2), (3, .int v3)]) : W p l e (hRm 31 1512 w0) s m args below meth c H locs (wC w0 - wC w) (wS w0 - wS w) (hZ below args s G A w0 (some (.long r.1)) r.2) (F0 m 20 ls []) := by
  have B0 := B
  obtain ⟨hx, hb, hml, hown, hts, hr, hlk, hK⟩ := B0
  unfold fX4_count_b20 at h
  refine lv_iload_n hx hb dX4_count_20 rfl (lv_at hl 3 rfl) ?_
  refine lv_aload_n hx hb dX4_count_21 rfl (lv_at hl 1 rfl) ?_
  replace h := bo_o h
  obtain ⟨x1, e2, h⟩ := h
  refine h_getN (ci := 21) (k := 0) (v := va_rf x1) hx hb hts hown hK hR in_X2 rfl (by decide) (fun _ _ => rfl) (hK.fn 14 rfl) (fun _ h9 => h9) (gR_o e2) dX4_count_22 ?_
  replace h := bo_o h
  obtain ⟨a3, e4, h⟩ := h
  subst e4
  replace h := bo_o h
  obtain ⟨x5, e6, h⟩ := h
  refine h_getN (ci := 22) (k := 0) (v := .int x5) hx hb hts hown hK hR in_X3 rfl (by decide) (fun _ _ => rfl) (hK.fn 1 rfl) (fun _ h9 => h9) (gI_o e6) dX4_count_25 ?_
  refine lv_icmp_ge (tgt := 46) hx hb dX4_count_28 (by decide) (fun c7 => ?_) (fun c7 => ?_)
  · replace h := it_o c7 h
    obtain ⟨y, h, ey⟩ := mp_o h
    have ey := kR _ ey.symm
    subst ey
    exact bX4_count_46 B h  hR hS (lv_sub hl [0, 1, 2] rfl)
  · replace h := if_o c7 h
    refine lv_aload_n hx hb dX4_count_31 rfl (lv_at hl 0 rfl) ?_
    replace h := bo_o h
    obtain ⟨x8, e9, h⟩ := h
    refine h_get (ci := 23) (k := 1) (v := va_rf x8) hx hb hts hown hK hR in_X4 rfl (by decide) (fun _ _ => rfl) q619 (fun _ h9 => h9) (gR_o e9) dX4_count_32 ?_
    refine lv_iload_n hx hb dX4_count_35 rfl (lv_at hl 3 rfl) ?_
    refine lv_ldc2 (v := (-1)) hx hb hown (hts _ q2145) dX4_count_36 ?_
    replace h := bo_o h
    obtain ⟨a10, e11, h⟩ := h
    subst e11
    replace h := bo_o h
    obtain ⟨w12, e13, h⟩ := h
    refine h_last hx hb hK hR hS e13 dX4_count_39 (fun H locs hR hS => ?_)
    refine lv_iinc (v := v3 + 1) (lv' := [(3, .int (v3 + 1)), (0, .ref v0), (1, .ref v1), (2, .ref v2)]) hx hb dX4_count_40 hl (k := 3) rfl rfl (by decide) rfl (fun ls hl => ?_)
    refine lv_goto (tgt := 20) hx hb dX4_count_43 (by decide) ?_
    exact k20 _ _ (Option.some.inj h).symm H locs ls hR hS (lv_sub hl [1, 2, 3, 0] rfl)
noncomputable def fX4_count_l20 (v0 : Nat) (v1 : Nat) (v2 : Nat) (v3 : Int32) (w : WH) : Option ((Int64 × WH)) := whileO (fun q => fX4_count_b20 v0 v1 v2 q.1 q.2) (v3, w)
theorem lX4_count_20 {p : Program} {l : Launch} {e : Env} {s : State} {m : MethodId} {args : Array Value} {below : List Frame} {meth : Method} {c : Code} {G : gE} {A : Nat → Prop} {w0 : WH} (B : gB G RX4 cX4_count 4 (some .long) p s m args meth c) {v0 : Nat} {v1 : Nat} {v2 : Nat} {r : (Int64 × WH)}   : ∀ (v3 : Int32) (w : WH), fX4_count_l20 v0 v1 v2 v3 w = some r → ∀ (H : Heap) (locs : List Loc) (ls : Array Slot), RepH G A w H → Cu A s w0 w H locs → lv_has ls 4 [(0, .ref v0), (1, .ref v1), (2, .ref v2), (3, .int v3)] → W p l e (hRm 31 1512 w0) s m args below meth c H locs (wC w0 - wC w) (wS w0 - wS w) (hZ below args s G A w0 (some (.long r.1)) r.2) (F0 m 20 ls []) := by
  intro v3 w h
  refine wh_walk (body := (fun q => fX4_count_b20 v0 v1 v2 q.1 q.2)) (P := (fun q : (Int32 × WH) => ∀ (H : Heap) (locs : List Loc) (ls : Array Slot), RepH G A (q.2) H → Cu A s w0 (q.2) H locs → lv_has ls 4 [(0, .ref v0), (1, .ref v1), (2, .ref v2), (3, .int (q.1))] → W p l e (hRm 31 1512 w0) s m args below meth c H locs (wC w0 - wC (q.2)) (wS w0 - wS (q.2)) (hZ below args s G A w0 (some (.long r.1)) r.2) (F0 m 20 ls []))) (r := r) ?_ (v3, w) h
  intro q y hy hL hr H locs ls hR hS hl
  exact bX4_count_20 (r := r) B hy (fun a0 a1 e => hL (a0, a1) e) (fun q e => hr q e) hR hS hl
noncomputable def fX4_count (v0 : Nat) (v1 : Nat) (v2 : Nat) (w : WH) : Option ((Int64 × WH)) :=
  (hIs w v0 23).bind fun _ =>
  b2_ (fX4_measure v0 v1 v2 (wK w 6) w) fun x4 w1 =>
  if lg_cmp x4 2305843009213693951 = 0 then (
    some (0, w1)
  ) else (
    fX4_count_l20 v0 v1 v2 0 w1
  )
theorem bX4_count_0 {p : Program} {l : Launch} {e : Env} {s : State} {m : MethodId} {args : Array Value} {below : List Frame} {meth : Method} {c : Code} {H : Heap} {locs : List Loc} {ls : Array Slot} {G : gE} {A : Nat → Prop} {w0 : WH} (B : gB G RX4 cX4_count 4 (some .long) p s m args meth c) {v0 : Nat} {v1 : Nat} {v2 : Nat} {w : WH} {r : (Int64 × WH)} (h : fX4_count v0 v1 v2 w = some r)   (hR : RepH G A w H) (hS : Cu A s w0 w H locs) (hl : lv_has ls 4 [(0, .ref v0), (1, .ref v1), (2, .ref v2)]) : W p l e (hRm 31 1512 w0) s m args below meth c H locs (wC w0 - wC w) (wS w0 - wS w) (hZ below args s G A w0 (some (.long r.1)) r.2) (F0 m 0 ls []) := by
  have B0 := B
  obtain ⟨hx, hb, hml, hown, hts, hr, hlk, hK⟩ := B0
  unfold fX4_count at h
  refine lv_aload_n hx hb dX4_count_0 rfl (lv_at hl 0 rfl) ?_
  refine lv_aload_n hx hb dX4_count_1 rfl (lv_at hl 1 rfl) ?_
  refine lv_aload_n hx hb dX4_count_2 rfl (lv_at hl 2 rfl) ?_
  refine h_getsKN (i := 1) hx hb hown hK hR hS rfl (hK.fn 34 rfl) (fun _ h9 => h9) dX4_count_3 ?_
  replace h := bo_o h
  obtain ⟨_, e2, h⟩ := h
  replace h := b2_o h
  obtain ⟨x4, w1, e3, h⟩ := h
  refine h_callV 3 (ci := 23) (As := [.ref v1, .ref v2, .ref (wK w 6)]) (rest := []) (v := (some (.long x4))) (w' := w1) (st1 := [.long x4]) hx hb hml hown hts hK hR hS (Nat.le_refl _) (Nat.le_refl _) rfl e2 (mX4_measure e3) (lw_V q1272 q1273 q1274 q135 q1275) (by decide +kernel) (Nat.le_of_ble_eq_true rfl) (Nat.le_of_ble_eq_true rfl) rfl hl.1 (Nat.le_of_ble_eq_true rfl) dX4_count_6 rfl rfl (fun H locs hR hS => ?_)
  refine lv_ldc2 (v := 2305843009213693951) hx hb hown (hts _ q1276) dX4_count_9 ?_
  refine W.lcmp hx hb dX4_count_12 ?_
  refine lv_if_ne (tgt := 18) hx hb dX4_count_13 (by decide) (fun c5 => ?_) (fun c5 => ?_)
  · replace h := if_o c5 h
    refine lv_iconst (v := 0) hx hb dX4_count_18 (by decide) ?_
    refine lv_istore_n (lv' := [(3, .int 0), (0, .ref v0), (1, .ref v1), (2, .ref v2)]) hx hb dX4_count_19 rfl hl (by decide) rfl (fun ls hl => ?_)
    exact lX4_count_20 B _ _ h H locs ls hR hS (lv_sub hl [1, 2, 3, 0] rfl)
  · replace h := it_o c5 h
    refine lv_lconst (v := 0) hx hb dX4_count_16 (by decide) ?_
    have eR := Option.some.inj h
    subst eR
    exact h_lfin hx hb hr hlk hR hS dX4_count_17
theorem mX4_count {l : Launch} {G : gE} {A : Nat → Prop} {v0 : Nat} {v1 : Nat} {v2 : Nat} {w : WH} {r : (Int64 × WH)} (h : fX4_count v0 v1 v2 w = some r) : hM l G A yX4_count cX4_count 4 (some .long) 31 1512 [.ref v0, .ref v1, .ref v2] w (some (.long r.1)) r.2 :=
  h_of (by decide +kernel) (Nat.le_of_ble_eq_true rfl) (fun p e s m args below meth c ls B hnm hR hS hl => bX4_count_0 B h hR hS hl)
noncomputable def fX1_ties (v0 : Nat) (v1 : Int32) (w : WH) : Option (((Sum (Int64) (Nat × Nat)) × WH)) :=
  (gR w v0 17 1).bind fun x1 =>
  (gR w v0 17 0).bind fun x3 =>
  (hIs w v0 17).bind fun _ =>
  b2_ (fX1_tripAt v0 v1 w) fun o7 w5 => ex_ o7 (fun x9 =>
    x1.bind fun a11 =>
    x3.bind fun a13 =>
    x9.bind fun a15 =>
    (hIs w5 a11 23).bind fun _ =>
    b2_ (fX4_count a11 a13 a15 w5) fun x20 w17 =>
    some (.inl x20, w17)) (fun q10 =>
    some (.inr q10, w5))
theorem bX1_ties_0 {p : Program} {l : Launch} {e : Env} {s : State} {m : MethodId} {args : Array Value} {below : List Frame} {meth : Method} {c : Code} {H : Heap} {locs : List Loc} {ls : Array Slot} {G : gE} {A : Nat → Prop} {w0 : WH} (B : gB G RX1 cX1_ties 2 (some .long) p s m args meth c) (hT : ∀ x ∈ c.exceptionTable.toList, False) (hl0 : l.stackTraces = false) {v0 : Nat} {v1 : Int32} {w : WH} {r : ((Sum (Int64) (Nat × Nat)) × WH)} (h : fX1_ties v0 v1 w = some r)   (hR : RepH G A w H) (hS : Cu A s w0 w H locs) (hl : lv_has ls 2 [(0, .ref v0), (1, .int v1)]) : W p l e (hRm 32 1535 w0) s m args below meth c H locs (wC w0 - wC w) (wS w0 - wS w) (hZX below args s G A w0 (oJ r.1) r.2) (F0 m 0 ls []) := by
  have B0 := B
  obtain ⟨hx, hb, hml, hown, hts, hr, hlk, hK⟩ := B0
  unfold fX1_ties at h
  refine lv_aload_n hx hb dX1_ties_0 rfl (lv_at hl 0 rfl) ?_
  replace h := bo_o h
  obtain ⟨x1, e2, h⟩ := h
  refine h_get (ci := 17) (k := 1) (v := va_rf x1) hx hb hts hown hK hR in_X1 rfl (by decide) (fun _ _ => rfl) q664 (fun _ h9 => h9) (gR_o e2) dX1_ties_1 ?_
  refine lv_aload_n hx hb dX1_ties_4 rfl (lv_at hl 0 rfl) ?_
  replace h := bo_o h
  obtain ⟨x3, e4, h⟩ := h
  refine h_get (ci := 17) (k := 0) (v := va_rf x3) hx hb hts hown hK hR in_X1 rfl (by decide) (fun _ _ => rfl) q662 (fun _ h9 => h9) (gR_o e4) dX1_ties_5 ?_
  refine lv_aload_n hx hb dX1_ties_8 rfl (lv_at hl 0 rfl) ?_
  refine lv_iload_n hx hb dX1_ties_9 rfl (lv_at hl 1 rfl) ?_
  replace h := bo_o h
  obtain ⟨_, e6, h⟩ := h
  replace h := b2_o h
  obtain ⟨o7, w5, e8, h⟩ := h
  refine h_callVX 1 (ci := 17) (As := [.int v1]) (rest := [va_rf x3, va_rf x1]) (o := oR o7) (w' := w5) hx hb hml hown hts hK hR hS (Nat.le_refl _) (Nat.le_refl _) rfl e6 (mX1_tripAt hl0 e8) (lw_V q1975 q1977 qs48 q112 q1978) (by decide +kernel) (Nat.le_of_ble_eq_true rfl) (Nat.le_of_ble_eq_true rfl) rfl hl.1 (cat_le (Nat.le_of_ble_eq_true rfl)) dX1_ties_10 rfl (fun v9 hv9 H locs hR hS => ?_) (fun E9 q9 hq9 H locs hR hS hce => ?_)
  · cases o7 with
    | inr q => cases hv9
    | inl x9 =>
      cases hv9
      replace h := exl_o h
      refine W.eq (g2 := F0 m 13 ls [va_rf x9, va_rf x3, va_rf x1]) rfl ?_
      replace h := bo_o h
      obtain ⟨a11, e12, h⟩ := h
      subst e12
      replace h := bo_o h
      obtain ⟨a13, e14, h⟩ := h
      subst e14
      replace h := bo_o h
      obtain ⟨a15, e16, h⟩ := h
      subst e16
      replace h := bo_o h
      obtain ⟨_, e18, h⟩ := h
      replace h := b2_o h
      obtain ⟨x20, w17, e19, h⟩ := h
      refine h_callV 2 (ci := 23) (As := [.ref a13, .ref a15]) (rest := []) (v := (some (.long x20))) (w' := w17) (st1 := [.long x20]) hx hb hml hown hts hK hR hS (Nat.le_refl _) (Nat.le_refl _) rfl e18 (mX4_count e19) (lw_V q2140 q2141 q2142 q135 q2143) (by decide +kernel) (Nat.le_of_ble_eq_true rfl) (Nat.le_of_ble_eq_true rfl) rfl hl.1 (Nat.le_of_ble_eq_true rfl) dX1_ties_13 rfl rfl (fun H locs hR hS => ?_)
      have eR := Option.some.inj h
      subst eR
      exact h_lfinX hx hb hr hlk hR hS dX1_ties_16
  · cases o7 with
    | inl q => cases hq9
    | inr q10 =>
      cases hq9
      replace h := exr_o h
      have eR := Option.some.inj h
      subst eR
      exact h_out hT hlk hR hS hce
theorem mX1_ties {l : Launch} {G : gE} {A : Nat → Prop} {v0 : Nat} {v1 : Int32} {w : WH} {r : ((Sum (Int64) (Nat × Nat)) × WH)} (hl0 : l.stackTraces = false) (h : fX1_ties v0 v1 w = some r) : hMX l G A yX1_ties cX1_ties 2 (some .long) 32 1535 [.ref v0, .int v1] w (oJ r.1) r.2 :=
  h_ofX (by decide +kernel) (Nat.le_of_ble_eq_true rfl) (fun p e s m args below meth c ls B hnm hT hR hS hl => bX1_ties_0 B hT hl0 h hR hS hl)
noncomputable def fX4_span (v0 : Nat) (v1 : Int32) (w : WH) : Option ((Int32 × WH)) :=
  (gR w v0 23 3).bind fun x1 =>
  x1.bind fun a3 =>
  (ldI w a3 0 v1).bind fun x5 =>
  (gR w v0 23 4).bind fun x7 =>
  x7.bind fun a9 =>
  (ldI w a9 0 v1).bind fun x11 =>
  some (x5 - x11, w)
theorem bX4_span_0 {p : Program} {l : Launch} {e : Env} {s : State} {m : MethodId} {args : Array Value} {below : List Frame} {meth : Method} {c : Code} {H : Heap} {locs : List Loc} {ls : Array Slot} {G : gE} {A : Nat → Prop} {w0 : WH} (B : gB G RX4 cX4_span 2 (some .int) p s m args meth c) {v0 : Nat} {v1 : Int32} {w : WH} {r : (Int32 × WH)} (h : fX4_span v0 v1 w = some r)   (hR : RepH G A w H) (hS : Cu A s w0 w H locs) (hl : lv_has ls 2 [(0, .ref v0), (1, .int v1)]) : W p l e (hRm 0 0 w0) s m args below meth c H locs (wC w0 - wC w) (wS w0 - wS w) (hZ below args s G A w0 (some (.int r.1)) r.2) (F0 m 0 ls []) := by
  have B0 := B
  obtain ⟨hx, hb, hml, hown, hts, hr, hlk, hK⟩ := B0
  unfold fX4_span at h
  refine lv_aload_n hx hb dX4_span_0 rfl (lv_at hl 0 rfl) ?_
  replace h := bo_o h
  obtain ⟨x1, e2, h⟩ := h
  refine h_get (ci := 23) (k := 3) (v := va_rf x1) hx hb hts hown hK hR in_X4 rfl (by decide) (fun _ _ => rfl) q622 (fun _ h9 => h9) (gR_o e2) dX4_span_1 ?_
  refine lv_iload_n hx hb dX4_span_4 rfl (lv_at hl 1 rfl) ?_
  replace h := bo_o h
  obtain ⟨a3, e4, h⟩ := h
  subst e4
  replace h := bo_o h
  obtain ⟨x5, e6, h⟩ := h
  refine h_iald hx hb hK hR e6 dX4_span_5 ?_
  refine lv_aload_n hx hb dX4_span_6 rfl (lv_at hl 0 rfl) ?_
  replace h := bo_o h
  obtain ⟨x7, e8, h⟩ := h
  refine h_get (ci := 23) (k := 4) (v := va_rf x7) hx hb hts hown hK hR in_X4 rfl (by decide) (fun _ _ => rfl) q623 (fun _ h9 => h9) (gR_o e8) dX4_span_7 ?_
  refine lv_iload_n hx hb dX4_span_10 rfl (lv_at hl 1 rfl) ?_
  replace h := bo_o h
  obtain ⟨a9, e10, h⟩ := h
  subst e10
  replace h := bo_o h
  obtain ⟨x11, e12, h⟩ := h
  refine h_iald hx hb hK hR e12 dX4_span_11 ?_
  refine lv_isub hx hb dX4_span_12 ?_
  have eR := Option.some.inj h
  subst eR
  exact h_ifin hx hb hr hlk hR hS dX4_span_13
theorem mX4_span {l : Launch} {G : gE} {A : Nat → Prop} {v0 : Nat} {v1 : Int32} {w : WH} {r : (Int32 × WH)} (h : fX4_span v0 v1 w = some r) : hM l G A yX4_span cX4_span 2 (some .int) 0 0 [.ref v0, .int v1] w (some (.int r.1)) r.2 :=
  h_of (by decide +kernel) (Nat.le_of_ble_eq_true rfl) (fun p e s m args below meth c ls B hnm hR hS hl => bX4_span_0 B h hR hS hl)
noncomputable def fX1_tieSpan (v0 : Nat) (v1 : Int32) (w : WH) : Option (((Sum (Int32) (Nat × Nat)) × WH)) :=
  (hIs w v0 17).bind fun _ =>
  b2_ (fX1_tripAt v0 v1 w) fun o3 w1 => ex_ o3 (fun x5 =>
    (gR w1 v0 17 1).bind fun x7 =>
    (gR w1 v0 17 0).bind fun x9 =>
    x7.bind fun a11 =>
    x9.bind fun a13 =>
    x5.bind fun a15 =>
    (hIs w1 a11 23).bind fun _ =>
    b2_ (fX4_count a11 a13 a15 w1) fun x20 w17 =>
    if lg_cmp x20 0 = 0 then (
      some (.inl (-1), w17)
    ) else (
      (gR w17 v0 17 1).bind fun x22 =>
      (hIs w17 a15 28).bind fun _ =>
      b2_ (fX9_from a15 w17) fun x27 w24 =>
      x22.bind fun a28 =>
      (hIs w24 a28 23).bind fun _ =>
      b2_ (fX4_span a28 x27 w24) fun x33 w30 =>
      some (.inl x33, w30)
    )) (fun q6 =>
    some (.inr q6, w1))
theorem bX1_tieSpan_0 {p : Program} {l : Launch} {e : Env} {s : State} {m : MethodId} {args : Array Value} {below : List Frame} {meth : Method} {c : Code} {H : Heap} {locs : List Loc} {ls : Array Slot} {G : gE} {A : Nat → Prop} {w0 : WH} (B : gB G RX1 cX1_tieSpan 3 (some .int) p s m args meth c) (hT : ∀ x ∈ c.exceptionTable.toList, False) (hl0 : l.stackTraces = false) {v0 : Nat} {v1 : Int32} {w : WH} {r : ((Sum (Int32) (Nat × Nat)) × WH)} (h : fX1_tieSpan v0 v1 w = some r)   (hR : RepH G A w H) (hS : Cu A s w0 w H locs) (hl : lv_has ls 3 [(0, .ref v0), (1, .int v1)]) : W p l e (hRm 32 1535 w0) s m args below meth c H locs (wC w0 - wC w) (wS w0 - wS w) (hZX below args s G A w0 (oI r.1) r.2) (F0 m 0 ls []) := by
  have B0 := B
  obtain ⟨hx, hb, hml, hown, hts, hr, hlk, hK⟩ := B0
  unfold fX1_tieSpan at h
  refine lv_aload_n hx hb dX1_tieSpan_0 rfl (lv_at hl 0 rfl) ?_
  refine lv_iload_n hx hb dX1_tieSpan_1 rfl (lv_at hl 1 rfl) ?_
  replace h := bo_o h
  obtain ⟨_, e2, h⟩ := h
  replace h := b2_o h
  obtain ⟨o3, w1, e4, h⟩ := h
  refine h_callVX 1 (ci := 17) (As := [.int v1]) (rest := []) (o := oR o3) (w' := w1) hx hb hml hown hts hK hR hS (Nat.le_refl _) (Nat.le_refl _) rfl e2 (mX1_tripAt hl0 e4) (lw_V q1975 q1977 qs48 q112 q1978) (by decide +kernel) (Nat.le_of_ble_eq_true rfl) (Nat.le_of_ble_eq_true rfl) rfl hl.1 (Nat.le_of_ble_eq_true rfl) dX1_tieSpan_2 rfl (fun v9 hv9 H locs hR hS => ?_) (fun E9 q9 hq9 H locs hR hS hce => ?_)
  · cases o3 with
    | inr q => cases hv9
    | inl x5 =>
      cases hv9
      replace h := exl_o h
      refine W.eq (g2 := F0 m 5 ls [va_rf x5]) rfl ?_
      refine lv_astore_nq (lv' := [(2, va_rf x5), (0, .ref v0), (1, .int v1)]) hx hb dX1_tieSpan_5 rfl hl (by decide) rfl (fun ls hl => ?_)
      refine lv_aload_n hx hb dX1_tieSpan_6 rfl (lv_at hl 1 rfl) ?_
      replace h := bo_o h
      obtain ⟨x7, e8, h⟩ := h
      refine h_get (ci := 17) (k := 1) (v := va_rf x7) hx hb hts hown hK hR in_X1 rfl (by decide) (fun _ _ => rfl) q664 (fun _ h9 => h9) (gR_o e8) dX1_tieSpan_7 ?_
      refine lv_aload_n hx hb dX1_tieSpan_10 rfl (lv_at hl 1 rfl) ?_
      replace h := bo_o h
      obtain ⟨x9, e10, h⟩ := h
      refine h_get (ci := 17) (k := 0) (v := va_rf x9) hx hb hts hown hK hR in_X1 rfl (by decide) (fun _ _ => rfl) q662 (fun _ h9 => h9) (gR_o e10) dX1_tieSpan_11 ?_
      refine lv_aload_nq hx hb dX1_tieSpan_14 rfl (lv_at hl 0 rfl) ?_
      replace h := bo_o h
      obtain ⟨a11, e12, h⟩ := h
      subst e12
      replace h := bo_o h
      obtain ⟨a13, e14, h⟩ := h
      subst e14
      replace h := bo_o h
      obtain ⟨a15, e16, h⟩ := h
      subst e16
      replace h := bo_o h
      obtain ⟨_, e18, h⟩ := h
      replace h := b2_o h
      obtain ⟨x20, w17, e19, h⟩ := h
      refine h_callV 2 (ci := 23) (As := [.ref a13, .ref a15]) (rest := []) (v := (some (.long x20))) (w' := w17) (st1 := [.long x20]) hx hb hml hown hts hK hR hS (Nat.le_refl _) (Nat.le_refl _) rfl e18 (mX4_count e19) (lw_V q2140 q2141 q2142 q135 q2143) (by decide +kernel) (Nat.le_of_ble_eq_true rfl) (Nat.le_of_ble_eq_true rfl) rfl hl.1 (Nat.le_of_ble_eq_true rfl) dX1_tieSpan_15 rfl rfl (fun H locs hR hS => ?_)
      refine lv_lconst (v := 0) hx hb dX1_tieSpan_18 (by decide) ?_
      refine W.lcmp hx hb dX1_tieSpan_19 ?_
      refine lv_if_ne (tgt := 27) hx hb dX1_tieSpan_20 (by decide) (fun c21 => ?_) (fun c21 => ?_)
      · replace h := if_o c21 h
        refine lv_aload_n hx hb dX1_tieSpan_27 rfl (lv_at hl 1 rfl) ?_
        replace h := bo_o h
        obtain ⟨x22, e23, h⟩ := h
        refine h_get (ci := 17) (k := 1) (v := va_rf x22) hx hb hts hown hK hR in_X1 rfl (by decide) (fun _ _ => rfl) q664 (fun _ h9 => h9) (gR_o e23) dX1_tieSpan_28 ?_
        refine lv_aload_n hx hb dX1_tieSpan_31 rfl (lv_at hl 0 rfl) ?_
        replace h := bo_o h
        obtain ⟨_, e25, h⟩ := h
        replace h := b2_o h
        obtain ⟨x27, w24, e26, h⟩ := h
        refine h_callV 0 (ci := 28) (As := []) (rest := [va_rf x22]) (v := (some (.int x27))) (w' := w24) (st1 := [.int x27, va_rf x22]) hx hb hml hown hts hK hR hS (Nat.le_refl _) (Nat.le_refl _) rfl e25 (mX9_from e26) (lw_V q1983 q1371 q1372 q143 q1373) (by decide +kernel) (Nat.le_of_ble_eq_true rfl) (Nat.le_of_ble_eq_true rfl) rfl hl.1 (cat_le (Nat.le_of_ble_eq_true rfl)) dX1_tieSpan_32 rfl rfl (fun H locs hR hS => ?_)
        replace h := bo_o h
        obtain ⟨a28, e29, h⟩ := h
        subst e29
        replace h := bo_o h
        obtain ⟨_, e31, h⟩ := h
        replace h := b2_o h
        obtain ⟨x33, w30, e32, h⟩ := h
        refine h_callV 1 (ci := 23) (As := [.int x27]) (rest := []) (v := (some (.int x33))) (w' := w30) (st1 := [.int x33]) hx hb hml hown hts hK hR hS (Nat.le_refl _) (Nat.le_refl _) rfl e31 (mX4_span e32) (lw_V q2160 q2161 q2162 q135 q2163) (by decide +kernel) (Nat.le_of_ble_eq_true rfl) (Nat.le_of_ble_eq_true rfl) rfl hl.1 (Nat.le_of_ble_eq_true rfl) dX1_tieSpan_35 rfl rfl (fun H locs hR hS => ?_)
        have eR := Option.some.inj h
        subst eR
        exact h_ifinX hx hb hr hlk hR hS dX1_tieSpan_38
      · replace h := it_o c21 h
        refine lv_iconst (v := (-1)) hx hb dX1_tieSpan_23 (by decide) ?_
        refine lv_goto (tgt := 38) hx hb dX1_tieSpan_24 (by decide) ?_
        have eR := Option.some.inj h
        subst eR
        exact h_ifinX hx hb hr hlk hR hS dX1_tieSpan_38
  · cases o3 with
    | inl q => cases hq9
    | inr q6 =>
      cases hq9
      replace h := exr_o h
      have eR := Option.some.inj h
      subst eR
      exact h_out hT hlk hR hS hce
theorem mX1_tieSpan {l : Launch} {G : gE} {A : Nat → Prop} {v0 : Nat} {v1 : Int32} {w : WH} {r : ((Sum (Int32) (Nat × Nat)) × WH)} (hl0 : l.stackTraces = false) (h : fX1_tieSpan v0 v1 w = some r) : hMX l G A yX1_tieSpan cX1_tieSpan 3 (some .int) 32 1535 [.ref v0, .int v1] w (oI r.1) r.2 :=
  h_ofX (by decide +kernel) (Nat.le_of_ble_eq_true rfl) (fun p e s m args below meth c ls B hnm hT hR hS hl => bX1_tieSpan_0 B hT hl0 h hR hS hl)
