/-! The law's world: the twin's block beside the heap world -/
abbrev LW : Type := TW × WH
def Af (G : gE) (o : Nat) : Nat → Prop := fun q => gFr G q ∧ ¬ tFr o q
def RepL (G : gE) (o : Nat) (W : LW) (H : Heap) : Prop := RepT G o W.1 H ∧ RepH G (Af G o) W.2 H
theorem RepT.kept {G : gE} {o : Nat} {T : TW} {H H1 : Heap} (h : RepT G o T H) (hq : ∀ q : Nat, q < H.size → tFr o q → H1[q]? = H[q]?) : RepT G o T H1 := by
  refine ⟨h.1, h.2.kept fun k q hk => hq _ (h.2 k q hk).lt ?_⟩
  have h1 := tw_pos hk
  exact ⟨by omega, by omega⟩
theorem RepH.weak {G : gE} {A : Nat → Prop} {w : WH} {H : Heap} (h : RepH G A w H) : RepH G (gFr G) w H :=
  ⟨fun _ h => h, fun q hq => h.1 q (h.2.1 q hq), h.2.2.1, h.2.2.2.1, fun a x ha => ⟨h.1 a (h.2.2.2.2 a x ha).1, (h.2.2.2.2 a x ha).2⟩⟩
theorem RepH.keptA {G : gE} {A : Nat → Prop} {w : WH} {H H1 : Heap} (h : RepH G A w H) (z : H1.size = H.size) (hq : ∀ q : Nat, q < H.size → A q → H1[q]? = H[q]?) : RepH G A w H1 :=
  ⟨h.1, h.2.1, h.2.2.1, by rw [z]; exact h.2.2.2.1, fun a x ha => ⟨(h.2.2.2.2 a x ha).1, (h.2.2.2.2 a x ha).2.kept (hq a (h.2.2.2.2 a x ha).2.lt (h.2.2.2.2 a x ha).1)⟩⟩
/-- the twin makes no cell -/
def twQz (G : gE) (o : Nat) (v : Option Value) (T' : TW) : Array Value → State → Outcome → State → Prop := fun a st oc t => twQ G o v T' a st oc t ∧ t.heap.size = st.heap.size
theorem twM.sz {l : Launch} {G : gE} {o : Nat} {y : MethodName} {cc : ByteArray} {nL : Nat} {ret : Option FieldType} {F L : Nat} {av : List Value} {T : TW} {v : Option Value} {T' : TW} (h : twM l G o y cc nL ret F L av T v T') :
    Met l y (ws_ y cc nL ret) (gRm F L) (twPc G o T av) (twQz G o v T') 0 0 (tFr o) := by
  refine MetFree.mono (show MetFree l y (headSpec (ws_ y cc nL ret) (gRm F L)) (twPc G o T av) (fun _ _ _ _ _ => True) (fun a st oc t => twQ G o v T' a st oc t ∧ ∃ L, FrameEnd st oc t L 0 0 ∧ ∀ q ∈ L, tFr o q.base) from h) (fun _ _ h => h) (fun _ _ _ _ _ h => h) ?_
  intro a st oc t _ ⟨q, L, f, hL⟩
  refine ⟨⟨q, ?_⟩, L, f, hL⟩
  have h1 := f.2.2.2.1
  have h2 := f.2.2.2.2.1
  have e : ({ t with vm := st.vm } : State).heap = t.heap := rfl
  rw [e] at h1 h2
  omega
def sld (L : Nat) (xs : Nat → Int32) (i : Int32) : Option Int32 := if i < 0 ∨ L ≤ i.toNatClampNeg then none else some (xs i.toNatClampNeg)
section LWR
variable {p : Program} {l : Launch} {e : Env} {R : Room} {s : State} {m : MethodId} {args : Array Value} {below : List Frame} {meth : Method} {c : Code} {H : Heap} {locs : List Loc} {cells slots : Nat} {Q : State → Prop}
variable {cc : ByteArray} {pc : Nat} {ls : Array Slot} {rest : List Value} {G : gE} {o : Nat} {w : LW} {w0 : WH}
theorem l_on {v : Option Value} {w' : WH} {Qa : State → Outcome → State → Prop} {st0 st1 : List Value} (hr : va_Run p l e R s m args below meth c H locs (wC w0 - wC w.2) (wS w0 - wS w.2) (wC w.2 - wC w') (wS w.2 - wS w') (F0 m pc ls st0) rest Qa (Af G o)) (hq : ∀ st oc t, Qa st oc t → oc = .returned v ∧ RepH G (Af G o) w' t.heap ∧ va_F (Af G o) st t ∧ wC w' ≤ wC w.2 ∧ wS w' ≤ wS w.2) (hR0 : RepL G o w H) (hS : Cu (gFr G) s w0 w.2 H locs) (hst1 : v.toList ++ rest = st1)
    (kk : ∀ (H : Heap) (locs : List Loc), RepL G o (w.1, w') H → Cu (gFr G) s w0 w' H locs → W p l e R s m args below meth c H locs (wC w0 - wC w') (wS w0 - wS w') Q (F0 m (pc + 3) ls st1)) : W p l e R s m args below meth c H locs (wC w0 - wC w.2) (wS w0 - wS w.2) Q (F0 m pc ls st0) := by
  subst hst1
  intro T hT X
  obtain ⟨v', st₀, t, T1, L, h0, X', hL, e1, e2, hq', st⟩ := hr T hT X
  obtain ⟨hv, hR, ⟨hz, hk⟩, c1, c2⟩ := hq _ _ _ hq'
  cases hv
  rw [h0] at hz hk
  have s1 := hS.2.1
  have s2 := hS.2.2
  have k1 : wC w0 - wC w.2 + (wC w.2 - wC w') = wC w0 - wC w' := by omega
  have k2 : wS w0 - wS w.2 + (wS w.2 - wS w') = wS w0 - wS w' := by omega
  rw [k1, k2] at X'
  obtain ⟨t2, a1, b1⟩ := kk T1.heap (locs ++ L) (by rw [e1]; exact ⟨hR0.1.kept fun q h1 h2 => hk q h1 (fun z => z.2 h2), hR⟩)
    ⟨⟨Nat.le_trans hS.1.1 (by rw [e1]; exact hz), fun q h1 h2 => by rw [e1, hk q (Nat.lt_of_lt_of_le h1 hS.1.1) (fun z => h2 z.1)]; exact hS.1.2.1 q h1 h2, fun q hq => by
      rcases List.mem_append.mp hq with h | h
      · exact hS.1.2.2 q h
      · exact (hL q h).1⟩, by omega, by omega⟩ T1 rfl X'
  exact ⟨t2, st t2 a1, b1⟩
theorem l_onT {v : Option Value} {T' : TW} {Qa : State → Outcome → State → Prop} {st0 st1 : List Value} (hr : va_Run p l e R s m args below meth c H locs cells slots 0 0 (F0 m pc ls st0) rest Qa (tFr o)) (hq : ∀ st oc t, Qa st oc t → (oc = .returned v ∧ RepT G o T' t.heap ∧ va_F (tFr o) st t) ∧ t.heap.size = st.heap.size) (hR0 : RepL G o w H) (hS : Cu (gFr G) s w0 w.2 H locs) (hst1 : v.toList ++ rest = st1)
    (kk : ∀ (H : Heap) (locs : List Loc), RepL G o (T', w.2) H → Cu (gFr G) s w0 w.2 H locs → W p l e R s m args below meth c H locs cells slots Q (F0 m (pc + 3) ls st1)) : W p l e R s m args below meth c H locs cells slots Q (F0 m pc ls st0) := by
  subst hst1
  intro T hT X
  obtain ⟨v', st₀, t, T1, L, h0, X', hL, e1, e2, hq', st⟩ := hr T hT X
  obtain ⟨⟨hv, hR, hz, hk⟩, hsz⟩ := hq _ _ _ hq'
  cases hv
  rw [h0] at hz hk hsz
  have hgo : ∀ q, tFr o q → gFr G q := fun q h => Nat.le_trans hR0.1.1 h.1
  obtain ⟨t2, a1, b1⟩ := kk T1.heap (locs ++ L) (by rw [e1]; exact ⟨hR, hR0.2.keptA hsz fun q h1 h2 => hk q h1 h2.2⟩)
    ⟨⟨Nat.le_trans hS.1.1 (by rw [e1]; exact hz), fun q h1 h2 => by rw [e1, hk q (Nat.lt_of_lt_of_le h1 hS.1.1) (fun z => h2 (hgo q z))]; exact hS.1.2.1 q h1 h2, fun q hq => by
      rcases List.mem_append.mp hq with h | h
      · exact hS.1.2.2 q h
      · exact hgo _ (hL q h)⟩, hS.2.1, hS.2.2⟩ T1 rfl X'
  exact ⟨t2, st t2 a1, b1⟩
theorem l_pre (hK : KG G s) (hR : RepL G o w H) (hS : Cu (gFr G) s w0 w.2 H locs) (As : List Value) : ∀ U : State, U.heap = H → s.WarmedH U.vm → hPc G (Af G o) w.2 As As.toArray U :=
  fun U hU hW => ⟨rfl, by rw [hU]; exact hR.2, gl_pre hK hS.1 (fun _ h => h) hU hW⟩
theorem l_preT (hK : KG G s) (hR : RepL G o w H) (hS : Cu (gFr G) s w0 w.2 H locs) (As : List Value) : ∀ U : State, U.heap = H → s.WarmedH U.vm → twPc G o w.1 As As.toArray U :=
  tw_pre hK hR.1 hS.1 (fun _ h => h) As
theorem l_callV (n : Nat) {own C : String} {T : u_T} {N ci b : Nat} {y : MethodName} {bytes : ByteArray} {maxL nL F L index : Nat} {ret : Option FieldType} {As : List Value} {v : Option Value} {w' : WH} {u : Unit} (hx : p.tables.exec = Jvm.exec) (hb : c.code = cc) (hml : c.maxLocals = nL) (hown : s.vm.findClass own = some m.cls) (hts : ∀ w ∈ lw_all, w.before args s = true) (hK : KG G s) (hR : RepL G o w H) (hS : Cu (gFr G) s w0 w.2 H locs) (hRc : wC w0 ≤ R.cells) (hRs : wS w0 ≤ R.slots)
    (hc : gl_cl[ci]? = some (C, T, N)) (hi : hIs w.2 b ci = some u) (hMe : hM l G (Af G o) y bytes maxL ret F L (.ref b :: As) w.2 v w') (hw : GoodIn lw_all (wsV own index C y (ws_ y bytes maxL ret))) (hd : y.cls = C ∧ y.cls ≠ "java/lang/invoke/MethodHandle" ∧ y.cls ≠ "java/lang/invoke/VarHandle" ∧ (parseMethodDescriptor y.desc).map (fun d => d.parameters.length) = some n) (hF : F + 1 ≤ R.frames) (hL : 8 + (maxL + 11) + L ≤ R.locals)
    (hn : As.length = n) (hsz : ls.size = nL) (hroom : (rest.map fun v => v.category).sum ≤ 8) (hdg : decode cc pc = .ok (.invokevirtual index, 3)) {st0 st1 : List Value} (hst : st0 = As.reverse ++ .ref b :: rest) (hst1 : v.toList ++ rest = st1)
    (kk : ∀ (H : Heap) (locs : List Loc), RepL G o (w.1, w') H → Cu (gFr G) s w0 w' H locs → W p l e R s m args below meth c H locs (wC w0 - wC w') (wS w0 - wS w') Q (F0 m (pc + 3) ls st1)) : W p l e R s m args below meth c H locs (wC w0 - wC w.2) (wS w0 - wS w.2) Q (F0 m pc ls st0) := by
  subst hst
  have s1 := hS.2.1
  have s2 := hS.2.2
  exact l_on (hb_runV (As := As) (rest := rest) (rc := wC w.2) (rs := wS w.2) ⟨hx, hb, hml, hown, hts⟩ hMe (cwV n hts hw rfl rfl rfl hd ⟨hF, hL⟩) ⟨hPc_blind, h_recv hK hR.2.weak hS hc hi, l_pre hK hR hS _⟩ rfl hn hsz rfl (lv_room hroom) hdg ⟨by omega, by omega⟩) (fun _ _ _ h => h) hR hS hst1 kk
theorem l_callVW (n : Nat) {own C : String} {T : u_T} {N ci b : Nat} {y : MethodName} {bytes : ByteArray} {maxL nL F L index : Nat} {ret : Option FieldType} {hh : List (Nat × Nat × Nat × Nat)} {As : List Value} {v : Option Value} {w' : WH} {u : Unit} (hx : p.tables.exec = Jvm.exec) (hb : c.code = cc) (hml : c.maxLocals = nL) (hown : s.vm.findClass own = some m.cls) (hts : ∀ w ∈ lw_all, w.before args s = true) (hK : KG G s) (hR : RepL G o w H) (hS : Cu (gFr G) s w0 w.2 H locs) (hRc : wC w0 ≤ R.cells) (hRs : wS w0 ≤ R.slots)
    (hc : gl_cl[ci]? = some (C, T, N)) (hi : hIs w.2 b ci = some u) (hMe : hMW l G (Af G o) y bytes maxL ret hh F L (.ref b :: As) w.2 v w') (hw : GoodIn lw_all (wsV own index C y (wsW_ y bytes maxL ret hh))) (hd : y.cls = C ∧ y.cls ≠ "java/lang/invoke/MethodHandle" ∧ y.cls ≠ "java/lang/invoke/VarHandle" ∧ (parseMethodDescriptor y.desc).map (fun d => d.parameters.length) = some n) (hF : F + 1 ≤ R.frames) (hL : 8 + (maxL + 11) + L ≤ R.locals)
    (hn : As.length = n) (hsz : ls.size = nL) (hroom : (rest.map fun v => v.category).sum ≤ 8) (hdg : decode cc pc = .ok (.invokevirtual index, 3)) {st0 st1 : List Value} (hst : st0 = As.reverse ++ .ref b :: rest) (hst1 : v.toList ++ rest = st1)
    (kk : ∀ (H : Heap) (locs : List Loc), RepL G o (w.1, w') H → Cu (gFr G) s w0 w' H locs → W p l e R s m args below meth c H locs (wC w0 - wC w') (wS w0 - wS w') Q (F0 m (pc + 3) ls st1)) : W p l e R s m args below meth c H locs (wC w0 - wC w.2) (wS w0 - wS w.2) Q (F0 m pc ls st0) := by
  subst hst
  have s1 := hS.2.1
  have s2 := hS.2.2
  exact l_on (hb_runVW (As := As) (rest := rest) (rc := wC w.2) (rs := wS w.2) ⟨hx, hb, hml, hown, hts⟩ hMe (vx_cwVW n hts hw rfl rfl rfl hd ⟨hF, hL⟩) ⟨hPc_blind, h_recv hK hR.2.weak hS hc hi, l_pre hK hR hS _⟩ rfl hn hsz rfl (lv_room hroom) hdg ⟨by omega, by omega⟩) (fun _ _ _ h => h) hR hS hst1 kk
theorem l_callSW (n : Nat) {own : String} {y : MethodName} {bytes : ByteArray} {maxL nL F L index : Nat} {ret : Option FieldType} {hh : List (Nat × Nat × Nat × Nat)} {As : List Value} {v : Option Value} {w' : WH} (hx : p.tables.exec = Jvm.exec) (hb : c.code = cc) (hml : c.maxLocals = nL) (hown : s.vm.findClass own = some m.cls) (hts : ∀ w ∈ lw_all, w.before args s = true) (hK : KG G s) (hR : RepL G o w H) (hS : Cu (gFr G) s w0 w.2 H locs) (hRc : wC w0 ≤ R.cells) (hRs : wS w0 ≤ R.slots)
    (hMe : hMW l G (Af G o) y bytes maxL ret hh F L As w.2 v w') (hw : GoodIn lw_all (va_wsS own index y (wsW_ y bytes maxL ret hh))) (hd : y.cls ≠ "java/lang/invoke/MethodHandle" ∧ y.cls ≠ "java/lang/invoke/VarHandle" ∧ (parseMethodDescriptor y.desc).map (fun d => d.parameters.length) = some n) (hF : F + 1 ≤ R.frames) (hL : 8 + (maxL + 11) + L ≤ R.locals)
    (hn : As.length = n) (hsz : ls.size = nL) (hroom : (rest.map fun v => v.category).sum ≤ 8) (hdg : decode cc pc = .ok (.invokestatic index, 3)) {st0 st1 : List Value} (hst : st0 = As.reverse ++ rest) (hst1 : v.toList ++ rest = st1)
    (kk : ∀ (H : Heap) (locs : List Loc), RepL G o (w.1, w') H → Cu (gFr G) s w0 w' H locs → W p l e R s m args below meth c H locs (wC w0 - wC w') (wS w0 - wS w') Q (F0 m (pc + 3) ls st1)) : W p l e R s m args below meth c H locs (wC w0 - wC w.2) (wS w0 - wS w.2) Q (F0 m pc ls st0) := by
  subst hst
  have s1 := hS.2.1
  have s2 := hS.2.2
  exact l_on (hb_runSW (As := As) (rest := rest) (rc := wC w.2) (rs := wS w.2) ⟨hx, hb, hml, hown, hts⟩ hMe (vx_cwSW n hts hw rfl rfl rfl hd ⟨hF, hL⟩) ⟨hPc_blind, l_pre hK hR hS _⟩ rfl hn hsz rfl (lv_room hroom) hdg ⟨by omega, by omega⟩) (fun _ _ _ h => h) hR hS hst1 kk
theorem l_callT (n : Nat) {own : String} {y : MethodName} {bytes : ByteArray} {maxL nL F L index : Nat} {ret : Option FieldType} {As : List Value} {v : Option Value} {T' : TW} (hx : p.tables.exec = Jvm.exec) (hb : c.code = cc) (hml : c.maxLocals = nL) (hown : s.vm.findClass own = some m.cls) (hts : ∀ w ∈ lw_all, w.before args s = true) (hK : KG G s) (hR : RepL G o w H) (hS : Cu (gFr G) s w0 w.2 H locs) (hRc : wC w0 ≤ R.cells) (hRs : wS w0 ≤ R.slots)
    (hMe : twM l G o y bytes maxL ret F L (.ref o :: As) w.1 v T') (hw : GoodIn lw_all (wsV own index RX5 y (ws_ y bytes maxL ret))) (hd : y.cls = RX5 ∧ y.cls ≠ "java/lang/invoke/MethodHandle" ∧ y.cls ≠ "java/lang/invoke/VarHandle" ∧ (parseMethodDescriptor y.desc).map (fun d => d.parameters.length) = some n) (hF : F + 1 ≤ R.frames) (hL : 8 + (maxL + 11) + L ≤ R.locals)
    (hn : As.length = n) (hsz : ls.size = nL) (hroom : (rest.map fun v => v.category).sum ≤ 8) (hdg : decode cc pc = .ok (.invokevirtual index, 3)) {st0 st1 : List Value} (hst : st0 = As.reverse ++ .ref o :: rest) (hst1 : v.toList ++ rest = st1)
    (kk : ∀ (H : Heap) (locs : List Loc), RepL G o (T', w.2) H → Cu (gFr G) s w0 w.2 H locs → W p l e R s m args below meth c H locs (wC w0 - wC w.2) (wS w0 - wS w.2) Q (F0 m (pc + 3) ls st1)) : W p l e R s m args below meth c H locs (wC w0 - wC w.2) (wS w0 - wS w.2) Q (F0 m pc ls st0) := by
  subst hst
  have s1 := hS.2.1
  have s2 := hS.2.2
  exact l_onT (va_runV (As := As) (rest := rest) ⟨hx, hb, hml, hown, hts⟩ hMe.sz (cwV n hts hw rfl rfl rfl hd ⟨hF, hL⟩) ⟨twPc_blind, tw_recv hK hR.1, l_preT hK hR hS _⟩ rfl hn hsz rfl (lv_room hroom) hdg ⟨by omega, by omega⟩) (fun _ _ _ h => h) hR hS hst1 kk
theorem l_sld (hx : p.tables.exec = Jvm.exec) (hb : c.code = cc) {b L : Nat} {xs : Nat → Int32} (hX : va_X b L xs s s.heap) (hbl : b < s.heap.size) (hbA : ¬ gFr G b) (hS : Cu (gFr G) s w0 w.2 H locs) {i x : Int32} (he : sld L xs i = some x) (hdg : decode cc pc = .ok (.iaload, 1))
    (kk : W p l e R s m args below meth c H locs cells slots Q (F0 m (pc + 1) ls (.int x :: rest))) : W p l e R s m args below meth c H locs cells slots Q (F0 m pc ls (.int i :: .ref b :: rest)) := by
  unfold sld at he
  split at he
  next => cases he
  next h =>
    cases he
    exact va_sld hx hb hX hbl hbA hS.1 h hdg kk
theorem l_slen (hx : p.tables.exec = Jvm.exec) (hb : c.code = cc) {b L : Nat} {xs : Nat → Int32} (hX : va_X b L xs s s.heap) (hbl : b < s.heap.size) (hbA : ¬ gFr G b) (hS : Cu (gFr G) s w0 w.2 H locs) (hdg : decode cc pc = .ok (.arraylength, 1))
    (kk : W p l e R s m args below meth c H locs cells slots Q (F0 m (pc + 1) ls (.int (Int32.ofNat L) :: rest))) : W p l e R s m args below meth c H locs cells slots Q (F0 m pc ls (.ref b :: rest)) :=
  va_slen hx hb hX hbl hbA hS.1 hdg kk
end LWR
/-- what the law's body stands on -/
def lB (G : gE) (b L : Nat) (xs : Nat → Int32) (w0 : WH) (p : Program) (s : State) (m : MethodId) (args : Array Value) (meth : Method) (c : Code) : Prop :=
  gB G "TollLeaderLaw" code 8 (some .boolean) p s m args meth c ∧ va_X b L xs s s.heap ∧ b < s.heap.size ∧ ¬ gFr G b ∧ wC w0 ≤ room_1.cells ∧ wS w0 ≤ room_1.slots
/-- the law's end -/
def lE (l : Launch) (G : gE) (w0 : WH) (p : Program) (e : Env) (s : State) (m : MethodId) (args : Array Value) (below : List Frame) (meth : Method) (c : Code) (Q : Int32 → State → Prop) : Prop :=
  ∀ (pc : Nat) (ls : Array Slot) (H : Heap) (locs : List Loc) (w : WH) (x : Int32), decode code pc = .ok (.ireturn, 1) → Cu (gFr G) s w0 w H locs → W p l e room_1 s m args below meth c H locs (wC w0 - wC w) (wS w0 - wS w) (Q x) (F0 m pc ls [.int x])
