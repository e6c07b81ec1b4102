/-! A call whose named method is overridden; arrays of bytes cast and cloned -/
section HO
variable {p : Program} {l : Launch} {e : Env} {R : Room} {s : State} {m : MethodId} {args : Array Value} {below : List Frame} {meth : Method} {c : Code} {H : Heap} {locs : List Loc} {cells slots : Nat} {Q : State → Prop}
variable {cc : ByteArray} {pc : Nat} {ls : Array Slot} {rest : List Value} {A : Nat → Prop} {G : gE} {w w0 : WH}
theorem h_callO (n : Nat) {own C owner : String} {T : u_T} {N ci b : Nat} {x y : MethodName} {bytes : ByteArray} {maxL nL F L index : Nat} {ret : Option FieldType} {As : List Value} {v : Option Value} {w' : WH} {u : Unit} (hx : p.tables.exec = Jvm.exec) (hb : c.code = cc) (hml : c.maxLocals = nL) (hown : s.vm.findClass own = some m.cls) (hts : ∀ w ∈ lw_all, w.before args s = true) (hK : KG G s) (hR : RepH G A w H) (hS : Cu A s w0 w H locs) (hRc : wC w0 ≤ R.cells) (hRs : wS w0 ≤ R.slots)
    (hc : gl_cl[ci]? = some (C, T, N)) (hi : hIs w b ci = some u) (hMe : hM l G A y bytes maxL ret F L (.ref b :: As) w v w') (hw : GoodIn lw_all (va_wsO own index C owner x y (ws_ y bytes maxL ret))) {b0 : ByteArray} {m0 : Nat} {r0 : Option FieldType} (h0 : Cond.code ⟨owner, x.name, x.desc⟩ b0 m0 r0 ∈ lw_all) (hd : owner ≠ "java/lang/invoke/MethodHandle" ∧ owner ≠ "java/lang/invoke/VarHandle" ∧ (parseMethodDescriptor x.desc).map (fun d => d.parameters.length) = some n) (hF : F + 1 ≤ R.frames) (hL : 8 + (maxL + 11) + L ≤ R.locals)
    (hn : As.length = n) (hsz : ls.size = nL) (hroom : (rest.map fun v => v.category).sum ≤ 8) (hdg : decode cc pc = .ok (.invokevirtual index, 3)) {st0 st1 : List Value} (hst : st0 = As.reverse ++ .ref b :: rest) (hst1 : v.toList ++ rest = st1)
    (kk : ∀ (H : Heap) (locs : List Loc), RepH G A w' H → Cu A s w0 w' H locs → W p l e R s m args below meth c H locs (wC w0 - wC w') (wS w0 - wS w') Q (F0 m (pc + 3) ls st1)) : W p l e R s m args below meth c H locs (wC w0 - wC w) (wS w0 - wS w) Q (F0 m pc ls st0) := by
  subst hst
  have s1 := hS.2.1
  have s2 := hS.2.2
  exact h_on (hb_runU (As := As) (rest := rest) (rc := wC w) (rs := wS w) ⟨hx, hb, hml, hown, hts⟩ hMe (va_cwO n hts hw rfl rfl rfl h0 hd ⟨hF, hL⟩) ⟨hPc_blind, h_recv hK hR hS hc hi, h_pre hK hR hS _⟩ rfl hn hsz rfl (lv_room hroom) hdg ⟨by omega, by omega⟩) (fun _ _ _ h => h) hS hst1 kk
/-- an array of a kind -/
def hTa (w : WH) (a t : Nat) : Option Unit := match w.1 a with
  | some (.inl x) => if x.1 = t then some () else none
  | _ => none
theorem hTa_o {w : WH} {a t : Nat} {u : Unit} (h : hTa w a t = some u) : ∃ x, w.1 a = some (.inl (t, x)) := by
  unfold hTa at h
  split at h
  next x e =>
    split at h
    next ht => exact ⟨x.2, by rw [e, ← ht]⟩
    next => cases h
  next => cases h
theorem h_castB (hx : p.tables.exec = Jvm.exec) (hb : c.code = cc) {own : String} {a index : Nat} {u : Unit} (hts : ∀ w ∈ lw_all, w.before args s = true) (hown : s.vm.findClass own = some m.cls) (hK : KG G s) (hR : RepH G A w H) (hi : hTa w a 2 = some u) (hlink : (Cond.classLink own index "[B") ∈ lw_all) (hdg : decode cc pc = .ok (.checkcast index, 3))
    (kk : W p l e R s m args below meth c H locs cells slots Q (F0 m (pc + 3) ls (.ref a :: rest))) : W p l e R s m args below meth c H locs cells slots Q (F0 m pc ls (.ref a :: rest)) := by
  obtain ⟨x, h⟩ := hTa_o hi
  exact va_castA hx hb hown (hts _ hlink) (hR.one h).1 0 rfl (va_nm_byte (hK.1.2 2 _ rfl).2) hdg kk
/-- a clone of an array of bytes -/
def hCn (w : WH) (a : Nat) : Option (Nat × WH) := match w.1 a with
  | some (.inl (t, n, .inl f)) => if (t = 2 ∧ 1 ≤ wC w ∧ n ≤ wS w) ∧ ∀ i, i < n → fits .byte (.int (f i)) = true then some (wN w, hMk w n (.inl (2, n, .inl f))) else none
  | _ => none
theorem hCn_o {w w' : WH} {a q : Nat} (h : hCn w a = some (q, w')) : ∃ n f, w.1 a = some (.inl (2, n, .inl f)) ∧ (1 ≤ wC w ∧ n ≤ wS w) ∧ (∀ i, i < n → fits .byte (.int (f i)) = true) ∧ q = wN w ∧ w' = hMk w n (.inl (2, n, .inl f)) := by
  unfold hCn at h
  split at h
  next t n f e =>
    split at h
    next hh =>
      cases h
      exact ⟨n, f, by rw [e, hh.1.1], hh.1.2, hh.2, rfl, rfl⟩
    next => cases h
  next => cases h
theorem h_clone (hx : p.tables.exec = Jvm.exec) (hb : c.code = cc) (hml : c.maxLocals = ls.size) {own : String} {a q index : Nat} {w' : WH} (hts : ∀ w ∈ lw_all, w.before args s = true) (hown : s.vm.findClass own = some m.cls) (hK : KG G s) (hR : RepH G A w H) (hS : Cu A s w0 w H locs) (hRc : wC w0 ≤ R.cells) (hRs : wS w0 ≤ R.slots)
    (hlink : (Cond.methodLink own index ⟨"[B", "clone", "()Ljava/lang/Object;"⟩) ∈ lw_all) (hsame : (Cond.sameMethod "[B" "java/lang/Object" "clone" "()Ljava/lang/Object;") ∈ lw_all) (hnat : (Cond.native ⟨"java/lang/Object", "clone", "()Ljava/lang/Object;"⟩) ∈ lw_all) (hinst : (Cond.instanceMethod ⟨"java/lang/Object", "clone", "()Ljava/lang/Object;"⟩) ∈ lw_all)
    (hsel : (Cond.selects "[B" ⟨"[B", "clone", "()Ljava/lang/Object;"⟩ ⟨"java/lang/Object", "clone", "()Ljava/lang/Object;"⟩) ∈ lw_all) (hcl : va_Nw (.castable "[B" "java/lang/Cloneable") s) (hF : 1 ≤ R.frames) (hL : (rest.map fun v => v.category).sum + 14 ≤ R.locals) (he : hCn w a = some (q, w')) (hdg : decode cc pc = .ok (.invokevirtual index, 3))
    (kk : ∀ (H : Heap) (locs : List Loc), RepH G A w' H → Cu A s w0 w' H locs → W p l e R s m args below meth c H locs (wC w0 - wC w') (wS w0 - wS w') Q (F0 m (pc + 3) ls (.ref q :: rest))) : W p l e R s m args below meth c H locs (wC w0 - wC w) (wS w0 - wS w) Q (F0 m pc ls (.ref a :: rest)) := by
  obtain ⟨n, f, ha, ⟨n1, n2⟩, hfit, rfl, rfl⟩ := hCn_o he
  have s1 := hS.2.1
  have s2 := hS.2.2
  have hcell : H[a]? = some (vp_cell (gA G 2) (n, .inl f)) := (hR.one ha).1 0 _ rfl
  have hnm : s.vm.findClass "[B" = some (gA G 2) := va_nm_byte (hK.1.2 2 _ rfl).2
  obtain ⟨c0, t0, f1, f2, f3⟩ := Cond.castable_spec (va_Nw.use (A := args) rfl hcl)
  cases hnm.symm.trans f1
  obtain ⟨-, kS, hkS, compS, hkindS⟩ := (hK.1.2 2 _ rfl).1 0 (fun _ => .null)
  intro T hT X
  obtain ⟨-, kA, hkA, comp, hkind⟩ := State.isArrayOf_alike X.warmed.alike ((hK.1.2 2 _ rfl).1 0 (fun _ => .null))
  have hsz : (vp_cell (gA G 2) (n, .inl f)).slots.size = n := arrV_size _ _ _
  obtain ⟨vm', X', st⟩ := X.cloneArray hx hown (hts _ hlink) (hts _ hsame) (hts _ hnat) (hts _ hinst) (hts _ hsel) (a := a) (cell := vp_cell (gA G 2) (n, .inl f)) (by rw [hT]; exact hcell) (fun k h => by cases h) (fun h => by cases h) hnm f2 f3
    (fun i v hv => by
      have hk' : T.vm.classes[gA G 2]? = some kA := hkA
      have hv2 : fits .byte v = true := by
        have hi : i < n := by
          have := (Array.getElem?_eq_some_iff.mp hv).1
          rw [hsz] at this
          exact this
        have : (vp_cell (gA G 2) (n, .inl f)).slots[i]? = some (.int (f i)) := by show (arrV _ _ _).slots[_]? = _; rw [arrV_read _ _ hi]
        rw [this] at hv
        cases hv
        exact hfit i hi
      have hcl0 : (vp_cell (gA G 2) (n, .inl f)).cls = gA G 2 := rfl
      rw [hcl0]
      simpa [State.fitsSlot, State.slotType?, hk', hkind] using hv2)
    (g := F0 m pc ls (.ref a :: rest)) rfl (by rw [hml]) rfl (by rw [hb]; exact hdg) hF (by show 2 * 0 + _ + 14 ≤ _; omega) (by omega) (by rw [hsz]; omega) (hloader := Vm.clonesLoader_of_array hkS hkindS)
  have hcellE : ({ cls := (vp_cell (gA G 2) (n, .inl f)).cls, slots := (vp_cell (gA G 2) (n, .inl f)).slots } : Cell) = vp_cell (gA G 2) (n, .inl f) := rfl
  rw [hcellE, hsz] at X'
  generalize hH1 : H.push (vp_cell (gA G 2) (n, .inl f)) = H1
  have z1 : H1.size = H.size + 1 := by rw [← hH1, Array.size_push]
  have e1 : H1[H.size]? = some (vp_cell (gA G 2) (n, .inl f)) := by rw [← hH1, Array.getElem?_push_size]
  have o1 : ∀ q : Nat, q < H.size → H1[q]? = H[q]? := fun q hq => by rw [← hH1, Array.getElem?_push, if_neg (Nat.ne_of_lt hq)]
  have hR1 := hR.mk (n := n) (x := .inl (2, n, .inl f)) (H1 := H1) (by rw [z1, hR.2.2.2.1]) (fun q hq => o1 q (by rw [hR.2.2.2.1]; exact hq)) (by
    rw [← hR.2.2.2.1]
    exact e1)
  have hk := kk H1 locs hR1 (hS.mk (hS_new hR hS z1 o1))
  rw [show wC w0 - wC (hMk w n (.inl (2, n, .inl f))) = wC w0 - wC w + 1 by show wC w0 - (wC w - 1) = _; omega, show wS w0 - wS (hMk w n (.inl (2, n, .inl f))) = wS w0 - wS w + n by show wS w0 - (wS w - n) = _; omega, ← hR.2.2.2.1] at hk
  obtain ⟨t, b1, b2⟩ := hk ((T.setVm vm').pushCell (vp_cell (gA G 2) (n, .inl f))) (by rw [← hH1, ← hT]; rfl) X'
  refine ⟨t, st t ?_, b2⟩
  rw [hcellE, hT]
  exact b1
end HO
