/-! Making, calling, ending in the heap world -/
abbrev hRm (F L : Nat) (w : WH) : Room := { frames := F, cells := wC w, slots := wS w, locals := L }
def hQ (G : gE) (A : Nat → Prop) (w : WH) (v : Option Value) (w' : WH) : Array Value → State → Outcome → State → Prop := fun _ st oc t => oc = .returned v ∧ RepH G A w' t.heap ∧ va_F A st t ∧ wC w' ≤ wC w ∧ wS w' ≤ wS w
def hPc (G : gE) (A : Nat → Prop) (w : WH) (av : List Value) : Array Value → State → Prop := va_Pc av (fun U => RepH G A w U.heap ∧ KG G U)
def hM (l : Launch) (G : gE) (A : Nat → Prop) (y : MethodName) (cc : ByteArray) (nL : Nat) (ret : Option FieldType) (F L : Nat) (av : List Value) (w : WH) (v : Option Value) (w' : WH) : Prop :=
  Met l y (ws_ y cc nL ret) (hRm F L w) (hPc G A w av) (hQ G A w v w') (wC w - wC w') (wS w - wS w') A
abbrev hZ (below : List Frame) (args : Array Value) (s : State) (G : gE) (A : Nat → Prop) (w0 : WH) (v : Option Value) (w' : WH) : State → Prop := MQ below (hQ G A w0 v w') args s (wC w0 - wC w') (wS w0 - wS w') A
theorem hPc_blind {G : gE} {A : Nat → Prop} {w : WH} {av : List Value} : FrameBlind (hPc G A w av) := by
  intro a U g mk h
  obtain ⟨h1, h2, h3⟩ := h
  exact ⟨h1, h2, va_K.moved (u := U) (U := U.calling g mk a) (Vm.Alike.refl U.vm) h3.1, RO.same (s := U) (U := U.calling g mk a) rfl h3.2⟩
theorem h_of {l : Launch} {G : gE} {A : Nat → Prop} {y : MethodName} {cc : ByteArray} {nL : Nat} {ret : Option FieldType} {F L : Nat} {av : List Value} {w : WH} {v : Option Value} {w' : WH} (hy : plainName y.cls = true) (hn : (lg_sl av).length ≤ nL)
    (body : ∀ (p : Program) (e : Env) (s : State) (m : MethodId) (args : Array Value) (below : List Frame) (meth : Method) (c : Code) (ls : Array Slot), gB G y.cls cc nL ret p s m args meth c → meth.name = y.name → RepH G A w s.heap → Cu A s w w s.heap [] → lv_has ls nL (lv_args 0 av) → W p l e (hRm F L w) s m args below meth c s.heap [] (wC w - wC w) (wS w - wS w) (hZ below args s G A w v w') (F0 m 0 ls [])) :
    hM l G A y cc nL ret F L av w v w' := by
  refine Met.ofW (cc := cc) (maxL := nL) (ret := ret) hy rfl ?_
  intro p e s m args below meth c s₁ B hml hv
  obtain ⟨rfl, hR, hK⟩ := hv
  have hts := atoms_spec (ws := ws_ y cc nL ret) B.pre
  have hts : ∀ w ∈ lw_all, w.before _ s = true := fun w h => hts w (List.mem_cons_of_mem _ h)
  have hown : s.vm.findClass y.cls = some m.cls := findClass_of_methodNamed B.named
  rw [lg_entry_eq]
  have hb := body p e s m _ below meth c _ ⟨B.exec, B.bytes, hml, hown, hts, B.returns, B.notSynchronized, hK⟩ (name_of_methodNamed B.named B.method).1 hR ⟨va_S.rf, Nat.le_refl _, Nat.le_refl _⟩ (lv_entry av hn)
  rw [Nat.sub_self, Nat.sub_self] at hb
  exact hb
section HC
variable {p : Program} {l : Launch} {e : Env} {R : Room} {s : State} {m : MethodId} {args : Array Value} {below : List Frame} {meth : Method} {c : Code} {H : Heap} {locs : List Loc} {cells slots : Nat} {Q : State → Prop}
variable {cc : ByteArray} {pc : Nat} {ls : Array Slot} {rest : List Value} {A : Nat → Prop} {G : gE} {w w0 : WH}
theorem Cu.mk {n : Nat} {x : hE} {H1 : Heap} (hS : Cu A s w0 w H locs) (h1 : va_S A s.heap H1 locs) : Cu A s w0 (hMk w n x) H1 locs := ⟨h1, Nat.le_trans (Nat.sub_le _ _) hS.2.1, Nat.le_trans (Nat.sub_le _ _) hS.2.2⟩
theorem hS_new {H1 : Heap} (hR : RepH G A w H) (hS : Cu A s w0 w H locs) (z : H1.size = H.size + 1) (oq : ∀ q : Nat, q < H.size → H1[q]? = H[q]?) : va_S A s.heap H1 locs :=
  ⟨Nat.le_trans hS.1.1 (by omega), fun x h1 h2 => (oq x (Nat.lt_of_lt_of_le h1 hS.1.1)).trans (hS.1.2.1 x h1 h2), hS.1.2.2⟩
theorem h_new (hx : p.tables.exec = Jvm.exec) (hb : c.code = cc) {own C : String} {T : u_T} {a N ci index : Nat} {fs : List Value} {w' : WH} (hts : ∀ w ∈ lw_all, w.before args s = true) (hown : s.vm.findClass own = some m.cls) (hK : KG G s) (hR : RepH G A w H) (hS : Cu A s w0 w H locs) (hRc : wC w0 ≤ R.cells) (hRs : wS w0 ≤ R.slots) (hin : ∀ w ∈ u_ws C T N, w ∈ lw_all) (ty0 : Nat → FieldType) (hty : ∀ k, k < N → parseFieldDescriptor (T k).2.2.1 = some (ty0 k)) (hc : gl_cl[ci]? = some (C, T, N)) (hfs : ∀ j, j < N → defaultValue (ty0 j) = vp_V fs j) (hcl : (Cond.classLink own index C) ∈ lw_all) (hinst : (Cond.instantiable C N) ∈ lw_all) (hini : (Cond.initialized C) ∈ lw_all) (he : hNw w N ci fs = some (a, w')) (hdg : decode cc pc = .ok (.new index, 3))
    (kk : ∀ (H : Heap) (locs : List Loc), RepH G A w' H → Cu A s w0 w' H locs → W p l e R s m args below meth c H locs (wC w0 - wC w') (wS w0 - wS w') Q (F0 m (pc + 3) ls (.ref a :: rest))) : W p l e R s m args below meth c H locs (wC w0 - wC w) (wS w0 - wS w) Q (F0 m pc ls rest) := by
  obtain ⟨n1, n2, rfl, rfl⟩ := hNw_o he
  have hKn := hK.1.1 ci _ hc
  have s1 := hS.2.1
  have s2 := hS.2.2
  refine W.newcK hx hb hown (hts _ hcl) (hts _ hinst) (hts _ hini) rfl hdg (by omega) (by omega) hKn.2.1 rfl fun H1 kC hkC e1 z1 o1 => ?_
  have hR1 := hR.mk (n := N) (x := .inr (ci, fs)) (H1 := H1) (by rw [z1, hR.2.2.2.1]) (fun q hq => o1 q (by rw [hR.2.2.2.1]; exact hq)) (by rw [← hR.2.2.2.1]; exact ⟨_, hc, (u_born ty0 hts hin hKn hkC e1 hty).to hfs⟩)
  have hk := kk H1 locs hR1 (hS.mk (hS_new hR hS z1 o1))
  rw [show wC w0 - wC (hMk w N (.inr (ci, fs))) = wC w0 - wC w + 1 by show wC w0 - (wC w - 1) = _; omega, show wS w0 - wS (hMk w N (.inr (ci, fs))) = wS w0 - wS w + N by show wS w0 - (wS w - N) = _; omega, ← hR.2.2.2.1] at hk
  exact hk
theorem gl_ty1 {t : Nat} {ty : FieldType} {cA : ClassId} (hK : KG G s) (ht : (gl_tys G)[t]? = some (gA G t, ty)) (hp : ∀ C, ty ≠ .object C) (hf : s.vm.findClass ("[" ++ ty.toString) = some cA) : cA = gA G t := by
  have h := (hK.1.2 t _ ht).2
  cases ty with
  | object C => exact absurd rfl (hp C)
  | _ =>
    have h : s.vm.findClass _ = some (gA G t) := h
    exact Option.some.inj (hf.symm.trans h)
theorem h_newa (hx : p.tables.exec = Jvm.exec) (hb : c.code = cc) {atype : ArrayType} (t : Nat) {a : Nat} {n : Int32} {w' : WH} (hts : ∀ w ∈ lw_all, w.before args s = true) (hK : KG G s) (hR : RepH G A w H) (hS : Cu A s w0 w H locs) (hRc : wC w0 ≤ R.cells) (hRs : wS w0 ≤ R.slots) (harr : (Cond.arrayClass (newarray.typeOf atype)) ∈ lw_all) (ht : (gl_tys G)[t]? = some (gA G t, newarray.typeOf atype)) (hcb : componentBytes (newarray.typeOf atype) ≤ 8) (hdf : ∀ (cA : ClassId) (N : Nat), vp_cell cA (N, aDf t) = arrV cA N (fun _ => defaultValue (newarray.typeOf atype))) (he : hNa w t n = some (a, w')) (hdg : decode cc pc = .ok (.newarray atype, 2))
    (kk : ∀ (H : Heap) (locs : List Loc), RepH G A w' H → Cu A s w0 w' H locs → W p l e R s m args below meth c H locs (wC w0 - wC w') (wS w0 - wS w') Q (F0 m (pc + 2) ls (.ref a :: rest))) : W p l e R s m args below meth c H locs (wC w0 - wC w) (wS w0 - wS w) Q (F0 m pc ls (.int n :: rest)) := by
  obtain ⟨⟨n0, n3, n1, n2⟩, rfl, rfl⟩ := hNa_o he
  have s1 := hS.2.1
  have s2 := hS.2.2
  generalize hN : n.toNatClampNeg = N at *
  refine va_newaK hx hb (hts _ harr) rfl hdg rfl n0 hN (Nat.le_trans (Nat.mul_le_mul n3 hcb) (by decide)) (by omega) (by omega) rfl fun H1 cA e1 z1 o1 hAr hNm => ?_
  have hcA : cA = gA G t := gl_ty1 hK ht (fun C h => by cases atype <;> cases h) hNm
  subst hcA
  have hR1 := hR.mk (n := N) (x := .inl (t, N, aDf t)) (H1 := H1) (by rw [z1, hR.2.2.2.1]) (fun q hq => o1 q (by rw [hR.2.2.2.1]; exact hq)) (by
    rw [← hR.2.2.2.1]
    show H1[H.size]? = some (vp_cell (gA G t) (N, aDf t))
    rw [hdf]; exact e1)
  have hk := kk H1 locs hR1 (hS.mk (hS_new hR hS z1 o1))
  rw [show wC w0 - wC (hMk w N (.inl (t, N, aDf t))) = wC w0 - wC w + 1 by show wC w0 - (wC w - 1) = _; omega, show wS w0 - wS (hMk w N (.inl (t, N, aDf t))) = wS w0 - wS w + N by show wS w0 - (wS w - N) = _; omega, ← hR.2.2.2.1] at hk
  exact hk
theorem h_newq (hx : p.tables.exec = Jvm.exec) (hb : c.code = cc) {own C : String} (t : Nat) {a index : Nat} {n : Int32} {w' : WH} (hts : ∀ w ∈ lw_all, w.before args s = true) (hown : s.vm.findClass own = some m.cls) (hK : KG G s) (hR : RepH G A w H) (hS : Cu A s w0 w H locs) (hRc : wC w0 ≤ R.cells) (hRs : wS w0 ≤ R.slots) (hcl : (Cond.classLink own index C) ∈ lw_all) (hover : va_AO C s) (ht : (gl_tys G)[t]? = some (gA G t, .object C)) (hdf : aDf t = .inr (.inr (.inr (.inr (fun _ => none))))) (he : hNa w t n = some (a, w')) (hdg : decode cc pc = .ok (.anewarray index, 3))
    (kk : ∀ (H : Heap) (locs : List Loc), RepH G A w' H → Cu A s w0 w' H locs → W p l e R s m args below meth c H locs (wC w0 - wC w') (wS w0 - wS w') Q (F0 m (pc + 3) ls (.ref a :: rest))) : W p l e R s m args below meth c H locs (wC w0 - wC w) (wS w0 - wS w) Q (F0 m pc ls (.int n :: rest)) := by
  obtain ⟨⟨n0, n3, n1, n2⟩, rfl, rfl⟩ := hNa_o he
  have s1 := hS.2.1
  have s2 := hS.2.2
  generalize hN : n.toNatClampNeg = N at *
  refine W.anew hx hb hown (hts _ hcl) (va_AO.use hover) rfl hdg rfl n0 (by omega) (by omega) (by omega) fun cA kA comp f1 f2 f3 f4 => ?_
  rw [hN]
  have hcA : cA = gA G t := by
    obtain ⟨_, _, _, _, _, g4⟩ := (hK.1.2 t _ ht).2
    exact Option.some.inj (f1.symm.trans g4)
  subst hcA
  generalize hH1 : H.push ({ cls := gA G t, slots := Array.replicate N .null, vm := .none } : Cell) = H1
  have z1 : H1.size = H.size + 1 := by rw [← hH1, Array.size_push]
  have e1 : H1[H.size]? = some (arrV (gA G t) N (fun _ => .null)) := by rw [← hH1, Array.getElem?_push_size, ← arrV_new]
  have o1 : ∀ q : Nat, q < H.size → H1[q]? = H[q]? := fun q hq => by rw [← hH1, Array.getElem?_push, if_neg (Nat.ne_of_lt hq)]
  have hR1 := hR.mk (n := N) (x := .inl (t, N, aDf t)) (H1 := H1) (by rw [z1, hR.2.2.2.1]) (fun q hq => o1 q (by rw [hR.2.2.2.1]; exact hq)) (by
    rw [← hR.2.2.2.1, hdf]
    show H1[H.size]? = some (vp_cell (gA G t) (N, .inr (.inr (.inr (.inr (fun _ => none))))))
    rw [vp_cell_q]; exact e1)
  have hk := kk H1 locs hR1 (hS.mk (hS_new hR hS z1 o1))
  rw [show wC w0 - wC (hMk w N (.inl (t, N, aDf t))) = wC w0 - wC w + 1 by show wC w0 - (wC w - 1) = _; omega, show wS w0 - wS (hMk w N (.inl (t, N, aDf t))) = wS w0 - wS w + N by show wS w0 - (wS w - N) = _; omega, ← hR.2.2.2.1] at hk
  exact hk
/-- behind a call -/
theorem h_on {v : Option Value} {w' : WH} {Qa : State → Outcome → State → Prop} {st0 st1 : List Value} (hr : va_Run p l e R s m args below meth c H locs (wC w0 - wC w) (wS w0 - wS w) (wC w - wC w') (wS w - wS w') (F0 m pc ls st0) rest Qa A) (hq : ∀ st oc t, Qa st oc t → oc = .returned v ∧ RepH G A w' t.heap ∧ va_F A st t ∧ wC w' ≤ wC w ∧ wS w' ≤ wS w) (hS : Cu A s w0 w H locs) (hst1 : v.toList ++ rest = st1)
    (kk : ∀ (H : Heap) (locs : List Loc), RepH G A w' H → Cu A s w0 w' H locs → W p l e R s m args below meth c H locs (wC w0 - wC w') (wS w0 - wS w') Q (F0 m (pc + 3) ls st1)) : W p l e R s m args below meth c H locs (wC w0 - wC w) (wS w0 - wS w) Q (F0 m pc ls st0) := by
  subst hst1
  intro T hT X
  obtain ⟨v', st₀, t, T1, L, h0, X', hL, e1, e2, hq', st⟩ := hr T hT X
  obtain ⟨hv, hR, ⟨hz, hk⟩, c1, c2⟩ := hq _ _ _ hq'
  cases hv
  rw [h0] at hz hk
  have s1 := hS.2.1
  have s2 := hS.2.2
  have k1 : wC w0 - wC w + (wC w - wC w') = wC w0 - wC w' := by omega
  have k2 : wS w0 - wS w + (wS w - wS w') = wS w0 - wS w' := by omega
  rw [k1, k2] at X'
  obtain ⟨t2, a1, b1⟩ := kk T1.heap (locs ++ L) (by rw [e1]; exact hR)
    ⟨⟨Nat.le_trans hS.1.1 (by rw [e1]; exact hz), fun q h1 h2 => by rw [e1, hk q (Nat.lt_of_lt_of_le h1 hS.1.1) h2]; exact hS.1.2.1 q h1 h2, fun q hq => by
      rcases List.mem_append.mp hq with h | h
      · exact hS.1.2.2 q h
      · exact hL q h⟩, by omega, by omega⟩ T1 rfl X'
  exact ⟨t2, st t2 a1, b1⟩
theorem h_on5 {v : Option Value} {w' : WH} {Qa : State → Outcome → State → Prop} {st0 st1 : List Value} (hr : va_Run5 p l e R s m args below meth c H locs (wC w0 - wC w) (wS w0 - wS w) (wC w - wC w') (wS w - wS w') (F0 m pc ls st0) rest Qa A) (hq : ∀ st oc t, Qa st oc t → oc = .returned v ∧ RepH G A w' t.heap ∧ va_F A st t ∧ wC w' ≤ wC w ∧ wS w' ≤ wS w) (hS : Cu A s w0 w H locs) (hst1 : v.toList ++ rest = st1)
    (kk : ∀ (H : Heap) (locs : List Loc), RepH G A w' H → Cu A s w0 w' H locs → W p l e R s m args below meth c H locs (wC w0 - wC w') (wS w0 - wS w') Q (F0 m (pc + 5) ls st1)) : W p l e R s m args below meth c H locs (wC w0 - wC w) (wS w0 - wS w) Q (F0 m pc ls st0) := by
  subst hst1
  intro T hT X
  obtain ⟨v', st₀, t, T1, L, h0, X', hL, e1, e2, hq', st⟩ := hr T hT X
  obtain ⟨hv, hR, ⟨hz, hk⟩, c1, c2⟩ := hq _ _ _ hq'
  cases hv
  rw [h0] at hz hk
  have s1 := hS.2.1
  have s2 := hS.2.2
  have k1 : wC w0 - wC w + (wC w - wC w') = wC w0 - wC w' := by omega
  have k2 : wS w0 - wS w + (wS w - wS w') = wS w0 - wS w' := by omega
  rw [k1, k2] at X'
  obtain ⟨t2, a1, b1⟩ := kk T1.heap (locs ++ L) (by rw [e1]; exact hR)
    ⟨⟨Nat.le_trans hS.1.1 (by rw [e1]; exact hz), fun q h1 h2 => by rw [e1, hk q (Nat.lt_of_lt_of_le h1 hS.1.1) h2]; exact hS.1.2.1 q h1 h2, fun q hq => by
      rcases List.mem_append.mp hq with h | h
      · exact hS.1.2.2 q h
      · exact hL q h⟩, by omega, by omega⟩ T1 rfl X'
  exact ⟨t2, st t2 a1, b1⟩
theorem h_pre (hK : KG G s) (hR : RepH G A w H) (hS : Cu A s w0 w H locs) (As : List Value) : ∀ U : State, U.heap = H → s.WarmedH U.vm → hPc G A w As As.toArray U :=
  fun U hU hW => ⟨rfl, by rw [hU]; exact hR, gl_pre hK hS.1 hR.1 hU hW⟩
/-- the class of a receiver -/
def hIs (w : WH) (a ci : Nat) : Option Unit := if hCl w a = some ci then some () else if ci = 16 ∧ w.1 a = none ∧ (kIx (wK w) a).isSome then some () else none
theorem h_recv {C : String} {T : u_T} {N ci a : Nat} {u : Unit} (hK : KG G s) (hR : RepH G A w H) (hS : Cu A s w0 w H locs) (hc : gl_cl[ci]? = some (C, T, N)) (he : hIs w a ci = some u) : ∃ cell : Cell, H[a]? = some cell ∧ cell.vm.isStatics = false ∧ s.vm.findClass C = some cell.cls := by
  unfold hIs at he
  split at he
  next h1 =>
    unfold hCl at h1
    split at h1
    next x ex =>
      obtain ⟨c0, fs⟩ := x
      cases h1
      exact va_recv (q := (C, T, N)) hK.1 (hR.one ex).1 (q0 := 0) hc rfl
    next => cases h1
  split at he
  next h1 =>
    obtain ⟨rfl, -, h3⟩ := h1
    obtain ⟨i, hi⟩ := Option.isSome_iff_exists.mp h3
    obtain ⟨h4, h5⟩ := kIx_o hi
    cases hc
    rw [hR.2.2.1] at h5
    subst h5
    obtain ⟨cell, g1, g2, g3, g4⟩ := (hK.2.1.1 i h4).1
    exact ⟨cell, by rw [hS.1.2.1 _ (Array.getElem?_eq_some_iff.mp g1).1 (fun z => g4 (hR.1 _ z))]; exact g1, g2, g3⟩
  cases he
/-- a constant weight as receiver -/
theorem h_recvK {C : String} {k : Nat} (hK : KG G s) (hR : RepH G A w H) (hS : Cu A s w0 w H locs) (hm : (C, k) ∈ gl_obj) : ∃ cell : Cell, H[wK w k]? = some cell ∧ cell.vm.isStatics = false ∧ s.vm.findClass C = some cell.cls := by
  rw [hR.2.2.1]
  obtain ⟨cell, g1, g2, g3, g4⟩ := hK.2.2.2.2.2.1 _ hm
  exact ⟨cell, by rw [hS.1.2.1 _ (Array.getElem?_eq_some_iff.mp g1).1 (fun z => g4 (hR.1 _ z))]; exact g1, g2, g3⟩
theorem h_callV (n : Nat) {own C : String} {T : u_T} {N ci b : Nat} {y : MethodName} {bytes : ByteArray} {maxL nL F L index : Nat} {ret : Option FieldType} {As : List Value} {v : Option Value} {w' : WH} {u : Unit} (hx : p.tables.exec = Jvm.exec) (hb : c.code = cc) (hml : c.maxLocals = nL) (hown : s.vm.findClass own = some m.cls) (hts : ∀ w ∈ lw_all, w.before args s = true) (hK : KG G s) (hR : RepH G A w H) (hS : Cu A s w0 w H locs) (hRc : wC w0 ≤ R.cells) (hRs : wS w0 ≤ R.slots)
    (hc : gl_cl[ci]? = some (C, T, N)) (hi : hIs w b ci = some u) (hMe : hM l G A y bytes maxL ret F L (.ref b :: As) w v w') (hw : GoodIn lw_all (wsV own index C y (ws_ y bytes maxL ret))) (hd : y.cls = C ∧ y.cls ≠ "java/lang/invoke/MethodHandle" ∧ y.cls ≠ "java/lang/invoke/VarHandle" ∧ (parseMethodDescriptor y.desc).map (fun d => d.parameters.length) = some n) (hF : F + 1 ≤ R.frames) (hL : 8 + (maxL + 11) + L ≤ R.locals)
    (hn : As.length = n) (hsz : ls.size = nL) (hroom : (rest.map fun v => v.category).sum ≤ 8) (hdg : decode cc pc = .ok (.invokevirtual index, 3)) {st0 st1 : List Value} (hst : st0 = As.reverse ++ .ref b :: rest) (hst1 : v.toList ++ rest = st1)
    (kk : ∀ (H : Heap) (locs : List Loc), RepH G A w' H → Cu A s w0 w' H locs → W p l e R s m args below meth c H locs (wC w0 - wC w') (wS w0 - wS w') Q (F0 m (pc + 3) ls st1)) : W p l e R s m args below meth c H locs (wC w0 - wC w) (wS w0 - wS w) Q (F0 m pc ls st0) := by
  subst hst
  have s1 := hS.2.1
  have s2 := hS.2.2
  exact h_on (hb_runV (As := As) (rest := rest) (rc := wC w) (rs := wS w) ⟨hx, hb, hml, hown, hts⟩ hMe (cwV n hts hw rfl rfl rfl hd ⟨hF, hL⟩) ⟨hPc_blind, h_recv hK hR hS hc hi, h_pre hK hR hS _⟩ rfl hn hsz rfl (lv_room hroom) hdg ⟨by omega, by omega⟩) (fun _ _ _ h => h) hS hst1 kk
theorem h_callS (n : Nat) {own : String} {y : MethodName} {bytes : ByteArray} {maxL nL F L index : Nat} {ret : Option FieldType} {As : List Value} {v : Option Value} {w' : WH} (hx : p.tables.exec = Jvm.exec) (hb : c.code = cc) (hml : c.maxLocals = nL) (hown : s.vm.findClass own = some m.cls) (hts : ∀ w ∈ lw_all, w.before args s = true) (hK : KG G s) (hR : RepH G A w H) (hS : Cu A s w0 w H locs) (hRc : wC w0 ≤ R.cells) (hRs : wS w0 ≤ R.slots)
    (hMe : hM l G A y bytes maxL ret F L As w v w') (hw : GoodIn lw_all (va_wsS own index y (ws_ y bytes maxL ret))) (hd : y.cls ≠ "java/lang/invoke/MethodHandle" ∧ y.cls ≠ "java/lang/invoke/VarHandle" ∧ (parseMethodDescriptor y.desc).map (fun d => d.parameters.length) = some n) (hF : F + 1 ≤ R.frames) (hL : 8 + (maxL + 11) + L ≤ R.locals)
    (hn : As.length = n) (hsz : ls.size = nL) (hroom : (rest.map fun v => v.category).sum ≤ 8) (hdg : decode cc pc = .ok (.invokestatic index, 3)) {st0 st1 : List Value} (hst : st0 = As.reverse ++ rest) (hst1 : v.toList ++ rest = st1)
    (kk : ∀ (H : Heap) (locs : List Loc), RepH G A w' H → Cu A s w0 w' H locs → W p l e R s m args below meth c H locs (wC w0 - wC w') (wS w0 - wS w') Q (F0 m (pc + 3) ls st1)) : W p l e R s m args below meth c H locs (wC w0 - wC w) (wS w0 - wS w) Q (F0 m pc ls st0) := by
  subst hst
  have s1 := hS.2.1
  have s2 := hS.2.2
  exact h_on (hb_runS (As := As) (rest := rest) (rc := wC w) (rs := wS w) ⟨hx, hb, hml, hown, hts⟩ hMe (va_cwS n hts hw rfl rfl rfl hd ⟨hF, hL⟩) ⟨hPc_blind, h_pre hK hR hS _⟩ rfl hn hsz rfl (lv_room hroom) hdg ⟨by omega, by omega⟩) (fun _ _ _ h => h) hS hst1 kk
theorem h_callI (n : Nat) {own : String} {b : Nat} {y : MethodName} {bytes : ByteArray} {maxL nL F L index : Nat} {As : List Value} {w' : WH} (hx : p.tables.exec = Jvm.exec) (hb : c.code = cc) (hml : c.maxLocals = nL) (hown : s.vm.findClass own = some m.cls) (hts : ∀ w ∈ lw_all, w.before args s = true) (hK : KG G s) (hR : RepH G A w H) (hS : Cu A s w0 w H locs) (hRc : wC w0 ≤ R.cells) (hRs : wS w0 ≤ R.slots)
    (hMe : hM l G A y bytes maxL none F L (.ref b :: As) w none w') (hw : GoodIn lw_all (ws_ y bytes maxL none)) (hini : (Cond.initialized y.cls) ∈ lw_all) (hlink : (Cond.methodLink own index y) ∈ lw_all) (him : (Cond.instanceMethod y) ∈ lw_all) (hnm : y.name = "<init>") (hd : y.cls ≠ "java/lang/invoke/MethodHandle" ∧ y.cls ≠ "java/lang/invoke/VarHandle" ∧ (parseMethodDescriptor y.desc).map (fun d => d.parameters.length) = some n) (hF : F + 1 ≤ R.frames) (hL : 8 + (maxL + 11) + L ≤ R.locals)
    (hn : As.length = n) (hsz : ls.size = nL) (hroom : (rest.map fun v => v.category).sum ≤ 8) (hdg : decode cc pc = .ok (.invokespecial index, 3)) {st0 : List Value} (hst : st0 = As.reverse ++ .ref b :: rest)
    (kk : ∀ (H : Heap) (locs : List Loc), RepH G A w' H → Cu A s w0 w' H locs → W p l e R s m args below meth c H locs (wC w0 - wC w') (wS w0 - wS w') Q (F0 m (pc + 3) ls rest)) : W p l e R s m args below meth c H locs (wC w0 - wC w) (wS w0 - wS w) Q (F0 m pc ls st0) := by
  subst hst
  have s1 := hS.2.1
  have s2 := hS.2.2
  exact h_on (hb_runI (As := As) (rest := rest) (rc := wC w) (rs := wS w) ⟨hx, hb, hml, hown, hts⟩ hMe (cwI n hts hw rfl rfl rfl (hts _ hini) (hts _ hlink) (hts _ him) hnm hd ⟨hF, hL⟩) ⟨hPc_blind, h_pre hK hR hS _⟩ rfl hn hsz rfl (lv_room hroom) hdg ⟨by omega, by omega⟩) (fun _ _ _ h => h) hS rfl kk
theorem h_callVN (n : Nat) {own host C : String} {T : u_T} {N ci b : Nat} {y : MethodName} {bytes : ByteArray} {maxL nL F L index : Nat} {ret : Option FieldType} {As : List Value} {v : Option Value} {w' : WH} {u : Unit} (hx : p.tables.exec = Jvm.exec) (hb : c.code = cc) (hml : c.maxLocals = nL) (hown : s.vm.findClass own = some m.cls) (hts : ∀ w ∈ lw_all, w.before args s = true) (hK : KG G s) (hR : RepH G A w H) (hS : Cu A s w0 w H locs) (hRc : wC w0 ≤ R.cells) (hRs : wS w0 ≤ R.slots)
    (hc : gl_cl[ci]? = some (C, T, N)) (hi : hIs w b ci = some u) (hMe : hM l G A y bytes maxL ret F L (.ref b :: As) w v w') (hw : GoodIn lw_all (ws_ y bytes maxL ret)) (hl : va_Nw (.methodLinkNest own index y host) s) (hini : (Cond.initialized y.cls) ∈ lw_all) (him : (Cond.instanceMethod y) ∈ lw_all) (hsel : (Cond.selects C y y) ∈ lw_all) (hd : y.cls ≠ "java/lang/invoke/MethodHandle" ∧ y.cls ≠ "java/lang/invoke/VarHandle" ∧ (parseMethodDescriptor y.desc).map (fun d => d.parameters.length) = some n) (hF : F + 1 ≤ R.frames) (hL : 8 + (maxL + 11) + L ≤ R.locals)
    (hn : As.length = n) (hsz : ls.size = nL) (hroom : (rest.map fun v => v.category).sum ≤ 8) (hdg : decode cc pc = .ok (.invokevirtual index, 3)) {st0 st1 : List Value} (hst : st0 = As.reverse ++ .ref b :: rest) (hst1 : v.toList ++ rest = st1)
    (kk : ∀ (H : Heap) (locs : List Loc), RepH G A w' H → Cu A s w0 w' H locs → W p l e R s m args below meth c H locs (wC w0 - wC w') (wS w0 - wS w') Q (F0 m (pc + 3) ls st1)) : W p l e R s m args below meth c H locs (wC w0 - wC w) (wS w0 - wS w) Q (F0 m pc ls st0) := by
  subst hst
  have s1 := hS.2.1
  have s2 := hS.2.2
  exact h_on (hb_runVN (As := As) (rest := rest) (rc := wC w) (rs := wS w) (C := C) ⟨hx, hb, hml, hown, hts⟩ hMe ⟨va_cnB n hts hw rfl rfl rfl hl (hts _ hini) hd ⟨hF, hL⟩, hts _ him, hts _ hsel⟩ ⟨hPc_blind, h_recv hK hR hS hc hi, h_pre hK hR hS _⟩ rfl hn hsz rfl (lv_room hroom) hdg ⟨by omega, by omega⟩) (fun _ _ _ h => h) hS hst1 kk
theorem h_callSN (n : Nat) {own host : String} {y : MethodName} {bytes : ByteArray} {maxL nL F L index : Nat} {ret : Option FieldType} {As : List Value} {v : Option Value} {w' : WH} (hx : p.tables.exec = Jvm.exec) (hb : c.code = cc) (hml : c.maxLocals = nL) (hown : s.vm.findClass own = some m.cls) (hts : ∀ w ∈ lw_all, w.before args s = true) (hK : KG G s) (hR : RepH G A w H) (hS : Cu A s w0 w H locs) (hRc : wC w0 ≤ R.cells) (hRs : wS w0 ≤ R.slots)
    (hMe : hM l G A y bytes maxL ret F L As w v w') (hw : GoodIn lw_all (ws_ y bytes maxL ret)) (hl : va_Nw (.methodLinkNest own index y host) s) (hini : (Cond.initialized y.cls) ∈ lw_all) (hst0 : (Cond.static y) ∈ lw_all) (hd : y.cls ≠ "java/lang/invoke/MethodHandle" ∧ y.cls ≠ "java/lang/invoke/VarHandle" ∧ (parseMethodDescriptor y.desc).map (fun d => d.parameters.length) = some n) (hF : F + 1 ≤ R.frames) (hL : 8 + (maxL + 11) + L ≤ R.locals)
    (hn : As.length = n) (hsz : ls.size = nL) (hroom : (rest.map fun v => v.category).sum ≤ 8) (hdg : decode cc pc = .ok (.invokestatic index, 3)) {st0 st1 : List Value} (hst : st0 = As.reverse ++ rest) (hst1 : v.toList ++ rest = st1)
    (kk : ∀ (H : Heap) (locs : List Loc), RepH G A w' H → Cu A s w0 w' H locs → W p l e R s m args below meth c H locs (wC w0 - wC w') (wS w0 - wS w') Q (F0 m (pc + 3) ls st1)) : W p l e R s m args below meth c H locs (wC w0 - wC w) (wS w0 - wS w) Q (F0 m pc ls st0) := by
  subst hst
  have s1 := hS.2.1
  have s2 := hS.2.2
  exact h_on (hb_runSN (As := As) (rest := rest) (rc := wC w) (rs := wS w) ⟨hx, hb, hml, hown, hts⟩ hMe ⟨va_cnB n hts hw rfl rfl rfl hl (hts _ hini) hd ⟨hF, hL⟩, hts _ hst0, trivial⟩ ⟨hPc_blind, h_pre hK hR hS _⟩ rfl hn hsz rfl (lv_room hroom) hdg ⟨by omega, by omega⟩) (fun _ _ _ h => h) hS hst1 kk
theorem h_callIN (n : Nat) {own host : String} {b : Nat} {y : MethodName} {bytes : ByteArray} {maxL nL F L index : Nat} {As : List Value} {w' : WH} (hx : p.tables.exec = Jvm.exec) (hb : c.code = cc) (hml : c.maxLocals = nL) (hown : s.vm.findClass own = some m.cls) (hts : ∀ w ∈ lw_all, w.before args s = true) (hK : KG G s) (hR : RepH G A w H) (hS : Cu A s w0 w H locs) (hRc : wC w0 ≤ R.cells) (hRs : wS w0 ≤ R.slots)
    (hMe : hM l G A y bytes maxL none F L (.ref b :: As) w none w') (hw : GoodIn lw_all (ws_ y bytes maxL none)) (hl : va_Nw (.methodLinkNest own index y host) s) (hini : (Cond.initialized y.cls) ∈ lw_all) (him : (Cond.instanceMethod y) ∈ lw_all) (hnm : y.name = "<init>") (hd : y.cls ≠ "java/lang/invoke/MethodHandle" ∧ y.cls ≠ "java/lang/invoke/VarHandle" ∧ (parseMethodDescriptor y.desc).map (fun d => d.parameters.length) = some n) (hF : F + 1 ≤ R.frames) (hL : 8 + (maxL + 11) + L ≤ R.locals)
    (hn : As.length = n) (hsz : ls.size = nL) (hroom : (rest.map fun v => v.category).sum ≤ 8) (hdg : decode cc pc = .ok (.invokespecial index, 3)) {st0 : List Value} (hst : st0 = As.reverse ++ .ref b :: rest)
    (kk : ∀ (H : Heap) (locs : List Loc), RepH G A w' H → Cu A s w0 w' H locs → W p l e R s m args below meth c H locs (wC w0 - wC w') (wS w0 - wS w') Q (F0 m (pc + 3) ls rest)) : W p l e R s m args below meth c H locs (wC w0 - wC w) (wS w0 - wS w) Q (F0 m pc ls st0) := by
  subst hst
  have s1 := hS.2.1
  have s2 := hS.2.2
  exact h_on (hb_runIN (As := As) (rest := rest) (rc := wC w) (rs := wS w) ⟨hx, hb, hml, hown, hts⟩ hMe ⟨va_cnB n hts hw rfl rfl rfl hl (hts _ hini) hd ⟨hF, hL⟩, hnm, hts _ him⟩ ⟨hPc_blind, h_pre hK hR hS _⟩ rfl hn hsz rfl (lv_room hroom) hdg ⟨by omega, by omega⟩) (fun _ _ _ h => h) hS rfl kk
/-- a call through an interface; the receiver's class is known -/
theorem h_callF (n : Nat) {own C : String} {b count : Nat} {x y : MethodName} {bytes : ByteArray} {maxL nL F L index : Nat} {ret : Option FieldType} {As : List Value} {v : Option Value} {w' : WH} (hx : p.tables.exec = Jvm.exec) (hb : c.code = cc) (hml : c.maxLocals = nL) (hown : s.vm.findClass own = some m.cls) (hts : ∀ w ∈ lw_all, w.before args s = true) (hK : KG G s) (hR : RepH G A w H) (hS : Cu A s w0 w H locs) (hRc : wC w0 ≤ R.cells) (hRs : wS w0 ≤ R.slots)
    (hrv : ∃ cell : Cell, H[b]? = some cell ∧ cell.vm.isStatics = false ∧ s.vm.findClass C = some cell.cls) (hMe : hM l G A y bytes maxL ret F L (.ref b :: As) w v w') (hw : GoodIn lw_all (va_wsF own index C x y (ws_ y bytes maxL ret))) (hFw : va_Fw C x y s) (hd : x.cls ≠ "java/lang/invoke/MethodHandle" ∧ x.cls ≠ "java/lang/invoke/VarHandle" ∧ (parseMethodDescriptor x.desc).map (fun d => d.parameters.length) = some n) (hF : F + 1 ≤ R.frames) (hL : 8 + (maxL + 11) + L ≤ R.locals)
    (hn : As.length = n) (hsz : ls.size = nL) (hroom : (rest.map fun v => v.category).sum ≤ 8) (hdg : decode cc pc = .ok (.invokeinterface index count, 5)) {st0 st1 : List Value} (hst : st0 = As.reverse ++ .ref b :: rest) (hst1 : v.toList ++ rest = st1)
    (kk : ∀ (H : Heap) (locs : List Loc), RepH G A w' H → Cu A s w0 w' H locs → W p l e R s m args below meth c H locs (wC w0 - wC w') (wS w0 - wS w') Q (F0 m (pc + 5) ls st1)) : W p l e R s m args below meth c H locs (wC w0 - wC w) (wS w0 - wS w) Q (F0 m pc ls st0) := by
  subst hst
  have s1 := hS.2.1
  have s2 := hS.2.2
  exact h_on5 (hb_runF (As := As) (rest := rest) (rc := wC w) (rs := wS w) ⟨hx, hb, hml, hown, hts⟩ hMe (va_cwF n hts hw rfl rfl rfl hFw hd ⟨hF, hL⟩) ⟨hPc_blind, hrv, h_pre hK hR hS _⟩ rfl hn hsz rfl (lv_room hroom) hdg ⟨by omega, by omega⟩) (fun _ _ _ h => h) hS hst1 kk
/-- an inherited method -/
theorem h_callU (n : Nat) {own C owner : String} {T : u_T} {N ci b : Nat} {x y : MethodName} {bytes : ByteArray} {maxL nL F L index : Nat} {ret : Option FieldType} {As : List Value} {v : Option Value} {w' : WH} {u : Unit} (hx : p.tables.exec = Jvm.exec) (hb : c.code = cc) (hml : c.maxLocals = nL) (hown : s.vm.findClass own = some m.cls) (hts : ∀ w ∈ lw_all, w.before args s = true) (hK : KG G s) (hR : RepH G A w H) (hS : Cu A s w0 w H locs) (hRc : wC w0 ≤ R.cells) (hRs : wS w0 ≤ R.slots)
    (hc : gl_cl[ci]? = some (C, T, N)) (hi : hIs w b ci = some u) (hMe : hM l G A y bytes maxL ret F L (.ref b :: As) w v w') (hw : GoodIn lw_all (va_wsU own index C owner x y (ws_ y bytes maxL ret))) (hyx : y = ⟨owner, x.name, x.desc⟩) (hd : owner ≠ "java/lang/invoke/MethodHandle" ∧ owner ≠ "java/lang/invoke/VarHandle" ∧ (parseMethodDescriptor x.desc).map (fun d => d.parameters.length) = some n) (hF : F + 1 ≤ R.frames) (hL : 8 + (maxL + 11) + L ≤ R.locals)
    (hn : As.length = n) (hsz : ls.size = nL) (hroom : (rest.map fun v => v.category).sum ≤ 8) (hdg : decode cc pc = .ok (.invokevirtual index, 3)) {st0 st1 : List Value} (hst : st0 = As.reverse ++ .ref b :: rest) (hst1 : v.toList ++ rest = st1)
    (kk : ∀ (H : Heap) (locs : List Loc), RepH G A w' H → Cu A s w0 w' H locs → W p l e R s m args below meth c H locs (wC w0 - wC w') (wS w0 - wS w') Q (F0 m (pc + 3) ls st1)) : W p l e R s m args below meth c H locs (wC w0 - wC w) (wS w0 - wS w) Q (F0 m pc ls st0) := by
  subst hst
  have s1 := hS.2.1
  have s2 := hS.2.2
  exact h_on (hb_runU (As := As) (rest := rest) (rc := wC w) (rs := wS w) ⟨hx, hb, hml, hown, hts⟩ hMe (va_cwU n hts hw rfl rfl rfl hyx hd ⟨hF, hL⟩) ⟨hPc_blind, h_recv hK hR hS hc hi, h_pre hK hR hS _⟩ rfl hn hsz rfl (lv_room hroom) hdg ⟨by omega, by omega⟩) (fun _ _ _ h => h) hS hst1 kk
theorem h_fin {t : State} {v : Option Value} (hR : RepH G A w H) (hS : Cu A s w0 w H locs) (ht : t.heap = H) : hQ G A w0 v w args s (.returned v) t := ⟨rfl, by rw [ht]; exact hR, hS.1.F ht, hS.2.1, hS.2.2⟩
theorem h_ifin (hx : p.tables.exec = Jvm.exec) (hb : c.code = cc) {x : Int32} (hr : meth.sig.returnType = some .int) (hlk : meth.locks = false) (hR : RepH G A w H) (hS : Cu A s w0 w H locs) (hdg : decode cc pc = .ok (.ireturn, 1)) : W p l e R s m args below meth c H locs (wC w0 - wC w) (wS w0 - wS w) (hZ below args s G A w0 (some (.int x)) w) (F0 m pc ls [.int x]) :=
  W.iret (v := x) hx hb hr (fun t ht _ => h_fin hR hS ht) hS.1.2.2 hdg hlk
theorem h_zfin (hx : p.tables.exec = Jvm.exec) (hb : c.code = cc) {x : Int32} {ty : FieldType} (hr : meth.sig.returnType = some ty) (hlk : meth.locks = false) (hn : narrow ty (.int x) = .int x) (hR : RepH G A w H) (hS : Cu A s w0 w H locs) (hdg : decode cc pc = .ok (.ireturn, 1)) : W p l e R s m args below meth c H locs (wC w0 - wC w) (wS w0 - wS w) (hZ below args s G A w0 (some (.int x)) w) (F0 m pc ls [.int x]) :=
  W.zret (v := x) hx hb hr hn (fun t ht _ => h_fin hR hS ht) hS.1.2.2 hdg hlk
theorem h_lfin (hx : p.tables.exec = Jvm.exec) (hb : c.code = cc) {x : Int64} (hr : meth.sig.returnType = some .long) (hlk : meth.locks = false) (hR : RepH G A w H) (hS : Cu A s w0 w H locs) (hdg : decode cc pc = .ok (.lreturn, 1)) : W p l e R s m args below meth c H locs (wC w0 - wC w) (wS w0 - wS w) (hZ below args s G A w0 (some (.long x)) w) (F0 m pc ls [.long x]) :=
  W.lret (v := x) hx hb hr (fun t ht _ => h_fin hR hS ht) hS.1.2.2 hdg hlk
theorem h_vfin (hx : p.tables.exec = Jvm.exec) (hb : c.code = cc) (hr : meth.sig.returnType = none) (hlk : meth.locks = false) (hR : RepH G A w H) (hS : Cu A s w0 w H locs) (hdg : decode cc pc = .ok (.return_, 1)) : W p l e R s m args below meth c H locs (wC w0 - wC w) (wS w0 - wS w) (hZ below args s G A w0 none w) (F0 m pc ls []) :=
  W.vret hx hb hr (fun t ht _ => h_fin hR hS ht) hS.1.2.2 hdg hlk
theorem h_afin (hx : p.tables.exec = Jvm.exec) (hb : c.code = cc) {x : Option Nat} {rt : FieldType} (hr : meth.sig.returnType = some rt) (hlk : meth.locks = false) (hrt : (∃ n, rt = .object n) ∨ ∃ t, rt = .array t) (hR : RepH G A w H) (hS : Cu A s w0 w H locs) (hdg : decode cc pc = .ok (.areturn, 1)) : W p l e R s m args below meth c H locs (wC w0 - wC w) (wS w0 - wS w) (hZ below args s G A w0 (some (va_rf x)) w) (F0 m pc ls [va_rf x]) :=
  W.aret (v := va_rf x) hx hb hr hrt (by cases x with | none => exact Or.inl rfl | some a => exact Or.inr ⟨a, rfl⟩) (fun t ht _ => h_fin hR hS ht) hS.1.2.2 hdg hlk
end HC
