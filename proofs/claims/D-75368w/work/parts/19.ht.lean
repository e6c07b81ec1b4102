/-! Methods of the heap world that may throw -/
abbrev hO : Type := (Option Value) ⊕ (String × Nat)
def xnm (k : Nat) : String := match k with | 0 => "java/lang/IndexOutOfBoundsException" | 1 => "java/lang/IllegalArgumentException" | _ => "TollLeader$Fault"
def hXQ (G : gE) (A : Nat → Prop) (w : WH) (o : hO) (w' : WH) : Array Value → State → Outcome → State → Prop := fun a st oc t => ∃ v, o = .inl v ∧ hQ G A w v w' a st oc t
def hXC (G : gE) (A : Nat → Prop) (w : WH) (o : hO) (w' : WH) : Addr → String → State → State → Prop := fun q E st t => o = .inr (E, q) ∧ RepH G A w' t.heap ∧ va_F A st t ∧ wC w' ≤ wC w ∧ wS w' ≤ wS w
def hMX (l : Launch) (G : gE) (A : Nat → Prop) (y : MethodName) (cc : ByteArray) (nL : Nat) (ret : Option FieldType) (F L : Nat) (av : List Value) (w : WH) (o : hO) (w' : WH) : Prop :=
  vy_Met l y (ws_ y cc nL ret) (hRm F L w) (hPc G A w av) (hXQ G A w o w') (hXC G A w o w') (wC w - wC w') (wS w - wS w') A
abbrev hZX (below : List Frame) (args : Array Value) (s : State) (G : gE) (A : Nat → Prop) (w0 : WH) (o : hO) (w' : WH) : State → Prop := vy_MQ below (hXQ G A w0 o w') (hXC G A w0 o w') args s (wC w0 - wC w') (wS w0 - wS w') A
theorem h_ofX {l : Launch} {G : gE} {A : Nat → Prop} {y : MethodName} {cc : ByteArray} {nL : Nat} {ret : Option FieldType} {F L : Nat} {av : List Value} {w : WH} {o : hO} {w' : WH} (hy : plainName y.cls = true) (hn : (lg_sl av).length ≤ nL)
    (body : ∀ (p : Program) (e : Env) (s : State) (m : MethodId) (args : Array Value) (below : List Frame) (meth : Method) (c : Code) (ls : Array Slot), gB G y.cls cc nL ret p s m args meth c → meth.name = y.name → (∀ x ∈ c.exceptionTable.toList, False) → RepH G A w s.heap → Cu A s w w s.heap [] → lv_has ls nL (lv_args 0 av) → W p l e (hRm F L w) s m args below meth c s.heap [] (wC w - wC w) (wS w - wS w) (hZX below args s G A w o w') (F0 m 0 ls [])) :
    hMX l G A y cc nL ret F L av w o w' := by
  refine vy_ofW (cc := cc) (maxL := nL) (ret := ret) hy rfl ?_
  intro p e s m args below meth c s₁ B hml ht hv
  obtain ⟨rfl, hR, hK⟩ := hv
  have hts := atoms_spec (ws := ws_ y cc nL ret) B.pre
  have hts : ∀ w ∈ lw_all, w.before _ s = true := fun w h => hts w (List.mem_cons_of_mem _ h)
  have hown : s.vm.findClass y.cls = some m.cls := findClass_of_methodNamed B.named
  rw [lg_entry_eq]
  have hb := body p e s m _ below meth c _ ⟨B.exec, B.bytes, hml, hown, hts, B.returns, B.notSynchronized, hK⟩ (name_of_methodNamed B.named B.method).1 ht hR ⟨va_S.rf, Nat.le_refl _, Nat.le_refl _⟩ (lv_entry av hn)
  rw [Nat.sub_self, Nat.sub_self] at hb
  exact hb
/-- a cell that the world doesn't know -/
def hThr (w : WH) : Option (Nat × WH) := if 1 ≤ wC w ∧ 6 ≤ wS w then some (wN w, (w.1, wK w, wN w + 1, wC w - 1, wS w - 6)) else none
theorem hThr_o {w w' : WH} {a : Nat} (h : hThr w = some (a, w')) : 1 ≤ wC w ∧ 6 ≤ wS w ∧ a = wN w ∧ w' = (w.1, wK w, wN w + 1, wC w - 1, wS w - 6) := by
  unfold hThr at h
  split at h
  next hh => cases h; exact ⟨hh.1, hh.2, rfl, rfl⟩
  next => cases h
def ex_ {α β γ : Type} (o : Sum α γ) (f : α → Option β) (g : γ → Option β) : Option β := match o with | .inl x => f x | .inr q => g q
def oI (x : Sum Int32 (Nat × Nat)) : hO := match x with | .inl x => .inl (some (.int x)) | .inr q => .inr (xnm q.1, q.2)
def oJ (x : Sum Int64 (Nat × Nat)) : hO := match x with | .inl x => .inl (some (.long x)) | .inr q => .inr (xnm q.1, q.2)
def oR (x : Sum (Option Nat) (Nat × Nat)) : hO := match x with | .inl x => .inl (some (va_rf x)) | .inr q => .inr (xnm q.1, q.2)
def oV (x : Sum Unit (Nat × Nat)) : hO := match x with | .inl _ => .inl none | .inr q => .inr (xnm q.1, q.2)
theorem exl_o {α β γ : Type} {x : α} {f : α → Option β} {g : γ → Option β} {z : Option β} (h : ex_ (.inl x) f g = z) : f x = z := h
theorem exr_o {α β γ : Type} {q : γ} {f : α → Option β} {g : γ → Option β} {z : Option β} (h : ex_ (.inr q) f g = z) : g q = z := h
section HT
variable {p : Program} {l : Launch} {e : Env} {R : Room} {s : State} {m : MethodId} {args : Array Value} {below : List Frame} {meth : Method} {c : Code} {H : Heap} {locs : List Loc} {cells slots : Nat} {Q : State → Prop}
variable {cc : ByteArray} {pc : Nat} {ls : Array Slot} {rest : List Value} {A : Nat → Prop} {G : gE} {w w0 : WH}
theorem RepH.thr (hR : RepH G A w H) {H1 : Heap} {n c1 c2 : Nat} (z : H1.size = H.size + 1) (oq : ∀ q : Nat, q < H.size → H1[q]? = H[q]?) (hn : n = wN w + 1) : RepH G A (w.1, wK w, n, c1, c2) H1 := by
  obtain ⟨r1, r2, r3, r4, r5⟩ := hR
  subst hn
  refine ⟨r1, fun q hq => r2 q (Nat.le_of_succ_le hq), r3, by rw [z, r4]; rfl, fun b y hb => ?_⟩
  have h9 : w.1 b = some y := hb
  have hl := (r5 b y h9).2.lt
  exact ⟨(r5 b y h9).1, (r5 b y h9).2.kept (oq b hl)⟩
/-- throw new E(), out of the method -/
theorem h_throw0 (hx : p.tables.exec = Jvm.exec) (hb : c.code = cc) (hl : l.stackTraces = false) {own cls : String} {names : List String} {ik ic a : Nat} {w' : WH} (hml : c.maxLocals = ls.size) (hown : s.vm.findClass own = some m.cls) (hK : KG G s) (hR : RepH G A w H) (hS : Cu A s w0 w H locs) (hRc : wC w0 ≤ R.cells) (hRs : wS w0 ≤ R.slots) (hcls : Bundle.fit cls = true) (hnames : ∀ n ∈ names, Bundle.fit n = true)
    (hk : (Cond.classLink own ik cls).before args s = true) (hini : (Cond.initialized cls).before args s = true) (hat : ∀ w ∈ vx_at0 own ic cls names, w.before args s = true) (hgood : ∀ w ∈ Cond.classLink own ik cls :: Cond.initialized cls :: vx_at0 own ic cls names, vx_ot w = true)
    (d0 : decode cc pc = .ok (.new ik, 3)) (d3 : decode cc (pc + 3) = .ok (.dup, 1)) (d4 : decode cc (pc + 4) = .ok (.invokespecial ic, 3)) (d7 : decode cc (pc + 7) = .ok (.athrow, 1)) (ht : ∀ x ∈ c.exceptionTable.toList, False)
    (hF : names.length + 3 < R.frames) (hL : (rest.map fun v => v.category).sum + (13 * (names.length + 1) + 42) ≤ R.locals) (hlk : meth.locks = false) (he : hThr w = some (a, w')) :
    W p l e R s m args below meth c H locs (wC w0 - wC w) (wS w0 - wS w) (hZX below args s G A w0 (.inr (cls, a)) w') (F0 m pc ls rest) := by
  obtain ⟨n1, n2, rfl, rfl⟩ := hThr_o he
  have s1 := hS.2.1
  have s2 := hS.2.2
  have c1 : wC ((w.1, wK w, wN w + 1, wC w - 1, wS w - 6) : WH) = wC w - 1 := rfl
  have c2 : wS ((w.1, wK w, wN w + 1, wC w - 1, wS w - 6) : WH) = wS w - 6 := rfl
  have hZq := hK.2.2.2.2.2.2.2.2.2.2.2.2.1
  have hU := (hZq _ (List.mem_of_getElem? (i := 0) rfl)).narrow hR.1
  have hN := (hZq _ (List.mem_of_getElem? (i := 1) rfl)).narrow hR.1
  refine vy_throw0 hx hb hl hown hcls hnames hk hini hat hgood hU hN hS.1 hml.symm d0 d3 d4 d7 (fun x hx => (ht x hx).elim) hF hL (by omega) (by omega) hlk (fun t ha z oq => ?_) hS.1.2.2 (by rw [c1]; omega) (by rw [c2]; omega)
  refine ⟨by rw [hR.2.2.2.1], hR.thr z oq rfl, ⟨by rw [z]; exact Nat.le_succ_of_le hS.1.1, fun q h1 h2 => (oq q (Nat.lt_of_lt_of_le h1 hS.1.1)).trans (hS.1.2.1 q h1 h2)⟩, by rw [c1]; omega, by rw [c2]; omega⟩
/-- behind a call that may throw -/
theorem h_onX {o : hO} {w' : WH} {Qa : State → Outcome → State → Prop} {XCa : Addr → String → State → State → Prop} {st0 : List Value} (hr : vy_Run p l e R s m args below meth c H locs (wC w0 - wC w) (wS w0 - wS w) (wC w - wC w') (wS w - wS w') (F0 m pc ls st0) rest Qa XCa A) (hq : ∀ st oc t, Qa st oc t → ∃ v, o = .inl v ∧ oc = .returned v ∧ RepH G A w' t.heap ∧ va_F A st t ∧ wC w' ≤ wC w ∧ wS w' ≤ wS w) (hqx : ∀ q E st t, XCa q E st t → o = .inr (E, q) ∧ RepH G A w' t.heap ∧ va_F A st t ∧ wC w' ≤ wC w ∧ wS w' ≤ wS w) (hS : Cu A s w0 w H locs)
    (k1 : ∀ v, o = .inl v → ∀ (H : Heap) (locs : List Loc), RepH G A w' H → Cu A s w0 w' H locs → W p l e R s m args below meth c H locs (wC w0 - wC w') (wS w0 - wS w') Q (F0 m (pc + 3) ls (v.toList ++ rest)))
    (k2 : ∀ E q, o = .inr (E, q) → ∀ (H : Heap) (locs : List Loc), RepH G A w' H → Cu A s w0 w' H locs → (∃ ce : Cell, H[q]? = some ce ∧ ce.vm = .none ∧ s.vm.findClass E = some ce.cls) → vx_W p l e R s m args below meth c H locs (wC w0 - wC w') (wS w0 - wS w') Q (F0 m pc ls rest) q) : W p l e R s m args below meth c H locs (wC w0 - wC w) (wS w0 - wS w) Q (F0 m pc ls st0) := by
  have s1 := hS.2.1
  have s2 := hS.2.2
  intro T hT X
  rcases hr T hT X with ⟨v', st₀, t, T1, L, h0, X', hL, e1, e2, hq', st⟩ | ⟨q, st₀, t, T1, L, E, ce, h0, X', hL, e1, e2, hq', hce, hcv, hcl, st⟩
  · obtain ⟨v, ho, hv, hR, ⟨hz, hk⟩, c1, c2⟩ := hq _ _ _ hq'
    cases hv
    rw [h0] at hz hk
    have m1 : wC w0 - wC w + (wC w - wC w') = wC w0 - wC w' := by omega
    have m2 : wS w0 - wS w + (wS w - wS w') = wS w0 - wS w' := by omega
    rw [m1, m2] at X'
    obtain ⟨t2, a1, b1⟩ := k1 v' ho T1.heap (locs ++ L) (by rw [e1]; exact hR)
      ⟨⟨Nat.le_trans hS.1.1 (by rw [e1]; exact hz), fun q h1 h2 => by rw [e1, hk q (Nat.lt_of_lt_of_le h1 hS.1.1) h2]; exact hS.1.2.1 q h1 h2, fun q hq => by
        rcases List.mem_append.mp hq with h | h
        · exact hS.1.2.2 q h
        · exact hL q h⟩, by omega, by omega⟩ T1 rfl X'
    exact ⟨t2, st t2 a1, b1⟩
  · obtain ⟨ho, hR, ⟨hz, hk⟩, c1, c2⟩ := hqx _ _ _ _ hq'
    rw [h0] at hz hk
    have m1 : wC w0 - wC w + (wC w - wC w') = wC w0 - wC w' := by omega
    have m2 : wS w0 - wS w + (wS w - wS w') = wS w0 - wS w' := by omega
    rw [m1, m2] at X'
    obtain ⟨t2, a1, b1⟩ := k2 E q ho T1.heap (locs ++ L) (by rw [e1]; exact hR)
      ⟨⟨Nat.le_trans hS.1.1 (by rw [e1]; exact hz), fun q h1 h2 => by rw [e1, hk q (Nat.lt_of_lt_of_le h1 hS.1.1) h2]; exact hS.1.2.1 q h1 h2, fun q hq => by
        rcases List.mem_append.mp hq with h | h
        · exact hS.1.2.2 q h
        · exact hL q h⟩, by omega, by omega⟩ ⟨ce, by rw [e1]; exact hce, hcv, hcl⟩ T1 rfl X'
    exact ⟨t2, st.trans a1, b1⟩
theorem h_callVX (n : Nat) {own C : String} {T : u_T} {N ci b : Nat} {y : MethodName} {bytes : ByteArray} {maxL nL F L index : Nat} {ret : Option FieldType} {As : List Value} {o : hO} {w' : WH} {u : Unit} (hx : p.tables.exec = Jvm.exec) (hb : c.code = cc) (hml : c.maxLocals = nL) (hown : s.vm.findClass own = some m.cls) (hts : ∀ w ∈ lw_all, w.before args s = true) (hK : KG G s) (hR : RepH G A w H) (hS : Cu A s w0 w H locs) (hRc : wC w0 ≤ R.cells) (hRs : wS w0 ≤ R.slots)
    (hc : gl_cl[ci]? = some (C, T, N)) (hi : hIs w b ci = some u) (hMe : hMX l G A y bytes maxL ret F L (.ref b :: As) w o w') (hw : GoodIn lw_all (wsV own index C y (ws_ y bytes maxL ret))) (hd : y.cls = C ∧ y.cls ≠ "java/lang/invoke/MethodHandle" ∧ y.cls ≠ "java/lang/invoke/VarHandle" ∧ (parseMethodDescriptor y.desc).map (fun d => d.parameters.length) = some n) (hF : F + 1 ≤ R.frames) (hL : 8 + (maxL + 11) + L ≤ R.locals)
    (hn : As.length = n) (hsz : ls.size = nL) (hroom : (rest.map fun v => v.category).sum ≤ 8) (hdg : decode cc pc = .ok (.invokevirtual index, 3)) {st0 : List Value} (hst : st0 = As.reverse ++ .ref b :: rest)
    (k1 : ∀ v, o = .inl v → ∀ (H : Heap) (locs : List Loc), RepH G A w' H → Cu A s w0 w' H locs → W p l e R s m args below meth c H locs (wC w0 - wC w') (wS w0 - wS w') Q (F0 m (pc + 3) ls (v.toList ++ rest)))
    (k2 : ∀ E q, o = .inr (E, q) → ∀ (H : Heap) (locs : List Loc), RepH G A w' H → Cu A s w0 w' H locs → (∃ ce : Cell, H[q]? = some ce ∧ ce.vm = .none ∧ s.vm.findClass E = some ce.cls) → vx_W p l e R s m args below meth c H locs (wC w0 - wC w') (wS w0 - wS w') Q (F0 m pc ls rest) q) : W p l e R s m args below meth c H locs (wC w0 - wC w) (wS w0 - wS w) Q (F0 m pc ls st0) := by
  subst hst
  have s1 := hS.2.1
  have s2 := hS.2.2
  exact h_onX (vy_runV (As := As) (rest := rest) (rc := wC w) (rs := wS w) ⟨hx, hb, hml, hown, hts⟩ hMe (cwV n hts hw rfl rfl rfl hd ⟨hF, hL⟩) ⟨hPc_blind, h_recv hK hR hS hc hi, h_pre hK hR hS _⟩ rfl hn hsz rfl (lv_room hroom) hdg ⟨by omega, by omega⟩) (fun _ _ _ h => h) (fun _ _ _ _ h => h) hS k1 k2
theorem h_callSX (n : Nat) {own : String} {y : MethodName} {bytes : ByteArray} {maxL nL F L index : Nat} {ret : Option FieldType} {As : List Value} {o : hO} {w' : WH} (hx : p.tables.exec = Jvm.exec) (hb : c.code = cc) (hml : c.maxLocals = nL) (hown : s.vm.findClass own = some m.cls) (hts : ∀ w ∈ lw_all, w.before args s = true) (hK : KG G s) (hR : RepH G A w H) (hS : Cu A s w0 w H locs) (hRc : wC w0 ≤ R.cells) (hRs : wS w0 ≤ R.slots)
    (hMe : hMX l G A y bytes maxL ret F L As w o w') (hw : GoodIn lw_all (va_wsS own index y (ws_ y bytes maxL ret))) (hd : y.cls ≠ "java/lang/invoke/MethodHandle" ∧ y.cls ≠ "java/lang/invoke/VarHandle" ∧ (parseMethodDescriptor y.desc).map (fun d => d.parameters.length) = some n) (hF : F + 1 ≤ R.frames) (hL : 8 + (maxL + 11) + L ≤ R.locals)
    (hn : As.length = n) (hsz : ls.size = nL) (hroom : (rest.map fun v => v.category).sum ≤ 8) (hdg : decode cc pc = .ok (.invokestatic index, 3)) {st0 : List Value} (hst : st0 = As.reverse ++ rest)
    (k1 : ∀ v, o = .inl v → ∀ (H : Heap) (locs : List Loc), RepH G A w' H → Cu A s w0 w' H locs → W p l e R s m args below meth c H locs (wC w0 - wC w') (wS w0 - wS w') Q (F0 m (pc + 3) ls (v.toList ++ rest)))
    (k2 : ∀ E q, o = .inr (E, q) → ∀ (H : Heap) (locs : List Loc), RepH G A w' H → Cu A s w0 w' H locs → (∃ ce : Cell, H[q]? = some ce ∧ ce.vm = .none ∧ s.vm.findClass E = some ce.cls) → vx_W p l e R s m args below meth c H locs (wC w0 - wC w') (wS w0 - wS w') Q (F0 m pc ls rest) q) : W p l e R s m args below meth c H locs (wC w0 - wC w) (wS w0 - wS w) Q (F0 m pc ls st0) := by
  subst hst
  have s1 := hS.2.1
  have s2 := hS.2.2
  exact h_onX (vy_runS (As := As) (rest := rest) (rc := wC w) (rs := wS w) ⟨hx, hb, hml, hown, hts⟩ hMe (va_cwS n hts hw rfl rfl rfl hd ⟨hF, hL⟩) ⟨hPc_blind, h_pre hK hR hS _⟩ rfl hn hsz rfl (lv_room hroom) hdg ⟨by omega, by omega⟩) (fun _ _ _ h => h) (fun _ _ _ _ h => h) hS k1 k2
/-- what was thrown goes on -/
theorem h_out {E : String} {q : Nat} (ht : ∀ x ∈ c.exceptionTable.toList, False) (hlk : meth.locks = false) (hR : RepH G A w H) (hS : Cu A s w0 w H locs) (hce : ∃ ce : Cell, H[q]? = some ce ∧ ce.vm = .none ∧ s.vm.findClass E = some ce.cls) : vx_W p l e R s m args below meth c H locs (wC w0 - wC w) (wS w0 - wS w) (hZX below args s G A w0 (.inr (E, q)) w) (F0 m pc ls rest) q := by
  obtain ⟨ce, h1, h2, h3⟩ := hce
  exact vy_out (fun x hx => (ht x hx).elim) hlk h1 h2 h3 (fun t ht _ => ⟨rfl, by rw [ht]; exact hR, hS.1.F ht, hS.2.1, hS.2.2⟩) hS.1.2.2 (Nat.le_refl _) (Nat.le_refl _)
theorem h_finX {t : State} {v : Option Value} (hR : RepH G A w H) (hS : Cu A s w0 w H locs) (ht : t.heap = H) : hXQ G A w0 (.inl v) w args s (.returned v) t := ⟨v, rfl, h_fin hR hS ht⟩
theorem h_ifinX (hx : p.tables.exec = Jvm.exec) (hb : c.code = cc) {x : Int32} (hr : meth.sig.returnType = some .int) (hlk : meth.locks = false) (hR : RepH G A w H) (hS : Cu A s w0 w H locs) (hdg : decode cc pc = .ok (.ireturn, 1)) : W p l e R s m args below meth c H locs (wC w0 - wC w) (wS w0 - wS w) (hZX below args s G A w0 (.inl (some (.int x))) w) (F0 m pc ls [.int x]) :=
  vy_ret (W.iret (v := x) hx hb hr (fun t ht _ => h_finX hR hS ht) hS.1.2.2 hdg hlk)
theorem h_zfinX (hx : p.tables.exec = Jvm.exec) (hb : c.code = cc) {x : Int32} {ty : FieldType} (hr : meth.sig.returnType = some ty) (hlk : meth.locks = false) (hn : narrow ty (.int x) = .int x) (hR : RepH G A w H) (hS : Cu A s w0 w H locs) (hdg : decode cc pc = .ok (.ireturn, 1)) : W p l e R s m args below meth c H locs (wC w0 - wC w) (wS w0 - wS w) (hZX below args s G A w0 (.inl (some (.int x))) w) (F0 m pc ls [.int x]) :=
  vy_ret (W.zret (v := x) hx hb hr hn (fun t ht _ => h_finX hR hS ht) hS.1.2.2 hdg hlk)
theorem h_lfinX (hx : p.tables.exec = Jvm.exec) (hb : c.code = cc) {x : Int64} (hr : meth.sig.returnType = some .long) (hlk : meth.locks = false) (hR : RepH G A w H) (hS : Cu A s w0 w H locs) (hdg : decode cc pc = .ok (.lreturn, 1)) : W p l e R s m args below meth c H locs (wC w0 - wC w) (wS w0 - wS w) (hZX below args s G A w0 (.inl (some (.long x))) w) (F0 m pc ls [.long x]) :=
  vy_ret (W.lret (v := x) hx hb hr (fun t ht _ => h_finX hR hS ht) hS.1.2.2 hdg hlk)
theorem h_vfinX (hx : p.tables.exec = Jvm.exec) (hb : c.code = cc) (hr : meth.sig.returnType = none) (hlk : meth.locks = false) (hR : RepH G A w H) (hS : Cu A s w0 w H locs) (hdg : decode cc pc = .ok (.return_, 1)) : W p l e R s m args below meth c H locs (wC w0 - wC w) (wS w0 - wS w) (hZX below args s G A w0 (.inl none) w) (F0 m pc ls []) :=
  vy_ret (W.vret hx hb hr (fun t ht _ => h_finX hR hS ht) hS.1.2.2 hdg hlk)
theorem h_afinX (hx : p.tables.exec = Jvm.exec) (hb : c.code = cc) {x : Option Nat} {rt : FieldType} (hr : meth.sig.returnType = some rt) (hlk : meth.locks = false) (hrt : (∃ n, rt = .object n) ∨ ∃ t, rt = .array t) (hR : RepH G A w H) (hS : Cu A s w0 w H locs) (hdg : decode cc pc = .ok (.areturn, 1)) : W p l e R s m args below meth c H locs (wC w0 - wC w) (wS w0 - wS w) (hZX below args s G A w0 (.inl (some (va_rf x))) w) (F0 m pc ls [va_rf x]) :=
  vy_ret (W.aret (v := va_rf x) hx hb hr hrt (by cases x with | none => exact Or.inl rfl | some a => exact Or.inr ⟨a, rfl⟩) (fun t ht _ => h_finX hR hS ht) hS.1.2.2 hdg hlk)
/-- athrow of an object whose class is known, out of the method -/
theorem h_athrow (hx : p.tables.exec = Jvm.exec) (hb : c.code = cc) {a ci : Nat} {C : String} {T : u_T} {N : Nat} (hK : KG G s) (hR : RepH G A w H) (hS : Cu A s w0 w H locs) (hc : gl_cl[ci]? = some (C, T, N)) (hh : hCl w a = some ci) (ht : ∀ x ∈ c.exceptionTable.toList, False) (hlk : meth.locks = false) (hdg : decode cc pc = .ok (.athrow, 1)) :
    W p l e R s m args below meth c H locs (wC w0 - wC w) (wS w0 - wS w) (hZX below args s G A w0 (.inr (C, a)) w) (F0 m pc ls (.ref a :: rest)) := by
  obtain ⟨fs, h1⟩ : ∃ fs, w.1 a = some (.inr (ci, fs)) := by
    unfold hCl at hh
    split at hh
    next x ex =>
      obtain ⟨c0, fs⟩ := x
      cases hh
      exact ⟨fs, ex⟩
    next => cases hh
  obtain ⟨r, e1, cell, q1, q2, q3, q4⟩ := (hR.2.2.2.2 a _ h1).2
  have hf := (hK.1.1 ci _ hc).2.1
  exact vx_athrow hx hb hdg (h_out ht hlk hR hS ⟨cell, q1, q3, by rw [q2]; exact hf⟩)
end HT
theorem rf_cat (x : Option Nat) : (va_rf x).category = 1 := by cases x <;> rfl
theorem cat_le {l : List Value} {n : Nat} (h : (2 * l.length) ≤ n) : (l.map (fun v => v.category)).sum ≤ n := by
  refine Nat.le_trans ?_ h
  clear h
  induction l with
  | nil => exact Nat.le_refl _
  | cons a t ih =>
    have : a.category ≤ 2 := by cases a <;> exact Nat.le_of_ble_eq_true rfl
    simp only [List.map, List.sum_cons, List.length_cons]
    omega
