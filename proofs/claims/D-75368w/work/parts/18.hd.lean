/-! More rows of the heap world: private and inherited calls, casts, copies -/
theorem lw_4 {a b c d : Cond} (h1 : a ∈ lw_all) (h2 : b ∈ lw_all) (h3 : c ∈ lw_all) (h4 : d ∈ lw_all) : ∀ w ∈ ([a, b, c, d] : List Cond), w ∈ lw_all := by
  intro w hw
  simp only [List.mem_cons, List.not_mem_nil, or_false] at hw
  rcases hw with e | e | e | e <;> rw [e] <;> assumption
theorem lw_5 {a b c d f : Cond} (h1 : a ∈ lw_all) (h2 : b ∈ lw_all) (h3 : c ∈ lw_all) (h4 : d ∈ lw_all) (h5 : f ∈ lw_all) : ∀ w ∈ ([a, b, c, d, f] : List Cond), w ∈ lw_all := by
  intro w hw
  simp only [List.mem_cons, List.not_mem_nil, or_false] at hw
  rcases hw with e | e | e | e | e <;> rw [e] <;> assumption
theorem lw_6 {a b c d f g : Cond} (h1 : a ∈ lw_all) (h2 : b ∈ lw_all) (h3 : c ∈ lw_all) (h4 : d ∈ lw_all) (h5 : f ∈ lw_all) (h6 : g ∈ lw_all) : ∀ w ∈ ([a, b, c, d, f, g] : List Cond), w ∈ lw_all := by
  intro w hw
  simp only [List.mem_cons, List.not_mem_nil, or_false] at hw
  rcases hw with e | e | e | e | e | e <;> rw [e] <;> assumption
theorem hIs_c {w : WH} {a ci : Nat} {u : Unit} (h0 : ci ≠ 16) (h : hIs w a ci = some u) : hCl w a = some ci := by
  unfold hIs at h
  split at h
  next h1 => exact h1
  split at h
  next h1 => exact absurd h1.1 h0
  cases h
theorem sw_lk2 {x : Int32} {k1 k2 o1 o2 d : Int} (h1 : ¬ x = Int32.ofInt k1) (h2 : ¬ x = Int32.ofInt k2) (b1 : (Int32.ofInt k1).toInt = k1 ∧ (Int32.ofInt k2).toInt = k2) : Op.lookupswitch.offset [(k1, o1), (k2, o2)] d x.toInt = d := by
  have e1 : x.toInt ≠ k1 := fun e => h1 (Int32.toInt_inj.mp (by rw [e, b1.1]))
  have e2 : x.toInt ≠ k2 := fun e => h2 (Int32.toInt_inj.mp (by rw [e, b1.2]))
  simp [Op.lookupswitch.offset, e1, e2, Ne.symm e1, Ne.symm e2]
theorem sw_out {x : Int32} {n : Nat} (h00 : 0 < n ∧ n < 2 ^ 30) (h : ∀ k, k < n → ¬ x = nI k) : x.toInt < 0 ∨ ((n - 1 : Nat) : Int) < x.toInt := by
  rcases Int.lt_or_le x.toInt 0 with h1 | h1
  · exact Or.inl h1
  · right
    rcases Int.lt_or_le ((n - 1 : Nat) : Int) x.toInt with h2 | h2
    · exact h2
    · exfalso
      obtain ⟨j, hj⟩ := Int.eq_ofNat_of_zero_le h1
      have hx : x = nI j := by
        apply Int32.toInt_inj.mp
        rw [nI_toInt (by omega)]
        exact hj
      exact h j (by omega) hx
section HD
variable {p : Program} {l : Launch} {e : Env} {R : Room} {s : State} {m : MethodId} {args : Array Value} {below : List Frame} {meth : Method} {c : Code} {H : Heap} {locs : List Loc} {cells slots : Nat} {Q : State → Prop}
variable {cc : ByteArray} {pc : Nat} {ls : Array Slot} {rest : List Value} {A : Nat → Prop} {G : gE} {w w0 : WH}
/-- an instance call whose selected method is said by a word -/
theorem h_callX (n : Nat) {own C : String} {T : u_T} {N ci b : Nat} {y : MethodName} {bytes : ByteArray} {maxL nL F L index : Nat} {ret : Option FieldType} {As : List Value} {v : Option Value} {w' : WH} {u : Unit} (hx : p.tables.exec = Jvm.exec) (hb : c.code = cc) (hml : c.maxLocals = nL) (hown : s.vm.findClass own = some m.cls) (hts : ∀ w ∈ lw_all, w.before args s = true) (hK : KG G s) (hR : RepH G A w H) (hS : Cu A s w0 w H locs) (hRc : wC w0 ≤ R.cells) (hRs : wS w0 ≤ R.slots)
    (hc : gl_cl[ci]? = some (C, T, N)) (hi : hIs w b ci = some u) (hMe : hM l G A y bytes maxL ret F L (.ref b :: As) w v w') (hw : GoodIn lw_all (ws_ y bytes maxL ret)) (hini : (Cond.initialized y.cls) ∈ lw_all) (hlink : (Cond.methodLink own index y) ∈ lw_all) (him : (Cond.instanceMethod y) ∈ lw_all) (hsel : (Cond.selects C y y).before args s = true) (hd : y.cls ≠ "java/lang/invoke/MethodHandle" ∧ y.cls ≠ "java/lang/invoke/VarHandle" ∧ (parseMethodDescriptor y.desc).map (fun d => d.parameters.length) = some n) (hF : F + 1 ≤ R.frames) (hL : 8 + (maxL + 11) + L ≤ R.locals)
    (hn : As.length = n) (hsz : ls.size = nL) (hroom : (rest.map fun v => v.category).sum ≤ 8) (hdg : decode cc pc = .ok (.invokevirtual index, 3)) {st0 st1 : List Value} (hst : st0 = As.reverse ++ .ref b :: rest) (hst1 : v.toList ++ rest = st1)
    (kk : ∀ (H : Heap) (locs : List Loc), RepH G A w' H → Cu A s w0 w' H locs → W p l e R s m args below meth c H locs (wC w0 - wC w') (wS w0 - wS w') Q (F0 m (pc + 3) ls st1)) : W p l e R s m args below meth c H locs (wC w0 - wC w) (wS w0 - wS w) Q (F0 m pc ls st0) := by
  subst hst
  have s1 := hS.2.1
  have s2 := hS.2.2
  exact h_on (hb_runV (As := As) (rest := rest) (rc := wC w) (rs := wS w) (C := C) ⟨hx, hb, hml, hown, hts⟩ hMe ⟨callB_of n hts hw rfl rfl rfl (hts _ hini) (hts _ hlink) hd ⟨hF, hL⟩, hts _ him, hsel⟩ ⟨hPc_blind, h_recv hK hR hS hc hi, h_pre hK hR hS _⟩ rfl hn hsz rfl (lv_room hroom) hdg ⟨by omega, by omega⟩) (fun _ _ _ h => h) hS hst1 kk
/-- super.y(..) -/
theorem h_callSU (n : Nat) {own C : String} {T : u_T} {N ci b : Nat} {y : MethodName} {bytes : ByteArray} {maxL nL F L index : Nat} {ret : Option FieldType} {As : List Value} {v : Option Value} {w' : WH} {u : Unit} (hx : p.tables.exec = Jvm.exec) (hb : c.code = cc) (hml : c.maxLocals = nL) (hown : s.vm.findClass own = some m.cls) (hts : ∀ w ∈ lw_all, w.before args s = true) (hK : KG G s) (hR : RepH G A w H) (hS : Cu A s w0 w H locs) (hRc : wC w0 ≤ R.cells) (hRs : wS w0 ≤ R.slots)
    (hc : gl_cl[ci]? = some (C, T, N)) (hi : hIs w b ci = some u) (hMe : hM l G A y bytes maxL ret F L (.ref b :: As) w v w') (hw : GoodIn lw_all (va_wsSU own index y (ws_ y bytes maxL ret))) (hd : y.name ≠ "<init>" ∧ (parseMethodDescriptor y.desc).map (fun d => d.parameters.length) = some n) (hF : F + 1 ≤ R.frames) (hL : 8 + (maxL + 11) + L ≤ R.locals)
    (hn : As.length = n) (hsz : ls.size = nL) (hroom : (rest.map fun v => v.category).sum ≤ 8) (hdg : decode cc pc = .ok (.invokespecial index, 3)) {st0 st1 : List Value} (hst : st0 = As.reverse ++ .ref b :: rest) (hst1 : v.toList ++ rest = st1)
    (kk : ∀ (H : Heap) (locs : List Loc), RepH G A w' H → Cu A s w0 w' H locs → W p l e R s m args below meth c H locs (wC w0 - wC w') (wS w0 - wS w') Q (F0 m (pc + 3) ls st1)) : W p l e R s m args below meth c H locs (wC w0 - wC w) (wS w0 - wS w) Q (F0 m pc ls st0) := by
  subst hst
  have s1 := hS.2.1
  have s2 := hS.2.2
  exact h_on (hb_runSU (As := As) (rest := rest) (rc := wC w) (rs := wS w) (C := C) (hK.1.1 ci _ hc).2 ⟨hx, hb, hml, hown, hts⟩ hMe (va_cwSU n hts hw rfl rfl rfl hd ⟨hF, hL⟩) ⟨hPc_blind, h_recv hK hR hS hc hi, h_pre hK hR hS _⟩ rfl hn hsz rfl (lv_room hroom) hdg ⟨by omega, by omega⟩) (fun _ _ _ h => h) hS hst1 kk
/-- a method whose named one is declared, and overridden -/
theorem h_callA (n : Nat) {own C owner : String} {T : u_T} {N ci b : Nat} {x y : MethodName} {bytes : ByteArray} {maxL nL F L index : Nat} {ret : Option FieldType} {As : List Value} {v : Option Value} {w' : WH} {u : Unit} (hx : p.tables.exec = Jvm.exec) (hb : c.code = cc) (hml : c.maxLocals = nL) (hown : s.vm.findClass own = some m.cls) (hts : ∀ w ∈ lw_all, w.before args s = true) (hK : KG G s) (hR : RepH G A w H) (hS : Cu A s w0 w H locs) (hRc : wC w0 ≤ R.cells) (hRs : wS w0 ≤ R.slots)
    (hc : gl_cl[ci]? = some (C, T, N)) (hi : hIs w b ci = some u) (hMe : hM l G A y bytes maxL ret F L (.ref b :: As) w v w') (hw : GoodIn lw_all (va_wsU own index C owner x y (ws_ y bytes maxL ret))) (hz : va_Nw (.declares ⟨owner, x.name, x.desc⟩) s) (hd : owner ≠ "java/lang/invoke/MethodHandle" ∧ owner ≠ "java/lang/invoke/VarHandle" ∧ (parseMethodDescriptor x.desc).map (fun d => d.parameters.length) = some n) (hF : F + 1 ≤ R.frames) (hL : 8 + (maxL + 11) + L ≤ R.locals)
    (hn : As.length = n) (hsz : ls.size = nL) (hroom : (rest.map fun v => v.category).sum ≤ 8) (hdg : decode cc pc = .ok (.invokevirtual index, 3)) {st0 st1 : List Value} (hst : st0 = As.reverse ++ .ref b :: rest) (hst1 : v.toList ++ rest = st1)
    (kk : ∀ (H : Heap) (locs : List Loc), RepH G A w' H → Cu A s w0 w' H locs → W p l e R s m args below meth c H locs (wC w0 - wC w') (wS w0 - wS w') Q (F0 m (pc + 3) ls st1)) : W p l e R s m args below meth c H locs (wC w0 - wC w) (wS w0 - wS w) Q (F0 m pc ls st0) := by
  subst hst
  have s1 := hS.2.1
  have s2 := hS.2.2
  exact h_on (hb_runU (As := As) (rest := rest) (rc := wC w) (rs := wS w) ⟨hx, hb, hml, hown, hts⟩ hMe (va_cwA n hts hw rfl rfl rfl hz hd ⟨hF, hL⟩) ⟨hPc_blind, h_recv hK hR hS hc hi, h_pre hK hR hS _⟩ rfl hn hsz rfl (lv_room hroom) hdg ⟨by omega, by omega⟩) (fun _ _ _ h => h) hS hst1 kk
/-- a cast that the object's own class passes -/
theorem h_castS (hx : p.tables.exec = Jvm.exec) (hb : c.code = cc) {own C : String} {T : u_T} {N ci a index : Nat} {u : Unit} (hts : ∀ w ∈ lw_all, w.before args s = true) (hown : s.vm.findClass own = some m.cls) (hK : KG G s) (hR : RepH G A w H) (hS : Cu A s w0 w H locs) (hc : gl_cl[ci]? = some (C, T, N)) (hi : hIs w a ci = some u) (hlink : (Cond.classLink own index C) ∈ lw_all) (hdg : decode cc pc = .ok (.checkcast index, 3))
    (kk : W p l e R s m args below meth c H locs cells slots Q (F0 m (pc + 3) ls (.ref a :: rest))) : W p l e R s m args below meth c H locs cells slots Q (F0 m pc ls (.ref a :: rest)) :=
  va_castS hx hb hown (hts _ hlink) (hK.1.1 ci _ hc).2 (h_recv hK hR hS hc hi) hdg kk
theorem h_instS (hx : p.tables.exec = Jvm.exec) (hb : c.code = cc) {own C : String} {T : u_T} {N ci a index : Nat} {u : Unit} (hts : ∀ w ∈ lw_all, w.before args s = true) (hown : s.vm.findClass own = some m.cls) (hK : KG G s) (hR : RepH G A w H) (hS : Cu A s w0 w H locs) (hc : gl_cl[ci]? = some (C, T, N)) (hi : hIs w a ci = some u) (hlink : (Cond.classLink own index C) ∈ lw_all) (hdg : decode cc pc = .ok (.instanceof index, 3))
    (kk : W p l e R s m args below meth c H locs cells slots Q (F0 m (pc + 3) ls (.int 1 :: rest))) : W p l e R s m args below meth c H locs cells slots Q (F0 m pc ls (.ref a :: rest)) :=
  va_instS hx hb hown (hts _ hlink) (hK.1.1 ci _ hc).2 (h_recv hK hR hS hc hi) hdg kk
/-! System.arraycopy between made arrays of one kind (0 int, 2 byte), of longs, and out of a constant array of bytes -/
def cpI (w : WH) (t a0 : Nat) (sp : Int32) (a : Nat) (dp n : Int32) : Option WH := match hArr w a0, w.1 a with
  | some (t0, n0, .inl f), some (.inl (t1, n1, .inl g)) => if (t0 = t ∧ t1 = t ∧ a0 ≠ a) ∧ (¬ sp < 0 ∧ ¬ dp < 0 ∧ ¬ n < 0 ∧ sp.toNatClampNeg + n.toNatClampNeg ≤ n0 ∧ dp.toNatClampNeg + n.toNatClampNeg ≤ n1) ∧ (t = 2 → ∀ i, i < n.toNatClampNeg → fits .byte (.int (f (sp.toNatClampNeg + i))) = true) then some (hUp w a (.inl (t1, n1, .inl (va_cpy f g sp.toNatClampNeg dp.toNatClampNeg n.toNatClampNeg)))) else none
  | _, _ => none
def cpJ (w : WH) (a0 : Nat) (sp : Int32) (a : Nat) (dp n : Int32) : Option WH := match w.1 a0, w.1 a with
  | some (.inl (t0, n0, .inr (.inl f))), some (.inl (t1, n1, .inr (.inl g))) => if (t0 = 1 ∧ t1 = 1 ∧ a0 ≠ a) ∧ (¬ sp < 0 ∧ ¬ dp < 0 ∧ ¬ n < 0 ∧ sp.toNatClampNeg + n.toNatClampNeg ≤ n0 ∧ dp.toNatClampNeg + n.toNatClampNeg ≤ n1) then some (hUp w a (.inl (t1, n1, .inr (.inl (va_cpy f g sp.toNatClampNeg dp.toNatClampNeg n.toNatClampNeg))))) else none
  | _, _ => none
theorem cpI_o {w w' : WH} {t a0 a : Nat} {sp dp n : Int32} (h : cpI w t a0 sp a dp n = some w') : ∃ n0 f n1 g, hArr w a0 = some (t, n0, .inl f) ∧ w.1 a = some (.inl (t, n1, .inl g)) ∧ a0 ≠ a ∧ (¬ sp < 0 ∧ ¬ dp < 0 ∧ ¬ n < 0 ∧ sp.toNatClampNeg + n.toNatClampNeg ≤ n0 ∧ dp.toNatClampNeg + n.toNatClampNeg ≤ n1) ∧ (t = 2 → ∀ i, i < n.toNatClampNeg → fits .byte (.int (f (sp.toNatClampNeg + i))) = true) ∧ w' = hUp w a (.inl (t, n1, .inl (va_cpy f g sp.toNatClampNeg dp.toNatClampNeg n.toNatClampNeg))) := by
  unfold cpI at h
  split at h
  next t0 n0 f t1 n1 g e1 e2 =>
    split at h
    next hh =>
      obtain ⟨⟨rfl, h2, h3⟩, h4, h5⟩ := hh
      subst h2
      cases h
      exact ⟨n0, f, n1, g, e1, e2, h3, h4, h5, rfl⟩
    next => cases h
  next => cases h
theorem cpJ_o {w w' : WH} {a0 a : Nat} {sp dp n : Int32} (h : cpJ w a0 sp a dp n = some w') : ∃ n0 f n1 g, w.1 a0 = some (.inl (1, n0, .inr (.inl f))) ∧ w.1 a = some (.inl (1, n1, .inr (.inl g))) ∧ a0 ≠ a ∧ (¬ sp < 0 ∧ ¬ dp < 0 ∧ ¬ n < 0 ∧ sp.toNatClampNeg + n.toNatClampNeg ≤ n0 ∧ dp.toNatClampNeg + n.toNatClampNeg ≤ n1) ∧ w' = hUp w a (.inl (1, n1, .inr (.inl (va_cpy f g sp.toNatClampNeg dp.toNatClampNeg n.toNatClampNeg)))) := by
  unfold cpJ at h
  split at h
  next t0 n0 f t1 n1 g e1 e2 =>
    split at h
    next hh =>
      obtain ⟨⟨rfl, h2, h3⟩, h4⟩ := hh
      subst h2
      cases h
      exact ⟨n0, f, n1, g, e1, e2, h3, h4, rfl⟩
    next => cases h
  next => cases h
theorem h_copyI (hx : p.tables.exec = Jvm.exec) (hb : c.code = cc) (hml : c.maxLocals = ls.size) {own : String} {index : Nat} {a0 a : Nat} {sp dp n : Int32} {w' : WH} (hts : ∀ w ∈ lw_all, w.before args s = true) (hown : s.vm.findClass own = some m.cls) (hK : KG G s) (hR : RepH G A w H) (hS : Cu A s w0 w H locs) (hlink : (Cond.methodLink own index arraycopyName) ∈ lw_all) (hnat : (Cond.native arraycopyName) ∈ lw_all) (hstat : (Cond.static arraycopyName) ∈ lw_all) (hini : (Cond.initialized "java/lang/System") ∈ lw_all) (hframes : 1 ≤ R.frames) (hlocals : (rest.map fun v => v.category).sum + (nativeFrameWords "java/lang/System" "arraycopy" 5 + 11) ≤ R.locals) (he : cpI w 0 a0 sp a dp n = some w') (hdg : decode cc pc = .ok (.invokestatic index, 3))
    (kk : ∀ (H : Heap) (locs : List Loc), RepH G A w' H → Cu A s w0 w' H locs → W p l e R s m args below meth c H locs (wC w0 - wC w') (wS w0 - wS w') Q (F0 m (pc + 3) ls rest)) : W p l e R s m args below meth c H locs (wC w0 - wC w) (wS w0 - wS w) Q (F0 m pc ls (.int n :: .int dp :: .ref a :: .int sp :: .ref a0 :: rest)) := by
  obtain ⟨n0, f, n1, g, h0, h1, hne, ⟨h2, h3, h4, h5, h6⟩, -, rfl⟩ := cpI_o he
  rcases hArr_o hK hR h0 with h | ⟨n', f', h, -⟩
  · have hh := hR.two h h1 hne
    exact hk_copyi hx hb hml hown (hts _ hlink) (hts _ hnat) (hts _ hstat) (hts _ hini) hK.1 hh.1 hh.2 hS.1 0 1 0 0 rfl rfl rfl rfl rfl h2 h3 h4 h5 h6 (fun i _ => rfl) hframes hlocals hdg (fun H1 locs1 z oq hP _ hS1 => kk H1 locs1 (hR.upd h1 z oq (hP 1 _ rfl)) (hS.put hS1 rfl))
  · cases h
theorem h_copyB (hx : p.tables.exec = Jvm.exec) (hb : c.code = cc) (hml : c.maxLocals = ls.size) {own : String} {index : Nat} {a0 a : Nat} {sp dp n : Int32} {w' : WH} (hts : ∀ w ∈ lw_all, w.before args s = true) (hown : s.vm.findClass own = some m.cls) (hK : KG G s) (hR : RepH G A w H) (hS : Cu A s w0 w H locs) (hlink : (Cond.methodLink own index arraycopyName) ∈ lw_all) (hnat : (Cond.native arraycopyName) ∈ lw_all) (hstat : (Cond.static arraycopyName) ∈ lw_all) (hini : (Cond.initialized "java/lang/System") ∈ lw_all) (hframes : 1 ≤ R.frames) (hlocals : (rest.map fun v => v.category).sum + (nativeFrameWords "java/lang/System" "arraycopy" 5 + 11) ≤ R.locals) (he : cpI w 2 a0 sp a dp n = some w') (hdg : decode cc pc = .ok (.invokestatic index, 3))
    (kk : ∀ (H : Heap) (locs : List Loc), RepH G A w' H → Cu A s w0 w' H locs → W p l e R s m args below meth c H locs (wC w0 - wC w') (wS w0 - wS w') Q (F0 m (pc + 3) ls rest)) : W p l e R s m args below meth c H locs (wC w0 - wC w) (wS w0 - wS w) Q (F0 m pc ls (.int n :: .int dp :: .ref a :: .int sp :: .ref a0 :: rest)) := by
  obtain ⟨n0, f, n1, g, h0, h1, hne, ⟨h2, h3, h4, h5, h6⟩, h7, rfl⟩ := cpI_o he
  rcases hArr_o hK hR h0 with h | ⟨n', f', h, hT⟩
  · have hh := hR.two h h1 hne
    exact hk_copyi hx hb hml hown (hts _ hlink) (hts _ hnat) (hts _ hstat) (hts _ hini) hK.1 hh.1 hh.2 hS.1 0 1 2 2 rfl rfl rfl rfl rfl h2 h3 h4 h5 h6 (h7 rfl) hframes hlocals hdg (fun H1 locs1 z oq hP _ hS1 => kk H1 locs1 (hR.upd h1 z oq (hP 1 _ rfl)) (hS.put hS1 rfl))
  · cases h
    have hh := hR.one h1
    exact hk_copyt hx hb hml hown (hts _ hlink) (hts _ hnat) (hts _ hstat) (hts _ hini) hK.1 hh.1 hh.2 hS.1 hT 0 2 rfl rfl h2 h3 h4 h5 h6 (h7 rfl) hframes hlocals hdg (fun H1 locs1 z oq hP _ hS1 => kk H1 locs1 (hR.upd h1 z oq (hP 0 _ rfl)) (hS.put hS1 rfl))
theorem h_copyJ (hx : p.tables.exec = Jvm.exec) (hb : c.code = cc) (hml : c.maxLocals = ls.size) {own : String} {index : Nat} {a0 a : Nat} {sp dp n : Int32} {w' : WH} (hts : ∀ w ∈ lw_all, w.before args s = true) (hown : s.vm.findClass own = some m.cls) (hK : KG G s) (hR : RepH G A w H) (hS : Cu A s w0 w H locs) (hlink : (Cond.methodLink own index arraycopyName) ∈ lw_all) (hnat : (Cond.native arraycopyName) ∈ lw_all) (hstat : (Cond.static arraycopyName) ∈ lw_all) (hini : (Cond.initialized "java/lang/System") ∈ lw_all) (hframes : 1 ≤ R.frames) (hlocals : (rest.map fun v => v.category).sum + (nativeFrameWords "java/lang/System" "arraycopy" 5 + 11) ≤ R.locals) (he : cpJ w a0 sp a dp n = some w') (hdg : decode cc pc = .ok (.invokestatic index, 3))
    (kk : ∀ (H : Heap) (locs : List Loc), RepH G A w' H → Cu A s w0 w' H locs → W p l e R s m args below meth c H locs (wC w0 - wC w') (wS w0 - wS w') Q (F0 m (pc + 3) ls rest)) : W p l e R s m args below meth c H locs (wC w0 - wC w) (wS w0 - wS w) Q (F0 m pc ls (.int n :: .int dp :: .ref a :: .int sp :: .ref a0 :: rest)) := by
  obtain ⟨n0, f, n1, g, h0, h1, hne, ⟨h2, h3, h4, h5, h6⟩, rfl⟩ := cpJ_o he
  have hh := hR.two h0 h1 hne
  exact hk_copyl hx hb hml hown (hts _ hlink) (hts _ hnat) (hts _ hstat) (hts _ hini) hK.1 hh.1 hh.2 hS.1 0 1 1 1 rfl rfl rfl rfl rfl h2 h3 h4 h5 h6 (fun i _ => rfl) hframes hlocals hdg (fun H1 locs1 z oq hP _ hS1 => kk H1 locs1 (hR.upd h1 z oq (hP 1 _ rfl)) (hS.put hS1 rfl))
end HD
def mnL (x y : Int64) : Int64 := if y < x then y else x
