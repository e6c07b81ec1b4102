/-! Rows of the heap world -/
section HR
variable {p : Program} {l : Launch} {e : Env} {R : Room} {s : State} {m : MethodId} {args : Array Value} {below : List Frame} {meth : Method} {c : Code} {H : Heap} {locs : List Loc} {cells slots : Nat} {Q : State → Prop}
variable {cc : ByteArray} {pc : Nat} {ls : Array Slot} {rest : List Value} {A : Nat → Prop} {G : gE} {w w0 : WH}
theorem lv_aload_nq (hexec : p.tables.exec = Jvm.exec) (hb : c.code = cc) {k : Fin 4} {i : Nat} {x : Option Nat} (hdg : decode cc pc = .ok (.aload_n k, 1)) (hi : (k : Nat) = i) (hl : ls[i]? = some (.val (va_rf x)))
    (kk : W p l e R s m args below meth c H locs cells slots Q (F0 m (pc + 1) ls (va_rf x :: rest))) : W p l e R s m args below meth c H locs cells slots Q (F0 m pc ls (rest)) := by
  cases x with
  | none => exact lv_aload_nN hexec hb hdg hi hl kk
  | some x => exact lv_aload_n hexec hb hdg hi hl kk
theorem lv_aloadq (hexec : p.tables.exec = Jvm.exec) (hb : c.code = cc) {i : Nat} {x : Option Nat} (hdg : decode cc pc = .ok (.aload i, 2)) (hl : ls[i]? = some (.val (va_rf x)))
    (kk : W p l e R s m args below meth c H locs cells slots Q (F0 m (pc + 2) ls (va_rf x :: rest))) : W p l e R s m args below meth c H locs cells slots Q (F0 m pc ls (rest)) := by
  cases x with
  | none => exact lv_aloadN hexec hb hdg hl kk
  | some x => exact lv_aload hexec hb hdg hl kk
theorem lv_astore_nq (hexec : p.tables.exec = Jvm.exec) (hb : c.code = cc) {k : Fin 4} {i nL : Nat} {x : Option Nat} {lv lv' : List (Nat × Value)} (hdg : decode cc pc = .ok (.astore_n k, 1)) (hi : (k : Nat) = i) (h : lv_has ls nL lv) (hn : i < nL) (hl : (i, va_rf x) :: lv.filter (fun q => !(q.1 == i) && !(q.1 + 1 == i && q.2.category == 2)) = lv')
    (kk : ∀ ls' : Array Slot, lv_has ls' nL lv' → W p l e R s m args below meth c H locs cells slots Q (F0 m (pc + 1) ls' rest)) : W p l e R s m args below meth c H locs cells slots Q (F0 m pc ls (va_rf x :: rest)) := by
  cases x with
  | none => exact lv_astore_nN hexec hb hdg hi h hn hl kk
  | some x => exact lv_astore_n hexec hb hdg hi h hn hl kk
theorem lv_astoreq (hexec : p.tables.exec = Jvm.exec) (hb : c.code = cc) {i nL : Nat} {x : Option Nat} {lv lv' : List (Nat × Value)} (hdg : decode cc pc = .ok (.astore i, 2)) (h : lv_has ls nL lv) (hn : i < nL) (hl : (i, va_rf x) :: lv.filter (fun q => !(q.1 == i) && !(q.1 + 1 == i && q.2.category == 2)) = lv')
    (kk : ∀ ls' : Array Slot, lv_has ls' nL lv' → W p l e R s m args below meth c H locs cells slots Q (F0 m (pc + 2) ls' rest)) : W p l e R s m args below meth c H locs cells slots Q (F0 m pc ls (va_rf x :: rest)) := by
  cases x with
  | none => exact lv_astoreN hexec hb hdg h hn hl kk
  | some x => exact lv_astore hexec hb hdg h hn hl kk
theorem lv_ifnullq (hexec : p.tables.exec = Jvm.exec) (hb : c.code = cc) {x : Option Nat} {off : Int} {tgt : Nat} (hdg : decode cc pc = .ok (.ifnull off, 3)) (ht : (pc : Int) + off = (tgt : Int))
    (kt : x = none → W p l e R s m args below meth c H locs cells slots Q (F0 m tgt ls rest)) (kf : ¬ x = none → W p l e R s m args below meth c H locs cells slots Q (F0 m (pc + 3) ls rest)) : W p l e R s m args below meth c H locs cells slots Q (F0 m pc ls (va_rf x :: rest)) := by
  cases x with
  | none => exact lv_ifnullN hexec hb hdg ht (kt rfl)
  | some x => exact lv_ifnull hexec hb hdg (kf (by simp))
theorem lv_ifnonnullq (hexec : p.tables.exec = Jvm.exec) (hb : c.code = cc) {x : Option Nat} {off : Int} {tgt : Nat} (hdg : decode cc pc = .ok (.ifnonnull off, 3)) (ht : (pc : Int) + off = (tgt : Int))
    (kt : ¬ x = none → W p l e R s m args below meth c H locs cells slots Q (F0 m tgt ls rest)) (kf : x = none → W p l e R s m args below meth c H locs cells slots Q (F0 m (pc + 3) ls rest)) : W p l e R s m args below meth c H locs cells slots Q (F0 m pc ls (va_rf x :: rest)) := by
  cases x with
  | none => exact lv_ifnonnullN hexec hb hdg (kf rfl)
  | some x => exact lv_ifnonnull hexec hb hdg ht (kt (by simp))
theorem va_rfs (a : Nat) : va_rf (some a) = .ref a := rfl
/-! fields -/
theorem fld_o {a ci k : Nat} {v : Value} (he : fld w a ci k = some v) (hro : ∀ K a, roF K a ci k = none) : ∃ fs, w.1 a = some (.inr (ci, fs)) ∧ fs[k]? = some v := by
  unfold fld at he
  split at he
  next x ex =>
    split at he
    next hh =>
      obtain ⟨c0, fs⟩ := x
      have h1 : c0 = ci := hh
      subst h1
      exact ⟨fs, ex, he⟩
    next => cases he
  next => cases he
  next => rw [hro] at he; cases he
theorem h_get (hx : p.tables.exec = Jvm.exec) (hb : c.code = cc) {own ref C : String} {T : u_T} {a N ci k index : Nat} {v : Value} (hts : ∀ w ∈ lw_all, w.before args s = true) (hown : s.vm.findClass own = some m.cls) (hK : KG G s) (hR : RepH G A w H) (hin : ∀ w ∈ u_ws C T N, w ∈ lw_all) (hc : gl_cl[ci]? = some (C, T, N)) (hk : k < N) (hro : ∀ K a, roF K a ci k = none) (hlink : (Cond.fieldLink own index ref (T k).2.1 (T k).2.2.1) ∈ lw_all) (hsame : ∀ x, s.fieldFound? (T k).1 (T k).2.1 (T k).2.2.1 = some x → s.fieldFound? ref (T k).2.1 (T k).2.2.1 = some x) (he : fld w a ci k = some v) (hdg : decode cc pc = .ok (.getfield index, 3))
    (kk : W p l e R s m args below meth c H locs cells slots Q (F0 m (pc + 3) ls (v :: rest))) : W p l e R s m args below meth c H locs cells slots Q (F0 m pc ls (.ref a :: rest)) := by
  obtain ⟨fs, h1, h2⟩ := fld_o he hro
  exact va_get (D := G.1) (ci := ci) (C := C) (T := T) (N := N) hx hb hts hin hown hK.1 (hR.one h1).1 0 rfl hc k hk (hts _ hlink) hsame h2 hdg kk
theorem h_getN (hx : p.tables.exec = Jvm.exec) (hb : c.code = cc) {own ref C host : String} {T : u_T} {a N ci k index : Nat} {v : Value} (hts : ∀ w ∈ lw_all, w.before args s = true) (hown : s.vm.findClass own = some m.cls) (hK : KG G s) (hR : RepH G A w H) (hin : ∀ w ∈ u_ws C T N, w ∈ lw_all) (hc : gl_cl[ci]? = some (C, T, N)) (hk : k < N) (hro : ∀ K a, roF K a ci k = none) (hlink : va_Nw (.fieldLinkNest own index ref (T k).2.1 (T k).2.2.1 host) s) (hsame : ∀ x, s.fieldFound? (T k).1 (T k).2.1 (T k).2.2.1 = some x → s.fieldFound? ref (T k).2.1 (T k).2.2.1 = some x) (he : fld w a ci k = some v) (hdg : decode cc pc = .ok (.getfield index, 3))
    (kk : W p l e R s m args below meth c H locs cells slots Q (F0 m (pc + 3) ls (v :: rest))) : W p l e R s m args below meth c H locs cells slots Q (F0 m pc ls (.ref a :: rest)) := by
  obtain ⟨fs, h1, h2⟩ := fld_o he hro
  exact va_getN (D := G.1) (ci := ci) (C := C) (T := T) (N := N) hx hb hts hin hown hK.1 (hR.one h1).1 0 rfl hc k hk (va_Nw.use rfl hlink) hsame h2 hdg kk
/-- value and coder of a String: made, or a constant -/
theorem h_getS (hx : p.tables.exec = Jvm.exec) (hb : c.code = cc) {own : String} {a k index : Nat} {v : Value} (hts : ∀ w ∈ lw_all, w.before args s = true) (hown : s.vm.findClass own = some m.cls) (hK : KG G s) (hR : RepH G A w H) (hS : Cu A s w0 w H locs) (hk : k < 2) (hlink : (Cond.fieldLink own index RJ9 (TJ9 k).2.1 (TJ9 k).2.2.1) ∈ lw_all) (he : fld w a 16 k = some v) (hdg : decode cc pc = .ok (.getfield index, 3))
    (kk : W p l e R s m args below meth c H locs cells slots Q (F0 m (pc + 3) ls (v :: rest))) : W p l e R s m args below meth c H locs cells slots Q (F0 m pc ls (.ref a :: rest)) := by
  have hkk : k = 0 ∨ k = 1 := by omega
  by_cases hn : w.1 a = none
  · have he2 : roF (wK w) a 16 k = some v := by
      unfold fld at he
      rw [hn] at he
      exact he
    have hvs := hK.2.1.1
    rcases hkk with rfl | rfl
    · simp only [roF, if_true, Option.map_eq_some_iff] at he2
      obtain ⟨i, h1, h2⟩ := he2
      obtain ⟨hi, rfl⟩ := kIx_o h1
      rw [hR.2.2.1] at *
      subst h2
      exact vk_getf hx hb (o := "java/lang/String") ((hvs i hi).2.2.1.narrow hR.1) hS.1 hown (hts _ hlink) (fun _ h => h) hdg kk
    · simp only [roF, if_true, Option.map_eq_some_iff] at he2
      obtain ⟨i, h1, h2⟩ := he2
      obtain ⟨hi, rfl⟩ := kIx_o h1
      rw [hR.2.2.1] at *
      subst h2
      exact vk_getf hx hb (o := "java/lang/String") ((hvs i hi).2.1.narrow hR.1) hS.1 hown (hts _ hlink) (fun _ h => h) hdg kk
  · obtain ⟨fs, h1, h2⟩ : ∃ fs, w.1 a = some (.inr (16, fs)) ∧ fs[k]? = some v := by
      unfold fld at he
      split at he
      next x ex =>
        split at he
        next hh =>
          obtain ⟨c0, fs⟩ := x
          have h1 : c0 = 16 := hh
          subst h1
          exact ⟨fs, ex, he⟩
        next => cases he
      next => cases he
      next ex => exact absurd ex hn
    refine va_get (D := G.1) (ci := 16) (C := RJ9) (T := TJ9) (N := 4) hx hb hts in_J9 hown hK.1 (hR.one h1).1 0 rfl rfl k (by omega) (hts _ hlink) ?_ h2 hdg kk
    rcases hkk with rfl | rfl <;> exact fun _ h => h
/-- which withToll a constant weight has -/
def wTo (K : Nat → Nat) (a : Nat) : Option Int32 := if a = K 7 then some 0 else if a = K 8 then some 1 else none
theorem h_getW (hx : p.tables.exec = Jvm.exec) (hb : c.code = cc) {own : String} {a index : Nat} {v : Int32} (hts : ∀ w ∈ lw_all, w.before args s = true) (hown : s.vm.findClass own = some m.cls) (hK : KG G s) (hR : RepH G A w H) (hS : Cu A s w0 w H locs) (hlink : (Cond.fieldLink own index "TollLeader$Weight$3" "val$withToll" "Z") ∈ lw_all) (he : wTo (wK w) a = some v) (hdg : decode cc pc = .ok (.getfield index, 3))
    (kk : W p l e R s m args below meth c H locs cells slots Q (F0 m (pc + 3) ls (.int v :: rest))) : W p l e R s m args below meth c H locs cells slots Q (F0 m pc ls (.ref a :: rest)) := by
  rw [hR.2.2.1] at he
  unfold wTo at he
  split at he
  next h1 =>
    cases he
    subst h1
    exact vk_getf hx hb (o := "TollLeader$Weight$3") (hK.2.2.2.2.2.2.1.narrow hR.1) hS.1 hown (hts _ hlink) (fun _ h => h) hdg kk
  split at he
  next h1 =>
    cases he
    subst h1
    exact vk_getf hx hb (o := "TollLeader$Weight$3") (hK.2.2.2.2.2.2.2.1.narrow hR.1) hS.1 hown (hts _ hlink) (fun _ h => h) hdg kk
  cases he
theorem Cu.put {w' : WH} {H1 : Heap} {locs1 : List Loc} (hS : Cu A s w0 w H locs) (h : va_S A s.heap H1 locs1) (e1 : w'.2 = w.2) : Cu A s w0 w' H1 locs1 := ⟨h, by unfold wC; rw [e1]; exact hS.2.1, by unfold wS; rw [e1]; exact hS.2.2⟩
theorem h_put (hx : p.tables.exec = Jvm.exec) (hb : c.code = cc) {own ref C : String} {T : u_T} {a N ci k index : Nat} {v : Value} {w' : WH} (hts : ∀ w ∈ lw_all, w.before args s = true) (hown : s.vm.findClass own = some m.cls) (hK : KG G s) (hR : RepH G A w H) (hS : Cu A s w0 w H locs) (hin : ∀ w ∈ u_ws C T N, w ∈ lw_all) (ty0 : Nat → FieldType) (hty : ∀ k, k < N → parseFieldDescriptor (T k).2.2.1 = some (ty0 k)) (hnm : ∀ a, a < N → ∀ b, b < N → a ≠ b → (T a).2.1 ≠ (T b).2.1) (hc : gl_cl[ci]? = some (C, T, N)) (hk : k < N) (hlink : (Cond.fieldLink own index ref (T k).2.1 (T k).2.2.1) ∈ lw_all) (hsame : ∀ x, s.fieldFound? (T k).1 (T k).2.1 (T k).2.2.1 = some x → s.fieldFound? ref (T k).2.1 (T k).2.2.1 = some x) (hfin : (T k).2.2.2 = false) {ty : FieldType} (hd : parseFieldDescriptor (T k).2.2.1 = some ty) (hn : narrow ty v = v) (hfit : fits ty v = true) (he : hPut w a ci k v = some w') (hdg : decode cc pc = .ok (.putfield index, 3))
    (kk : ∀ (H : Heap) (locs : List Loc), RepH G A w' H → Cu A s w0 w' H locs → W p l e R s m args below meth c H locs (wC w0 - wC w') (wS w0 - wS w') Q (F0 m (pc + 3) ls rest)) : W p l e R s m args below meth c H locs (wC w0 - wC w) (wS w0 - wS w) Q (F0 m pc ls (v :: .ref a :: rest)) := by
  obtain ⟨fs, h1, h2, rfl⟩ := hPut_o he
  have hh := hR.one h1
  refine hk_put (D := G.1) (ci := ci) (C := C) (T := T) (N := N) hx hb hts hin ty0 hty hnm hown hK.1 hh.1 hh.2 hS.1 0 rfl hc k hk (hts _ hlink) hsame hfin hd hn hfit h2 hdg (fun H1 locs1 z oq hP _ hS1 => kk H1 locs1 (hR.upd h1 z oq (hP 0 _ rfl)) (hS.put hS1 rfl))
theorem h_putF (hx : p.tables.exec = Jvm.exec) (hb : c.code = cc) {own ref C : String} {T : u_T} {a N ci k index : Nat} {v : Value} {w' : WH} (hts : ∀ w ∈ lw_all, w.before args s = true) (hown : s.vm.findClass own = some m.cls) (hK : KG G s) (hR : RepH G A w H) (hS : Cu A s w0 w H locs) (hin : ∀ w ∈ u_ws C T N, w ∈ lw_all) (ty0 : Nat → FieldType) (hty : ∀ k, k < N → parseFieldDescriptor (T k).2.2.1 = some (ty0 k)) (hnm : ∀ a, a < N → ∀ b, b < N → a ≠ b → (T a).2.1 ≠ (T b).2.1) (hc : gl_cl[ci]? = some (C, T, N)) (hk : k < N) (hlink : (Cond.fieldLink own index ref (T k).2.1 (T k).2.2.1) ∈ lw_all) (hsame : ∀ x, s.fieldFound? (T k).1 (T k).2.1 (T k).2.2.1 = some x → s.fieldFound? ref (T k).2.1 (T k).2.2.1 = some x) (hfin : (T k).2.2.2 = true) (hin2 : meth.name = "<init>") (hdecl : (T k).1 = own) {ty : FieldType} (hd : parseFieldDescriptor (T k).2.2.1 = some ty) (hn : narrow ty v = v) (hfit : fits ty v = true) (he : hPut w a ci k v = some w') (hdg : decode cc pc = .ok (.putfield index, 3))
    (kk : ∀ (H : Heap) (locs : List Loc), RepH G A w' H → Cu A s w0 w' H locs → W p l e R s m args below meth c H locs (wC w0 - wC w') (wS w0 - wS w') Q (F0 m (pc + 3) ls rest)) : W p l e R s m args below meth c H locs (wC w0 - wC w) (wS w0 - wS w) Q (F0 m pc ls (v :: .ref a :: rest)) := by
  obtain ⟨fs, h1, h2, rfl⟩ := hPut_o he
  have hh := hR.one h1
  refine hk_putF (D := G.1) (ci := ci) (C := C) (T := T) (N := N) hx hb hts hin ty0 hty hnm hown hK.1 hh.1 hh.2 hS.1 0 rfl hc k hk (hts _ hlink) hsame hfin hin2 hdecl hd hn hfit h2 hdg (fun H1 locs1 z oq hP _ hS1 => kk H1 locs1 (hR.upd h1 z oq (hP 0 _ rfl)) (hS.put hS1 rfl))
theorem h_putN (hx : p.tables.exec = Jvm.exec) (hb : c.code = cc) {own ref C host : String} {T : u_T} {a N ci k index : Nat} {v : Value} {w' : WH} (hts : ∀ w ∈ lw_all, w.before args s = true) (hown : s.vm.findClass own = some m.cls) (hK : KG G s) (hR : RepH G A w H) (hS : Cu A s w0 w H locs) (hin : ∀ w ∈ u_ws C T N, w ∈ lw_all) (ty0 : Nat → FieldType) (hty : ∀ k, k < N → parseFieldDescriptor (T k).2.2.1 = some (ty0 k)) (hnm : ∀ a, a < N → ∀ b, b < N → a ≠ b → (T a).2.1 ≠ (T b).2.1) (hc : gl_cl[ci]? = some (C, T, N)) (hk : k < N) (hlink : va_Nw (.fieldLinkNest own index ref (T k).2.1 (T k).2.2.1 host) s) (hsame : ∀ x, s.fieldFound? (T k).1 (T k).2.1 (T k).2.2.1 = some x → s.fieldFound? ref (T k).2.1 (T k).2.2.1 = some x) (hfin : (T k).2.2.2 = false) {ty : FieldType} (hd : parseFieldDescriptor (T k).2.2.1 = some ty) (hn : narrow ty v = v) (hfit : fits ty v = true) (he : hPut w a ci k v = some w') (hdg : decode cc pc = .ok (.putfield index, 3))
    (kk : ∀ (H : Heap) (locs : List Loc), RepH G A w' H → Cu A s w0 w' H locs → W p l e R s m args below meth c H locs (wC w0 - wC w') (wS w0 - wS w') Q (F0 m (pc + 3) ls rest)) : W p l e R s m args below meth c H locs (wC w0 - wC w) (wS w0 - wS w) Q (F0 m pc ls (v :: .ref a :: rest)) := by
  obtain ⟨fs, h1, h2, rfl⟩ := hPut_o he
  have hh := hR.one h1
  refine hk_putN (D := G.1) (ci := ci) (C := C) (T := T) (N := N) hx hb hts hin ty0 hty hnm hown hK.1 hh.1 hh.2 hS.1 0 rfl hc k hk (va_Nw.use rfl hlink) hsame hfin hd hn hfit h2 hdg (fun H1 locs1 z oq hP _ hS1 => kk H1 locs1 (hR.upd h1 z oq (hP 0 _ rfl)) (hS.put hS1 rfl))
/-! statics -/
theorem h_gets (hx : p.tables.exec = Jvm.exec) (hb : c.code = cc) {own ref C n d : String} {index : Nat} {v : Value} (hts : ∀ w ∈ lw_all, w.before args s = true) (hown : s.vm.findClass own = some m.cls) (hR : RepH G A w H) (hS : Cu A s w0 w H locs) (hZ : va_Z C n d v (gFr G) s s.heap) (hlink : (Cond.fieldLink own index ref n d) ∈ lw_all) (hsame : ∀ x, s.fieldFound? C n d = some x → s.fieldFound? ref n d = some x) (hdg : decode cc pc = .ok (.getstatic index, 3))
    (kk : W p l e R s m args below meth c H locs cells slots Q (F0 m (pc + 3) ls (v :: rest))) : W p l e R s m args below meth c H locs cells slots Q (F0 m pc ls rest) :=
  va_gets hx hb (hZ.narrow hR.1) hS.1 hown (hts _ hlink) hsame hdg kk
theorem h_getsN (hx : p.tables.exec = Jvm.exec) (hb : c.code = cc) {own ref C n d host : String} {index : Nat} {v : Value} (hown : s.vm.findClass own = some m.cls) (hR : RepH G A w H) (hS : Cu A s w0 w H locs) (hZ : va_Z C n d v (gFr G) s s.heap) (hlink : va_Nw (.fieldLinkNest own index ref n d host) s) (hsame : ∀ x, s.fieldFound? C n d = some x → s.fieldFound? ref n d = some x) (hdg : decode cc pc = .ok (.getstatic index, 3))
    (kk : W p l e R s m args below meth c H locs cells slots Q (F0 m (pc + 3) ls (v :: rest))) : W p l e R s m args below meth c H locs cells slots Q (F0 m pc ls rest) :=
  va_getsN hx hb (hZ.narrow hR.1) hS.1 hown (va_Nw.use rfl hlink) hsame hdg kk
/-! arrays -/
theorem roA_o {K : Nat → Nat} {a : Nat} {x : Nat × vp_A} (h : roA K a = some x) : (∃ i, i < 5 ∧ a = K (10 + i) ∧ x = (2, (gl_len.getD i 0, .inl (fun j => (gl_byt.getD i []).getD j 0)))) ∨ (a = K 20 ∧ x = (2, (100, .inl dg_T))) ∨ (a = K 21 ∧ x = (2, (100, .inl dg_O))) := by
  unfold roA at h
  split at h
  next i hi =>
    obtain ⟨h1, h2⟩ := kIx_o hi
    cases h
    exact Or.inl ⟨i, h1, h2, rfl⟩
  next =>
    split at h
    next h1 => cases h; exact Or.inr (Or.inl ⟨h1, rfl⟩)
    split at h
    next h1 => cases h; exact Or.inr (Or.inr ⟨h1, rfl⟩)
    cases h
/-- an array that is read: a made one, or a constant one of bytes -/
theorem hArr_o (hK : KG G s) (hR : RepH G A w H) {a : Nat} {x : Nat × vp_A} (h : hArr w a = some x) : w.1 a = some (.inl x) ∨ (∃ n f, x = (2, (n, .inl f)) ∧ va_T .byte a n (fun j => .int (f j)) A s s.heap) := by
  unfold hArr at h
  split at h
  next y ey => cases h; exact Or.inl ey
  next => cases h
  next ey =>
    rw [hR.2.2.1] at h
    rcases roA_o h with ⟨i, h1, rfl, rfl⟩ | ⟨rfl, rfl⟩ | ⟨rfl, rfl⟩
    · exact Or.inr ⟨_, _, rfl, ((hK.2.1.1 i h1).2.2.2).narrow hR.1⟩
    · exact Or.inr ⟨_, _, rfl, (hK.2.2.2.2.2.2.2.2.2.1).narrow hR.1⟩
    · exact Or.inr ⟨_, _, rfl, (hK.2.2.2.2.2.2.2.2.2.2.1).narrow hR.1⟩
theorem h_iald (hx : p.tables.exec = Jvm.exec) (hb : c.code = cc) (hK : KG G s) (hR : RepH G A w H) {a : Nat} {i x : Int32} (he : ldI w a 0 i = some x) (hdg : decode cc pc = .ok (.iaload, 1))
    (kk : W p l e R s m args below meth c H locs cells slots Q (F0 m (pc + 1) ls (.int x :: rest))) : W p l e R s m args below meth c H locs cells slots Q (F0 m pc ls (.int i :: .ref a :: rest)) := by
  obtain ⟨n, f, h1, h2, rfl⟩ := ldI_o he
  rcases hArr_o hK hR h1 with h | ⟨n', f', h, -⟩
  · exact va_iald hx hb hK.1 (hR.one h).1 0 0 rfl rfl h2 hdg kk
  · cases h
theorem h_zald (hx : p.tables.exec = Jvm.exec) (hb : c.code = cc) (hK : KG G s) (hR : RepH G A w H) {a : Nat} {i x : Int32} (he : ldI w a 3 i = some x) (hdg : decode cc pc = .ok (.baload, 1))
    (kk : W p l e R s m args below meth c H locs cells slots Q (F0 m (pc + 1) ls (.int x :: rest))) : W p l e R s m args below meth c H locs cells slots Q (F0 m pc ls (.int i :: .ref a :: rest)) := by
  obtain ⟨n, f, h1, h2, rfl⟩ := ldI_o he
  rcases hArr_o hK hR h1 with h | ⟨n', f', h, -⟩
  · exact va_zald hx hb hK.1 (hR.one h).1 0 3 rfl rfl h2 hdg kk
  · cases h
theorem h_bald (hx : p.tables.exec = Jvm.exec) (hb : c.code = cc) (hK : KG G s) (hR : RepH G A w H) (hS : Cu A s w0 w H locs) {a : Nat} {i x : Int32} (he : ldI w a 2 i = some x) (hdg : decode cc pc = .ok (.baload, 1))
    (kk : W p l e R s m args below meth c H locs cells slots Q (F0 m (pc + 1) ls (.int x :: rest))) : W p l e R s m args below meth c H locs cells slots Q (F0 m pc ls (.int i :: .ref a :: rest)) := by
  obtain ⟨n, f, h1, h2, rfl⟩ := ldI_o he
  rcases hArr_o hK hR h1 with h | ⟨n', f', h, hT⟩
  · exact va_bald hx hb hK.1 (hR.one h).1 0 2 rfl rfl h2 hdg kk
  · cases h
    exact va_tb hx hb hT hS.1 h2 rfl hdg kk
theorem h_lald (hx : p.tables.exec = Jvm.exec) (hb : c.code = cc) (hK : KG G s) (hR : RepH G A w H) {a : Nat} {i : Int32} {x : Int64} (he : ldJ w a i = some x) (hdg : decode cc pc = .ok (.laload, 1))
    (kk : W p l e R s m args below meth c H locs cells slots Q (F0 m (pc + 1) ls (.long x :: rest))) : W p l e R s m args below meth c H locs cells slots Q (F0 m pc ls (.int i :: .ref a :: rest)) := by
  obtain ⟨n, f, h1, h2, rfl⟩ := ldJ_o he
  rcases hArr_o hK hR h1 with h | ⟨n', f', h, -⟩
  · exact va_lald hx hb hK.1 (hR.one h).1 0 1 rfl rfl h2 hdg kk
  · cases h
theorem h_aald (hx : p.tables.exec = Jvm.exec) (hb : c.code = cc) (hK : KG G s) (hR : RepH G A w H) {a : Nat} (t : Nat) {C : String} {i : Int32} {x : Option Nat} (he : ldR w a t i = some x) (ht : (gl_tys G)[t]? = some (gA G t, .object C)) (hdg : decode cc pc = .ok (.aaload, 1))
    (kk : W p l e R s m args below meth c H locs cells slots Q (F0 m (pc + 1) ls (va_rf x :: rest))) : W p l e R s m args below meth c H locs cells slots Q (F0 m pc ls (.int i :: .ref a :: rest)) := by
  obtain ⟨n, f, h1, h2, rfl⟩ := ldR_o he
  rcases hArr_o hK hR h1 with h | ⟨n', f', h, -⟩
  · exact va_aldq hx hb hK.1 (hR.one h).1 0 t rfl ht h2 hdg kk
  · cases h
theorem h_alen (hx : p.tables.exec = Jvm.exec) (hb : c.code = cc) (hK : KG G s) (hR : RepH G A w H) (hS : Cu A s w0 w H locs) {a : Nat} {x : Int32} (he : aLn w a = some x) (hdg : decode cc pc = .ok (.arraylength, 1))
    (kk : W p l e R s m args below meth c H locs cells slots Q (F0 m (pc + 1) ls (.int x :: rest))) : W p l e R s m args below meth c H locs cells slots Q (F0 m pc ls (.ref a :: rest)) := by
  obtain ⟨y, h1, h6, h2⟩ := aLn_o he
  rcases hArr_o hK hR h1 with h | ⟨n', f', rfl, hT⟩
  · have : ∃ ty, (gl_tys G)[y.1]? = some (gA G y.1, ty) := by
      obtain ⟨t, z⟩ := y
      match t, h6 with
      | 0, _ => exact ⟨_, rfl⟩
      | 1, _ => exact ⟨_, rfl⟩
      | 2, _ => exact ⟨_, rfl⟩
      | 3, _ => exact ⟨_, rfl⟩
      | 4, _ => exact ⟨_, rfl⟩
      | 5, _ => exact ⟨_, rfl⟩
    obtain ⟨ty, hty⟩ := this
    exact va_alen hx hb hK.1 (hR.one h).1 0 y.1 rfl hty h2 hdg kk
  · exact va_tlen hx hb hT hS.1 h2 hdg kk
theorem h_iast (hx : p.tables.exec = Jvm.exec) (hb : c.code = cc) (hK : KG G s) (hR : RepH G A w H) (hS : Cu A s w0 w H locs) {a : Nat} {i x : Int32} {w' : WH} (he : stI w a 0 i x = some w') (hdg : decode cc pc = .ok (.iastore, 1))
    (kk : ∀ (H : Heap) (locs : List Loc), RepH G A w' H → Cu A s w0 w' H locs → W p l e R s m args below meth c H locs (wC w0 - wC w') (wS w0 - wS w') Q (F0 m (pc + 1) ls rest)) : W p l e R s m args below meth c H locs (wC w0 - wC w) (wS w0 - wS w) Q (F0 m pc ls (.int x :: .int i :: .ref a :: rest)) := by
  obtain ⟨n, f, h1, h2, rfl⟩ := stI_o he
  have hh := hR.one h1
  exact hk_iast hx hb hK.1 hh.1 hh.2 hS.1 0 0 rfl rfl h2 hdg (fun H1 locs1 z oq hP _ hS1 => kk H1 locs1 (hR.upd h1 z oq (hP 0 _ rfl)) (hS.put hS1 rfl))
theorem h_bast (hx : p.tables.exec = Jvm.exec) (hb : c.code = cc) (hK : KG G s) (hR : RepH G A w H) (hS : Cu A s w0 w H locs) {a : Nat} {i x : Int32} {w' : WH} (he : stI w a 2 i (vp_nar .byte x) = some w') (hdg : decode cc pc = .ok (.bastore, 1))
    (kk : ∀ (H : Heap) (locs : List Loc), RepH G A w' H → Cu A s w0 w' H locs → W p l e R s m args below meth c H locs (wC w0 - wC w') (wS w0 - wS w') Q (F0 m (pc + 1) ls rest)) : W p l e R s m args below meth c H locs (wC w0 - wC w) (wS w0 - wS w) Q (F0 m pc ls (.int x :: .int i :: .ref a :: rest)) := by
  obtain ⟨n, f, h1, h2, rfl⟩ := stI_o he
  have hh := hR.one h1
  exact hk_bast hx hb hK.1 hh.1 hh.2 hS.1 0 2 rfl rfl h2 hdg (fun H1 locs1 z oq hP _ hS1 => kk H1 locs1 (hR.upd h1 z oq (hP 0 _ rfl)) (hS.put hS1 rfl))
theorem h_zast (hx : p.tables.exec = Jvm.exec) (hb : c.code = cc) (hK : KG G s) (hR : RepH G A w H) (hS : Cu A s w0 w H locs) {a : Nat} {i x : Int32} {w' : WH} (he : stI w a 3 i (vp_nar .boolean x) = some w') (hdg : decode cc pc = .ok (.bastore, 1))
    (kk : ∀ (H : Heap) (locs : List Loc), RepH G A w' H → Cu A s w0 w' H locs → W p l e R s m args below meth c H locs (wC w0 - wC w') (wS w0 - wS w') Q (F0 m (pc + 1) ls rest)) : W p l e R s m args below meth c H locs (wC w0 - wC w) (wS w0 - wS w) Q (F0 m pc ls (.int x :: .int i :: .ref a :: rest)) := by
  obtain ⟨n, f, h1, h2, rfl⟩ := stI_o he
  have hh := hR.one h1
  exact hk_zast hx hb hK.1 hh.1 hh.2 hS.1 0 3 rfl rfl h2 hdg (fun H1 locs1 z oq hP _ hS1 => kk H1 locs1 (hR.upd h1 z oq (hP 0 _ rfl)) (hS.put hS1 rfl))
theorem h_last (hx : p.tables.exec = Jvm.exec) (hb : c.code = cc) (hK : KG G s) (hR : RepH G A w H) (hS : Cu A s w0 w H locs) {a : Nat} {i : Int32} {x : Int64} {w' : WH} (he : stJ w a i x = some w') (hdg : decode cc pc = .ok (.lastore, 1))
    (kk : ∀ (H : Heap) (locs : List Loc), RepH G A w' H → Cu A s w0 w' H locs → W p l e R s m args below meth c H locs (wC w0 - wC w') (wS w0 - wS w') Q (F0 m (pc + 1) ls rest)) : W p l e R s m args below meth c H locs (wC w0 - wC w) (wS w0 - wS w) Q (F0 m pc ls (.long x :: .int i :: .ref a :: rest)) := by
  obtain ⟨n, f, h1, h2, rfl⟩ := stJ_o he
  have hh := hR.one h1
  exact hk_last hx hb hK.1 hh.1 hh.2 hS.1 0 1 rfl rfl h2 hdg (fun H1 locs1 z oq hP _ hS1 => kk H1 locs1 (hR.upd h1 z oq (hP 0 _ rfl)) (hS.put hS1 rfl))
theorem h_aastN (hx : p.tables.exec = Jvm.exec) (hb : c.code = cc) (hK : KG G s) (hR : RepH G A w H) (hS : Cu A s w0 w H locs) {a : Nat} (t : Nat) {C : String} {i : Int32} {w' : WH} (he : stR w a t i none = some w') (ht : (gl_tys G)[t]? = some (gA G t, .object C)) (hdg : decode cc pc = .ok (.aastore, 1))
    (kk : ∀ (H : Heap) (locs : List Loc), RepH G A w' H → Cu A s w0 w' H locs → W p l e R s m args below meth c H locs (wC w0 - wC w') (wS w0 - wS w') Q (F0 m (pc + 1) ls rest)) : W p l e R s m args below meth c H locs (wC w0 - wC w) (wS w0 - wS w) Q (F0 m pc ls (.null :: .int i :: .ref a :: rest)) := by
  obtain ⟨n, f, h1, h2, rfl⟩ := stR_o he
  have hh := hR.one h1
  exact hk_astqN hx hb hK.1 hh.1 hh.2 hS.1 0 t rfl ht h2 hdg (fun H1 locs1 z oq hP _ hS1 => kk H1 locs1 (hR.upd h1 z oq (hP 0 _ rfl)) (hS.put hS1 rfl))
/-- two cells, apart -/
theorem RepH.two {a b : Nat} {x y : hE} (hR : RepH G A w H) (h : w.1 a = some x) (h2 : w.1 b = some y) (hne : a ≠ b) : va_P G.1 gl_cl [(a, hx_ G x), (b, hx_ G y)] H ∧ va_D A [(a, hx_ G x), (b, hx_ G y)] := by
  obtain ⟨hA, hat⟩ := hR.2.2.2.2 a x h
  obtain ⟨hB, hbt⟩ := hR.2.2.2.2 b y h2
  refine ⟨fun k q hq => ?_, fun i j p q hi hj e => ?_, fun k q hq => ?_⟩
  · match k, hq with
    | 0, hq => cases hq; exact hat
    | 1, hq => cases hq; exact hbt
    | k + 2, hq => simp at hq
  · match i, j, hi, hj with
    | 0, 0, _, _ => rfl
    | 1, 1, _, _ => rfl
    | 0, 1, hi, hj => cases hi; cases hj; exact absurd e hne
    | 1, 0, hi, hj => cases hi; cases hj; exact absurd e.symm hne
    | i + 2, _, hi, _ => simp at hi
    | _, j + 2, _, hj => simp at hj
  · match k, hq with
    | 0, hq => cases hq; exact hA
    | 1, hq => cases hq; exact hB
    | k + 2, hq => simp at hq
theorem h_aast (hx : p.tables.exec = Jvm.exec) (hb : c.code = cc) (hK : KG G s) (hR : RepH G A w H) (hS : Cu A s w0 w H locs) {a v ci : Nat} (t : Nat) {E : String} {r : vw_C} {i : Int32} {w' : WH} (he : stR w a t i (some v) = some w') (hv : hCl w v = some ci) (ht : (gl_tys G)[t]? = some (gA G t, .object E)) (hc : gl_cl[ci]? = some r) (hca : va_Nw (.castable r.1 E) s) (hdg : decode cc pc = .ok (.aastore, 1))
    (kk : ∀ (H : Heap) (locs : List Loc), RepH G A w' H → Cu A s w0 w' H locs → W p l e R s m args below meth c H locs (wC w0 - wC w') (wS w0 - wS w') Q (F0 m (pc + 1) ls rest)) : W p l e R s m args below meth c H locs (wC w0 - wC w) (wS w0 - wS w) Q (F0 m pc ls (.ref v :: .int i :: .ref a :: rest)) := by
  obtain ⟨n, f, h1, h2, rfl⟩ := stR_o he
  obtain ⟨fs, hv2⟩ : ∃ fs, w.1 v = some (.inr (ci, fs)) := by
    unfold hCl at hv
    split at hv
    next x ex =>
      obtain ⟨c0, fs⟩ := x
      cases hv
      exact ⟨fs, ex⟩
    next => cases hv
  have hne : a ≠ v := by
    intro q
    subst q
    rw [h1] at hv2
    cases hv2
  have hh := hR.two h1 hv2 hne
  exact hk_astqO hx hb hK.1 hh.1 hh.2 hS.1 0 t 1 ci rfl ht hca rfl hc h2 hdg (fun H1 locs1 z oq hP _ hS1 => kk H1 locs1 (hR.upd h1 z oq (hP 0 _ rfl)) (hS.put hS1 rfl))
/-- objects that lists and deques hold: State, Arc, Trip -/
def aok (w : WH) (v : Nat) : Option Unit := match hCl w v with
  | some 21 => some () | some 27 => some () | some 28 => some () | _ => none
theorem aok_o {w : WH} {v : Nat} {u : Unit} (h : aok w v = some u) : hCl w v = some 21 ∨ hCl w v = some 27 ∨ hCl w v = some 28 := by
  unfold aok at h
  split at h
  next e => exact Or.inl e
  next e => exact Or.inr (Or.inl e)
  next e => exact Or.inr (Or.inr e)
  next => cases h
/-- into an array of Objects -/
theorem h_aastO (hx : p.tables.exec = Jvm.exec) (hb : c.code = cc) (hK : KG G s) (hR : RepH G A w H) (hS : Cu A s w0 w H locs) {a v : Nat} {i : Int32} {w' : WH} {u : Unit} (hv : aok w v = some u) (he : stR w a 4 i (some v) = some w') (hdg : decode cc pc = .ok (.aastore, 1))
    (kk : ∀ (H : Heap) (locs : List Loc), RepH G A w' H → Cu A s w0 w' H locs → W p l e R s m args below meth c H locs (wC w0 - wC w') (wS w0 - wS w') Q (F0 m (pc + 1) ls rest)) : W p l e R s m args below meth c H locs (wC w0 - wC w) (wS w0 - wS w) Q (F0 m pc ls (.ref v :: .int i :: .ref a :: rest)) := by
  rcases aok_o hv with h1 | h1 | h1
  · exact h_aast hx hb hK hR hS 4 he h1 rfl rfl (hK.ca 25 rfl) hdg kk
  · exact h_aast hx hb hK hR hS 4 he h1 rfl rfl (hK.ca 39 rfl) hdg kk
  · exact h_aast hx hb hK hR hS 4 he h1 rfl rfl (hK.ca 40 rfl) hdg kk
/-- into the array of States -/
theorem h_aastS (hx : p.tables.exec = Jvm.exec) (hb : c.code = cc) (hK : KG G s) (hR : RepH G A w H) (hS : Cu A s w0 w H locs) {a v : Nat} {i : Int32} {w' : WH} (hv : hCl w v = some 21) (he : stR w a 5 i (some v) = some w') (hdg : decode cc pc = .ok (.aastore, 1))
    (kk : ∀ (H : Heap) (locs : List Loc), RepH G A w' H → Cu A s w0 w' H locs → W p l e R s m args below meth c H locs (wC w0 - wC w') (wS w0 - wS w') Q (F0 m (pc + 1) ls rest)) : W p l e R s m args below meth c H locs (wC w0 - wC w) (wS w0 - wS w) Q (F0 m pc ls (.ref v :: .int i :: .ref a :: rest)) := by
  obtain ⟨n, f, h1, h2, rfl⟩ := stR_o he
  obtain ⟨fs, hv2⟩ : ∃ fs, w.1 v = some (.inr (21, fs)) := by
    unfold hCl at hv
    split at hv
    next x ex =>
      obtain ⟨c0, fs⟩ := x
      cases hv
      exact ⟨fs, ex⟩
    next => cases hv
  have hne : a ≠ v := by
    intro q
    subst q
    rw [h1] at hv2
    cases hv2
  have hh := hR.two h1 hv2 hne
  exact hk_astq hx hb hK.1 hh.1 hh.2 hS.1 0 5 1 21 (r := (RX2, TX2, 5)) rfl rfl rfl rfl h2 hdg (fun H1 locs1 z oq hP _ hS1 => kk H1 locs1 (hR.upd h1 z oq (hP 0 _ rfl)) (hS.put hS1 rfl))
/-- a static that holds a known object -/
theorem h_getsK (hx : p.tables.exec = Jvm.exec) (hb : c.code = cc) {own ref C n d : String} {index k : Nat} (i : Nat) (hts : ∀ w ∈ lw_all, w.before args s = true) (hown : s.vm.findClass own = some m.cls) (hK : KG G s) (hR : RepH G A w H) (hS : Cu A s w0 w H locs) (hi : gl_str2[i]? = some (C, n, d, k)) (hlink : (Cond.fieldLink own index ref n d) ∈ lw_all) (hsame : ∀ x, s.fieldFound? C n d = some x → s.fieldFound? ref n d = some x) (hdg : decode cc pc = .ok (.getstatic index, 3))
    (kk : W p l e R s m args below meth c H locs cells slots Q (F0 m (pc + 3) ls (.ref (wK w k) :: rest))) : W p l e R s m args below meth c H locs cells slots Q (F0 m pc ls rest) := by
  rw [hR.2.2.1] at kk
  exact h_gets hx hb hts hown hR hS (hK.2.2.2.2.1 _ (List.mem_of_getElem? hi)) hlink hsame hdg kk
theorem h_getsKN (hx : p.tables.exec = Jvm.exec) (hb : c.code = cc) {own ref C n d host : String} {index k : Nat} (i : Nat) (hown : s.vm.findClass own = some m.cls) (hK : KG G s) (hR : RepH G A w H) (hS : Cu A s w0 w H locs) (hi : gl_str2[i]? = some (C, n, d, k)) (hlink : va_Nw (.fieldLinkNest own index ref n d host) s) (hsame : ∀ x, s.fieldFound? C n d = some x → s.fieldFound? ref n d = some x) (hdg : decode cc pc = .ok (.getstatic index, 3))
    (kk : W p l e R s m args below meth c H locs cells slots Q (F0 m (pc + 3) ls (.ref (wK w k) :: rest))) : W p l e R s m args below meth c H locs cells slots Q (F0 m pc ls rest) := by
  rw [hR.2.2.1] at kk
  exact h_getsN hx hb hown hR hS (hK.2.2.2.2.1 _ (List.mem_of_getElem? hi)) hlink hsame hdg kk
theorem h_getsQ (hx : p.tables.exec = Jvm.exec) (hb : c.code = cc) {own ref C n d : String} {index k : Nat} (i : Nat) (hts : ∀ w ∈ lw_all, w.before args s = true) (hown : s.vm.findClass own = some m.cls) (hK : KG G s) (hR : RepH G A w H) (hS : Cu A s w0 w H locs) (hi : gl_stq[i]? = some (C, n, d, k)) (hlink : (Cond.fieldLink own index ref n d) ∈ lw_all) (hsame : ∀ x, s.fieldFound? C n d = some x → s.fieldFound? ref n d = some x) (hdg : decode cc pc = .ok (.getstatic index, 3))
    (kk : W p l e R s m args below meth c H locs cells slots Q (F0 m (pc + 3) ls (va_rf (oK (wK w k)) :: rest))) : W p l e R s m args below meth c H locs cells slots Q (F0 m pc ls rest) := by
  rw [hR.2.2.1] at kk
  exact h_gets hx hb hts hown hR hS (hK.2.2.2.2.2.2.2.2.2.2.2.1 _ (List.mem_of_getElem? hi)) hlink hsame hdg kk
/-- String constants -/
theorem h_ldcS (hx : p.tables.exec = Jvm.exec) (hb : c.code = cc) {own tx : String} {index k : Nat} (i : Nat) (hown : s.vm.findClass own = some m.cls) (hK : KG G s) (hR : RepH G A w H) (hi : gl_str[i]? = some (own, index, tx, k)) (hdg : decode cc pc = .ok (.ldc index, 2))
    (kk : W p l e R s m args below meth c H locs cells slots Q (F0 m (pc + 2) ls (.ref (wK w k) :: rest))) : W p l e R s m args below meth c H locs cells slots Q (F0 m pc ls rest) := by
  rw [hR.2.2.1] at kk
  exact va_ldcS hx hb hown (hK.2.2.1 _ (List.mem_of_getElem? hi)) hdg kk
theorem h_ldcSW (hx : p.tables.exec = Jvm.exec) (hb : c.code = cc) {own tx : String} {index k : Nat} (i : Nat) (hown : s.vm.findClass own = some m.cls) (hK : KG G s) (hR : RepH G A w H) (hi : gl_str[i]? = some (own, index, tx, k)) (hdg : decode cc pc = .ok (.ldc_w index, 3))
    (kk : W p l e R s m args below meth c H locs cells slots Q (F0 m (pc + 3) ls (.ref (wK w k) :: rest))) : W p l e R s m args below meth c H locs cells slots Q (F0 m pc ls rest) := by
  rw [hR.2.2.1] at kk
  exact gl_ldcSW hx hb hown (hK.2.2.1 _ (List.mem_of_getElem? hi)) hdg kk
/-- a whole number that fits its field -/
def fz_ (ty : FieldType) (x : Int32) : Option Unit := if vp_nar ty x = x ∧ fits ty (.int x) = true then some () else none
theorem fz_f {ty : FieldType} {x : Int32} {u : Unit} (h : fz_ ty x = some u) : fits ty (.int x) = true := by
  unfold fz_ at h
  split at h
  next hh => exact hh.2
  next => cases h
theorem fz_n {ty : FieldType} (hty : ∀ x : Int32, ∃ y, narrow ty (.int x) = .int y) {x : Int32} {u : Unit} (h : fz_ ty x = some u) : narrow ty (.int x) = .int x := by
  unfold fz_ at h
  split at h
  next hh =>
    obtain ⟨y, hy⟩ := hty x
    have h1 := hh.1
    unfold vp_nar at h1
    rw [hy] at h1 ⊢
    have h2 : y = x := h1
    rw [h2]
  next => cases h
end HR
