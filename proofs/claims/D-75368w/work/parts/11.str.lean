/-! String constants in the twin (rows to be proved), Math -/
def mxI (x y : Int32) : Int32 := if x < y then y else x
def mnI (x y : Int32) : Int32 := if y < x then y else x
def mxL (x y : Int64) : Int64 := if y < x then x else y
def sLen (k : Nat) : Int32 := nI (gl_len.getD k 0)
def sChr (k : Nat) (i : Int32) : Option Int32 := rd_ (fun j => (gl_byt.getD k []).getD j 0) (gl_len.getD k 0) i
theorem tw_A2 {G : gE} {o : Nat} {T : TW} {H : Heap} (hR : RepT G o T H) : ∀ q, tFr o q → gFr G q := fun _ h => Nat.le_trans hR.1 h.1
section TWS
variable {p : Program} {l : Launch} {e : Env} {R : Room} {s : State} {m : MethodId} {args : Array Value} {below : List Frame} {meth : Method} {c : Code} {H : Heap} {locs : List Loc} {cells slots : Nat} {Q : State → Prop}
variable {cc : ByteArray} {pc : Nat} {ls : Array Slot} {rest : List Value} {A : Nat → Prop} {G : gE} {o : Nat} {T : TW}
theorem gl_ldcSW (hexec : p.tables.exec = Jvm.exec) (hb : c.code = cc) {own tx : String} {index q : Nat} (hown : s.vm.findClass own = some m.cls) (hZ : vk_R own index tx q s) (hdg : decode cc pc = .ok (.ldc_w index, 3))
    (k : W p l e R s m args below meth c H locs cells slots Q (F0 m (pc + 3) ls (.ref q :: rest))) : W p l e R s m args below meth c H locs cells slots Q (F0 m pc ls rest) := by
  intro T hT X
  obtain ⟨t, a1, b1⟩ := k T hT X
  exact ⟨t, X.ldcStringW hexec (own := own) (text := tx) (index := index) (a := q) hown hZ.1 hZ.2 (g := F0 m pc ls rest) rfl (by rw [hb]; exact hdg) t a1, b1⟩
theorem tw_slen {own : String} {index k nL : Nat} {x : Int32} (hl : (Cond.methodLink own index ⟨"java/lang/String", "length", "()I"⟩) ∈ lw_all) (hx : p.tables.exec = Jvm.exec) (hb : c.code = cc) (hml : c.maxLocals = nL) (hown : s.vm.findClass own = some m.cls) (hts : ∀ w ∈ lw_all, w.before args s = true) (hK : KG G s) (hR : RepT G o T H) (hA : ∀ q, tFr o q → A q) (hA2 : ∀ q, A q → gFr G q) (hS : va_S A s.heap H locs) (hk : k < 5) (he : x = sLen k) (hF : 7 ≤ R.frames) (hL : 327 ≤ R.locals) (hc : cells ≤ R.cells) (hs : slots ≤ R.slots) (hsz : ls.size = nL) (hroom : (rest.map fun v => v.category).sum ≤ 8) (hdg : decode cc pc = .ok (.invokevirtual index, 3))
    (kk : ∀ (H : Heap) (locs : List Loc), RepT G o T H → va_S A s.heap H locs → W p l e R s m args below meth c H locs cells slots Q (F0 m (pc + 3) ls (.int x :: rest))) : W p l e R s m args below meth c H locs cells slots Q (F0 m pc ls (.ref (gK G k) :: rest)) := by
  sorry
theorem tw_schr {own : String} {index k nL : Nat} {i x : Int32} (hl : (Cond.methodLink own index ⟨"java/lang/String", "charAt", "(I)C"⟩) ∈ lw_all) (hx : p.tables.exec = Jvm.exec) (hb : c.code = cc) (hml : c.maxLocals = nL) (hown : s.vm.findClass own = some m.cls) (hts : ∀ w ∈ lw_all, w.before args s = true) (hK : KG G s) (hR : RepT G o T H) (hA : ∀ q, tFr o q → A q) (hA2 : ∀ q, A q → gFr G q) (hS : va_S A s.heap H locs) (hk : k < 5) (he : sChr k i = some x) (hF : 7 ≤ R.frames) (hL : 327 ≤ R.locals) (hc : cells ≤ R.cells) (hs : slots ≤ R.slots) (hsz : ls.size = nL) (hroom : (rest.map fun v => v.category).sum ≤ 8) (hdg : decode cc pc = .ok (.invokevirtual index, 3))
    (kk : ∀ (H : Heap) (locs : List Loc), RepT G o T H → va_S A s.heap H locs → W p l e R s m args below meth c H locs cells slots Q (F0 m (pc + 3) ls (.int x :: rest))) : W p l e R s m args below meth c H locs cells slots Q (F0 m pc ls (.int i :: .ref (gK G k) :: rest)) := by
  sorry
end TWS
theorem qs110 : (Cond.selects "TollLeaderModel" ⟨"TollLeaderModel", "putsNumber", "(I)V"⟩ ⟨"TollLeaderModel", "putsNumber", "(I)V"⟩) ∈ lw_all := lw_g (lw_at lw_ms 110 rfl) rfl
