/-! Base: naming, loops, and the rows of the twin's fixed block -/
section
variable {α β σ ρ : Type}
theorem bo_o {o : Option α} {f : α → Option β} {r : β} (h : o.bind f = some r) : ∃ x, o = some x ∧ f x = some r := by
  cases o with
  | none => cases h
  | some x => exact ⟨x, rfl, h⟩
theorem mp_o {o : Option α} {f : α → β} {r : β} (h : o.map f = some r) : ∃ x, o = some x ∧ f x = r := by
  cases o with
  | none => cases h
  | some x => exact ⟨x, rfl, Option.some.inj h⟩
def nm_ (a : α) (f : α → β) : β := f a
theorem nm_o {a : α} {f : α → Option β} {r : β} (h : nm_ a f = some r) : ∃ x, x = a ∧ f x = some r := ⟨a, rfl, h⟩
/-- a loop: its body goes on (inl) or leaves (inr) -/
def wh_it (body : σ → Option (Sum σ ρ)) : Nat → σ → Option ρ
  | 0, _ => none
  | n + 1, s => match body s with
    | none => none
    | some (.inl s') => wh_it body n s'
    | some (.inr r) => some r
theorem wh_mono {body : σ → Option (Sum σ ρ)} {r : ρ} : ∀ {n : Nat} {s : σ} (k : Nat), wh_it body n s = some r → wh_it body (n + k) s = some r := by
  intro n
  induction n with
  | zero => intro s k h; cases h
  | succ n ih =>
    intro s k h
    rw [show n + 1 + k = (n + k) + 1 by omega]
    simp only [wh_it] at h ⊢
    cases hb : body s with
    | none => rw [hb] at h; cases h
    | some x =>
      rw [hb] at h
      cases x with
      | inl s' => exact ih k h
      | inr r' => exact h
noncomputable def whileO (body : σ → Option (Sum σ ρ)) (s : σ) : Option ρ :=
  @dite _ (∃ n r, wh_it body n s = some r) (Classical.propDecidable _) (fun h => wh_it body h.choose s) (fun _ => none)
theorem wh_some {body : σ → Option (Sum σ ρ)} {s : σ} {r : ρ} : whileO body s = some r ↔ ∃ n, wh_it body n s = some r := by
  unfold whileO
  constructor
  · intro h
    split at h
    next hh => exact ⟨_, h⟩
    next => cases h
  · rintro ⟨n, h⟩
    have hh : ∃ n r, wh_it body n s = some r := ⟨n, r, h⟩
    rw [dif_pos hh]
    obtain ⟨r2, h2⟩ := hh.choose_spec
    have a1 := wh_mono (n := n) hh.choose h
    have a2 := wh_mono (n := hh.choose) n h2
    rw [Nat.add_comm] at a2
    rw [h2, ← a2, a1]
theorem wh_inl {body : σ → Option (Sum σ ρ)} {s s' : σ} (h : body s = some (.inl s')) : whileO body s = whileO body s' := by
  apply Option.ext
  intro r
  rw [wh_some, wh_some]
  constructor
  · rintro ⟨n, hn⟩
    cases n with
    | zero => cases hn
    | succ n => simp only [wh_it, h] at hn; exact ⟨n, hn⟩
  · rintro ⟨n, hn⟩
    exact ⟨n + 1, by simp only [wh_it, h]; exact hn⟩
theorem wh_inr {body : σ → Option (Sum σ ρ)} {s : σ} {r : ρ} (h : body s = some (.inr r)) : whileO body s = some r :=
  wh_some.mpr ⟨1, by simp only [wh_it, h]⟩
theorem wh_none {body : σ → Option (Sum σ ρ)} {s : σ} (h : body s = none) : whileO body s = none := by
  cases hw : whileO body s with
  | none => rfl
  | some r =>
    obtain ⟨n, hn⟩ := wh_some.mp hw
    cases n with
    | zero => cases hn
    | succ n => simp only [wh_it, h] at hn; cases hn
theorem wh_walk {body : σ → Option (Sum σ ρ)} {P : σ → Prop} {r : ρ} (hb : ∀ s x, body s = some x → (∀ s', x = .inl s' → P s') → (∀ r', x = .inr r' → r' = r) → P s) : ∀ s, whileO body s = some r → P s := by
  intro s h
  obtain ⟨n, hn⟩ := wh_some.mp h
  clear h
  induction n generalizing s with
  | zero => cases hn
  | succ n ih =>
    simp only [wh_it] at hn
    cases hx : body s with
    | none => rw [hx] at hn; cases hn
    | some x =>
      rw [hx] at hn
      refine hb s x hx (fun s' e => ?_) (fun r' e => ?_)
      · subst e; exact ih s' hn
      · subst e; exact Option.some.inj hn
end
/-- reads and writes of arrays -/
def rd_ {α : Type} (f : Nat → α) (n : Nat) (i : Int32) : Option α := if i < 0 ∨ n ≤ i.toNatClampNeg then none else some (f i.toNatClampNeg)
theorem rd_o {α : Type} {f : Nat → α} {n : Nat} {i : Int32} {x : α} (h : rd_ f n i = some x) : vp_in i n ∧ f i.toNatClampNeg = x := by
  unfold rd_ at h
  split at h
  next => cases h
  next hh => exact ⟨hh, Option.some.inj h⟩
abbrev TW : Type := (Nat → Int32) × Int64 × (Nat → Nat → Int32) × (Nat → Nat → Int64)
def tI (T : TW) (k : Nat) : Int32 := T.1 k
def tsI (T : TW) (k : Nat) (x : Int32) : TW := (upd T.1 k x, T.2)
def tR (T : TW) : Int64 := T.2.1
def tsR (T : TW) (x : Int64) : TW := (T.1, x, T.2.2)
def tA (T : TW) (p : Nat) : Nat → Int32 := T.2.2.1 p
def tsA (T : TW) (p : Nat) (f : Nat → Int32) : TW := (T.1, T.2.1, (fun q => if q = p then f else T.2.2.1 q), T.2.2.2)
def tB (T : TW) (p : Nat) : Nat → Int64 := T.2.2.2 p
def tsB (T : TW) (p : Nat) (f : Nat → Int64) : TW := (T.1, T.2.1, T.2.2.1, fun q => if q = p then f else T.2.2.2 q)
def wrA (T : TW) (p n : Nat) (i x : Int32) : Option TW := if i < 0 ∨ n ≤ i.toNatClampNeg then none else some (tsA T p (upd (tA T p) i.toNatClampNeg x))
def wrB (T : TW) (p n : Nat) (i : Int32) (x : Int64) : Option TW := if i < 0 ∨ n ≤ i.toNatClampNeg then none else some (tsB T p (vp_updL (tB T p) i.toNatClampNeg x))
theorem wrA_o {T T' : TW} {p n : Nat} {i x : Int32} (h : wrA T p n i x = some T') : vp_in i n ∧ T' = tsA T p (upd (tA T p) i.toNatClampNeg x) := by
  unfold wrA at h
  split at h
  next => cases h
  next hh => exact ⟨hh, (Option.some.inj h).symm⟩
theorem wrB_o {T T' : TW} {p n : Nat} {i : Int32} {x : Int64} (h : wrB T p n i x = some T') : vp_in i n ∧ T' = tsB T p (vp_updL (tB T p) i.toNatClampNeg x) := by
  unfold wrB at h
  split at h
  next => cases h
  next hh => exact ⟨hh, (Option.some.inj h).symm⟩
/-- kinds of the twin's fields: 0 int, 1 long, 2 array -/
def tKind (k : Nat) : Nat := match k with
  | 0 => 2 | 1 => 2 | 2 => 2 | 3 => 2 | 4 => 2 | 7 => 2 | 16 => 2 | 20 => 2 | 22 => 2 | 23 => 2 | 24 => 2 | 25 => 2 | 26 => 2 | 27 => 2 | 29 => 1 | 30 => 2 | 31 => 2 | _ => 0
def tPos (k : Nat) : Nat := match k with
  | 0 => 1 | 1 => 2 | 2 => 3 | 3 => 4 | 4 => 5 | 7 => 6 | 16 => 7 | 20 => 8 | 22 => 9 | 23 => 10 | 24 => 11 | 25 => 12 | 26 => 13 | 27 => 14 | 30 => 15 | 31 => 16 | _ => 0
def tV (T : TW) (o k : Nat) : Value := match tKind k with
  | 0 => .int (T.1 k) | 1 => .long T.2.1 | _ => .ref (o + tPos k)
/-- what is fixed in a run: the classes' numbers, the array classes, addresses of constants, where the new cells begin -/
abbrev gE : Type := va_G × (Nat → ClassId) × (Nat → Nat) × Nat
abbrev gA (G : gE) : Nat → ClassId := G.2.1
abbrev gK (G : gE) : Nat → Nat := G.2.2.1
abbrev gFr (G : gE) : Nat → Prop := fun q => G.2.2.2 ≤ q
def gl_cl : List vw_C := [(RJ17, TJ17, 3), (RJ18, TJ18, 3), (RJ2, TJ2, 3), (RJ20, TJ20, 3), (RJ21, TJ21, 4), (RJ22, TJ22, 6), (RJ24, TJ24, 5), (RJ25, TJ25, 5), (RJ26, TJ26, 6), (RJ29, TJ29, 6), (RJ3, TJ3, 5), (RJ31, TJ31, 4), (RJ32, TJ32, 4), (RJ33, TJ33, 6), (RJ6, TJ6, 6), (RJ8, TJ8, 4), (RJ9, TJ9, 4), (RX1, TX1, 9), (RX11, TX11, 4), (RX12, TX12, 2), (RX13, TX13, 3), (RX2, TX2, 5), (RX3, TX3, 4), (RX4, TX4, 6), (RX5, TX5, 33), (RX6, TX6, 5), (RX7, TX7, 8), (RX8, TX8, 5), (RX9, TX9, 3)]
def gl_tys (G : gE) : List (ClassId × FieldType) := [(gA G 0, .int), (gA G 1, .long), (gA G 2, .byte), (gA G 3, .boolean), (gA G 4, .object "java/lang/Object"), (gA G 5, .object "TollLeader$State")]
def tw_L (G : gE) (T : TW) (o : Nat) : va_W := [(o, .inr (24, (List.range 33).map (tV T o))), (o + 1, .inl (gA G 0, 172, .inl (tA T 1))), (o + 2, .inl (gA G 0, 172, .inl (tA T 2))), (o + 3, .inl (gA G 0, 344, .inl (tA T 3))), (o + 4, .inl (gA G 0, 2064, .inl (tA T 4))), (o + 5, .inl (gA G 3, 2, .inl (tA T 5))), (o + 6, .inl (gA G 2, 600, .inl (tA T 6))), (o + 7, .inl (gA G 1, 10, .inr (.inl (tB T 7)))), (o + 8, .inl (gA G 0, 10, .inl (tA T 8))), (o + 9, .inl (gA G 0, 10, .inl (tA T 9))), (o + 10, .inl (gA G 0, 10, .inl (tA T 10))), (o + 11, .inl (gA G 0, 10, .inl (tA T 11))), (o + 12, .inl (gA G 1, 10, .inr (.inl (tB T 12)))), (o + 13, .inl (gA G 0, 24, .inl (tA T 13))), (o + 14, .inl (gA G 0, 14, .inl (tA T 14))), (o + 15, .inl (gA G 0, 10, .inl (tA T 15))), (o + 16, .inl (gA G 2, 256, .inl (tA T 16)))]
theorem tw_pos {G : gE} {T : TW} {o i : Nat} {q : Nat × va_E} (h : (tw_L G T o)[i]? = some q) : q.1 = o + i ∧ i < 17 := by
  match i, h with
  | 0, h => cases h; exact ⟨rfl, by decide⟩
  | 1, h => cases h; exact ⟨rfl, by decide⟩
  | 2, h => cases h; exact ⟨rfl, by decide⟩
  | 3, h => cases h; exact ⟨rfl, by decide⟩
  | 4, h => cases h; exact ⟨rfl, by decide⟩
  | 5, h => cases h; exact ⟨rfl, by decide⟩
  | 6, h => cases h; exact ⟨rfl, by decide⟩
  | 7, h => cases h; exact ⟨rfl, by decide⟩
  | 8, h => cases h; exact ⟨rfl, by decide⟩
  | 9, h => cases h; exact ⟨rfl, by decide⟩
  | 10, h => cases h; exact ⟨rfl, by decide⟩
  | 11, h => cases h; exact ⟨rfl, by decide⟩
  | 12, h => cases h; exact ⟨rfl, by decide⟩
  | 13, h => cases h; exact ⟨rfl, by decide⟩
  | 14, h => cases h; exact ⟨rfl, by decide⟩
  | 15, h => cases h; exact ⟨rfl, by decide⟩
  | 16, h => cases h; exact ⟨rfl, by decide⟩
  | n + 17, h => simp [tw_L] at h
/-- the twin's block -/
def tFr (o : Nat) : Nat → Prop := fun q => o ≤ q ∧ q < o + 17
theorem tw_D {A : Nat → Prop} {G : gE} {T : TW} {o : Nat} (hA : ∀ q, tFr o q → A q) : va_D A (tw_L G T o) := by
  refine ⟨fun i j p q hi hj e => ?_, fun k q hk => ?_⟩
  · have h1 := tw_pos hi
    have h2 := tw_pos hj
    omega
  · have h1 := tw_pos hk
    exact hA _ ⟨by omega, by omega⟩
def RepT (G : gE) (o : Nat) (T : TW) (H : Heap) : Prop := G.2.2.2 ≤ o ∧ va_P G.1 gl_cl (tw_L G T o) H
/-- String constants: class, entry, text, number -/
def gl_str : List (String × Nat × String × Nat) := [("TollLeader$Parser", 149, "nodes", 0), ("TollLeader$Parser", 110, "toll", 1), ("TollLeader$Parser", 141, "arc", 2), ("TollLeader$Parser", 143, "trip", 3), ("TollLeader", 404, "none", 4), ("TollLeaderModel", 159, "nodes", 0), ("TollLeaderModel", 140, "toll", 1), ("TollLeaderModel", 146, "arc", 2), ("TollLeaderModel", 151, "trip", 3), ("TollLeaderModel", 349, "none", 4)]
def gl_len : List Nat := [5, 4, 3, 4, 4]
def gl_byt : List (List Int32) := [[110, 111, 100, 101, 115], [116, 111, 108, 108], [97, 114, 99], [116, 114, 105, 112], [110, 111, 110, 101]]
/-- whole numbers in statics -/
def gl_sti : List (String × String × String × Int32) := [("java/lang/String", "COMPACT_STRINGS", "Z", 1), ("java/util/BitSet", "$assertionsDisabled", "Z", 1)]
/-- references in statics, and the classes of what they hold -/
def gl_str2 : List (String × String × String × Nat) := [("TollLeader", "WHOLE", "LTollLeader$Weight;", 5), ("TollLeader", "PLAIN", "LTollLeader$Weight;", 6), ("TollLeader", "WITHOUT", "LTollLeader$Weight;", 7), ("TollLeader", "AT_ALL", "LTollLeader$Weight;", 8), ("java/lang/Integer", "DigitTens", "[B", 20), ("java/lang/Integer", "DigitOnes", "[B", 21)]
/-- statics that may be null: 22, 23 -/
def oK (n : Nat) : Option Nat := if n = 0 then none else some (n - 1)
def gl_stq : List (String × String × String × Nat) := [("java/lang/Throwable", "UNASSIGNED_STACK", "[Ljava/lang/StackTraceElement;", 22), ("java/lang/Throwable", "SUPPRESSED_SENTINEL", "Ljava/util/List;", 23), ("jdk/internal/util/Preconditions", "SIOOBE_FORMATTER", "Ljava/util/function/BiFunction;", 24)]
def dg_T (j : Nat) : Int32 := nI (48 + j / 10)
def dg_O (j : Nat) : Int32 := nI (48 + j % 10)
def gl_obj : List (String × Nat) := [("TollLeader$Weight$2", 5), ("TollLeader$Weight$1", 6), ("TollLeader$Weight$3", 7), ("TollLeader$Weight$3", 8)]
def RO (G : gE) (U : State) (H : Heap) : Prop :=
  vk_S 5 gl_len gl_byt (gK G) (fun i => gK G (10 + i)) (gFr G) U H ∧ (∀ q ∈ gl_str, vk_R q.1 q.2.1 q.2.2.1 (gK G q.2.2.2) U) ∧ (∀ q ∈ gl_sti, va_Z q.1 q.2.1 q.2.2.1 (.int q.2.2.2) (gFr G) U H) ∧ (∀ q ∈ gl_str2, va_Z q.1 q.2.1 q.2.2.1 (.ref (gK G q.2.2.2)) (gFr G) U H) ∧ (∀ q ∈ gl_obj, va_O q.1 (gK G q.2) (gFr G) U H) ∧
  va_OF "TollLeader$Weight$3" "val$withToll" "Z" (.int 0) (gK G 7) (gFr G) U H ∧ va_OF "TollLeader$Weight$3" "val$withToll" "Z" (.int 1) (gK G 8) (gFr G) U H ∧ gK G 7 ≠ gK G 8 ∧ va_T .byte (gK G 20) 100 (fun j => .int (dg_T j)) (gFr G) U H ∧ va_T .byte (gK G 21) 100 (fun j => .int (dg_O j)) (gFr G) U H ∧ (∀ q ∈ gl_stq, va_Z q.1 q.2.1 q.2.2.1 (va_rf (oK (gK G q.2.2.2))) (gFr G) U H) ∧ (∀ q ∈ gl_stq, vx_Zq q.1 q.2.1 q.2.2.1 (gFr G) U H) ∧ KX U
theorem RO.kept {G : gE} {U : State} {H H1 : Heap} (h : RO G U H) (hq : ∀ a : Nat, a < H.size → ¬ gFr G a → H1[a]? = H[a]?) : RO G U H1 := by
  obtain ⟨h1, h2, h3, h4, h5, h6, h7, h8, g1, g2, g3, g4, g5⟩ := h
  exact ⟨h1.kept hq, h2, fun q hh => (h3 q hh).kept hq, fun q hh => (h4 q hh).kept hq, fun q hh => (h5 q hh).kept hq, h6.kept hq, h7.kept hq, h8, g1.kept hq, g2.kept hq, fun q hh => (g3 q hh).kept hq, fun q hh => (g4 q hh).kept hq, g5⟩
theorem RO.warm {G : gE} {s U : State} {H : Heap} (hW : s.WarmedH U.vm) (h : RO G s H) : RO G U H := by
  obtain ⟨h1, h2, h3, h4, h5, h6, h7, h8, g1, g2, g3, g4, g5⟩ := h
  have ha := hW.alike
  exact ⟨h1.moved ha, fun q hh => (h2 q hh).warm hW, fun q hh => (h3 q hh).moved ha, fun q hh => (h4 q hh).moved ha, fun q hh => (h5 q hh).moved ha, h6.moved ha, h7.moved ha, h8, g1.moved ha, g2.moved ha, fun q hh => (g3 q hh).moved ha, fun q hh => (g4 q hh).moved ha, g5.warm hW⟩
theorem RO.same {G : gE} {s U : State} {H : Heap} (hv : U.vm = s.vm) (h : RO G s H) : RO G U H := by
  obtain ⟨h1, h2, h3, h4, h5, h6, h7, h8, g1, g2, g3, g4, g5⟩ := h
  have ha : s.vm.Alike U.vm := by rw [hv]; exact Vm.Alike.refl _
  exact ⟨h1.moved ha, fun q hh => (h2 q hh).same hv, fun q hh => (h3 q hh).moved ha, fun q hh => (h4 q hh).moved ha, fun q hh => (h5 q hh).moved ha, h6.moved ha, h7.moved ha, h8, g1.moved ha, g2.moved ha, fun q hh => (g3 q hh).moved ha, fun q hh => (g4 q hh).moved ha, g5.same hv⟩
def KG (G : gE) (U : State) : Prop := va_K G.1 gl_cl (gl_tys G) U ∧ RO G U U.heap
theorem KG.kx {G : gE} {U : State} (h : KG G U) : KX U := h.2.2.2.2.2.2.2.2.2.2.2.2.2
theorem KG.fn {G : gE} {U : State} (h : KG G U) (i : Nat) {q} (e : gl_fn[i]? = some q) : va_Nw (.fieldLinkNest q.1 q.2.1 q.2.2.1 q.2.2.2.1 q.2.2.2.2.1 q.2.2.2.2.2) U := h.kx.1 q (List.mem_of_getElem? e)
theorem KG.mn {G : gE} {U : State} (h : KG G U) (i : Nat) {q} (e : gl_mn[i]? = some q) : va_Nw (.methodLinkNest q.1 q.2.1 q.2.2.1 q.2.2.2) U := h.kx.2.1 q (List.mem_of_getElem? e)
theorem KG.ca {G : gE} {U : State} (h : KG G U) (i : Nat) {q} (e : gl_cast[i]? = some q) : va_Nw (.castable q.1 q.2) U := h.kx.2.2.1 q (List.mem_of_getElem? e)
theorem KG.fw {G : gE} {U : State} (h : KG G U) (i : Nat) {q} (e : gl_fw[i]? = some q) : va_Fw q.1 q.2.1 q.2.2 U := h.kx.2.2.2.2.2.1 q (List.mem_of_getElem? e)
theorem KG.dc {G : gE} {U : State} (h : KG G U) (i : Nat) {q} (e : gl_dc[i]? = some q) : va_Nw (.declares q) U := h.kx.2.2.2.2.2.2.2.1 q (List.mem_of_getElem? e)
theorem KG.sl {G : gE} {U : State} (h : KG G U) (i : Nat) {q} (e : gl_sl[i]? = some q) {A : Array Value} : (Cond.selects "java/lang/StringBuilder" q q).before A U = true := va_Nw.use rfl (h.kx.2.2.2.2.2.2.2.2 q (List.mem_of_getElem? e))
/-- the array places: their class and length -/
def tTy (q : Nat) : Nat := match q with | 5 => 3 | 6 => 2 | 7 => 1 | 12 => 1 | 16 => 2 | _ => 0
def tLen (q : Nat) : Nat := match q with
  | 1 => 172 | 2 => 172 | 3 => 344 | 4 => 2064 | 5 => 2 | 6 => 600 | 7 => 10 | 8 => 10 | 9 => 10 | 10 => 10 | 11 => 10 | 12 => 10 | 13 => 24 | 14 => 14 | 15 => 10 | 16 => 256 | _ => 0
theorem tw_fs {T : TW} {o k : Nat} (h : k < 33) : ((List.range 33).map (tV T o))[k]? = some (tV T o k) := by
  rw [List.getElem?_map, List.getElem?_range h]; rfl
theorem tw_setF {T T' : TW} {o k : Nat} {v : Value} (hk : k < 33) (h : ∀ j, j < 33 → tV T' o j = if j = k then v else tV T o j) : ((List.range 33).map (tV T o)).set k v = (List.range 33).map (tV T' o) := by
  apply List.ext_getElem?
  intro j
  by_cases hj : j < 33
  · rw [tw_fs hj, h j hj, List.getElem?_set]
    by_cases e : k = j
    · subst e; simp [hj]
    · rw [if_neg e, if_neg (fun q => e q.symm), tw_fs hj]
  · rw [List.getElem?_eq_none (by simp; omega), List.getElem?_eq_none (by simp; omega)]
theorem tw_setI {T : TW} {o k : Nat} {x : Int32} (hk : tKind k = 0) (j : Nat) : tV (tsI T k x) o j = if j = k then .int x else tV T o j := by
  unfold tV
  by_cases e : j = k
  · subst e; rw [hk, if_pos rfl]; simp [tsI, upd]
  · rw [if_neg e]
    have h1 : (tsI T k x).1 j = T.1 j := by simp [tsI, upd, e]
    have h2 : (tsI T k x).2 = T.2 := rfl
    rw [h1, h2]
theorem tw_setR {T : TW} {o : Nat} {x : Int64} (j : Nat) (hj : j < 33) : tV (tsR T x) o j = if j = 29 then .long x else tV T o j := by
  by_cases e : j = 29
  · subst e; rfl
  · rw [if_neg e]
    unfold tV
    have h0 : ∀ j : Nat, j < 33 → tKind j = 1 → j = 29 := by decide
    have : tKind j ≠ 1 := fun h => e (h0 j hj h)
    have h1 : (tsR T x).1 = T.1 := rfl
    rw [h1]
    match hk : tKind j with
    | 0 => rfl
    | 1 => exact absurd hk this
    | n + 2 => rfl
theorem tw_q4 {G : gE} {T : TW} {o q : Nat} (h : 1 ≤ q ∧ q ≤ 4) : (tw_L G T o)[q]? = some (o + q, .inl (gA G 0, tLen q, .inl (tA T q))) := by
  match q, h with
  | 0, h => omega
  | 1, _ => rfl
  | 2, _ => rfl
  | 3, _ => rfl
  | 4, _ => rfl
  | n + 5, h => omega
theorem tw_s4 {G : gE} {T : TW} {o q : Nat} (h : 1 ≤ q ∧ q ≤ 4) (g : Nat → Int32) : (tw_L G T o).set q (o + q, .inl (gA G 0, tLen q, .inl g)) = tw_L G (tsA T q g) o := by
  match q, h with
  | 0, h => omega
  | 1, _ => rfl
  | 2, _ => rfl
  | 3, _ => rfl
  | 4, _ => rfl
  | n + 5, h => omega
/-- what holds all through a method of class own with code cc -/
def gB (G : gE) (own : String) (cc : ByteArray) (nL : Nat) (ret : Option FieldType) (p : Program) (s : State) (m : MethodId) (args : Array Value) (meth : Method) (c : Code) : Prop :=
  p.tables.exec = Jvm.exec ∧ c.code = cc ∧ c.maxLocals = nL ∧ s.vm.findClass own = some m.cls ∧ (∀ w ∈ lw_all, w.before args s = true) ∧ meth.sig.returnType = ret ∧ meth.locks = false ∧ KG G s
def twQ (G : gE) (o : Nat) (v : Option Value) (T' : TW) : Array Value → State → Outcome → State → Prop := fun _ st oc t => oc = .returned v ∧ RepT G o T' t.heap ∧ va_F (tFr o) st t
abbrev twZ (below : List Frame) (args : Array Value) (s : State) (G : gE) (o : Nat) (v : Option Value) (T' : TW) : State → Prop := MQ below (twQ G o v T') args s 0 0 (tFr o)
def twPc (G : gE) (o : Nat) (T : TW) (av : List Value) : Array Value → State → Prop := va_Pc av (fun U => RepT G o T U.heap ∧ KG G U)
abbrev gRm (F L : Nat) : Room := { frames := F, cells := 0, slots := 0, locals := L }
def twM (l : Launch) (G : gE) (o : Nat) (y : MethodName) (cc : ByteArray) (nL : Nat) (ret : Option FieldType) (F L : Nat) (av : List Value) (T : TW) (v : Option Value) (T' : TW) : Prop :=
  Met l y (ws_ y cc nL ret) (gRm F L) (twPc G o T av) (twQ G o v T') 0 0 (tFr o)
theorem twPc_blind {G : gE} {o : Nat} {T : TW} {av : List Value} : FrameBlind (twPc G o T av) := by
  intro a U g mk h
  obtain ⟨h1, h2, h3⟩ := h
  exact ⟨h1, h2, va_K.moved (u := U) (U := U.calling g mk a) (Vm.Alike.refl U.vm) h3.1, RO.same (s := U) (U := U.calling g mk a) rfl h3.2⟩
theorem tw_of {l : Launch} {G : gE} {o : Nat} {y : MethodName} {cc : ByteArray} {nL : Nat} {ret : Option FieldType} {F L : Nat} {av : List Value} {T : TW} {v : Option Value} {T' : TW} (hy : plainName y.cls = true) (hn : (lg_sl av).length ≤ nL)
    (body : ∀ (p : Program) (e : Env) (s : State) (m : MethodId) (args : Array Value) (below : List Frame) (meth : Method) (c : Code) (ls : Array Slot), gB G y.cls cc nL ret p s m args meth c → RepT G o T s.heap → lv_has ls nL (lv_args 0 av) → W p l e (gRm F L) s m args below meth c s.heap [] 0 0 (twZ below args s G o v T') (F0 m 0 ls [])) :
    twM l G o y cc nL ret F L av T v T' := by
  refine Met.ofW (cc := cc) (maxL := nL) (ret := ret) hy rfl ?_
  intro p e s m args below meth c s₁ B hml hv
  obtain ⟨rfl, hR, hK⟩ := hv
  have hts := atoms_spec (ws := ws_ y cc nL ret) B.pre
  have hts : ∀ w ∈ lw_all, w.before _ s = true := fun w h => hts w (List.mem_cons_of_mem _ h)
  have hown : s.vm.findClass y.cls = some m.cls := findClass_of_methodNamed B.named
  rw [lg_entry_eq]
  exact body p e s m _ below meth c _ ⟨B.exec, B.bytes, hml, hown, hts, B.returns, B.notSynchronized, hK⟩ hR (lv_entry av hn)
section TWR
variable {p : Program} {l : Launch} {e : Env} {R : Room} {s : State} {m : MethodId} {args : Array Value} {below : List Frame} {meth : Method} {c : Code} {H : Heap} {locs : List Loc} {cells slots : Nat} {Q : State → Prop}
variable {cc : ByteArray} {pc : Nat} {ls : Array Slot} {rest : List Value} {A : Nat → Prop} {G : gE} {o : Nat} {T : TW}
theorem tw_get (hx : p.tables.exec = Jvm.exec) (hb : c.code = cc) {index k : Nat} {v : Value} (hts : ∀ w ∈ lw_all, w.before args s = true) (hown : s.vm.findClass RX5 = some m.cls) (hK : KG G s) (hR : RepT G o T H) (hk : k < 33) (hlink : (Cond.fieldLink RX5 index RX5 (TX5 k).2.1 (TX5 k).2.2.1) ∈ lw_all) (hv : tV T o k = v) (hsame : ∀ x, s.fieldFound? (TX5 k).1 (TX5 k).2.1 (TX5 k).2.2.1 = some x → s.fieldFound? RX5 (TX5 k).2.1 (TX5 k).2.2.1 = some x) (hdg : decode cc pc = .ok (.getfield index, 3))
    (kk : W p l e R s m args below meth c H locs cells slots Q (F0 m (pc + 3) ls (v :: rest))) : W p l e R s m args below meth c H locs cells slots Q (F0 m pc ls (.ref o :: rest)) :=
  va_get (D := G.1) (ci := 24) (C := RX5) (T := TX5) (N := 33) hx hb hts in_X5 hown hK.1 hR.2 0 rfl rfl k hk (hts _ hlink) hsame (by rw [← hv]; exact tw_fs hk) hdg kk
theorem tw_putI (hx : p.tables.exec = Jvm.exec) (hb : c.code = cc) {index k : Nat} {x : Int32} (hts : ∀ w ∈ lw_all, w.before args s = true) (hown : s.vm.findClass RX5 = some m.cls) (hK : KG G s) (hR : RepT G o T H) (hA : ∀ q, tFr o q → A q) (hS : va_S A s.heap H locs) (hk : k < 33) (hki : tKind k = 0) {T' : TW} (he : T' = tsI T k x) (hlink : (Cond.fieldLink RX5 index RX5 (TX5 k).2.1 (TX5 k).2.2.1) ∈ lw_all) (hsame : ∀ x, s.fieldFound? (TX5 k).1 (TX5 k).2.1 (TX5 k).2.2.1 = some x → s.fieldFound? RX5 (TX5 k).2.1 (TX5 k).2.2.1 = some x) (hfin : (TX5 k).2.2.2 = false) {ty : FieldType} (hd : parseFieldDescriptor (TX5 k).2.2.1 = some ty) (hn : narrow ty (.int x) = .int x) (hfit : fits ty (.int x) = true) (hdg : decode cc pc = .ok (.putfield index, 3))
    (kk : ∀ (H : Heap) (locs : List Loc), RepT G o T' H → va_S A s.heap H locs → W p l e R s m args below meth c H locs cells slots Q (F0 m (pc + 3) ls rest)) : W p l e R s m args below meth c H locs cells slots Q (F0 m pc ls (.int x :: .ref o :: rest)) := by
  subst he
  refine va_put (D := G.1) (ci := 24) (C := RX5) (T := TX5) (N := 33) hx hb hts in_X5 tyX5 tyX5_ok nmX5 hown hK.1 hR.2 (tw_D hA) hS 0 rfl rfl k hk (hts _ hlink) hsame hfin hd hn hfit (by rw [List.length_map, List.length_range]; exact hk) hdg (fun H locs hP hD hS => kk H locs ?_ hS)
  have e1 : ((List.range 33).map (tV T o)).set k (.int x) = (List.range 33).map (tV (tsI T k x) o) := tw_setF hk (fun j _ => tw_setI hki j)
  refine ⟨hR.1, ?_⟩
  rw [show tw_L G (tsI T k x) o = (tw_L G T o).set 0 (o, .inr (24, ((List.range 33).map (tV T o)).set k (.int x))) from by rw [e1]; rfl]
  exact hP
theorem tw_putR (hx : p.tables.exec = Jvm.exec) (hb : c.code = cc) {index : Nat} {x : Int64} (hts : ∀ w ∈ lw_all, w.before args s = true) (hown : s.vm.findClass RX5 = some m.cls) (hK : KG G s) (hR : RepT G o T H) (hA : ∀ q, tFr o q → A q) (hS : va_S A s.heap H locs) {T' : TW} (he : T' = tsR T x) (hlink : (Cond.fieldLink RX5 index RX5 "bestRevenue" "J") ∈ lw_all) (hdg : decode cc pc = .ok (.putfield index, 3))
    (kk : ∀ (H : Heap) (locs : List Loc), RepT G o T' H → va_S A s.heap H locs → W p l e R s m args below meth c H locs cells slots Q (F0 m (pc + 3) ls rest)) : W p l e R s m args below meth c H locs cells slots Q (F0 m pc ls (.long x :: .ref o :: rest)) := by
  subst he
  refine va_put (D := G.1) (ci := 24) (C := RX5) (T := TX5) (N := 33) (v := .long x) (ty := .long) hx hb hts in_X5 tyX5 tyX5_ok nmX5 hown hK.1 hR.2 (tw_D hA) hS 0 rfl rfl 29 (by decide) (hts _ hlink) (fun _ h9 => h9) rfl (by decide +kernel) rfl rfl (by rw [List.length_map, List.length_range]; decide) hdg (fun H locs hP hD hS => kk H locs ?_ hS)
  have e1 : ((List.range 33).map (tV T o)).set 29 (.long x) = (List.range 33).map (tV (tsR T x) o) := tw_setF (by decide) (fun j hj => tw_setR j hj)
  refine ⟨hR.1, ?_⟩
  rw [show tw_L G (tsR T x) o = (tw_L G T o).set 0 (o, .inr (24, ((List.range 33).map (tV T o)).set 29 (.long x))) from by rw [e1]; rfl]
  exact hP
theorem tw_iald (hx : p.tables.exec = Jvm.exec) (hb : c.code = cc) (hK : KG G s) (hR : RepT G o T H) {q n : Nat} {i x : Int32} (hq : (tw_L G T o)[q]? = some (o + q, .inl (gA G 0, n, .inl (tA T q)))) (he : rd_ (tA T q) n i = some x) (hdg : decode cc pc = .ok (.iaload, 1))
    (kk : W p l e R s m args below meth c H locs cells slots Q (F0 m (pc + 1) ls (.int x :: rest))) : W p l e R s m args below meth c H locs cells slots Q (F0 m pc ls (.int i :: .ref (o + q) :: rest)) := by
  obtain ⟨h1, h2⟩ := rd_o he
  subst h2
  exact va_iald hx hb hK.1 hR.2 q 0 hq rfl h1 hdg kk
theorem tw_bald (hx : p.tables.exec = Jvm.exec) (hb : c.code = cc) (hK : KG G s) (hR : RepT G o T H) {q n : Nat} {i x : Int32} (hq : (tw_L G T o)[q]? = some (o + q, .inl (gA G 2, n, .inl (tA T q)))) (he : rd_ (tA T q) n i = some x) (hdg : decode cc pc = .ok (.baload, 1))
    (kk : W p l e R s m args below meth c H locs cells slots Q (F0 m (pc + 1) ls (.int x :: rest))) : W p l e R s m args below meth c H locs cells slots Q (F0 m pc ls (.int i :: .ref (o + q) :: rest)) := by
  obtain ⟨h1, h2⟩ := rd_o he
  subst h2
  exact va_bald hx hb hK.1 hR.2 q 2 hq rfl h1 hdg kk
theorem tw_zald (hx : p.tables.exec = Jvm.exec) (hb : c.code = cc) (hK : KG G s) (hR : RepT G o T H) {q n : Nat} {i x : Int32} (hq : (tw_L G T o)[q]? = some (o + q, .inl (gA G 3, n, .inl (tA T q)))) (he : rd_ (tA T q) n i = some x) (hdg : decode cc pc = .ok (.baload, 1))
    (kk : W p l e R s m args below meth c H locs cells slots Q (F0 m (pc + 1) ls (.int x :: rest))) : W p l e R s m args below meth c H locs cells slots Q (F0 m pc ls (.int i :: .ref (o + q) :: rest)) := by
  obtain ⟨h1, h2⟩ := rd_o he
  subst h2
  exact va_zald hx hb hK.1 hR.2 q 3 hq rfl h1 hdg kk
theorem tw_lald (hx : p.tables.exec = Jvm.exec) (hb : c.code = cc) (hK : KG G s) (hR : RepT G o T H) {q n : Nat} {i : Int32} {x : Int64} (hq : (tw_L G T o)[q]? = some (o + q, .inl (gA G 1, n, .inr (.inl (tB T q))))) (he : rd_ (tB T q) n i = some x) (hdg : decode cc pc = .ok (.laload, 1))
    (kk : W p l e R s m args below meth c H locs cells slots Q (F0 m (pc + 1) ls (.long x :: rest))) : W p l e R s m args below meth c H locs cells slots Q (F0 m pc ls (.int i :: .ref (o + q) :: rest)) := by
  obtain ⟨h1, h2⟩ := rd_o he
  subst h2
  exact va_lald hx hb hK.1 hR.2 q 1 hq rfl h1 hdg kk
theorem tw_iast (hx : p.tables.exec = Jvm.exec) (hb : c.code = cc) (hK : KG G s) (hR : RepT G o T H) (hA : ∀ q, tFr o q → A q) (hS : va_S A s.heap H locs) {q n : Nat} {i x : Int32} {T' : TW} (hq : (tw_L G T o)[q]? = some (o + q, .inl (gA G 0, n, .inl (tA T q)))) (hs : ∀ g, (tw_L G T o).set q (o + q, .inl (gA G 0, n, .inl g)) = tw_L G (tsA T q g) o) (he : wrA T q n i x = some T') (hdg : decode cc pc = .ok (.iastore, 1))
    (kk : ∀ (H : Heap) (locs : List Loc), RepT G o T' H → va_S A s.heap H locs → W p l e R s m args below meth c H locs cells slots Q (F0 m (pc + 1) ls rest)) : W p l e R s m args below meth c H locs cells slots Q (F0 m pc ls (.int x :: .int i :: .ref (o + q) :: rest)) := by
  obtain ⟨h1, h2⟩ := wrA_o he
  subst h2
  exact va_iast hx hb hK.1 hR.2 (tw_D hA) hS q 0 hq rfl h1 hdg (fun H locs hP _ hS => kk H locs ⟨hR.1, by rw [hs] at hP; exact hP⟩ hS)
theorem tw_bast (hx : p.tables.exec = Jvm.exec) (hb : c.code = cc) (hK : KG G s) (hR : RepT G o T H) (hA : ∀ q, tFr o q → A q) (hS : va_S A s.heap H locs) {q n : Nat} {i x : Int32} {T' : TW} (hq : (tw_L G T o)[q]? = some (o + q, .inl (gA G 2, n, .inl (tA T q)))) (hs : ∀ g, (tw_L G T o).set q (o + q, .inl (gA G 2, n, .inl g)) = tw_L G (tsA T q g) o) (he : wrA T q n i (vp_nar .byte x) = some T') (hdg : decode cc pc = .ok (.bastore, 1))
    (kk : ∀ (H : Heap) (locs : List Loc), RepT G o T' H → va_S A s.heap H locs → W p l e R s m args below meth c H locs cells slots Q (F0 m (pc + 1) ls rest)) : W p l e R s m args below meth c H locs cells slots Q (F0 m pc ls (.int x :: .int i :: .ref (o + q) :: rest)) := by
  obtain ⟨h1, h2⟩ := wrA_o he
  subst h2
  exact va_bast hx hb hK.1 hR.2 (tw_D hA) hS q 2 hq rfl h1 hdg (fun H locs hP _ hS => kk H locs ⟨hR.1, by rw [hs] at hP; exact hP⟩ hS)
theorem tw_zast (hx : p.tables.exec = Jvm.exec) (hb : c.code = cc) (hK : KG G s) (hR : RepT G o T H) (hA : ∀ q, tFr o q → A q) (hS : va_S A s.heap H locs) {q n : Nat} {i x : Int32} {T' : TW} (hq : (tw_L G T o)[q]? = some (o + q, .inl (gA G 3, n, .inl (tA T q)))) (hs : ∀ g, (tw_L G T o).set q (o + q, .inl (gA G 3, n, .inl g)) = tw_L G (tsA T q g) o) (he : wrA T q n i (vp_nar .boolean x) = some T') (hdg : decode cc pc = .ok (.bastore, 1))
    (kk : ∀ (H : Heap) (locs : List Loc), RepT G o T' H → va_S A s.heap H locs → W p l e R s m args below meth c H locs cells slots Q (F0 m (pc + 1) ls rest)) : W p l e R s m args below meth c H locs cells slots Q (F0 m pc ls (.int x :: .int i :: .ref (o + q) :: rest)) := by
  obtain ⟨h1, h2⟩ := wrA_o he
  subst h2
  exact va_zast hx hb hK.1 hR.2 (tw_D hA) hS q 3 hq rfl h1 hdg (fun H locs hP _ hS => kk H locs ⟨hR.1, by rw [hs] at hP; exact hP⟩ hS)
theorem tw_last (hx : p.tables.exec = Jvm.exec) (hb : c.code = cc) (hK : KG G s) (hR : RepT G o T H) (hA : ∀ q, tFr o q → A q) (hS : va_S A s.heap H locs) {q n : Nat} {i : Int32} {x : Int64} {T' : TW} (hq : (tw_L G T o)[q]? = some (o + q, .inl (gA G 1, n, .inr (.inl (tB T q))))) (hs : ∀ g, (tw_L G T o).set q (o + q, .inl (gA G 1, n, .inr (.inl g))) = tw_L G (tsB T q g) o) (he : wrB T q n i x = some T') (hdg : decode cc pc = .ok (.lastore, 1))
    (kk : ∀ (H : Heap) (locs : List Loc), RepT G o T' H → va_S A s.heap H locs → W p l e R s m args below meth c H locs cells slots Q (F0 m (pc + 1) ls rest)) : W p l e R s m args below meth c H locs cells slots Q (F0 m pc ls (.long x :: .int i :: .ref (o + q) :: rest)) := by
  obtain ⟨h1, h2⟩ := wrB_o he
  subst h2
  exact va_last hx hb hK.1 hR.2 (tw_D hA) hS q 1 hq rfl h1 hdg (fun H locs hP _ hS => kk H locs ⟨hR.1, by rw [hs] at hP; exact hP⟩ hS)
/-- behind a call of a twin's method -/
theorem tw_on {v : Option Value} {T' : TW} {Qa : State → Outcome → State → Prop} {st0 : List Value} (hr : va_Run p l e R s m args below meth c H locs cells slots 0 0 (F0 m pc ls st0) rest Qa (tFr o)) (hq : ∀ st oc t, Qa st oc t → oc = .returned v ∧ RepT G o T' t.heap ∧ va_F (tFr o) st t) (hA : ∀ q, tFr o q → A q) (hS : va_S A s.heap H locs)
    (kk : ∀ (H : Heap) (locs : List Loc), RepT G o T' H → va_S A s.heap H locs → W p l e R s m args below meth c H locs cells slots Q (F0 m (pc + 3) ls (v.toList ++ rest))) : W p l e R s m args below meth c H locs cells slots Q (F0 m pc ls st0) := by
  intro T hT X
  obtain ⟨v', st₀, t, T1, L, h0, X', hL, e1, e2, hq', st⟩ := hr T hT X
  obtain ⟨hv, hR, hz, hk⟩ := hq _ _ _ hq'
  cases hv
  rw [h0] at hz hk
  obtain ⟨t2, a1, b1⟩ := kk T1.heap (locs ++ L) (by rw [e1]; exact hR)
    ⟨Nat.le_trans hS.1 (by rw [e1]; exact hz), fun q h1 h2 => by rw [e1, hk q (Nat.lt_of_lt_of_le h1 hS.1) (fun z => h2 (hA q z))]; exact hS.2.1 q h1 h2, fun q hq => by
      rcases List.mem_append.mp hq with h | h
      · exact hS.2.2 q h
      · exact hA _ (hL q h)⟩ T1 rfl X'
  exact ⟨t2, st t2 a1, b1⟩
theorem tw_recv (hK : KG G s) (hR : RepT G o T H) : ∃ cell : Cell, H[o]? = some cell ∧ cell.vm.isStatics = false ∧ s.vm.findClass RX5 = some cell.cls :=
  va_recv (q := (RX5, TX5, 33)) hK.1 hR.2 (ci := 24) (q0 := 0) rfl rfl
theorem gl_pre {G : gE} {s U : State} {H : Heap} {A : Nat → Prop} {locs : List Loc} (hK : KG G s) (hS : va_S A s.heap H locs) (hA : ∀ q, A q → gFr G q) (hU : U.heap = H) (hW : s.WarmedH U.vm) : KG G U :=
  ⟨va_K.moved hW.alike hK.1, by rw [hU]; exact (hK.2.kept (fun a h1 h2 => hS.2.1 a h1 (fun z => h2 (hA a z)))).warm hW⟩
theorem tw_pre (hK : KG G s) (hR : RepT G o T H) (hS : va_S A s.heap H locs) (hA : ∀ q, A q → gFr G q) (As : List Value) : ∀ U : State, U.heap = H → s.WarmedH U.vm → twPc G o T As As.toArray U :=
  fun U hU hW => ⟨rfl, by rw [hU]; exact hR, gl_pre hK hS hA hU hW⟩
/-- this.y(..) -/
theorem tw_callV (n : Nat) {own : String} {y : MethodName} {bytes : ByteArray} {maxL nL F L index : Nat} {ret : Option FieldType} {As : List Value} {v : Option Value} {T' : TW} (hx : p.tables.exec = Jvm.exec) (hb : c.code = cc) (hml : c.maxLocals = nL) (hown : s.vm.findClass own = some m.cls) (hts : ∀ w ∈ lw_all, w.before args s = true) (hK : KG G s) (hR : RepT G o T H) (hA : ∀ q, tFr o q → A q) (hA2 : ∀ q, A q → gFr G q) (hS : va_S A s.heap H locs)
    (hM : twM l G o y bytes maxL ret F L (.ref o :: As) T v T') (hw : GoodIn lw_all (wsV own index RX5 y (ws_ y bytes maxL ret))) (hd : y.cls = RX5 ∧ y.cls ≠ "java/lang/invoke/MethodHandle" ∧ y.cls ≠ "java/lang/invoke/VarHandle" ∧ (parseMethodDescriptor y.desc).map (fun d => d.parameters.length) = some n) (hF : F + 1 ≤ R.frames) (hL : 8 + (maxL + 11) + L ≤ R.locals) (hc : cells ≤ R.cells) (hs : slots ≤ R.slots)
    (hn : As.length = n) (hsz : ls.size = nL) (hroom : (rest.map fun v => v.category).sum ≤ 8) (hdg : decode cc pc = .ok (.invokevirtual index, 3)) {st0 st1 : List Value} (hst : st0 = As.reverse ++ .ref o :: rest) (hst1 : v.toList ++ rest = st1)
    (kk : ∀ (H : Heap) (locs : List Loc), RepT G o T' H → va_S A s.heap H locs → W p l e R s m args below meth c H locs cells slots Q (F0 m (pc + 3) ls st1)) : W p l e R s m args below meth c H locs cells slots Q (F0 m pc ls st0) := by
  subst hst
  subst hst1
  exact tw_on (va_runV (As := As) (rest := rest) ⟨hx, hb, hml, hown, hts⟩ hM (cwV n hts hw rfl rfl rfl hd ⟨hF, hL⟩) ⟨twPc_blind, tw_recv hK hR, tw_pre hK hR hS hA2 _⟩ rfl hn hsz rfl (lv_room hroom) hdg ⟨hc, hs⟩) (fun _ _ _ h => h) hA hS kk
/-- y(..), static, of the twin's class -/
theorem tw_callS (n : Nat) {own : String} {y : MethodName} {bytes : ByteArray} {maxL nL F L index : Nat} {ret : Option FieldType} {As : List Value} {v : Option Value} {T' : TW} (hx : p.tables.exec = Jvm.exec) (hb : c.code = cc) (hml : c.maxLocals = nL) (hown : s.vm.findClass own = some m.cls) (hts : ∀ w ∈ lw_all, w.before args s = true) (hK : KG G s) (hR : RepT G o T H) (hA : ∀ q, tFr o q → A q) (hA2 : ∀ q, A q → gFr G q) (hS : va_S A s.heap H locs)
    (hM : twM l G o y bytes maxL ret F L As T v T') (hw : GoodIn lw_all (va_wsS own index y (ws_ y bytes maxL ret))) (hd : y.cls ≠ "java/lang/invoke/MethodHandle" ∧ y.cls ≠ "java/lang/invoke/VarHandle" ∧ (parseMethodDescriptor y.desc).map (fun d => d.parameters.length) = some n) (hF : F + 1 ≤ R.frames) (hL : 8 + (maxL + 11) + L ≤ R.locals) (hc : cells ≤ R.cells) (hs : slots ≤ R.slots)
    (hn : As.length = n) (hsz : ls.size = nL) (hroom : (rest.map fun v => v.category).sum ≤ 8) (hdg : decode cc pc = .ok (.invokestatic index, 3)) {st0 st1 : List Value} (hst : st0 = As.reverse ++ rest) (hst1 : v.toList ++ rest = st1)
    (kk : ∀ (H : Heap) (locs : List Loc), RepT G o T' H → va_S A s.heap H locs → W p l e R s m args below meth c H locs cells slots Q (F0 m (pc + 3) ls st1)) : W p l e R s m args below meth c H locs cells slots Q (F0 m pc ls st0) := by
  subst hst
  subst hst1
  exact tw_on (va_runS (As := As) (rest := rest) ⟨hx, hb, hml, hown, hts⟩ hM (va_cwS n hts hw rfl rfl rfl hd ⟨hF, hL⟩) ⟨twPc_blind, tw_pre hK hR hS hA2 _⟩ rfl hn hsz rfl (lv_room hroom) hdg ⟨hc, hs⟩) (fun _ _ _ h => h) hA hS kk
/-- the ends -/
theorem tw_fin {t : State} {v : Option Value} {T' : TW} (hR : RepT G o T' H) (hS : va_S (tFr o) s.heap H locs) (ht : t.heap = H) : twQ G o v T' args s (.returned v) t := ⟨rfl, by rw [ht]; exact hR, hS.F ht⟩
def bz_ (x : Int32) : Option Int32 := if vp_nar .boolean x = x then some x else none
theorem it_o {α : Type} {c : Prop} [Decidable c] {a b z : α} (hc : c) (h : (if c then a else b) = z) : a = z := by rw [if_pos hc] at h; exact h
theorem if_o {α : Type} {c : Prop} [Decidable c] {a b z : α} (hc : ¬ c) (h : (if c then a else b) = z) : b = z := by rw [if_neg hc] at h; exact h
def b2_ {α β γ : Type} (o : Option (α × β)) (f : α → β → Option γ) : Option γ := o.bind (fun q => f q.1 q.2)
theorem b2_o {α β γ : Type} {o : Option (α × β)} {f : α → β → Option γ} {r : γ} (h : b2_ o f = some r) : ∃ a b, o = some (a, b) ∧ f a b = some r := by
  obtain ⟨q, h1, h2⟩ := bo_o h
  exact ⟨q.1, q.2, h1, h2⟩
def nzI (y : Int32) : Option Unit := if y = 0 then none else some ()
def nzL (y : Int64) : Option Unit := if y = 0 then none else some ()
theorem nzI_o {y : Int32} {u : Unit} (h : nzI y = some u) : ¬ y = 0 := by
  intro e; subst e; cases h
theorem nzL_o {y : Int64} {u : Unit} (h : nzL y = some u) : ¬ y = 0 := by
  intro e; subst e; cases h
theorem bz_o {x y : Int32} (h : bz_ x = some y) : vp_nar .boolean x = x ∧ y = x := by
  unfold bz_ at h
  split at h
  next hh => exact ⟨hh, (Option.some.inj h).symm⟩
  next => cases h
theorem bz_n {x y : Int32} (h : bz_ x = some y) : narrow .boolean (.int x) = .int x := by
  have h1 := (bz_o h).1
  unfold vp_nar at h1
  split at h1
  next y hy => rw [hy, h1]
  next hne => 
    exfalso
    exact hne _ rfl
end TWR
