/-! The heap world: cells by address, constants, next address, free cells, free slots -/
abbrev hE : Type := (Nat × vp_A) ⊕ (Nat × List Value)
abbrev WH : Type := (Nat → Option hE) × (Nat → Nat) × Nat × Nat × Nat
def wK (w : WH) : Nat → Nat := w.2.1
def wN (w : WH) : Nat := w.2.2.1
def wC (w : WH) : Nat := w.2.2.2.1
def wS (w : WH) : Nat := w.2.2.2.2
def hUp (w : WH) (a : Nat) (x : hE) : WH := (va_up w.1 a (some x), w.2)
def kIx (K : Nat → Nat) (a : Nat) : Option Nat := if a = K 0 then some 0 else if a = K 1 then some 1 else if a = K 2 then some 2 else if a = K 3 then some 3 else if a = K 4 then some 4 else none
theorem kIx_o {K : Nat → Nat} {a i : Nat} (h : kIx K a = some i) : i < 5 ∧ a = K i := by
  unfold kIx at h
  split at h
  next e => cases h; exact ⟨by decide, e⟩
  split at h
  next e => cases h; exact ⟨by decide, e⟩
  split at h
  next e => cases h; exact ⟨by decide, e⟩
  split at h
  next e => cases h; exact ⟨by decide, e⟩
  split at h
  next e => cases h; exact ⟨by decide, e⟩
  cases h
/-- fields of constant objects -/
def roF (K : Nat → Nat) (a ci k : Nat) : Option Value := if ci = 16 then (match k with | 0 => (kIx K a).map (fun i => .ref (K (10 + i))) | 1 => (kIx K a).map (fun _ => .int 0) | _ => none) else none
/-- constant arrays -/
def roA (K : Nat → Nat) (a : Nat) : Option (Nat × vp_A) := match kIx (fun i => K (10 + i)) a with
  | some i => some (2, (gl_len.getD i 0, .inl (fun j => (gl_byt.getD i []).getD j 0)))
  | none => if a = K 20 then some (2, (100, .inl dg_T)) else if a = K 21 then some (2, (100, .inl dg_O)) else none
def fld (w : WH) (a ci k : Nat) : Option Value := match w.1 a with
  | some (.inr x) => if x.1 = ci then x.2[k]? else none
  | some (.inl _) => none
  | none => roF (wK w) a ci k
def vI (v : Option Value) : Option Int32 := match v with | some (.int x) => some x | _ => none
def vJ (v : Option Value) : Option Int64 := match v with | some (.long x) => some x | _ => none
def vR (v : Option Value) : Option (Option Nat) := match v with | some (.ref x) => some (some x) | some .null => some none | _ => none
def gI (w : WH) (a ci k : Nat) : Option Int32 := vI (fld w a ci k)
def gJ (w : WH) (a ci k : Nat) : Option Int64 := vJ (fld w a ci k)
def gR (w : WH) (a ci k : Nat) : Option (Option Nat) := vR (fld w a ci k)
theorem gI_o {w : WH} {a ci k : Nat} {x : Int32} (h : gI w a ci k = some x) : fld w a ci k = some (.int x) := by
  unfold gI vI at h
  split at h
  next e => cases h; exact e
  next => cases h
theorem gJ_o {w : WH} {a ci k : Nat} {x : Int64} (h : gJ w a ci k = some x) : fld w a ci k = some (.long x) := by
  unfold gJ vJ at h
  split at h
  next e => cases h; exact e
  next => cases h
theorem gR_o {w : WH} {a ci k : Nat} {x : Option Nat} (h : gR w a ci k = some x) : fld w a ci k = some (va_rf x) := by
  unfold gR vR at h
  split at h
  next e => cases h; exact e
  next e => cases h; exact e
  next => cases h
def hPut (w : WH) (a ci k : Nat) (v : Value) : Option WH := match w.1 a with
  | some (.inr x) => if x.1 = ci ∧ k < x.2.length then some (hUp w a (.inr (x.1, x.2.set k v))) else none
  | _ => none
theorem hPut_o {w w' : WH} {a ci k : Nat} {v : Value} (h : hPut w a ci k v = some w') : ∃ fs, w.1 a = some (.inr (ci, fs)) ∧ k < fs.length ∧ w' = hUp w a (.inr (ci, fs.set k v)) := by
  unfold hPut at h
  split at h
  next x e =>
    split at h
    next hh =>
      cases h
      obtain ⟨c, fs⟩ := x
      obtain ⟨rfl, h2⟩ := hh
      exact ⟨fs, e, h2, rfl⟩
    next => cases h
  next => cases h
def hArr (w : WH) (a : Nat) : Option (Nat × vp_A) := match w.1 a with
  | some (.inl x) => some x
  | some (.inr _) => none
  | none => roA (wK w) a
def ldI (w : WH) (a t : Nat) (i : Int32) : Option Int32 := match hArr w a with
  | some (t', n, .inl f) => if t' = t then rd_ f n i else none
  | _ => none
def ldJ (w : WH) (a : Nat) (i : Int32) : Option Int64 := match hArr w a with
  | some (t', n, .inr (.inl f)) => if t' = 1 then rd_ f n i else none
  | _ => none
def ldR (w : WH) (a t : Nat) (i : Int32) : Option (Option Nat) := match hArr w a with
  | some (t', n, .inr (.inr (.inr (.inr f)))) => if t' = t then rd_ f n i else none
  | _ => none
def aLn (w : WH) (a : Nat) : Option Int32 := (hArr w a).bind (fun x => if x.1 < 6 then some (Int32.ofNat x.2.1) else none)
theorem aLn_o {w : WH} {a : Nat} {v : Int32} (h : aLn w a = some v) : ∃ y, hArr w a = some y ∧ y.1 < 6 ∧ Int32.ofNat y.2.1 = v := by
  obtain ⟨y, h1, h2⟩ := bo_o h
  split at h2
  next hh => exact ⟨y, h1, hh, Option.some.inj h2⟩
  next => cases h2
theorem ldI_o {w : WH} {a t : Nat} {i x : Int32} (h : ldI w a t i = some x) : ∃ n f, hArr w a = some (t, n, .inl f) ∧ vp_in i n ∧ f i.toNatClampNeg = x := by
  unfold ldI at h
  split at h
  next t' n f e =>
    split at h
    next ht => subst ht; exact ⟨n, f, e, rd_o h⟩
    next => cases h
  next => cases h
theorem ldJ_o {w : WH} {a : Nat} {i : Int32} {x : Int64} (h : ldJ w a i = some x) : ∃ n f, hArr w a = some (1, n, .inr (.inl f)) ∧ vp_in i n ∧ f i.toNatClampNeg = x := by
  unfold ldJ at h
  split at h
  next t' n f e =>
    split at h
    next ht => subst ht; exact ⟨n, f, e, rd_o h⟩
    next => cases h
  next => cases h
theorem ldR_o {w : WH} {a t : Nat} {i : Int32} {x : Option Nat} (h : ldR w a t i = some x) : ∃ n f, hArr w a = some (t, n, .inr (.inr (.inr (.inr f)))) ∧ vp_in i n ∧ f i.toNatClampNeg = x := by
  unfold ldR at h
  split at h
  next t' n f e =>
    split at h
    next ht => subst ht; exact ⟨n, f, e, rd_o h⟩
    next => cases h
  next => cases h
def stI (w : WH) (a t : Nat) (i x : Int32) : Option WH := match w.1 a with
  | some (.inl (t', n, .inl f)) => if t' = t then (if i < 0 ∨ n ≤ i.toNatClampNeg then none else some (hUp w a (.inl (t', n, .inl (upd f i.toNatClampNeg x))))) else none
  | _ => none
def stJ (w : WH) (a : Nat) (i : Int32) (x : Int64) : Option WH := match w.1 a with
  | some (.inl (t', n, .inr (.inl f))) => if t' = 1 then (if i < 0 ∨ n ≤ i.toNatClampNeg then none else some (hUp w a (.inl (t', n, .inr (.inl (vp_updL f i.toNatClampNeg x)))))) else none
  | _ => none
/-- the class of an object, by its number -/
def hCl (w : WH) (a : Nat) : Option Nat := match w.1 a with
  | some (.inr x) => some x.1
  | _ => none
def stR (w : WH) (a t : Nat) (i : Int32) (x : Option Nat) : Option WH := match w.1 a with
  | some (.inl (t', n, .inr (.inr (.inr (.inr f))))) => if t' = t then (if i < 0 ∨ n ≤ i.toNatClampNeg then none else some (hUp w a (.inl (t', n, .inr (.inr (.inr (.inr (va_up f i.toNatClampNeg x)))))))) else none
  | _ => none
theorem stI_o {w w' : WH} {a t : Nat} {i x : Int32} (h : stI w a t i x = some w') : ∃ n f, w.1 a = some (.inl (t, n, .inl f)) ∧ vp_in i n ∧ w' = hUp w a (.inl (t, n, .inl (upd f i.toNatClampNeg x))) := by
  unfold stI at h
  split at h
  next t' n f e =>
    split at h
    next ht =>
      subst ht
      split at h
      next => cases h
      next hh => cases h; exact ⟨n, f, e, hh, rfl⟩
    next => cases h
  next => cases h
theorem stJ_o {w w' : WH} {a : Nat} {i : Int32} {x : Int64} (h : stJ w a i x = some w') : ∃ n f, w.1 a = some (.inl (1, n, .inr (.inl f))) ∧ vp_in i n ∧ w' = hUp w a (.inl (1, n, .inr (.inl (vp_updL f i.toNatClampNeg x)))) := by
  unfold stJ at h
  split at h
  next t' n f e =>
    split at h
    next ht =>
      subst ht
      split at h
      next => cases h
      next hh => cases h; exact ⟨n, f, e, hh, rfl⟩
    next => cases h
  next => cases h
theorem stR_o {w w' : WH} {a t : Nat} {i : Int32} {x : Option Nat} (h : stR w a t i x = some w') : ∃ n f, w.1 a = some (.inl (t, n, .inr (.inr (.inr (.inr f))))) ∧ vp_in i n ∧ w' = hUp w a (.inl (t, n, .inr (.inr (.inr (.inr (va_up f i.toNatClampNeg x)))))) := by
  unfold stR at h
  split at h
  next t' n f e =>
    split at h
    next ht =>
      subst ht
      split at h
      next => cases h
      next hh => cases h; exact ⟨n, f, e, hh, rfl⟩
    next => cases h
  next => cases h
def hMk (w : WH) (n : Nat) (x : hE) : WH := (va_up w.1 (wN w) (some x), wK w, wN w + 1, wC w - 1, wS w - n)
def hNw (w : WH) (n ci : Nat) (fs : List Value) : Option (Nat × WH) := if 1 ≤ wC w ∧ n ≤ wS w then some (wN w, hMk w n (.inr (ci, fs))) else none
theorem hNw_o {w w' : WH} {n ci a : Nat} {fs : List Value} (h : hNw w n ci fs = some (a, w')) : 1 ≤ wC w ∧ n ≤ wS w ∧ a = wN w ∧ w' = hMk w n (.inr (ci, fs)) := by
  unfold hNw at h
  split at h
  next hh => cases h; exact ⟨hh.1, hh.2, rfl, rfl⟩
  next => cases h
/-- new arrays: of numbers (0, 2, 3), of longs (1), of references (4, 5) -/
def aDf (t : Nat) : ((Nat → Int32) ⊕ (Nat → Int64) ⊕ (Nat → UInt32) ⊕ (Nat → UInt64) ⊕ (Nat → Option Nat)) := match t with
  | 1 => .inr (.inl (fun _ => 0))
  | 4 => .inr (.inr (.inr (.inr (fun _ => none))))
  | 5 => .inr (.inr (.inr (.inr (fun _ => none))))
  | _ => .inl (fun _ => 0)
def hNa (w : WH) (t : Nat) (n : Int32) : Option (Nat × WH) := if ¬ n < 0 ∧ n.toNatClampNeg ≤ 65536 ∧ 1 ≤ wC w ∧ n.toNatClampNeg ≤ wS w then some (wN w, hMk w n.toNatClampNeg (.inl (t, n.toNatClampNeg, aDf t))) else none
theorem hNa_o {w w' : WH} {t a : Nat} {n : Int32} (h : hNa w t n = some (a, w')) : (¬ n < 0 ∧ n.toNatClampNeg ≤ 65536 ∧ 1 ≤ wC w ∧ n.toNatClampNeg ≤ wS w) ∧ a = wN w ∧ w' = hMk w n.toNatClampNeg (.inl (t, n.toNatClampNeg, aDf t)) := by
  unfold hNa at h
  split at h
  next hh => cases h; exact ⟨hh, rfl, rfl⟩
  next => cases h
/-! the world in the machine -/
def hx_ (G : gE) (x : hE) : va_E := match x with
  | .inl y => .inl (gA G y.1, y.2)
  | .inr y => .inr y
def RepH (G : gE) (A : Nat → Prop) (w : WH) (H : Heap) : Prop := (∀ q, A q → gFr G q) ∧ (∀ q, wN w ≤ q → A q) ∧ wK w = gK G ∧ H.size = wN w ∧ ∀ a x, w.1 a = some x → A a ∧ va_at G.1 gl_cl (a, hx_ G x) H
def Cu (A : Nat → Prop) (s : State) (w0 w : WH) (H : Heap) (locs : List Loc) : Prop := va_S A s.heap H locs ∧ wC w ≤ wC w0 ∧ wS w ≤ wS w0
theorem RepH.one {G : gE} {A : Nat → Prop} {w : WH} {H : Heap} (hR : RepH G A w H) {a : Nat} {x : hE} (h : w.1 a = some x) : va_P G.1 gl_cl [(a, hx_ G x)] H ∧ va_D A [(a, hx_ G x)] := by
  obtain ⟨hA, hat⟩ := hR.2.2.2.2 a x h
  refine ⟨fun k q hq => ?_, fun i j p q hi hj e => ?_, fun k q hq => ?_⟩
  · cases k with
    | zero => cases hq; exact hat
    | succ k => simp at hq
  · have h1 := (List.getElem?_eq_some_iff.mp hi).1
    have h2 := (List.getElem?_eq_some_iff.mp hj).1
    simp at h1 h2
    omega
  · cases k with
    | zero => cases hq; exact hA
    | succ k => simp at hq
theorem RepH.upd {G : gE} {A : Nat → Prop} {w : WH} {H H1 : Heap} (hR : RepH G A w H) {a : Nat} {x0 x : hE} (h : w.1 a = some x0) (z : H1.size = H.size) (oq : ∀ q : Nat, q ≠ a → H1[q]? = H[q]?) (hat : va_at G.1 gl_cl (a, hx_ G x) H1) : RepH G A (hUp w a x) H1 := by
  obtain ⟨r1, r2, r3, r4, r5⟩ := hR
  refine ⟨r1, r2, r3, by rw [z]; exact r4, fun b y hb => ?_⟩
  by_cases e : b = a
  · subst e
    have : y = x := by
      have h9 : (va_up w.1 b (some x)) b = some y := hb
      rw [va_up_self] at h9
      exact (Option.some.inj h9).symm
    subst this
    exact ⟨(r5 b _ h).1, hat⟩
  · have h9 : w.1 b = some y := by
      have h9 : (va_up w.1 a (some x)) b = some y := hb
      rwa [va_up_ne _ _ e] at h9
    exact ⟨(r5 b y h9).1, (r5 b y h9).2.kept (oq b e)⟩
theorem RepH.mk {G : gE} {A : Nat → Prop} {w : WH} {H H1 : Heap} (hR : RepH G A w H) {n : Nat} {x : hE} (z : H1.size = wN w + 1) (oq : ∀ q : Nat, q < wN w → H1[q]? = H[q]?) (hat : va_at G.1 gl_cl (wN w, hx_ G x) H1) : RepH G A (hMk w n x) H1 := by
  obtain ⟨r1, r2, r3, r4, r5⟩ := hR
  refine ⟨r1, fun q hq => r2 q (Nat.le_of_succ_le hq), r3, z, fun b y hb => ?_⟩
  by_cases e : b = wN w
  · subst e
    have : y = x := by
      have h9 : (va_up w.1 (wN w) (some x)) (wN w) = some y := hb
      rw [va_up_self] at h9
      exact (Option.some.inj h9).symm
    subst this
    exact ⟨r2 _ (Nat.le_refl _), hat⟩
  · have h9 : w.1 b = some y := by
      have h9 : (va_up w.1 (wN w) (some x)) b = some y := hb
      rwa [va_up_ne _ _ e] at h9
    have hl := (r5 b y h9).2.lt
    exact ⟨(r5 b y h9).1, (r5 b y h9).2.kept (oq b (by rw [← r4]; exact hl))⟩
