/-! Plain law: the component's cells -/
theorem hUp_1 (w : WH) (a b : Nat) (x : hE) : (hUp w a x).1 b = if b = a then some x else w.1 b := rfl
theorem hUp_eq (w : WH) (a : Nat) (x : hE) : (hUp w a x).1 a = some x := if_pos rfl
theorem hUp_ne (w : WH) {a b : Nat} (x : hE) (h : b ≠ a) : (hUp w a x).1 b = w.1 b := if_neg h
theorem hUp_2 (w : WH) (a : Nat) (x : hE) : (hUp w a x).2 = w.2 := rfl
theorem hUp_K (w : WH) (a : Nat) (x : hE) : wK (hUp w a x) = wK w := rfl
theorem hUp_hUp (w : WH) (a : Nat) (x y : hE) : hUp (hUp w a x) a y = hUp w a y := by
  unfold hUp va_up
  congr 1
  funext j
  dsimp only
  by_cases h : j = a
  · rw [if_pos h, if_pos h]
  · rw [if_neg h, if_neg h, if_neg h]
theorem hUp_self {w : WH} {a : Nat} {x : hE} (h : w.1 a = some x) : hUp w a x = w := by
  unfold hUp va_up
  have : (fun j => if j = a then some x else w.1 j) = w.1 := by
    funext j
    by_cases e : j = a
    · rw [if_pos e, e, h]
    · rw [if_neg e]
  rw [this]
section
variable {w : WH} {a ci : Nat} {fs : List Value}
theorem c_I (h : w.1 a = some (.inr (ci, fs))) (k : Nat) : gI w a ci k = vI fs[k]? := by
  unfold gI fld
  rw [h]
  exact congrArg vI (if_pos rfl)
theorem c_J (h : w.1 a = some (.inr (ci, fs))) (k : Nat) : gJ w a ci k = vJ fs[k]? := by
  unfold gJ fld
  rw [h]
  exact congrArg vJ (if_pos rfl)
theorem c_R (h : w.1 a = some (.inr (ci, fs))) (k : Nat) : gR w a ci k = vR fs[k]? := by
  unfold gR fld
  rw [h]
  exact congrArg vR (if_pos rfl)
theorem c_C (h : w.1 a = some (.inr (ci, fs))) : hIs w a ci = some () := by
  unfold hIs hCl
  rw [h, if_pos rfl]
theorem c_P (h : w.1 a = some (.inr (ci, fs))) {k : Nat} (hk : k < fs.length) (v : Value) : hPut w a ci k v = some (hUp w a (.inr (ci, fs.set k v))) := by
  unfold hPut
  rw [h]
  exact if_pos ⟨rfl, hk⟩
theorem c_ldI {t n : Nat} {f : Nat → Int32} (h : w.1 a = some (.inl (t, n, .inl f))) {k : Nat} (hk : k < n) (hn : n ≤ 65536) : ldI w a t (zN k) = some (f k) := by
  unfold ldI hArr
  rw [h]
  exact (if_pos rfl).trans (rd_N hk hn)
theorem c_ldJ {n : Nat} {f : Nat → Int64} (h : w.1 a = some (.inl (1, n, .inr (.inl f)))) {k : Nat} (hk : k < n) (hn : n ≤ 65536) : ldJ w a (zN k) = some (f k) := by
  unfold ldJ hArr
  rw [h]
  exact (if_pos rfl).trans (rd_N hk hn)
theorem c_ldR {t n : Nat} {f : Nat → Option Nat} (h : w.1 a = some (.inl (t, n, .inr (.inr (.inr (.inr f)))))) {k : Nat} (hk : k < n) (hn : n ≤ 65536) : ldR w a t (zN k) = some (f k) := by
  unfold ldR hArr
  rw [h]
  exact (if_pos rfl).trans (rd_N hk hn)
theorem zN_in {k n : Nat} (hk : k < n) (hn : n ≤ 65536) : ¬ (zN k < 0 ∨ n ≤ (zN k).toNatClampNeg) := by
  rw [zN_cl (by omega)]
  rintro (h1 | h1)
  · rw [show (0 : Int32) = zN 0 from rfl, zN_lt (by omega) (by omega)] at h1; omega
  · omega
theorem c_stI {t n : Nat} {f : Nat → Int32} (h : w.1 a = some (.inl (t, n, .inl f))) {k : Nat} (hk : k < n) (hn : n ≤ 65536) (x : Int32) : stI w a t (zN k) x = some (hUp w a (.inl (t, n, .inl (upd f k x)))) := by
  unfold stI
  rw [h]
  dsimp only
  rw [if_pos rfl, if_neg (zN_in hk hn), zN_cl (by omega)]
theorem c_stJ {n : Nat} {f : Nat → Int64} (h : w.1 a = some (.inl (1, n, .inr (.inl f)))) {k : Nat} (hk : k < n) (hn : n ≤ 65536) (x : Int64) : stJ w a (zN k) x = some (hUp w a (.inl (1, n, .inr (.inl (vp_updL f k x))))) := by
  unfold stJ
  rw [h]
  dsimp only
  rw [if_pos rfl, if_neg (zN_in hk hn), zN_cl (by omega)]
theorem c_stR {t n : Nat} {f : Nat → Option Nat} (h : w.1 a = some (.inl (t, n, .inr (.inr (.inr (.inr f)))))) {k : Nat} (hk : k < n) (hn : n ≤ 65536) (x : Option Nat) : stR w a t (zN k) x = some (hUp w a (.inl (t, n, .inr (.inr (.inr (.inr (va_up f k x))))))) := by
  unfold stR
  rw [h]
  dsimp only
  rw [if_pos rfl, if_neg (zN_in hk hn), zN_cl (by omega)]
theorem c_len {x : Nat × vp_A} (h : w.1 a = some (.inl x)) (h6 : x.1 < 6) : aLn w a = some (zN x.2.1) := by
  unfold aLn hArr
  rw [h]
  show (if x.1 < 6 then some (Int32.ofNat x.2.1) else none) = _
  rw [if_pos h6]
  exact congrArg some (nI_zN _)
end
/-- a network's handle: itself, lists, their arrays, demands; arcs, trips; counts of changes -/
abbrev NH : Type := (Nat × Nat × Nat × Nat × Nat × Nat) × (Nat → Nat) × (Nat → Nat) × Int32 × Int32
def nN (ν : NH) : Nat := ν.1.1
def nAl (ν : NH) : Nat := ν.1.2.1
def nAe (ν : NH) : Nat := ν.1.2.2.1
def nTl (ν : NH) : Nat := ν.1.2.2.2.1
def nTe (ν : NH) : Nat := ν.1.2.2.2.2.1
def nNd (ν : NH) : Nat := ν.1.2.2.2.2.2
def nAr (ν : NH) (k : Nat) : Nat := ν.2.1 k
def nTr (ν : NH) (k : Nat) : Nat := ν.2.2.1 k
def arcC (ρ : Nat → Nat) (k : Nat) : hE := .inr (27, [.int (zN k), .int (zN (aFr ρ k)), .int (zN (aTo ρ k)), .int (zN (aCo ρ k)), .int (zN (aMx ρ k))])
def trpC (ρ : Nat → Nat) (k : Nat) : hE := .inr (28, [.int (zN (pFr ρ k)), .int (zN (pTo ρ k)), .int (zN (pVa ρ k))])
def NtC (w : WH) (ν : NH) (ρ : Nat → Nat) : Prop :=
  w.1 (nN ν) = some (.inr (22, [.int (zN (ρ 0)), .ref (nAl ν), .ref (nTl ν), .ref (nNd ν)])) ∧
  w.1 (nAl ν) = some (.inr (2, [.int ν.2.2.2.1, .ref (nAe ν), .int (zN (ρ 1))])) ∧
  (∃ g, w.1 (nAe ν) = some (.inl (4, 24, .inr (.inr (.inr (.inr g))))) ∧ ∀ k, k < ρ 1 → g k = some (nAr ν k)) ∧
  (∀ k, k < ρ 1 → w.1 (nAr ν k) = some (arcC ρ k)) ∧
  w.1 (nTl ν) = some (.inr (2, [.int ν.2.2.2.2, .ref (nTe ν), .int (zN (ρ 2))])) ∧
  (∃ g, w.1 (nTe ν) = some (.inl (4, 6, .inr (.inr (.inr (.inr g))))) ∧ ∀ k, k < ρ 2 → g k = some (nTr ν k)) ∧
  (∀ k, k < ρ 2 → w.1 (nTr ν k) = some (trpC ρ k))
/-- closed arcs as a set -/
def clm (ρ : Nat → Nat) : Nat := msk (fun a => aCl ρ a == 1) 24
def StC (w : WH) (s q n : Nat) (ρ : Nat → Nat) : Prop :=
  w.1 s = some (.inr (21, [.ref n, .ref q, .ref (q + 1), .ref (q + 2), .int (zN (ρ 3))])) ∧
  (∃ f, w.1 q = some (.inl (0, 24, .inl f)) ∧ ∀ k, k < 24 → f k = zN (aTl ρ k)) ∧
  (∃ f, w.1 (q + 1) = some (.inl (0, 6, .inl f)) ∧ ∀ k, k < ρ 2 → f k = zN (pDe ρ k)) ∧
  w.1 (q + 2) = some (.inr (0, [.ref (q + 3), .int (zN (if clm ρ = 0 then 0 else 1)), .int 1])) ∧
  (∃ g, w.1 (q + 3) = some (.inl (1, 1, .inr (.inl g))) ∧ g 0 = zJ (clm ρ))
/-- the finder: its cells -/
def finT (c : hE) : Bool := match c with
  | .inr x => x.1 == 23
  | .inl x => (x.1 == 1 && x.2.1 == 10) || (x.1 == 0 && x.2.1 == 10)
def farC (f : Nat → Int64) : hE := .inl (1, 10, .inr (.inl f))
def intC (f : Nat → Int32) : hE := .inl (0, 10, .inl f)
def finC (F : Nat) (len : Int32) : hE := .inr (23, [.ref (F + 1), .ref (F + 2), .ref (F + 3), .ref (F + 4), .ref (F + 5), .int len])
def FiC (w : WH) (F : Nat) : Prop := (∃ len, w.1 F = some (finC F len)) ∧ (∃ f, w.1 (F + 1) = some (farC f)) ∧ (∃ f, w.1 (F + 2) = some (farC f)) ∧ (∃ f, w.1 (F + 3) = some (intC f)) ∧ (∃ f, w.1 (F + 4) = some (intC f)) ∧ (∃ f, w.1 (F + 5) = some (intC f))
theorem FiC.ty {w : WH} {F a : Nat} (h : FiC w F) (h1 : F ≤ a) (h2 : a < F + 6) : ∃ c, w.1 a = some c ∧ finT c = true := by
  obtain ⟨⟨l, h3⟩, ⟨f1, h4⟩, ⟨f2, h5⟩, ⟨f3, h6⟩, ⟨f4, h7⟩, ⟨f5, h8⟩⟩ := h
  have : a = F ∨ a = F + 1 ∨ a = F + 2 ∨ a = F + 3 ∨ a = F + 4 ∨ a = F + 5 := by omega
  rcases this with rfl | rfl | rfl | rfl | rfl | rfl
  · exact ⟨_, h3, rfl⟩
  · exact ⟨_, h4, rfl⟩
  · exact ⟨_, h5, rfl⟩
  · exact ⟨_, h6, rfl⟩
  · exact ⟨_, h7, rfl⟩
  · exact ⟨_, h8, rfl⟩
/-- only the finder's cells change -/
def Kf (w w' : WH) (F : Nat) : Prop := (∀ a, ¬ (F ≤ a ∧ a < F + 6) → w'.1 a = w.1 a) ∧ w'.2 = w.2 ∧ FiC w' F
theorem Kf.refl {w : WH} {F : Nat} (h : FiC w F) : Kf w w F := ⟨fun _ _ => rfl, rfl, h⟩
theorem Kf.trans {w w1 w2 : WH} {F : Nat} (h : Kf w w1 F) (h' : Kf w1 w2 F) : Kf w w2 F := ⟨fun a ha => (h'.1 a ha).trans (h.1 a ha), h'.2.1.trans h.2.1, h'.2.2⟩
theorem Kf.keep {w w' : WH} {F a : Nat} {c : hE} (h : Kf w w' F) (hF : FiC w F) (hc : w.1 a = some c) (ht : finT c = false) : w'.1 a = some c := by
  rw [h.1 a, hc]
  rintro ⟨h1, h2⟩
  obtain ⟨c', e, e'⟩ := hF.ty h1 h2
  rw [hc] at e
  cases e
  rw [ht] at e'
  cases e'
theorem Kf.K {w w' : WH} {F : Nat} (h : Kf w w' F) : wK w' = wK w := congrArg (fun z => z.1) h.2.1
theorem Kf.net {w w' : WH} {F : Nat} {ν : NH} {ρ : Nat → Nat} (h : Kf w w' F) (hF : FiC w F) (hN : NtC w ν ρ) : NtC w' ν ρ := by
  obtain ⟨h1, h2, ⟨g, h3, h4⟩, h5, h6, ⟨g', h7, h8⟩, h9⟩ := hN
  exact ⟨h.keep hF h1 rfl, h.keep hF h2 rfl, ⟨g, h.keep hF h3 rfl, h4⟩, fun k hk => h.keep hF (h5 k hk) rfl, h.keep hF h6 rfl, ⟨g', h.keep hF h7 rfl, h8⟩, fun k hk => h.keep hF (h9 k hk) rfl⟩
theorem Kf.st {w w' : WH} {F s q n : Nat} {ρ : Nat → Nat} (h : Kf w w' F) (hF : FiC w F) (hS : StC w s q n ρ) : StC w' s q n ρ := by
  obtain ⟨h1, ⟨f, h2, h3⟩, ⟨f', h4, h5⟩, h6, ⟨g, h7, h8⟩⟩ := hS
  exact ⟨h.keep hF h1 rfl, ⟨f, h.keep hF h2 rfl, h3⟩, ⟨f', h.keep hF h4 rfl, h5⟩, h.keep hF h6 rfl, ⟨g, h.keep hF h7 rfl, h8⟩⟩
