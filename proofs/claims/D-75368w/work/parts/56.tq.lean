/-! Plain law: the row, what is read of it, open arcs and weights on the twin's side -/
theorem zN_neg1 : -zN 1 = zI (-1) := rfl
def aFr (ρ : Nat → Nat) (a : Nat) : Nat := ρ (4 + 6 * a)
def aTo (ρ : Nat → Nat) (a : Nat) : Nat := ρ (4 + 6 * a + 1)
def aCo (ρ : Nat → Nat) (a : Nat) : Nat := ρ (4 + 6 * a + 2)
def aMx (ρ : Nat → Nat) (a : Nat) : Nat := ρ (4 + 6 * a + 3)
def aTl (ρ : Nat → Nat) (a : Nat) : Nat := ρ (4 + 6 * a + 4)
def aCl (ρ : Nat → Nat) (a : Nat) : Nat := ρ (4 + 6 * a + 5)
def pFr (ρ : Nat → Nat) (t : Nat) : Nat := ρ (148 + 4 * t)
def pTo (ρ : Nat → Nat) (t : Nat) : Nat := ρ (148 + 4 * t + 1)
def pDe (ρ : Nat → Nat) (t : Nat) : Nat := ρ (148 + 4 * t + 2)
def pVa (ρ : Nat → Nat) (t : Nat) : Nat := ρ (148 + 4 * t + 3)
def RowT (T : TW) (ρ : Nat → Nat) : Prop := ∀ i, i < 172 → tA T 1 i = zN (ρ i)
/-- a row in range -/
def Inv (ρ : Nat → Nat) : Prop := (2 ≤ ρ 0 ∧ ρ 0 ≤ 10) ∧ ρ 1 ≤ 24 ∧ ρ 2 ≤ 6 ∧ ρ 3 ≤ 1 ∧
  (∀ a, a < 24 → aFr ρ a < 10 ∧ aTo ρ a < 10 ∧ aCo ρ a ≤ 999 ∧ aMx ρ a ≤ 9999 ∧ aTl ρ a ≤ aMx ρ a ∧ aCl ρ a ≤ 1) ∧
  (∀ a, a < ρ 1 → aFr ρ a < ρ 0 ∧ aTo ρ a < ρ 0 ∧ aFr ρ a ≠ aTo ρ a ∧ 1 ≤ aCo ρ a) ∧
  (∀ t, t < 6 → pFr ρ t < 10 ∧ pTo ρ t < 10 ∧ pDe ρ t ≤ 999 ∧ pVa ρ t ≤ 20) ∧
  (∀ t, t < ρ 2 → pFr ρ t < ρ 0 ∧ pTo ρ t < ρ 0 ∧ pFr ρ t ≠ pTo ρ t ∧ 1 ≤ pVa ρ t) ∧
  (∀ a, ρ 1 ≤ a → a < 24 → aTl ρ a = 0 ∧ aCl ρ a = 0)
theorem Inv.h0 {ρ : Nat → Nat} (h : Inv ρ) : 2 ≤ ρ 0 ∧ ρ 0 ≤ 10 := h.1
theorem Inv.h1 {ρ : Nat → Nat} (h : Inv ρ) : ρ 1 ≤ 24 := h.2.1
theorem Inv.h2 {ρ : Nat → Nat} (h : Inv ρ) : ρ 2 ≤ 6 := h.2.2.1
theorem Inv.h3 {ρ : Nat → Nat} (h : Inv ρ) : ρ 3 ≤ 1 := h.2.2.2.1
theorem Inv.ha {ρ : Nat → Nat} (h : Inv ρ) {a : Nat} (ha : a < ρ 1) : aFr ρ a < ρ 0 ∧ aTo ρ a < ρ 0 ∧ aFr ρ a ≠ aTo ρ a ∧ 1 ≤ aCo ρ a ∧ aFr ρ a < 10 ∧ aTo ρ a < 10 ∧ aCo ρ a ≤ 999 ∧ aMx ρ a ≤ 9999 ∧ aTl ρ a ≤ aMx ρ a ∧ aCl ρ a ≤ 1 ∧ a < 24 := by
  have h1 := h.2.2.2.2.1 a (by have := h.h1; omega)
  have h2 := h.2.2.2.2.2.1 a ha
  have h3 := h.h1
  exact ⟨h2.1, h2.2.1, h2.2.2.1, h2.2.2.2, h1.1, h1.2.1, h1.2.2.1, h1.2.2.2.1, h1.2.2.2.2.1, h1.2.2.2.2.2, by omega⟩
theorem Inv.ht {ρ : Nat → Nat} (h : Inv ρ) {t : Nat} (ht : t < ρ 2) : pFr ρ t < ρ 0 ∧ pTo ρ t < ρ 0 ∧ pFr ρ t ≠ pTo ρ t ∧ 1 ≤ pVa ρ t ∧ pFr ρ t < 10 ∧ pTo ρ t < 10 ∧ pDe ρ t ≤ 999 ∧ pVa ρ t ≤ 20 ∧ t < 6 := by
  have h1 := h.2.2.2.2.2.2.1 t (by have := h.h2; omega)
  have h2 := h.2.2.2.2.2.2.2.1 t ht
  have h3 := h.h2
  exact ⟨h2.1, h2.2.1, h2.2.2.1, h2.2.2.2, h1.1, h1.2.1, h1.2.2.1, h1.2.2.2, by omega⟩
theorem tw_arc {T : TW} {ρ : Nat → Nat} (h : RowT T ρ) {a k : Nat} (ha : a < 24) (hk : k < 6) : fX5_arc (zN a) (zN k) T = some (zN (ρ (4 + 6 * a + k)), T) := by
  simp (disch := omega) only [b2_some, bd_some, nm_eq, Option.map_some, zN_lit, zN_add, zN_mul, zN_neg1, if_true, if_false, reduceIte, eq_self, Nat.reduceEqDiff, Nat.reduceAdd, Nat.reduceMul, Nat.reduceSub, Nat.reduceLeDiff, Nat.one_ne_zero, not_false_eq_true, Bool.false_eq_true, zN_eq, zN_lt, zN_le,  fX5_arc, fX5_atArc, rd_N, h (4 + 6 * a + k) (by omega)]
theorem tw_trip {T : TW} {ρ : Nat → Nat} (h : RowT T ρ) {t k : Nat} (ht : t < 6) (hk : k < 4) : fX5_trip (zN t) (zN k) T = some (zN (ρ (148 + 4 * t + k)), T) := by
  simp (disch := omega) only [b2_some, bd_some, nm_eq, Option.map_some, zN_lit, zN_add, zN_mul, zN_neg1, if_true, if_false, reduceIte, eq_self, Nat.reduceEqDiff, Nat.reduceAdd, Nat.reduceMul, Nat.reduceSub, Nat.reduceLeDiff, Nat.one_ne_zero, not_false_eq_true, Bool.false_eq_true, zN_eq, zN_lt, zN_le,  fX5_trip, rd_N, h (148 + 4 * t + k) (by omega)]
theorem tw_aF {T : TW} {ρ : Nat → Nat} (h : RowT T ρ) {a : Nat} (ha : a < 24) : fX5_arc (zN a) 0 T = some (zN (aFr ρ a), T) := tw_arc h ha (k := 0) (by omega)
theorem tw_aT {T : TW} {ρ : Nat → Nat} (h : RowT T ρ) {a : Nat} (ha : a < 24) : fX5_arc (zN a) 1 T = some (zN (aTo ρ a), T) := tw_arc h ha (k := 1) (by omega)
theorem tw_aC {T : TW} {ρ : Nat → Nat} (h : RowT T ρ) {a : Nat} (ha : a < 24) : fX5_arc (zN a) 2 T = some (zN (aCo ρ a), T) := tw_arc h ha (k := 2) (by omega)
theorem tw_aM {T : TW} {ρ : Nat → Nat} (h : RowT T ρ) {a : Nat} (ha : a < 24) : fX5_arc (zN a) 3 T = some (zN (aMx ρ a), T) := tw_arc h ha (k := 3) (by omega)
theorem tw_aL {T : TW} {ρ : Nat → Nat} (h : RowT T ρ) {a : Nat} (ha : a < 24) : fX5_arc (zN a) 4 T = some (zN (aTl ρ a), T) := tw_arc h ha (k := 4) (by omega)
theorem tw_aX {T : TW} {ρ : Nat → Nat} (h : RowT T ρ) {a : Nat} (ha : a < 24) : fX5_arc (zN a) 5 T = some (zN (aCl ρ a), T) := tw_arc h ha (k := 5) (by omega)
theorem tw_pF {T : TW} {ρ : Nat → Nat} (h : RowT T ρ) {t : Nat} (ht : t < 6) : fX5_trip (zN t) 0 T = some (zN (pFr ρ t), T) := tw_trip h ht (k := 0) (by omega)
theorem tw_pT {T : TW} {ρ : Nat → Nat} (h : RowT T ρ) {t : Nat} (ht : t < 6) : fX5_trip (zN t) 1 T = some (zN (pTo ρ t), T) := tw_trip h ht (k := 1) (by omega)
theorem tw_pD {T : TW} {ρ : Nat → Nat} (h : RowT T ρ) {t : Nat} (ht : t < 6) : fX5_trip (zN t) 2 T = some (zN (pDe ρ t), T) := tw_trip h ht (k := 2) (by omega)
theorem tw_pV {T : TW} {ρ : Nat → Nat} (h : RowT T ρ) {t : Nat} (ht : t < 6) : fX5_trip (zN t) 3 T = some (zN (pVa ρ t), T) := tw_trip h ht (k := 3) (by omega)
theorem tw_rd {T : TW} {ρ : Nat → Nat} (h : RowT T ρ) (k : Nat) (hk : k < 172) : rd_ (tA T 1) 172 (zN k) = some (zN (ρ k)) := by
  rw [rd_N hk (by omega), h k hk]
/-- what is left out: a set of nodes, an arc, arcs that can have a toll -/
def OptT (T : TW) (m : Nat) (aw : Int) (fz : Nat) : Prop := (tI T 17 = zN m ∧ m < 1024) ∧ (tI T 18 = zI aw ∧ -1 ≤ aw ∧ aw < 24) ∧ (tI T 19 = zN fz ∧ fz ≤ 1)
def uT (ρ : Nat → Nat) (m : Nat) (aw : Int) (fz : Nat) (a : Nat) : Prop := a < ρ 1 ∧ (a : Int) ≠ aw ∧ m.testBit (aFr ρ a) = false ∧ m.testBit (aTo ρ a) = false ∧ aCl ρ a = 0 ∧ ¬ (fz = 1 ∧ 0 < aMx ρ a)
def sgn (ρ : Nat → Nat) : Int := if ρ 3 = 1 then -1 else 1
def feN (ρ : Nat → Nat) (v a : Nat) : Nat := v * aCo ρ a + aTl ρ a
def feI (ρ : Nat → Nat) (v a : Nat) : Int := feN ρ v a
def tlI (ρ : Nat → Nat) (a : Nat) : Int := aTl ρ a
theorem sgn_wB (ρ : Nat → Nat) : wB (sgn ρ) := by
  unfold sgn wB
  split
  · exact .inr rfl
  · exact .inl rfl
theorem feN_le {ρ : Nat → Nat} (h : Inv ρ) {v a : Nat} (hv : v ≤ 20) (ha : a < ρ 1) : feN ρ v a ≤ 29979 := by
  have h1 := h.ha ha
  have h2 : v * aCo ρ a ≤ 20 * 999 := Nat.mul_le_mul hv (by omega)
  unfold feN
  omega
theorem inv_GN {ρ : Nat → Nat} (h : Inv ρ) {v t : Nat} (hv : 1 ≤ v ∧ v ≤ 20) (ht : t < ρ 0) {u : Nat → Prop} (hu : ∀ a, u a → a < ρ 1) : GN (ρ 0) (ρ 1) (aFr ρ) (aTo ρ) u (feI ρ v) (tlI ρ) t := by
  refine ⟨hu, fun a ha => ?_, fun a ha => ?_, h.h0.2, ht⟩
  · have h1 := h.ha ha
    exact ⟨by omega, by omega⟩
  · have h1 := h.ha ha
    have h2 := feN_le h hv.2 ha
    have h3 : 1 * 1 ≤ v * aCo ρ a := Nat.mul_le_mul hv.1 (by omega)
    unfold feI tlI
    have h4 : feN ρ v a = v * aCo ρ a + aTl ρ a := rfl
    omega
theorem tw_has1 {T : TW} {m k : Nat} (hm : m < 1024) (hk : k < 10) (h : m.testBit k = true) : fX5_has (zN m) (zN k) T = some (1, T) := by
  unfold fX5_has
  rw [zN_bit (by omega) (by omega), h, if_pos rfl]
  rfl
theorem tw_has0 {T : TW} {m k : Nat} (hm : m < 1024) (hk : k < 10) (h : m.testBit k = false) : fX5_has (zN m) (zN k) T = some (0, T) := by
  unfold fX5_has
  rw [zN_bit (by omega) (by omega), h, if_neg Bool.false_ne_true, if_neg (by decide)]
theorem tw_open1 {T : TW} {ρ : Nat → Nat} {m fz : Nat} {aw : Int} (h : RowT T ρ) (hI : Inv ρ) (hO : OptT T m aw fz) {a : Nat} (hu : uT ρ m aw fz a) : fX5_isOpen (zN a) T = some (1, T) := by
  obtain ⟨h1, h2, h3, h4, h5, h6⟩ := hu
  have b := hI.ha h1
  obtain ⟨⟨o1, o1'⟩, ⟨o2, o2'⟩, ⟨o3, o3'⟩⟩ := hO
  have e1 : ¬ (zN a = zI aw) := by
    show ¬ (zI a = zI aw)
    rw [zI_eq (by omega) (by omega)]
    exact h2
  simp (disch := first | omega | assumption) only [fX5_isOpen, fX5_isOpen_b45, o1, o2, e1, tw_aF h, tw_aT h, tw_aX h, tw_aM h, tw_has0 o1', b2_some, if_false, eq_self, if_true, h5, show ¬ ((1 : Int32) = 0) by decide, show zN 0 = 0 from rfl]
  rw [o3]
  by_cases e : fz = 0
  · rw [e]; rfl
  · have e2 : fz = 1 := by omega
    have e3 : aMx ρ a = 0 := by
      have : ¬ 0 < aMx ρ a := fun hh => h6 ⟨e2, hh⟩
      omega
    rw [e2, if_neg (by decide), e3, if_neg (by decide)]
theorem tw_open0 {T : TW} {ρ : Nat → Nat} {m fz : Nat} {aw : Int} (h : RowT T ρ) (hI : Inv ρ) (hO : OptT T m aw fz) {a : Nat} (ha : a < ρ 1) (hu : ¬ uT ρ m aw fz a) : fX5_isOpen (zN a) T = some (0, T) := by
  have b := hI.ha ha
  obtain ⟨⟨o1, o1'⟩, ⟨o2, o2'⟩, ⟨o3, o3'⟩⟩ := hO
  have n1 : ¬ ((1 : Int32) = 0) := by decide
  by_cases e1 : zN a = zI aw
  · simp only [fX5_isOpen, o2, e1, if_true, fX5_isOpen_b44, fX5_isOpen_b45]
  have e1' : (a : Int) ≠ aw := fun e => e1 (by rw [← e]; rfl)
  by_cases e2 : m.testBit (aFr ρ a) = true
  · simp (disch := first | omega | assumption) only [fX5_isOpen, o2, o1, e1, if_false, tw_aF h, tw_has1 o1', b2_some, n1, fX5_isOpen_b44, fX5_isOpen_b45, if_true]
  have e2' : m.testBit (aFr ρ a) = false := by simpa using e2
  by_cases e3 : m.testBit (aTo ρ a) = true
  · simp (disch := first | omega | assumption) only [fX5_isOpen, o2, o1, e1, if_false, tw_aF h, tw_aT h, tw_has0 o1', tw_has1 o1', b2_some, n1, fX5_isOpen_b44, fX5_isOpen_b45, if_true]
  have e3' : m.testBit (aTo ρ a) = false := by simpa using e3
  by_cases e4 : aCl ρ a = 0
  · have e5 : fz = 1 ∧ 0 < aMx ρ a := by
      by_cases e : fz = 1 ∧ 0 < aMx ρ a
      · exact e
      · exact absurd ⟨ha, e1', e2', e3', e4, e⟩ hu
    have e6 : (0 < zN (aMx ρ a)) = True := by rw [show (0 : Int32) = zN 0 from rfl, zN_lt (by omega) (by omega)]; exact eq_true e5.2
    simp (disch := first | omega | assumption) only [fX5_isOpen, o2, o1, e1, if_false, tw_aF h, tw_aT h, tw_aX h, tw_aM h, tw_has0 o1', b2_some, n1, fX5_isOpen_b45, if_true, o3, e5.1, e4, e6, show zN 0 = 0 from rfl, show zN 1 = 1 from rfl]
  · have e7 : aCl ρ a = 1 := by omega
    simp (disch := first | omega | assumption) only [fX5_isOpen, o2, o1, e1, if_false, tw_aF h, tw_aT h, tw_aX h, tw_has0 o1', b2_some, n1, fX5_isOpen_b45, if_true, e7, show zN 1 = 1 from rfl]
theorem tw_felt {T : TW} {ρ : Nat → Nat} (h : RowT T ρ) {t a : Nat} (ht : t < 6) (ha : a < 24) : fX5_feltOn (zN t) (zN a) T = some (zN (feN ρ (pVa ρ t) a), T) := by
  unfold fX5_feltOn feN
  rw [tw_pV h ht, b2_some, tw_aC h ha, b2_some, tw_aL h ha, b2_some, zN_mul, zN_add]
theorem tw_wt {T : TW} {ρ : Nat → Nat} (h : RowT T ρ) (hI : Inv ρ) {t a : Nat} (ht : t < ρ 2) (ha : a < ρ 1) :
    fX5_weight (zN t) (zN a) T = some (zJ (1000000000 * feI ρ (pVa ρ t) a + (100 * sgn ρ) * tlI ρ a + 1), T) := by
  have b := hI.ha ha
  have c := hI.ht ht
  have d := feN_le hI (show pVa ρ t ≤ 20 by omega) ha
  have d3 := hI.h3
  unfold fX5_weight
  rw [tw_aL h (by omega), b2_some, nm_eq, tw_felt h (by omega) (by omega), b2_some, show (3 : Int32) = zN 3 from rfl, tw_rd h 3 (by omega), bd_some]
  rw [show (zN (aTl ρ a)).toInt64 = zJ (tlI ρ a) from zI_J (by omega), show (zN (feN ρ (pVa ρ t) a)).toInt64 = zJ (feI ρ (pVa ρ t) a) from zI_J (by omega)]
  by_cases e : ρ 3 = 1
  · rw [e, if_pos (show zN 1 = 1 from rfl), fX5_weight_b38, sgn, if_pos e, show (1000000000 : Int64) = zJ 1000000000 from rfl, show (-100 : Int64) = zJ (-100) from rfl, show (1 : Int64) = zJ 1 from rfl, zJ_mul, zJ_mul, zJ_add, zJ_add]
    rfl
  · have e' : ρ 3 = 0 := by omega
    rw [e', if_neg (by decide), fX5_weight_b38, sgn, if_neg e, show (1000000000 : Int64) = zJ 1000000000 from rfl, show (100 : Int64) = zJ 100 from rfl, show (1 : Int64) = zJ 1 from rfl, zJ_mul, zJ_mul, zJ_add, zJ_add]
    rfl
section
variable {T : TW} {ρ : Nat → Nat}
theorem ta0 (h : RowT T ρ) {a : Nat} (ha : a < 24) : fX5_arc (zN a) (zN 0) T = some (zN (aFr ρ a), T) := tw_aF h ha
theorem ta1 (h : RowT T ρ) {a : Nat} (ha : a < 24) : fX5_arc (zN a) (zN 1) T = some (zN (aTo ρ a), T) := tw_aT h ha
theorem ta2 (h : RowT T ρ) {a : Nat} (ha : a < 24) : fX5_arc (zN a) (zN 2) T = some (zN (aCo ρ a), T) := tw_aC h ha
theorem ta3 (h : RowT T ρ) {a : Nat} (ha : a < 24) : fX5_arc (zN a) (zN 3) T = some (zN (aMx ρ a), T) := tw_aM h ha
theorem ta4 (h : RowT T ρ) {a : Nat} (ha : a < 24) : fX5_arc (zN a) (zN 4) T = some (zN (aTl ρ a), T) := tw_aL h ha
theorem ta5 (h : RowT T ρ) {a : Nat} (ha : a < 24) : fX5_arc (zN a) (zN 5) T = some (zN (aCl ρ a), T) := tw_aX h ha
theorem tp0 (h : RowT T ρ) {t : Nat} (ht : t < 6) : fX5_trip (zN t) (zN 0) T = some (zN (pFr ρ t), T) := tw_pF h ht
theorem tp1 (h : RowT T ρ) {t : Nat} (ht : t < 6) : fX5_trip (zN t) (zN 1) T = some (zN (pTo ρ t), T) := tw_pT h ht
theorem tp2 (h : RowT T ρ) {t : Nat} (ht : t < 6) : fX5_trip (zN t) (zN 2) T = some (zN (pDe ρ t), T) := tw_pD h ht
theorem tp3 (h : RowT T ρ) {t : Nat} (ht : t < 6) : fX5_trip (zN t) (zN 3) T = some (zN (pVa ρ t), T) := tw_pV h ht
theorem to1 {m fz : Nat} {aw : Int} (h : RowT T ρ) (hI : Inv ρ) (hO : OptT T m aw fz) {a : Nat} (hu : uT ρ m aw fz a) : fX5_isOpen (zN a) T = some (zN 1, T) := tw_open1 h hI hO hu
theorem to0 {m fz : Nat} {aw : Int} (h : RowT T ρ) (hI : Inv ρ) (hO : OptT T m aw fz) {a : Nat} (ha : a < ρ 1) (hu : ¬ uT ρ m aw fz a) : fX5_isOpen (zN a) T = some (zN 0, T) := tw_open0 h hI hO ha hu
end
