/-! Plain law: what the twin reads off paths -/
theorem zN_shlz {k : Nat} (hk : k < 32) : zN 1 <<< (zN k &&& zN 31) = zN (2 ^ k) := zN_shl1 hk
theorem zN_btz {m k : Nat} (hm : m < 2147483648) (hk : k < 32) : ((zN m >>> (zN k &&& zN 31)) &&& zN 1) = zN (if m.testBit k then 1 else 0) := zN_bit hm hk
def sgN (f : Nat → Nat) : Nat → Nat
  | 0 => 0
  | k + 1 => sgN f k + f k
def sgI (f : Nat → Int) : Nat → Int
  | 0 => 0
  | k + 1 => sgI f k + f k
def msk (b : Nat → Bool) : Nat → Nat
  | 0 => 0
  | k + 1 => msk b k ||| (if b k then 2 ^ k else 0)
theorem msk_bit (b : Nat → Bool) : ∀ n k, (msk b n).testBit k = (decide (k < n) && b k)
  | 0, k => by simp [msk]
  | n + 1, k => by
    rw [msk, Nat.testBit_or, msk_bit b n k]
    by_cases hb : b n = true
    · rw [if_pos hb, Nat.testBit_two_pow]
      by_cases e : n = k
      · subst e; simp [hb]
      · rw [decide_eq_false e, Bool.or_false]
        by_cases h : k < n
        · rw [decide_eq_true h, decide_eq_true (show k < n + 1 by omega)]
        · rw [decide_eq_false h, decide_eq_false (show ¬ k < n + 1 by omega)]
    · rw [if_neg hb, Nat.zero_testBit, Bool.or_false]
      by_cases e : n = k
      · subst e; simp [hb]
      · by_cases h : k < n
        · rw [decide_eq_true h, decide_eq_true (show k < n + 1 by omega)]
        · rw [decide_eq_false h, decide_eq_false (show ¬ k < n + 1 by omega)]
theorem msk_lt (b : Nat → Bool) (n : Nat) : msk b n < 2 ^ n := by
  apply Nat.lt_pow_two_of_testBit
  intro i hi
  rw [msk_bit, decide_eq_false (by omega), Bool.false_and]
theorem msk_0 (b : Nat → Bool) : ∀ n, msk b n = 0 ↔ ∀ k, k < n → b k = false := by
  intro n
  constructor
  · intro h k hk
    have := msk_bit b n k
    rw [h, Nat.zero_testBit, decide_eq_true hk, Bool.true_and] at this
    exact this.symm
  · intro h
    apply Nat.eq_of_testBit_eq
    intro i
    rw [msk_bit, Nat.zero_testBit]
    by_cases hi : i < n
    · rw [h i hi, Bool.and_false]
    · rw [decide_eq_false hi, Bool.false_and]
theorem sgN_le {f : Nat → Nat} {D : Nat} : ∀ n, (∀ k, k < n → f k ≤ D) → sgN f n ≤ n * D
  | 0, _ => Nat.zero_le _
  | n + 1, h => by
    have h1 := sgN_le n (fun k hk => h k (by omega))
    have h2 := h n (by omega)
    rw [sgN, Nat.succ_mul]
    omega
theorem sgN_mono (f : Nat → Nat) : ∀ {n m}, n ≤ m → sgN f n ≤ sgN f m := by
  intro n m h
  induction m with
  | zero => rw [Nat.le_zero.mp h]; exact Nat.le_refl _
  | succ m ih =>
    by_cases e : n = m + 1
    · rw [e]; exact Nat.le_refl _
    · have := ih (by omega)
      rw [sgN]
      omega
theorem sgN_congr {f g : Nat → Nat} : ∀ n, (∀ k, k < n → f k = g k) → sgN f n = sgN g n
  | 0, _ => rfl
  | n + 1, h => by rw [sgN, sgN, sgN_congr n (fun k hk => h k (by omega)), h n (by omega)]
theorem sgI_congr {f g : Nat → Int} : ∀ n, (∀ k, k < n → f k = g k) → sgI f n = sgI g n
  | 0, _ => rfl
  | n + 1, h => by rw [sgI, sgI, sgI_congr n (fun k hk => h k (by omega)), h n (by omega)]
theorem msk_congr {f g : Nat → Bool} : ∀ n, (∀ k, k < n → f k = g k) → msk f n = msk g n
  | 0, _ => rfl
  | n + 1, h => by rw [msk, msk, msk_congr n (fun k hk => h k (by omega)), h n (by omega)]
theorem sgI_le {f : Nat → Int} {D : Int} : ∀ n, (∀ k, k < n → 0 ≤ f k ∧ f k ≤ D) → 0 ≤ sgI f n ∧ sgI f n ≤ D * n
  | 0, _ => ⟨Int.le_refl _, by simp [sgI]⟩
  | n + 1, h => by
    have h1 := sgI_le n (fun k hk => h k (by omega))
    have h2 := h n (by omega)
    rw [sgI, show D * ((n + 1 : Nat) : Int) = D * n + D by rw [Int.natCast_add, Int.mul_add]; simp]
    omega
theorem sgN_cons (f : Nat → Nat) : ∀ n, sgN f (n + 1) = f 0 + sgN (fun k => f (k + 1)) n
  | 0 => by simp [sgN]
  | n + 1 => by rw [sgN, sgN_cons f n, sgN]; omega
def ptl (ρ : Nat → Nat) (p : List Nat) : Nat := sgN (fun k => aTl ρ (p.getD k 0)) p.length
def pco (ρ : Nat → Nat) (p : List Nat) : Nat := sgN (fun k => aCo ρ (p.getD k 0)) p.length
theorem ptl_lsum (ρ : Nat → Nat) : ∀ p, (ptl ρ p : Int) = lsum (tlI ρ) p
  | [] => rfl
  | a :: p => by
    rw [lsum, ← ptl_lsum ρ p]
    unfold ptl
    rw [List.length_cons, sgN_cons]
    simp only [List.getD_cons_zero, List.getD_cons_succ]
    unfold tlI
    omega
theorem pfe_lsum (ρ : Nat → Nat) (v : Nat) : ∀ p, ((v * pco ρ p + ptl ρ p : Nat) : Int) = lsum (feI ρ v) p
  | [] => by simp [ptl, pco, lsum, sgN]
  | a :: p => by
    rw [lsum, ← pfe_lsum ρ v p]
    unfold ptl pco
    rw [List.length_cons, sgN_cons, sgN_cons]
    simp only [List.getD_cons_zero, List.getD_cons_succ]
    unfold feI feN
    rw [Nat.mul_add]
    omega
/-- the path of a trip -/
noncomputable def PT (ρ : Nat → Nat) (m : Nat) (aw : Int) (fz t : Nat) : Option (List Nat) := (dT ρ m aw fz t (pFr ρ t)).map fun _ => pT ρ m aw fz t (pFr ρ t)
/-- whether a trip's path has an arc -/
noncomputable def useB (ρ : Nat → Nat) (m : Nat) (aw : Int) (fz t a : Nat) : Bool := match PT ρ m aw fz t with
  | some p => decide (a ∈ p)
  | none => false
noncomputable def brI (ρ : Nat → Nat) (m : Nat) (aw : Int) (fz t : Nat) : Int := match PT ρ m aw fz t with
  | some p => (pDe ρ t : Int) * ptl ρ p
  | none => 0
noncomputable def allI (ρ : Nat → Nat) (m : Nat) (aw : Int) (fz : Nat) : Int := sgI (brI ρ m aw fz) (ρ 2)
noncomputable def usrN (ρ : Nat → Nat) (m : Nat) (aw : Int) (fz a : Nat) : Nat := msk (fun t => useB ρ m aw fz t a) (ρ 2)
noncomputable def flwN (ρ : Nat → Nat) (m : Nat) (aw : Int) (fz a : Nat) : Nat := sgN (fun t => if useB ρ m aw fz t a then pDe ρ t else 0) (ρ 2)
def QT (T : TW) (ρ : Nat → Nat) (m : Nat) (aw : Int) (fz : Nat) : Prop := RowT T ρ ∧ Inv ρ ∧ OptT T m aw fz
theorem K1.q {T T' : TW} {ρ : Nat → Nat} {m fz : Nat} {aw : Int} (h : K1 T T') (hQ : QT T ρ m aw fz) : QT T' ρ m aw fz := ⟨h.row hQ.1, hQ.2.1, h.opt hQ.2.2⟩
section
variable {T : TW} {ρ : Nat → Nat} {m fz : Nat} {aw : Int} {t : Nat}
theorem PT_all (hI : Inv ρ) (ht : t < ρ 2) {p : List Nat} (hp : PT ρ m aw fz t = some p) :
    p.length + 1 ≤ ρ 0 ∧ ptl ρ p ≤ 9999 * p.length ∧ isP (aFr ρ) (aTo ρ) (pTo ρ t) (pFr ρ t) p ∧ (∀ a ∈ p, uT ρ m aw fz a) ∧
    dT ρ m aw fz t (pFr ρ t) = some (1000000000 * lsum (feI ρ (pVa ρ t)) p + (100 * sgn ρ) * lsum (tlI ρ) p + p.length) ∧ p = pT ρ m aw fz t (pFr ρ t) := by
  unfold PT at hp
  cases hz : dT ρ m aw fz t (pFr ρ t) with
  | none => rw [hz] at hp; cases hp
  | some z =>
    rw [hz] at hp
    have hp := Option.some.inj hp
    dsimp only at hp
    subst hp
    obtain ⟨h1, h2, h3, h4, h5, h6⟩ := pT_all hI ht hz
    exact ⟨h2, by rw [← ptl_lsum] at h4; omega, h5, h6, congrArg some h1, rfl⟩
theorem Arr.get {f : Nat → Int32} {p : List Nat} (h : Arr f p) {k : Nat} (hk : k < p.length) : f k = zN (p.getD k 0) := h k hk
theorem getD_mem {p : List Nat} {k : Nat} (hk : k < p.length) : p.getD k 0 ∈ p := by
  rw [List.getD_eq_getElem?_getD, List.getElem?_eq_getElem hk]
  exact List.getElem_mem hk
theorem tw_lays (hQ : QT T ρ m aw fz) (ht : t < ρ 2) : ∃ T', fX5_laysPath (zN t) T = some (zN (if (PT ρ m aw fz t).isSome then 1 else 0), T') ∧ K1 T T' ∧ ∀ p, PT ρ m aw fz t = some p → tI T' 21 = zN p.length ∧ Arr (tA T' 8) p := by
  unfold PT
  cases hz : dT ρ m aw fz t (pFr ρ t) with
  | none =>
    obtain ⟨T', h1, h2⟩ := tw_nopath hQ.1 hQ.2.1 hQ.2.2 ht hz
    exact ⟨T', h1, h2, fun p hp => by cases hp⟩
  | some z =>
    obtain ⟨T', h1, h2, h3, h4⟩ := tw_path hQ.1 hQ.2.1 hQ.2.2 ht hz
    exact ⟨T', h1, h2, fun p hp => by cases hp; exact ⟨h3, h4⟩⟩
theorem tw_sum (hR : RowT T ρ) {p : List Nat} {k : Nat} (hk : k < 6) (hp : p.length < 10) (ha : ∀ a ∈ p, a < 24) (hb : ∀ a, a < 24 → ρ (4 + 6 * a + k) ≤ 9999) (hl : tI T 21 = zN p.length) (hA : Arr (tA T 8) p) :
    fX5_sumOf (zN k) T = some (zN (sgN (fun i => ρ (4 + 6 * (p.getD i 0) + k)) p.length), T) := by
  refine wh_run (fun i => (zN (sgN (fun i => ρ (4 + 6 * (p.getD i 0) + k)) i), zN i, T)) p.length _ (fun i hi => ?_) ?_ p.length 0 (by omega)
  · have n1 : ¬ (p.length ≤ i) := by omega
    have g := ha _ (getD_mem hi)
    simp (disch := omega) only [b2_some, bd_some, nm_eq, Option.map_some, zN_lit, zN_add, zN_mul, zN_neg1, if_true, if_false, reduceIte, eq_self, Nat.reduceEqDiff, Nat.reduceAdd, Nat.reduceMul, Nat.reduceSub, Nat.reduceLeDiff, Nat.one_ne_zero, not_false_eq_true, Bool.false_eq_true, zN_eq, zN_lt, zN_le,  fX5_sumOf_b4, hl, n1, rd_N, hA.get hi, tw_arc hR g hk]
    rfl
  · simp (disch := omega) only [b2_some, bd_some, nm_eq, Option.map_some, zN_lit, zN_add, zN_mul, zN_neg1, if_true, if_false, reduceIte, eq_self, Nat.reduceEqDiff, Nat.reduceAdd, Nat.reduceMul, Nat.reduceSub, Nat.reduceLeDiff, Nat.one_ne_zero, not_false_eq_true, Bool.false_eq_true, zN_eq, zN_lt, zN_le,  fX5_sumOf_b4, hl, Nat.le_refl]
theorem tw_sumT (hQ : QT T ρ m aw fz) (ht : t < ρ 2) {p : List Nat} (hp : PT ρ m aw fz t = some p) (hl : tI T 21 = zN p.length) (hA : Arr (tA T 8) p) : fX5_sumOf (zN 4) T = some (zN (ptl ρ p), T) := by
  obtain ⟨h1, h2, h3, h4, h5, h6⟩ := PT_all hQ.2.1 ht hp
  have h0 := hQ.2.1.h0
  exact tw_sum hQ.1 (k := 4) (by omega) (by omega) (fun a ha => ((hQ.2.1.ha (h4 a ha).1).2.2.2.2.2.2.2.2.2.2)) (fun a ha => by have := hQ.2.1.2.2.2.2.1 a ha; unfold aTl at this; omega) hl hA
theorem tw_sumC (hQ : QT T ρ m aw fz) (ht : t < ρ 2) {p : List Nat} (hp : PT ρ m aw fz t = some p) (hl : tI T 21 = zN p.length) (hA : Arr (tA T 8) p) : fX5_sumOf (zN 2) T = some (zN (pco ρ p), T) := by
  obtain ⟨h1, h2, h3, h4, h5, h6⟩ := PT_all hQ.2.1 ht hp
  have h0 := hQ.2.1.h0
  exact tw_sum hQ.1 (k := 2) (by omega) (by omega) (fun a ha => ((hQ.2.1.ha (h4 a ha).1).2.2.2.2.2.2.2.2.2.2)) (fun a ha => by have := hQ.2.1.2.2.2.2.1 a ha; unfold aCo at this; omega) hl hA
theorem tw_feltNow (hQ : QT T ρ m aw fz) (ht : t < ρ 2) {p : List Nat} (hp : PT ρ m aw fz t = some p) (hl : tI T 21 = zN p.length) (hA : Arr (tA T 8) p) : fX5_feltNow (zN t) T = some (zN (pVa ρ t * pco ρ p + ptl ρ p), T) := by
  have c := hQ.2.1.ht ht
  simp (disch := omega) only [b2_some, bd_some, nm_eq, Option.map_some, zN_lit, zN_add, zN_mul, zN_neg1, if_true, if_false, reduceIte, eq_self, Nat.reduceEqDiff, Nat.reduceAdd, Nat.reduceMul, Nat.reduceSub, Nat.reduceLeDiff, Nat.one_ne_zero, not_false_eq_true, Bool.false_eq_true, zN_eq, zN_lt, zN_le,  fX5_feltNow, tp3 hQ.1, tw_sumC hQ ht hp hl hA, tw_sumT hQ ht hp hl hA]
/-- what a trip feels, or none -/
noncomputable def fltI (ρ : Nat → Nat) (m : Nat) (aw : Int) (fz t : Nat) : Int := match PT ρ m aw fz t with
  | some p => ((pVa ρ t * pco ρ p + ptl ρ p : Nat) : Int)
  | none => -1
theorem tw_felts (hQ : QT T ρ m aw fz) (ht : t < ρ 2) : ∃ T', fX5_felts (zN t) T = some (zI (fltI ρ m aw fz t), T') ∧ K1 T T' := by
  obtain ⟨T', h1, h2, h3⟩ := tw_lays hQ ht
  refine ⟨T', ?_, h2⟩
  unfold fltI
  cases hp : PT ρ m aw fz t with
  | none =>
    rw [hp] at h1
    simp (disch := omega) only [b2_some, bd_some, nm_eq, Option.map_some, zN_lit, zN_add, zN_mul, zN_neg1, if_true, if_false, reduceIte, eq_self, Nat.reduceEqDiff, Nat.reduceAdd, Nat.reduceMul, Nat.reduceSub, Nat.reduceLeDiff, Nat.one_ne_zero, not_false_eq_true, Bool.false_eq_true, zN_eq, zN_lt, zN_le,  fX5_felts, h1, Option.isSome_none]
  | some p =>
    rw [hp] at h1
    obtain ⟨h4, h5⟩ := h3 p hp
    have h6 := tw_feltNow (h2.q hQ) ht hp h4 h5
    simp (disch := omega) only [b2_some, bd_some, nm_eq, Option.map_some, zN_lit, zN_add, zN_mul, zN_neg1, if_true, if_false, reduceIte, eq_self, Nat.reduceEqDiff, Nat.reduceAdd, Nat.reduceMul, Nat.reduceSub, Nat.reduceLeDiff, Nat.one_ne_zero, not_false_eq_true, Bool.false_eq_true, zN_eq, zN_lt, zN_le,  fX5_felts, h1, Option.isSome_some, h6]
    rfl
theorem tw_onp {p : List Nat} (hp : p.length < 10) (ha : ∀ a ∈ p, a < 24) {a : Nat} (h24 : a < 24) (hl : tI T 21 = zN p.length) (hA : Arr (tA T 8) p) :
    fX5_isOnPath (zN a) T = some (zN (if a ∈ p then 1 else 0), T) := by
  have H : ∃ r, fX5_isOnPath_l2 (zN a) 0 T = some r ∧ r = (zN (if a ∈ p then 1 else 0), T) := by
    refine wh_up (P := fun i s => i ≤ p.length ∧ s = (zN i, T) ∧ ∀ k, k < i → p.getD k 0 ≠ a) p.length ?_ ?_ p.length 0 _ (by omega) ⟨by omega, rfl, fun k hk => by omega⟩
    · rintro i s hi ⟨-, rfl, hn⟩
      have n1 : ¬ (p.length ≤ i) := by omega
      have g := ha _ (getD_mem hi)
      by_cases e : p.getD i 0 = a
      · right
        refine ⟨_, ?_, rfl⟩
        have hm : a ∈ p := by rw [← e]; exact getD_mem hi
        simp (disch := omega) only [b2_some, bd_some, nm_eq, Option.map_some, zN_lit, zN_add, zN_mul, zN_neg1, if_true, if_false, reduceIte, eq_self, Nat.reduceEqDiff, Nat.reduceAdd, Nat.reduceMul, Nat.reduceSub, Nat.reduceLeDiff, Nat.one_ne_zero, not_false_eq_true, Bool.false_eq_true, zN_eq, zN_lt, zN_le,  fX5_isOnPath_b2, hl, n1, rd_N, hA.get hi, e, hm]
      · left
        refine ⟨_, ?_, by omega, rfl, fun k hk => ?_⟩
        · simp (disch := omega) only [b2_some, bd_some, nm_eq, Option.map_some, zN_lit, zN_add, zN_mul, zN_neg1, if_true, if_false, reduceIte, eq_self, Nat.reduceEqDiff, Nat.reduceAdd, Nat.reduceMul, Nat.reduceSub, Nat.reduceLeDiff, Nat.one_ne_zero, not_false_eq_true, Bool.false_eq_true, zN_eq, zN_lt, zN_le,  fX5_isOnPath_b2, hl, n1, rd_N, hA.get hi, e]
        · by_cases e' : k = i
          · subst e'; exact e
          · exact hn k (by omega)
    · rintro s ⟨-, rfl, hn⟩
      refine ⟨_, ?_, rfl⟩
      have hm : ¬ a ∈ p := fun hm => by
        obtain ⟨k, hk, e⟩ := List.getElem_of_mem hm
        exact hn k hk (by rw [List.getD_eq_getElem?_getD, List.getElem?_eq_getElem hk]; exact e)
      simp (disch := omega) only [b2_some, bd_some, nm_eq, Option.map_some, zN_lit, zN_add, zN_mul, zN_neg1, if_true, if_false, reduceIte, eq_self, Nat.reduceEqDiff, Nat.reduceAdd, Nat.reduceMul, Nat.reduceSub, Nat.reduceLeDiff, Nat.one_ne_zero, not_false_eq_true, Bool.false_eq_true, zN_eq, zN_lt, zN_le,  fX5_isOnPath_b2, hl, Nat.le_refl, hm]
  obtain ⟨r, e, rfl⟩ := H
  exact e
theorem tw_use (hQ : QT T ρ m aw fz) (ht : t < ρ 2) {a : Nat} (h24 : a < 24) : ∃ T', fX5_doesUse (zN t) (zN a) T = some (zN (if useB ρ m aw fz t a then 1 else 0), T') ∧ K1 T T' := by
  obtain ⟨T', h1, h2, h3⟩ := tw_lays hQ ht
  refine ⟨T', ?_, h2⟩
  unfold useB
  cases hp : PT ρ m aw fz t with
  | none =>
    rw [hp] at h1
    simp (disch := omega) only [b2_some, bd_some, nm_eq, Option.map_some, zN_lit, zN_add, zN_mul, zN_neg1, if_true, if_false, reduceIte, eq_self, Nat.reduceEqDiff, Nat.reduceAdd, Nat.reduceMul, Nat.reduceSub, Nat.reduceLeDiff, Nat.one_ne_zero, not_false_eq_true, Bool.false_eq_true, zN_eq, zN_lt, zN_le,  fX5_doesUse, h1, Option.isSome_none]
  | some p =>
    rw [hp] at h1
    obtain ⟨h4, h5⟩ := h3 p hp
    obtain ⟨g1, -, -, g4, -, -⟩ := PT_all hQ.2.1 ht hp
    have h0 := hQ.2.1.h0
    have h6 := tw_onp (T := T') (p := p) (by omega) (fun a ha => ((hQ.2.1.ha (g4 a ha).1).2.2.2.2.2.2.2.2.2.2)) h24 h4 h5
    by_cases hm : a ∈ p
    · rw [if_pos hm] at h6
      simp (disch := omega) only [b2_some, bd_some, nm_eq, Option.map_some, zN_lit, zN_add, zN_mul, zN_neg1, if_true, if_false, reduceIte, eq_self, Nat.reduceEqDiff, Nat.reduceAdd, Nat.reduceMul, Nat.reduceSub, Nat.reduceLeDiff, Nat.one_ne_zero, not_false_eq_true, Bool.false_eq_true, zN_eq, zN_lt, zN_le,  fX5_doesUse, h1, Option.isSome_some, h6, hm, decide_true]
    · rw [if_neg hm] at h6
      simp (disch := omega) only [b2_some, bd_some, nm_eq, Option.map_some, zN_lit, zN_add, zN_mul, zN_neg1, if_true, if_false, reduceIte, eq_self, Nat.reduceEqDiff, Nat.reduceAdd, Nat.reduceMul, Nat.reduceSub, Nat.reduceLeDiff, Nat.one_ne_zero, not_false_eq_true, Bool.false_eq_true, zN_eq, zN_lt, zN_le,  fX5_doesUse, h1, Option.isSome_some, h6, hm, decide_false]
theorem tw_usr (hQ : QT T ρ m aw fz) {a : Nat} (h24 : a < 24) : ∃ T', fX5_usersOf (zN a) T = some (zN (usrN ρ m aw fz a), T') ∧ K1 T T' := by
  have h2 := hQ.2.1.h2
  have H : ∃ r, fX5_usersOf_l4 (zN a) 0 0 T = some r ∧ ∃ T', r = (zN (usrN ρ m aw fz a), T') ∧ K1 T T' := by
    refine wh_up (P := fun i s => i ≤ ρ 2 ∧ ∃ T', s = (zN (msk (fun t => useB ρ m aw fz t a) i), zN i, T') ∧ K1 T T') (ρ 2) ?_ ?_ (ρ 2) 0 _ (by omega) ⟨by omega, T, rfl, K1.refl T⟩
    · rintro i s hi ⟨-, T', rfl, hK⟩
      obtain ⟨T2, e2, hK2⟩ := tw_use (hK.q hQ) (t := i) hi h24
      left
      refine ⟨_, ?_, by omega, T2, rfl, hK.trans hK2⟩
      have n1 : ¬ (ρ 2 ≤ i) := by omega
      rw [msk]
      cases hu : useB ρ m aw fz i a with
      | true =>
        rw [hu] at e2
        simp (disch := omega) only [b2_some, bd_some, nm_eq, Option.map_some, zN_lit, zN_add, zN_mul, zN_neg1, if_true, if_false, reduceIte, eq_self, Nat.reduceEqDiff, Nat.reduceAdd, Nat.reduceMul, Nat.reduceSub, Nat.reduceLeDiff, Nat.one_ne_zero, not_false_eq_true, Bool.false_eq_true, zN_eq, zN_lt, zN_le,  fX5_usersOf_b4, tw_rd (hK.row hQ.1), n1, e2, fX5_usersOf_b31, zN_or, zN_shlz]
      | false =>
        rw [hu] at e2
        simp (disch := omega) only [b2_some, bd_some, nm_eq, Option.map_some, zN_lit, zN_add, zN_mul, zN_neg1, if_true, if_false, reduceIte, eq_self, Nat.reduceEqDiff, Nat.reduceAdd, Nat.reduceMul, Nat.reduceSub, Nat.reduceLeDiff, Nat.one_ne_zero, not_false_eq_true, Bool.false_eq_true, zN_eq, zN_lt, zN_le,  fX5_usersOf_b4, tw_rd (hK.row hQ.1), n1, e2, fX5_usersOf_b31, zN_or]
    · rintro s ⟨-, T', rfl, hK⟩
      refine ⟨_, ?_, T', rfl, hK⟩
      simp (disch := omega) only [b2_some, bd_some, nm_eq, Option.map_some, zN_lit, zN_add, zN_mul, zN_neg1, if_true, if_false, reduceIte, eq_self, Nat.reduceEqDiff, Nat.reduceAdd, Nat.reduceMul, Nat.reduceSub, Nat.reduceLeDiff, Nat.one_ne_zero, not_false_eq_true, Bool.false_eq_true, zN_eq, zN_lt, zN_le,  fX5_usersOf_b4, tw_rd (hK.row hQ.1), Nat.le_refl]
      rfl
  obtain ⟨r, e, T', rfl, h⟩ := H
  exact ⟨T', e, h⟩
end
