/-! Plain law: the whole state of the twin; rows copied and kept -/
/-- row, what can be taken back, two copies, buffer (how many, bytes), kind of the last error and its statement, output -/
abbrev SG : Type := (Nat → Nat) × List (Nat → Nat) × Option (Nat → Nat) × Option (Nat → Nat) × (Nat × (Nat → Nat)) × (Nat × Int) × List Nat
def PastT (T : TW) (hs : List (Nat → Nat)) : Prop := tI T 5 = zN hs.length ∧ hs.length ≤ 12 ∧ ∀ j, j < hs.length → Inv (hs.getD j id) ∧ ∀ i, i < 172 → tA T 4 (172 * j + i) = zN (hs.getD j id i)
def SavT (T : TW) (j : Nat) (s : Option (Nat → Nat)) : Prop := tA T 5 j = zN (if s.isSome then 1 else 0) ∧ ∀ ρ, s = some ρ → Inv ρ ∧ ∀ i, i < 172 → tA T 3 (172 * j + i) = zN (ρ i)
def TR (T : TW) (σ : SG) : Prop := QT T σ.1 0 (-1) 0 ∧ PastT T σ.2.1 ∧ SavT T 0 σ.2.2.1 ∧ SavT T 1 σ.2.2.2.1 ∧ BufT T σ.2.2.2.2.1.1 σ.2.2.2.2.1.2 ∧ (tI T 14 = zN σ.2.2.2.2.2.1.1 ∧ σ.2.2.2.2.2.1.1 ≤ 4) ∧ (tI T 15 = zI σ.2.2.2.2.2.1.2 ∧ bI σ.2.2.2.2.2.1.2) ∧ OutT T σ.2.2.2.2.2.2
theorem PastT.of {T T' : TW} {hs : List (Nat → Nat)} (h : PastT T hs) (h5 : tI T' 5 = tI T 5) (h4 : tA T' 4 = tA T 4) : PastT T' hs := by
  unfold PastT
  rw [h5, h4]
  exact h
theorem SavT.of {T T' : TW} {j : Nat} {s : Option (Nat → Nat)} (h : SavT T j s) (h5 : tA T' 5 = tA T 5) (h3 : tA T' 3 = tA T 3) : SavT T' j s := by
  unfold SavT
  rw [h5, h3]
  exact h
theorem BufT.of {T T' : TW} {n : Nat} {β : Nat → Nat} (h : BufT T n β) (h8 : tI T' 8 = tI T 8) (h6 : tA T' 6 = tA T 6) : BufT T' n β := by
  unfold BufT
  rw [h8, h6]
  exact h
theorem OutT.of {T T' : TW} {o : List Nat} (h : OutT T o) (h8 : tI T' 32 = tI T 32) (h6 : tA T' 16 = tA T 16) : OutT T' o := by
  unfold OutT
  rw [h8, h6]
  exact h
/-- all that lasts, but the row -/
theorem TR.kr {T T' : TW} {σ : SG} {ρ : Nat → Nat} (h : TR T σ) (hK : KR T T') (hQ : QT T' ρ 0 (-1) 0) : TR T' (ρ, σ.2) := by
  obtain ⟨h1, h2, h3, h4, h5, h6, h7, h8⟩ := h
  refine ⟨hQ, h2.of (hK.1 5 (by omega) (by omega)) (hK.2 4 (by omega) (by omega)), h3.of (hK.2 5 (by omega) (by omega)) (hK.2 3 (by omega) (by omega)), h4.of (hK.2 5 (by omega) (by omega)) (hK.2 3 (by omega) (by omega)), h5.of (hK.1 8 (by omega) (by omega)) (hK.2 6 (by omega) (by omega)), ?_, ?_, h8.of (hK.1 32 (by omega) (by omega)) (hK.2 16 (by omega) (by omega))⟩
  · rw [hK.1 14 (by omega) (by omega)]; exact h6
  · rw [hK.1 15 (by omega) (by omega)]; exact h7
theorem TR.k2 {T T' : TW} {σ : SG} (h : TR T σ) (hK : K2 T T') : TR T' σ := h.kr hK.kr (hK.q h.1)
theorem TR.thr {T : TW} {σ : SG} (h : TR T σ) (x : Int32) : TR (tsI T 6 x) σ := by
  obtain ⟨h1, h2, h3, h4, h5, h6, h7, h8⟩ := h
  exact ⟨h1, h2, h3, h4, h5, h6, h7, h8⟩
theorem TR.ko {T T' : TW} {σ : SG} {o : List Nat} (h : TR T σ) (hK : KO T T') (hO : OutT T' o) : TR T' (σ.1, σ.2.1, σ.2.2.1, σ.2.2.2.1, σ.2.2.2.2.1, σ.2.2.2.2.2.1, o) := by
  obtain ⟨h1, h2, h3, h4, h5, h6, h7, h8⟩ := h
  refine ⟨hK.q h1, h2.of (hK.1 5 (by omega) (by omega)) (hK.2 4 (by omega) (by omega)), h3.of (hK.2 5 (by omega) (by omega)) (hK.2 3 (by omega) (by omega)), h4.of (hK.2 5 (by omega) (by omega)) (hK.2 3 (by omega) (by omega)), h5.of (hK.1 8 (by omega) (by omega)) (hK.2 6 (by omega) (by omega)), ?_, ?_, hO⟩
  · rw [hK.1 14 (by omega) (by omega)]; exact h6
  · rw [hK.1 15 (by omega) (by omega)]; exact h7
theorem tsA_A (T : TW) (p : Nat) (f g : Nat → Int32) : tsA (tsA T p f) p g = tsA T p g := by
  unfold tsA
  congr 1; congr 1; congr 1
  funext q
  by_cases h : q = p
  · simp [h]
  · simp [h]
theorem tsA_self (T : TW) (p : Nat) : tsA T p (tA T p) = T := by
  unfold tsA tA
  congr 1; congr 1; congr 1
  funext q
  by_cases h : q = p
  · simp [h]
  · simp [h]
/-- one row copied -/
theorem tw_cop {T : TW} {p q u v : Nat} (hpq : p ≠ q) (hp : 172 * u + 172 ≤ tLen p) (hq : 172 * v + 172 ≤ tLen q) (hp2 : tLen p ≤ 65536) (hq2 : tLen q ≤ 65536) :
    fX5_copies p (zN u) q (zN v) T = some (tsA T q (fun j => if 172 * v ≤ j ∧ j < 172 * v + 172 then tA T p (172 * u + (j - 172 * v)) else tA T q j)) := by
  have H : ∃ r, fX5_copies_l3 p (zN u) q (zN v) 0 T = some r ∧ r = tsA T q (fun j => if 172 * v ≤ j ∧ j < 172 * v + 172 then tA T p (172 * u + (j - 172 * v)) else tA T q j) := by
    refine wh_up (P := fun i s => i ≤ 172 ∧ s = (zN i, tsA T q (fun j => if 172 * v ≤ j ∧ j < 172 * v + i then tA T p (172 * u + (j - 172 * v)) else tA T q j))) 172 ?_ ?_ 172 0 _ (by omega) ⟨by omega, ?_⟩
    · rintro i s hi ⟨-, rfl⟩
      have n1 : ¬ (172 ≤ i) := by omega
      have e1 : tA (tsA T q (fun j => if 172 * v ≤ j ∧ j < 172 * v + i then tA T p (172 * u + (j - 172 * v)) else tA T q j)) p = tA T p := by rw [tA_A, if_neg hpq]
      have e2 : tA (tsA T q (fun j => if 172 * v ≤ j ∧ j < 172 * v + i then tA T p (172 * u + (j - 172 * v)) else tA T q j)) q = (fun j => if 172 * v ≤ j ∧ j < 172 * v + i then tA T p (172 * u + (j - 172 * v)) else tA T q j) := by rw [tA_A, if_pos rfl]
      have e3 : upd (fun j => if 172 * v ≤ j ∧ j < 172 * v + i then tA T p (172 * u + (j - 172 * v)) else tA T q j) (172 * v + i) (tA T p (172 * u + i)) = (fun j => if 172 * v ≤ j ∧ j < 172 * v + (i + 1) then tA T p (172 * u + (j - 172 * v)) else tA T q j) := by
        funext j
        unfold upd
        dsimp only
        by_cases e : j = 172 * v + i
        · rw [if_pos e, if_pos (by omega), e, show 172 * v + i - 172 * v = i by omega]
        · rw [if_neg e]
          by_cases e' : 172 * v ≤ j ∧ j < 172 * v + i
          · rw [if_pos e', if_pos (by omega)]
          · rw [if_neg e', if_neg (by omega)]
      refine .inl ⟨_, ?_, by omega, rfl⟩
      simp (disch := omega) only [b2_some, bd_some, nm_eq, Option.map_some, zN_lit, zN_add, zN_mul, zN_neg1, if_true, if_false, reduceIte, eq_self, Nat.reduceEqDiff, Nat.reduceAdd, Nat.reduceMul, Nat.reduceSub, Nat.reduceLeDiff, Nat.one_ne_zero, not_false_eq_true, Bool.false_eq_true, zN_eq, zN_lt, zN_le,  fX5_copies_b3, n1, rd_N, e1, wrA_N, e2, tsA_A, e3]
    · rintro s ⟨-, rfl⟩
      refine ⟨_, ?_, rfl⟩
      simp (disch := omega) only [b2_some, bd_some, nm_eq, Option.map_some, zN_lit, zN_add, zN_mul, zN_neg1, if_true, if_false, reduceIte, eq_self, Nat.reduceEqDiff, Nat.reduceAdd, Nat.reduceMul, Nat.reduceSub, Nat.reduceLeDiff, Nat.one_ne_zero, not_false_eq_true, Bool.false_eq_true, zN_eq, zN_lt, zN_le,  fX5_copies_b3, Nat.le_refl]
    · have : (fun j => if 172 * v ≤ j ∧ j < 172 * v + 0 then tA T p (172 * u + (j - 172 * v)) else tA T q j) = tA T q := by
        funext j
        rw [if_neg (by omega)]
      rw [this, tsA_self]
      rfl
  obtain ⟨r, e, rfl⟩ := H
  exact e
theorem getD_snoc {α : Type} (l : List α) (x d : α) (j : Nat) : (l ++ [x]).getD j d = if j < l.length then l.getD j d else if j = l.length then x else d := by
  simp only [List.getD_eq_getElem?_getD]
  by_cases h : j < l.length
  · rw [if_pos h, List.getElem?_append_left h]
  · rw [if_neg h, List.getElem?_append_right (by omega)]
    by_cases h' : j = l.length
    · rw [if_pos h', h', Nat.sub_self]; rfl
    · rw [if_neg h', List.getElem?_eq_none (by simp; omega)]; rfl
theorem getD_tail {α : Type} (l : List α) (d : α) (j : Nat) : l.tail.getD j d = l.getD (j + 1) d := by
  cases l with
  | nil => rfl
  | cons a l => rfl
/-- what is kept ahead of an action -/
def kee (σ : SG) : SG := (σ.1, (if σ.2.1.length = 12 then σ.2.1.tail else σ.2.1) ++ [σ.1], σ.2.2)
theorem tw_kee50 {T : TW} {σ : SG} (h : TR T σ) (hl : σ.2.1.length < 12) : ∃ T', fX5_keeps_b50 T = some T' ∧ TR T' (σ.1, σ.2.1 ++ [σ.1], σ.2.2) ∧ tI T' 6 = tI T 6 := by
  have h' := h
  obtain ⟨h1, h2, h3, h4, h5, h6, h7, h8⟩ := h
  have e := tw_cop (T := T) (p := 1) (q := 4) (u := 0) (v := σ.2.1.length) (by omega) (by decide) (by show 172 * σ.2.1.length + 172 ≤ 2064; omega) (by decide) (by decide)
  refine ⟨tsI (tsA T 4 (fun j => if 172 * σ.2.1.length ≤ j ∧ j < 172 * σ.2.1.length + 172 then tA T 1 (172 * 0 + (j - 172 * σ.2.1.length)) else tA T 4 j)) 5 (zN (σ.2.1.length + 1)), ?_, ⟨h1, ⟨?_, ?_, fun j hj => ?_⟩, h3, h4, h5, h6, h7, h8⟩, rfl⟩
  · simp (disch := omega) only [b2_some, bd_some, nm_eq, Option.map_some, zN_lit, zN_add, zN_mul, zN_neg1, if_true, if_false, reduceIte, eq_self, Nat.reduceEqDiff, Nat.reduceAdd, Nat.reduceMul, Nat.reduceSub, Nat.reduceLeDiff, Nat.one_ne_zero, not_false_eq_true, Bool.false_eq_true, zN_eq, zN_lt, zN_le,  fX5_keeps_b50, h2.1, e, tI_A]
  · rw [tI_s, if_pos rfl, List.length_append]; rfl
  · rw [List.length_append, List.length_singleton]; omega
  · rw [List.length_append, List.length_singleton] at hj
    have e5 : (σ.1, σ.2.1 ++ [σ.1], σ.2.2).2.1 = σ.2.1 ++ [σ.1] := rfl
    rw [e5, getD_snoc]
    by_cases c : j < σ.2.1.length
    · rw [if_pos c]
      refine ⟨(h2.2.2 j c).1, fun i hi => ?_⟩
      rw [tA_s, tA_A, if_pos rfl, if_neg (by omega)]
      exact (h2.2.2 j c).2 i hi
    · rw [if_neg c, if_pos (by omega)]
      refine ⟨h1.2.1, fun i hi => ?_⟩
      rw [tA_s, tA_A, if_pos rfl, if_pos (by omega), show 172 * 0 + (172 * j + i - 172 * σ.2.1.length) = i by omega]
      exact h1.1 i hi
theorem tw_kee {T : TW} {σ : SG} (h : TR T σ) : ∃ T', fX5_keeps T = some T' ∧ TR T' (kee σ) ∧ tI T' 6 = tI T 6 := by
  have h0 := h
  obtain ⟨h1, h2, h3, h4, h5, h6, h7, h8⟩ := h
  unfold kee
  by_cases c : σ.2.1.length = 12
  · rw [if_pos c]
    have hT : TR (tsI (tsA T 4 (fun j => if j < 1892 then tA T 4 (j + 172) else tA T 4 j)) 5 (zN 11)) (σ.1, σ.2.1.tail, σ.2.2) := by
      refine ⟨h1, ⟨?_, ?_, fun j hj => ?_⟩, h3, h4, h5, h6, h7, h8⟩
      · show _ = zN σ.2.1.tail.length
        rw [tI_s, if_pos rfl, List.length_tail, c]
      · show σ.2.1.tail.length ≤ 12
        rw [List.length_tail, c]; omega
      · have hj' : j < σ.2.1.tail.length := hj
        rw [List.length_tail, c] at hj'
        have e5 : (σ.1, σ.2.1.tail, σ.2.2).2.1 = σ.2.1.tail := rfl
        rw [e5, getD_tail]
        refine ⟨(h2.2.2 (j + 1) (by omega)).1, fun i hi => ?_⟩
        rw [tA_s, tA_A, if_pos rfl, if_pos (by omega), show 172 * j + i + 172 = 172 * (j + 1) + i by omega]
        exact (h2.2.2 (j + 1) (by omega)).2 i hi
    obtain ⟨T', e, hT', h6'⟩ := tw_kee50 hT (by show σ.2.1.tail.length < 12; rw [List.length_tail, c]; omega)
    refine ⟨T', ?_, hT', by rw [h6']; rfl⟩
    have H : ∃ r, fX5_keeps_l11 0 T = some r ∧ r = T' := by
      refine wh_up (P := fun i s => i ≤ 1892 ∧ s = (zN i, tsA T 4 (fun j => if j < i then tA T 4 (j + 172) else tA T 4 j))) 1892 ?_ ?_ 1892 0 _ (by omega) ⟨by omega, ?_⟩
      · rintro i s hi ⟨-, rfl⟩
        have n1 : ¬ (1892 ≤ i) := by omega
        have e2 : tA (tsA T 4 (fun j => if j < i then tA T 4 (j + 172) else tA T 4 j)) 4 = (fun j => if j < i then tA T 4 (j + 172) else tA T 4 j) := by rw [tA_A, if_pos rfl]
        have e3 : upd (fun j => if j < i then tA T 4 (j + 172) else tA T 4 j) i (tA T 4 (i + 172)) = (fun j => if j < i + 1 then tA T 4 (j + 172) else tA T 4 j) := by
          funext j
          unfold upd
          dsimp only
          by_cases e : j = i
          · rw [if_pos e, if_pos (by omega), e]
          · rw [if_neg e]
            by_cases e' : j < i
            · rw [if_pos e', if_pos (by omega)]
            · rw [if_neg e', if_neg (by omega)]
        have e4 : ¬ (i + 172 < i) := by omega
        refine .inl ⟨_, ?_, by omega, rfl⟩
        simp (disch := omega) only [b2_some, bd_some, nm_eq, Option.map_some, zN_lit, zN_add, zN_mul, zN_neg1, if_true, if_false, reduceIte, eq_self, Nat.reduceEqDiff, Nat.reduceAdd, Nat.reduceMul, Nat.reduceSub, Nat.reduceLeDiff, Nat.one_ne_zero, not_false_eq_true, Bool.false_eq_true, zN_eq, zN_lt, zN_le,  fX5_keeps_b11, n1, rd_N, wrA_N, e2, e4, tsA_A, e3]
      · rintro s ⟨-, rfl⟩
        refine ⟨_, ?_, rfl⟩
        have h2' := h2.1
        rw [c] at h2'
        have e6 : zN 12 - zN 1 = zN 11 := by rw [zN_sub (by omega)]
        simp (disch := omega) only [b2_some, bd_some, nm_eq, Option.map_some, zN_lit, zN_add, zN_mul, zN_neg1, if_true, if_false, reduceIte, eq_self, Nat.reduceEqDiff, Nat.reduceAdd, Nat.reduceMul, Nat.reduceSub, Nat.reduceLeDiff, Nat.one_ne_zero, not_false_eq_true, Bool.false_eq_true, zN_eq, zN_lt, zN_le,  fX5_keeps_b11, Nat.le_refl, fX5_keeps_b40, tI_A, h2', e6, e]
      · have : (fun j => if j < 0 then tA T 4 (j + 172) else tA T 4 j) = tA T 4 := by
          funext j
          rw [if_neg (by omega)]
        rw [this, tsA_self]
        rfl
    obtain ⟨r, e7, rfl⟩ := H
    have h2' := h2.1
    rw [c] at h2'
    have e7' : fX5_keeps_l11 (zN 0) T = some r := e7
    simp (disch := omega) only [b2_some, bd_some, nm_eq, Option.map_some, zN_lit, zN_add, zN_mul, zN_neg1, if_true, if_false, reduceIte, eq_self, Nat.reduceEqDiff, Nat.reduceAdd, Nat.reduceMul, Nat.reduceSub, Nat.reduceLeDiff, Nat.one_ne_zero, not_false_eq_true, Bool.false_eq_true, zN_eq, zN_lt, zN_le,  fX5_keeps, h2', e7']
  · rw [if_neg c]
    obtain ⟨T', e, hT', h6'⟩ := tw_kee50 h0 (by have := h2.2.1; omega)
    refine ⟨T', ?_, hT', h6'⟩
    have h12 := h2.2.1
    simp (disch := omega) only [b2_some, bd_some, nm_eq, Option.map_some, zN_lit, zN_add, zN_mul, zN_neg1, if_true, if_false, reduceIte, eq_self, Nat.reduceEqDiff, Nat.reduceAdd, Nat.reduceMul, Nat.reduceSub, Nat.reduceLeDiff, Nat.one_ne_zero, not_false_eq_true, Bool.false_eq_true, zN_eq, zN_lt, zN_le,  fX5_keeps, h2.1, c, e]
