/-! Plain law: Bellman-Ford, as both sides do it -/
section
variable (fr to : Nat → Nat) (w : Nat → Option Int)
def bf_up (f : Nat → Option Int) (k : Nat) (x : Int) : Nat → Option Int := fun j => if j = k then some x else f j
/-- an arc shortens: what its start gets -/
def bf_can (far : Nat → Option Int) (a : Nat) : Option Int := match w a, far (to a) with
  | some x, some y => (match far (fr a) with
    | some z => if y + x < z then some (y + x) else none
    | none => some (y + x))
  | _, _ => none
def bf_rlx (far : Nat → Option Int) (a : Nat) : (Nat → Option Int) × Bool := match bf_can fr to w far a with
  | some v => (bf_up far (fr a) v, true)
  | none => (far, false)
def bf_pss (far : Nat → Option Int) : Nat → (Nat → Option Int) × Bool
  | 0 => (far, false)
  | k + 1 => ((bf_rlx fr to w (bf_pss far k).1 k).1, (bf_pss far k).2 || (bf_rlx fr to w (bf_pss far k).1 k).2)
end
def bf_cnt (far : Nat → Option Int) : Nat → Nat
  | 0 => 0
  | k + 1 => bf_cnt far k + (if (far k).isSome then 1 else 0)
def bf_v (M : Nat) (o : Option Int) : Nat := match o with | some z => z.toNat | none => M
def bf_pot (M : Nat) (far : Nat → Option Int) : Nat → Nat
  | 0 => 0
  | k + 1 => bf_pot M far k + bf_v M (far k)
theorem bf_cnt_le (far : Nat → Option Int) : ∀ k, bf_cnt far k ≤ k
  | 0 => Nat.le_refl _
  | k + 1 => by
    have := bf_cnt_le far k
    simp only [bf_cnt]
    split <;> omega
theorem bf_cnt_up {far : Nat → Option Int} {n : Nat} {v : Int} : ∀ k, (k ≤ n → bf_cnt (bf_up far n v) k = bf_cnt far k) ∧ (n < k → bf_cnt (bf_up far n v) k = bf_cnt far k + (if (far n).isSome then 0 else 1))
  | 0 => ⟨fun _ => rfl, fun h => by omega⟩
  | k + 1 => by
    have ih := bf_cnt_up (far := far) (n := n) (v := v) k
    refine ⟨fun h => ?_, fun h => ?_⟩
    · simp only [bf_cnt]
      rw [ih.1 (by omega), show bf_up far n v k = far k from if_neg (by omega)]
    · simp only [bf_cnt]
      by_cases e : n = k
      · subst e
        rw [ih.1 (Nat.le_refl _), show bf_up far n v n = some v from if_pos rfl]
        cases far n <;> simp
      · rw [ih.2 (by omega), show bf_up far n v k = far k from if_neg (by omega)]
        omega
theorem bf_pot_up {M : Nat} {far : Nat → Option Int} {n : Nat} {v : Int} : ∀ k, (k ≤ n → bf_pot M (bf_up far n v) k = bf_pot M far k) ∧ (n < k → bf_pot M (bf_up far n v) k + bf_v M (far n) = bf_pot M far k + v.toNat)
  | 0 => ⟨fun _ => rfl, fun h => by omega⟩
  | k + 1 => by
    have ih := bf_pot_up (M := M) (far := far) (n := n) (v := v) k
    refine ⟨fun h => ?_, fun h => ?_⟩
    · simp only [bf_pot]
      rw [ih.1 (by omega), show bf_up far n v k = far k from if_neg (by omega)]
    · simp only [bf_pot]
      by_cases e : n = k
      · subst e
        rw [ih.1 (Nat.le_refl _), show bf_up far n v n = some v from if_pos rfl]
        simp only [bf_v]
        omega
      · have := ih.2 (by omega)
        rw [show bf_up far n v k = far k from if_neg (by omega)]
        omega
/-- what is kept in the loop -/
def Bf (N A : Nat) (fr to : Nat → Nat) (w : Nat → Option Int) (W : Int) (t : Nat) (far : Nat → Option Int) : Prop :=
  far t = some 0 ∧ (∀ n z, n ≠ t → far n = some z → ∃ a, a < A ∧ fr a = n ∧ ∃ x y, w a = some x ∧ far (to a) = some y ∧ y + x ≤ z) ∧
  (∀ n z, far n = some z → 0 ≤ z ∧ z ≤ W * bf_cnt far N) ∧ (∀ n, N ≤ n → far n = none)
/-- what is fixed: nodes and weights in range -/
def BfN (N A : Nat) (fr to : Nat → Nat) (w : Nat → Option Int) (W : Int) (t : Nat) : Prop :=
  (∀ a, a < A → fr a < N ∧ to a < N) ∧ (∀ a x, w a = some x → 0 < x ∧ x ≤ W) ∧ t < N ∧ 0 ≤ W
theorem bf_can_some {fr to : Nat → Nat} {w : Nat → Option Int} {far : Nat → Option Int} {a : Nat} {v : Int} (h : bf_can fr to w far a = some v) :
    ∃ x y, w a = some x ∧ far (to a) = some y ∧ v = y + x ∧ ∀ z, far (fr a) = some z → v < z := by
  unfold bf_can at h
  split at h
  next x y hx hy =>
    split at h
    next z hz =>
      split at h
      next hh => cases h; exact ⟨x, y, hx, hy, rfl, fun z' e => by rw [hz] at e; cases e; exact hh⟩
      next => cases h
    next hz => cases h; exact ⟨x, y, hx, hy, rfl, fun z' e => by rw [hz] at e; cases e⟩
  next => cases h
theorem bf_can_none {fr to : Nat → Nat} {w : Nat → Option Int} {far : Nat → Option Int} {a : Nat} (h : bf_can fr to w far a = none) :
    ∀ x y, w a = some x → far (to a) = some y → ∃ z, far (fr a) = some z ∧ z ≤ y + x := by
  intro x y hx hy
  unfold bf_can at h
  rw [hx, hy] at h
  dsimp only at h
  split at h
  next z hz =>
    split at h
    next => cases h
    next hh => exact ⟨z, hz, by omega⟩
  next hz => cases h
theorem Bf.rlx {N A : Nat} {fr to : Nat → Nat} {w : Nat → Option Int} {W : Int} {t : Nat} {far : Nat → Option Int} {a : Nat} {v : Int} {M : Nat} (hN : BfN N A fr to w W t) (hM : W * N < M) (h : Bf N A fr to w W t far) (ha : a < A) (hv : bf_can fr to w far a = some v) :
    Bf N A fr to w W t (bf_up far (fr a) v) ∧ bf_pot M (bf_up far (fr a) v) N < bf_pot M far N := by
  obtain ⟨x, y, hx, hy, rfl, hz⟩ := bf_can_some hv
  obtain ⟨h1, h2, h3, h4⟩ := h
  obtain ⟨g1, g2, g3, g4⟩ := hN
  have hx0 := g2 a x hx
  have hy0 := h3 _ y hy
  have hft : fr a ≠ t := by
    intro e
    have := hz 0 (by rw [e]; exact h1)
    omega
  have hne : to a ≠ fr a := by
    intro e
    have := hz y (by rw [← e]; exact hy)
    omega
  have hc := (bf_cnt_up (far := far) (n := fr a) (v := y + x) N).2 (g1 a ha).1
  have hp := (bf_pot_up (M := M) (far := far) (n := fr a) (v := y + x) N).2 (g1 a ha).1
  have hcN := bf_cnt_le far N
  have hcN' := bf_cnt_le (bf_up far (fr a) (y + x)) N
  have hWc : W * bf_cnt (bf_up far (fr a) (y + x)) N ≤ W * N := Int.mul_le_mul_of_nonneg_left (by omega) g4
  have hWd : W * bf_cnt far N ≤ W * bf_cnt (bf_up far (fr a) (y + x)) N := Int.mul_le_mul_of_nonneg_left (by rw [hc]; omega) g4
  have hnew : y + x ≤ W * bf_cnt (bf_up far (fr a) (y + x)) N := by
    cases e : far (fr a) with
    | some z => have := hz z e; have := h3 _ z e; omega
    | none =>
      rw [e] at hc
      rw [hc]
      simp only [Option.isSome_none]
      have e2 : W * ((bf_cnt far N + (if false = true then 0 else 1) : Nat) : Int) = W * bf_cnt far N + W := by
        simp [Int.mul_add]
      rw [e2]
      omega
  refine ⟨⟨?_, ?_, ?_, ?_⟩, ?_⟩
  · rw [bf_up, if_neg (Ne.symm hft)]; exact h1
  · intro n z hn hnz
    by_cases e : n = fr a
    · subst e
      rw [bf_up, if_pos rfl] at hnz
      cases hnz
      exact ⟨a, ha, rfl, x, y, hx, by rw [bf_up, if_neg hne]; exact hy, Int.le_refl _⟩
    · rw [bf_up, if_neg e] at hnz
      obtain ⟨b, hb, hbn, x', y', hx', hy', hle⟩ := h2 n z hn hnz
      by_cases e' : to b = fr a
      · rw [e'] at hy'
        have := hz y' hy'
        exact ⟨b, hb, hbn, x', y + x, hx', by rw [bf_up, if_pos e'], by omega⟩
      · exact ⟨b, hb, hbn, x', y', hx', by rw [bf_up, if_neg e']; exact hy', hle⟩
  · intro n z hnz
    by_cases e : n = fr a
    · rw [bf_up, if_pos e] at hnz
      cases hnz
      exact ⟨by omega, hnew⟩
    · rw [bf_up, if_neg e] at hnz
      have := h3 n z hnz
      exact ⟨this.1, by omega⟩
  · intro n hn
    rw [bf_up, if_neg (by have := g1 a ha; omega)]
    exact h4 n hn
  · cases e : far (fr a) with
    | some z => have := hz z e; rw [e] at hp; simp only [bf_v] at hp; omega
    | none => rw [e] at hp; simp only [bf_v] at hp; omega
theorem Bf.pss {N A : Nat} {fr to : Nat → Nat} {w : Nat → Option Int} {W : Int} {t : Nat} {far : Nat → Option Int} {M : Nat} (hN : BfN N A fr to w W t) (hM : W * N < M) (h : Bf N A fr to w W t far) :
    ∀ k, k ≤ A → Bf N A fr to w W t (bf_pss fr to w far k).1 ∧ ((bf_pss fr to w far k).2 = true → bf_pot M (bf_pss fr to w far k).1 N < bf_pot M far N) ∧
      ((bf_pss fr to w far k).2 = false → (bf_pss fr to w far k).1 = far ∧ ∀ a, a < k → bf_can fr to w far a = none) := by
  intro k
  induction k with
  | zero => intro _; exact ⟨h, fun h => (by cases h), fun _ => ⟨rfl, fun a ha => by omega⟩⟩
  | succ k ih =>
    intro hk
    obtain ⟨i1, i2, i3⟩ := ih (by omega)
    simp only [bf_pss]
    unfold bf_rlx
    cases e : bf_can fr to w (bf_pss fr to w far k).1 k with
    | some v =>
      dsimp only
      have hr := Bf.rlx hN hM i1 (by omega) e
      refine ⟨hr.1, fun _ => ?_, fun h' => by simp at h'⟩
      cases e2 : (bf_pss fr to w far k).2 with
      | true => exact Nat.lt_trans hr.2 (i2 e2)
      | false => have := (i3 e2).1; have := hr.2; simp_all
    | none =>
      dsimp only
      rw [Bool.or_false]
      refine ⟨i1, i2, fun h' => ⟨(i3 h').1, fun a ha => ?_⟩⟩
      by_cases e3 : a = k
      · subst e3; rw [(i3 h').1] at e; exact e
      · exact (i3 h').2 a (by omega)
theorem Bf.sol {N A : Nat} {fr to : Nat → Nat} {w : Nat → Option Int} {W : Int} {t : Nat} {far : Nat → Option Int} (h : Bf N A fr to w W t far) (hs : ∀ a, a < A → bf_can fr to w far a = none) : Sol A fr to w t far := by
  obtain ⟨h1, h2, h3, h4⟩ := h
  refine ⟨h1, fun a ha x y hx hy => bf_can_none (hs a ha) x y hx hy, fun n hn z hz => ?_, fun n z hz => (h3 n z hz).1⟩
  obtain ⟨a, ha, rfl, x, y, hx, hy, hle⟩ := h2 n z hn hz
  obtain ⟨z', hz', hle'⟩ := bf_can_none (hs a ha) x y hx hy
  rw [hz] at hz'
  cases hz'
  exact ⟨a, ha, rfl, x, y, hx, hy, by omega⟩
def bf_ini (t : Nat) : Nat → Option Int := fun n => if n = t then some 0 else none
theorem Bf.ini {N A : Nat} {fr to : Nat → Nat} {w : Nat → Option Int} {W : Int} {t : Nat} (hN : BfN N A fr to w W t) : Bf N A fr to w W t (bf_ini t) := by
  obtain ⟨g1, g2, g3, g4⟩ := hN
  refine ⟨if_pos rfl, fun n z hn hz => ?_, fun n z hz => ?_, fun n hn => if_neg (by omega)⟩
  · rw [bf_ini, if_neg hn] at hz; cases hz
  · unfold bf_ini at hz
    split at hz
    · cases hz; exact ⟨by omega, Int.mul_nonneg g4 (by omega)⟩
    · cases hz
/-- the one solution, all nodes -/
theorem Bf.any {N A : Nat} {fr to : Nat → Nat} {w : Nat → Option Int} {W : Int} {t : Nat} (hN : BfN N A fr to w W t) : ∃ far, Bf N A fr to w W t far ∧ Sol A fr to w t far := by
  have hM : W * N < ((W * N).toNat + 1 : Nat) := by
    have := Int.mul_nonneg hN.2.2.2 (Int.natCast_nonneg N)
    omega
  have H : ∀ (m : Nat) (far : Nat → Option Int), bf_pot ((W * N).toNat + 1) far N = m → Bf N A fr to w W t far → ∃ far, Bf N A fr to w W t far ∧ Sol A fr to w t far := by
    intro m
    induction m using Nat.strongRecOn with
    | _ m ih =>
      intro far hm h
      obtain ⟨i1, i2, i3⟩ := Bf.pss hN hM h A (Nat.le_refl _)
      cases e : (bf_pss fr to w far A).2 with
      | true => exact ih _ (by have := i2 e; omega) _ rfl i1
      | false => exact ⟨far, h, h.sol (i3 e).2⟩
  exact H _ _ rfl (Bf.ini hN)
noncomputable def dst (A : Nat) (fr to : Nat → Nat) (w : Nat → Option Int) (t : Nat) : Nat → Option Int :=
  @dite _ (∃ far, Sol A fr to w t far) (Classical.propDecidable _) (fun h => h.choose) (fun _ _ => none)
theorem dst_eq {A : Nat} {fr to : Nat → Nat} {w : Nat → Option Int} {t : Nat} {far : Nat → Option Int} (hw : ∀ a x, w a = some x → 0 < x) (h : Sol A fr to w t far) : dst A fr to w t = far := by
  have hh : ∃ far, Sol A fr to w t far := ⟨far, h⟩
  unfold dst
  rw [dif_pos hh]
  exact funext fun n => Sol.uniq hw hh.choose_spec h n
theorem dst_sol {N A : Nat} {fr to : Nat → Nat} {w : Nat → Option Int} {W : Int} {t : Nat} (hN : BfN N A fr to w W t) : Sol A fr to w t (dst A fr to w t) ∧ Bf N A fr to w W t (dst A fr to w t) := by
  obtain ⟨far, hB, hS⟩ := Bf.any hN
  rw [dst_eq (fun a x h => (hN.2.1 a x h).1) hS]
  exact ⟨hS, hB⟩
