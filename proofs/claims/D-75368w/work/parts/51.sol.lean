/-! Plain law: distances as the one solution of the shortest-path equations -/
def Sol (A : Nat) (fr to : Nat → Nat) (w : Nat → Option Int) (t : Nat) (far : Nat → Option Int) : Prop :=
  far t = some 0 ∧ (∀ a, a < A → ∀ x y, w a = some x → far (to a) = some y → ∃ z, far (fr a) = some z ∧ z ≤ y + x) ∧
  (∀ n, n ≠ t → ∀ z, far n = some z → ∃ a, a < A ∧ fr a = n ∧ ∃ x y, w a = some x ∧ far (to a) = some y ∧ z = y + x) ∧ (∀ n z, far n = some z → 0 ≤ z)
theorem Sol.le {A : Nat} {fr to : Nat → Nat} {w : Nat → Option Int} {t : Nat} {far far' : Nat → Option Int} (hw : ∀ a x, w a = some x → 0 < x) (h : Sol A fr to w t far) (h' : Sol A fr to w t far') :
    ∀ (k : Nat) n z, z.toNat = k → far n = some z → ∃ z', far' n = some z' ∧ z' ≤ z := by
  intro k
  induction k using Nat.strongRecOn with
  | _ k ih =>
    intro n z hk hn
    by_cases e : n = t
    · subst e
      exact ⟨0, h'.1, h.2.2.2 n z hn⟩
    · obtain ⟨a, ha, rfl, x, y, hx, hy, rfl⟩ := h.2.2.1 n e z hn
      have h0 := hw a x hx
      have h1 := h.2.2.2 _ y hy
      obtain ⟨y', hy', hle⟩ := ih y.toNat (by omega) (to a) y rfl hy
      obtain ⟨z', hz', hz⟩ := h'.2.1 a ha x y' hx hy'
      exact ⟨z', hz', by omega⟩
theorem Sol.uniq {A : Nat} {fr to : Nat → Nat} {w : Nat → Option Int} {t : Nat} {far far' : Nat → Option Int} (hw : ∀ a x, w a = some x → 0 < x) (h : Sol A fr to w t far) (h' : Sol A fr to w t far') (n : Nat) : far n = far' n := by
  cases e : far n with
  | none =>
    cases e' : far' n with
    | none => rfl
    | some z' =>
      obtain ⟨z, hz, -⟩ := Sol.le hw h' h _ n z' rfl e'
      rw [e] at hz
      cases hz
  | some z =>
    obtain ⟨z', hz', h1⟩ := Sol.le hw h h' _ n z rfl e
    obtain ⟨z2, hz2, h2⟩ := Sol.le hw h' h _ n z' rfl hz'
    rw [e] at hz2
    cases hz2
    rw [hz', show z' = z by omega]
/-- triples (felt, toll, arcs) along chosen arcs, by fuel -/
def trf (t : Nat) (to nx : Nat → Nat) (fe tl : Nat → Int) : Nat → Nat → Int × Int × Int
  | 0, _ => (0, 0, 0)
  | k + 1, n => if n = t then (0, 0, 0) else ((trf t to nx fe tl k (to (nx n))).1 + fe (nx n), (trf t to nx fe tl k (to (nx n))).2.1 + tl (nx n), (trf t to nx fe tl k (to (nx n))).2.2 + 1)
theorem Sol.nx {A : Nat} {fr to : Nat → Nat} {w : Nat → Option Int} {t : Nat} {far : Nat → Option Int} (h : Sol A fr to w t far) :
    ∃ nx : Nat → Nat, ∀ n, n ≠ t → ∀ z, far n = some z → nx n < A ∧ fr (nx n) = n ∧ ∃ x y, w (nx n) = some x ∧ far (to (nx n)) = some y ∧ z = y + x := by
  have H : ∀ n, ∃ a, n ≠ t → ∀ z, far n = some z → a < A ∧ fr a = n ∧ ∃ x y, w a = some x ∧ far (to a) = some y ∧ z = y + x := by
    intro n
    by_cases hn : n = t
    · exact ⟨0, fun h => absurd hn h⟩
    · cases e : far n with
      | none => exact ⟨0, fun _ z hz => nomatch hz⟩
      | some z =>
        obtain ⟨a, h1, h2, x, y, h3, h4, h5⟩ := h.2.2.1 n hn z e
        exact ⟨a, fun _ z' hz' => by cases hz'; exact ⟨h1, h2, x, y, h3, h4, h5⟩⟩
  exact ⟨fun n => (H n).choose, fun n => (H n).choose_spec⟩
theorem trf_stable {A : Nat} {fr to nx : Nat → Nat} {w : Nat → Option Int} {t : Nat} {far : Nat → Option Int} {fe tl : Nat → Int} (hw : ∀ a x, w a = some x → 0 < x) (h : Sol A fr to w t far)
    (hn : ∀ n, n ≠ t → ∀ z, far n = some z → nx n < A ∧ fr (nx n) = n ∧ ∃ x y, w (nx n) = some x ∧ far (to (nx n)) = some y ∧ z = y + x) :
    ∀ (k k' n : Nat) (z : Int), far n = some z → z.toNat < k → z.toNat < k' → trf t to nx fe tl k n = trf t to nx fe tl k' n := by
  intro k
  induction k with
  | zero => intro k' n z _ h1; omega
  | succ k ih =>
    intro k' n z hz h1 h2
    cases k' with
    | zero => omega
    | succ k' =>
      unfold trf
      by_cases e : n = t
      · rw [if_pos e, if_pos e]
      · rw [if_neg e, if_neg e]
        obtain ⟨-, -, x, y, hx, hy, hxy⟩ := hn n e z hz
        have h0 := hw _ _ hx
        have h3 := h.2.2.2 _ _ hy
        rw [ih k' (to (nx n)) y hy (by omega) (by omega)]
theorem trf_code {A : Nat} {fr to nx : Nat → Nat} {w : Nat → Option Int} {t : Nat} {far : Nat → Option Int} {fe tl : Nat → Int} {K M : Int} (hu : ∀ a x, w a = some x → x = K * fe a + M * tl a + 1) (hw : ∀ a x, w a = some x → 0 < x) (h : Sol A fr to w t far)
    (hn : ∀ n, n ≠ t → ∀ z, far n = some z → nx n < A ∧ fr (nx n) = n ∧ ∃ x y, w (nx n) = some x ∧ far (to (nx n)) = some y ∧ z = y + x) :
    ∀ (k n : Nat) (z : Int), far n = some z → z.toNat < k → z = K * (trf t to nx fe tl k n).1 + M * (trf t to nx fe tl k n).2.1 + (trf t to nx fe tl k n).2.2 := by
  intro k
  induction k with
  | zero => intro n z _ h1; omega
  | succ k ih =>
    intro n z hz h1
    unfold trf
    by_cases e : n = t
    · rw [if_pos e]
      subst e
      rw [h.1] at hz
      cases hz
      simp
    · rw [if_neg e]
      obtain ⟨-, -, x, y, hx, hy, hxy⟩ := hn n e z hz
      have h0 := hw _ _ hx
      have h3 := h.2.2.2 _ _ hy
      have h4 := ih (to (nx n)) y hy (by omega)
      have h5 := hu _ _ hx
      simp only [Int.mul_add]
      omega
/-- nodes below a number -/
def cntB (N : Nat) (far : Nat → Option Int) (z : Int) : Nat := ((List.range N).filter (fun m => match far m with | some y => decide (y < z) | none => false)).length
theorem filt_lt {l : List Nat} {p q : Nat → Bool} (hpq : ∀ m, p m = true → q m = true) {m0 : Nat} (hm : m0 ∈ l) (hq : q m0 = true) (hp : p m0 = false) : (l.filter p).length + 1 ≤ (l.filter q).length := by
  have hle : ∀ l : List Nat, (l.filter p).length ≤ (l.filter q).length := by
    intro l
    induction l with
    | nil => exact Nat.le_refl _
    | cons a l ih =>
      cases e : p a with
      | true => rw [List.filter_cons_of_pos e, List.filter_cons_of_pos (hpq a e)]; exact Nat.succ_le_succ ih
      | false =>
        rw [List.filter_cons_of_neg (by simp [e])]
        cases e2 : q a with
        | true => rw [List.filter_cons_of_pos e2]; exact Nat.le_succ_of_le ih
        | false => rw [List.filter_cons_of_neg (by simp [e2])]; exact ih
  induction l with
  | nil => cases hm
  | cons a l ih =>
    rcases List.mem_cons.mp hm with rfl | h
    · rw [List.filter_cons_of_neg (by simp [hp]), List.filter_cons_of_pos hq]
      exact Nat.succ_le_succ (hle l)
    · cases e : p a with
      | true => rw [List.filter_cons_of_pos e, List.filter_cons_of_pos (hpq a e)]; exact Nat.succ_le_succ (ih h)
      | false =>
        rw [List.filter_cons_of_neg (by simp [e])]
        cases e2 : q a with
        | true => rw [List.filter_cons_of_pos e2]; exact Nat.le_succ_of_le (ih h)
        | false => rw [List.filter_cons_of_neg (by simp [e2])]; exact ih h
theorem cntB_step {N : Nat} {far : Nat → Option Int} {y z : Int} {m : Nat} (hm : m < N) (hy : far m = some y) (h : y < z) : cntB N far y + 1 ≤ cntB N far z := by
  unfold cntB
  refine filt_lt (m0 := m) (fun k hk => ?_) (List.mem_range.mpr hm) (by simp [hy, h]) (by simp [hy])
  cases e : far k with
  | none => rw [e] at hk; cases hk
  | some x =>
    rw [e] at hk
    simp only [decide_eq_true_eq] at hk ⊢
    omega
theorem cntB_top {N : Nat} {far : Nat → Option Int} {z : Int} {m : Nat} (hm : m < N) (hz : far m = some z) : cntB N far z + 1 ≤ N := by
  have h := filt_lt (p := fun m => match far m with | some y => decide (y < z) | none => false) (q := fun _ => true) (fun _ _ => rfl) (List.mem_range.mpr hm) rfl (by simp [hz])
  have e : ((List.range N).filter (fun _ => true)).length = N := by rw [List.filter_eq_self.mpr (fun _ _ => rfl), List.length_range]
  rw [e] at h
  exact h
theorem trf_cnt {A N : Nat} {fr to nx : Nat → Nat} {w : Nat → Option Int} {t : Nat} {far : Nat → Option Int} {fe tl : Nat → Int} (hto : ∀ a, a < A → to a < N) (hw : ∀ a x, w a = some x → 0 < x) (h : Sol A fr to w t far)
    (hn : ∀ n, n ≠ t → ∀ z, far n = some z → nx n < A ∧ fr (nx n) = n ∧ ∃ x y, w (nx n) = some x ∧ far (to (nx n)) = some y ∧ z = y + x) :
    ∀ (k n : Nat) (z : Int), far n = some z → z.toNat < k → 0 ≤ (trf t to nx fe tl k n).2.2 ∧ (trf t to nx fe tl k n).2.2 ≤ cntB N far z := by
  intro k
  induction k with
  | zero => intro n z _ h1; omega
  | succ k ih =>
    intro n z hz h1
    unfold trf
    by_cases e : n = t
    · rw [if_pos e]
      exact ⟨Int.le_refl _, Int.natCast_nonneg _⟩
    · rw [if_neg e]
      obtain ⟨ha, -, x, y, hx, hy, hxy⟩ := hn n e z hz
      have h0 := hw _ _ hx
      have h3 := h.2.2.2 _ _ hy
      have h4 := ih (to (nx n)) y hy (by omega)
      have h5 := cntB_step (z := z) (hto _ ha) hy (by omega)
      dsimp only
      omega
theorem trf_tl {A : Nat} {fr to nx : Nat → Nat} {w : Nat → Option Int} {t : Nat} {far : Nat → Option Int} {fe tl : Nat → Int} {D : Int} (hD : ∀ a, a < A → 0 ≤ tl a ∧ tl a ≤ D) (hw : ∀ a x, w a = some x → 0 < x) (h : Sol A fr to w t far)
    (hn : ∀ n, n ≠ t → ∀ z, far n = some z → nx n < A ∧ fr (nx n) = n ∧ ∃ x y, w (nx n) = some x ∧ far (to (nx n)) = some y ∧ z = y + x) :
    ∀ (k n : Nat) (z : Int), far n = some z → z.toNat < k → 0 ≤ (trf t to nx fe tl k n).2.1 ∧ (trf t to nx fe tl k n).2.1 ≤ D * (trf t to nx fe tl k n).2.2 := by
  intro k
  induction k with
  | zero => intro n z _ h1; omega
  | succ k ih =>
    intro n z hz h1
    unfold trf
    by_cases e : n = t
    · rw [if_pos e]
      simp
    · rw [if_neg e]
      obtain ⟨ha, -, x, y, hx, hy, hxy⟩ := hn n e z hz
      have h0 := hw _ _ hx
      have h3 := h.2.2.2 _ _ hy
      have h4 := ih (to (nx n)) y hy (by omega)
      have h5 := hD _ ha
      simp only [Int.mul_add, Int.mul_one]
      omega
theorem trf_pos {A : Nat} {fr to nx : Nat → Nat} {w : Nat → Option Int} {t : Nat} {far : Nat → Option Int} {u : Nat → Prop} {fe tl : Nat → Int} {K M : Int} (hw : ∀ a x, w a = some x → 0 < x ∧ u a) (h2 : ∀ a, u a → 0 < K * fe a + M * tl a + 1) (h : Sol A fr to w t far)
    (hn : ∀ n, n ≠ t → ∀ z, far n = some z → nx n < A ∧ fr (nx n) = n ∧ ∃ x y, w (nx n) = some x ∧ far (to (nx n)) = some y ∧ z = y + x) :
    ∀ (k n : Nat) (z : Int), far n = some z → z.toNat < k → 0 ≤ K * (trf t to nx fe tl k n).1 + M * (trf t to nx fe tl k n).2.1 + (trf t to nx fe tl k n).2.2 := by
  intro k
  induction k with
  | zero => intro n z _ h1; omega
  | succ k ih =>
    intro n z hz h1
    unfold trf
    by_cases e : n = t
    · rw [if_pos e]
      simp
    · rw [if_neg e]
      obtain ⟨ha, -, x, y, hx, hy, hxy⟩ := hn n e z hz
      have h0 := (hw _ _ hx).1
      have h3 := h.2.2.2 _ _ hy
      have h4 := ih (to (nx n)) y hy (by omega)
      have h5 := h2 _ (hw _ _ hx).2
      simp only [Int.mul_add]
      omega
theorem Sol.code {A N : Nat} {fr to nx : Nat → Nat} {w1 w2 : Nat → Option Int} {t : Nat} {far : Nat → Option Int} {u : Nat → Prop} {fe tl : Nat → Int} {K1 M1 K2 M2 D : Int}
    (hu1 : ∀ a x, w1 a = some x ↔ u a ∧ x = K1 * fe a + M1 * tl a + 1) (hu2 : ∀ a x, w2 a = some x ↔ u a ∧ x = K2 * fe a + M2 * tl a + 1) (hp1 : ∀ a, u a → 0 < K1 * fe a + M1 * tl a + 1) (hp2 : ∀ a, u a → 0 < K2 * fe a + M2 * tl a + 1)
    (hD : ∀ a, a < A → 0 ≤ tl a ∧ tl a ≤ D) (hfr : ∀ a, a < A → fr a < N) (hto : ∀ a, a < A → to a < N) (hD0 : 0 ≤ D)
    (hlex : ∀ F T C F' T' C' : Int, 0 ≤ T → T ≤ D * N → 0 ≤ C → C ≤ N → 0 ≤ T' → T' ≤ D * N → 0 ≤ C' → C' ≤ N → K1 * F + M1 * T + C ≤ K1 * F' + M1 * T' + C' → K2 * F + M2 * T + C ≤ K2 * F' + M2 * T' + C') (h : Sol A fr to w1 t far)
    (hn : ∀ n, n ≠ t → ∀ z, far n = some z → nx n < A ∧ fr (nx n) = n ∧ ∃ x y, w1 (nx n) = some x ∧ far (to (nx n)) = some y ∧ z = y + x) :
    Sol A fr to w2 t (fun n => (far n).map fun z => K2 * (trf t to nx fe tl (z.toNat + 1) n).1 + M2 * (trf t to nx fe tl (z.toNat + 1) n).2.1 + (trf t to nx fe tl (z.toNat + 1) n).2.2) := by
  have hw1 : ∀ a x, w1 a = some x → 0 < x := fun a x q => by rw [((hu1 a x).mp q).2]; exact hp1 a ((hu1 a x).mp q).1
  have hq : ∀ a x, w1 a = some x → 0 < x ∧ u a := fun a x q => ⟨hw1 a x q, ((hu1 a x).mp q).1⟩
  refine ⟨?_, ?_, ?_, ?_⟩
  · dsimp only
    rw [h.1]
    simp [trf]
  · intro a ha x y hx hy
    obtain ⟨ua, ex⟩ := (hu2 a x).mp hx
    dsimp only at hy ⊢
    cases e : far (to a) with
    | none => rw [e] at hy; cases hy
    | some y1 =>
      rw [e] at hy
      obtain ⟨z1, hz1, hle⟩ := h.2.1 a ha _ y1 ((hu1 a _).mpr ⟨ua, rfl⟩) e
      rw [hz1]
      refine ⟨_, rfl, ?_⟩
      have hy := Option.some.inj hy
      dsimp only at hy ⊢
      have c1 := trf_code (fun a x q => ((hu1 a x).mp q).2) hw1 h hn (z1.toNat + 1) (fr a) z1 hz1 (Nat.lt_succ_self _)
      have c2 := trf_code (fun a x q => ((hu1 a x).mp q).2) hw1 h hn (y1.toNat + 1) (to a) y1 e (Nat.lt_succ_self _)
      have t1 := trf_tl (fe := fe) hD hw1 h hn (z1.toNat + 1) (fr a) z1 hz1 (Nat.lt_succ_self _)
      have t2 := trf_tl (fe := fe) hD hw1 h hn (y1.toNat + 1) (to a) y1 e (Nat.lt_succ_self _)
      have n1 := trf_cnt (fe := fe) (tl := tl) hto hw1 h hn (z1.toNat + 1) (fr a) z1 hz1 (Nat.lt_succ_self _)
      have n2 := trf_cnt (fe := fe) (tl := tl) hto hw1 h hn (y1.toNat + 1) (to a) y1 e (Nat.lt_succ_self _)
      have b1 := cntB_top (hfr a ha) hz1
      have b2 := cntB_top (hto a ha) e
      have d := hD a ha
      generalize trf t to nx fe tl (z1.toNat + 1) (fr a) = p at c1 t1 n1 ⊢
      generalize trf t to nx fe tl (y1.toNat + 1) (to a) = q at c2 t2 n2 hy
      have m1 : D * p.2.2 ≤ D * N := Int.mul_le_mul_of_nonneg_left (by omega) hD0
      have m2 : D * (q.2.2 + 1) ≤ D * N := Int.mul_le_mul_of_nonneg_left (by omega) hD0
      rw [Int.mul_add, Int.mul_one] at m2
      have := hlex p.1 p.2.1 p.2.2 (q.1 + fe a) (q.2.1 + tl a) (q.2.2 + 1) (by omega) (by omega) (by omega) (by omega) (by omega) (by omega) (by omega) (by omega) (by simp only [Int.mul_add]; omega)
      simp only [Int.mul_add] at this
      omega
  · intro n hnt z hz
    dsimp only at hz ⊢
    cases e : far n with
    | none => rw [e] at hz; cases hz
    | some z1 =>
      rw [e] at hz
      obtain ⟨ha, hf, x, y, hx, hy, hxy⟩ := hn n hnt z1 e
      obtain ⟨ua, ex⟩ := (hu1 _ _).mp hx
      have h0 := hw1 _ _ hx
      have h3 := h.2.2.2 _ _ hy
      refine ⟨nx n, ha, hf, _, _, (hu2 _ _).mpr ⟨ua, rfl⟩, by rw [hy]; rfl, ?_⟩
      have hz := Option.some.inj hz
      rw [← hz]
      dsimp only
      conv => lhs; unfold trf
      rw [if_neg hnt, trf_stable hw1 h hn z1.toNat (y.toNat + 1) _ y hy (by omega) (by omega)]
      simp only [Int.mul_add]
      omega
  · intro n z hz
    dsimp only at hz
    cases e : far n with
    | none => rw [e] at hz; cases hz
    | some z1 =>
      rw [e] at hz
      rw [← Option.some.inj hz]
      exact trf_pos hq hp2 h hn _ n z1 e (Nat.lt_succ_self _)
