/-! Plain law: the component keeps its state ahead of an action -/
section
variable {w w' : WH} {x s q F n : Nat} {ρ : Nat → Nat} {ν : NH} {σ : SG} {η : RH} {B : Nat × Nat → Bool}
theorem nd_ins {a z : Nat} {A R : List Nat} (h : (a :: (A ++ R)).Nodup) (hz : z ∉ a :: (A ++ R)) : (a :: (A ++ [z] ++ R)).Nodup := by
  have p : (z :: (a :: (A ++ R))).Nodup := List.nodup_cons.mpr ⟨hz, h⟩
  refine (List.Perm.nodup_iff ?_).mpr p
  refine List.Perm.trans (List.Perm.cons a ?_) (List.Perm.swap z a (A ++ R))
  rw [List.append_assoc]
  exact List.perm_middle
theorem StC.qlt {m : Nat} (h : StC w s q m ρ) (hW : WF w) : q < wN w := by
  obtain ⟨f, e, -⟩ := h.2.1
  exact hW.lt e
theorem PsK.mem {ss : List (Nat × Nat)} {hs : List (Nat → Nat)} (h : PsK w ν ss hs) {z : Nat × Nat} (hz : z ∈ ss) : ∃ ρ', StK w z ν ρ' := by
  obtain ⟨j, hj, e⟩ := List.getElem_of_mem hz
  have h1 := h.2 j hj
  have h2 : ss.getD j (0, 0) = z := by
    rw [← e]
    simp [hj]
  rw [h2] at h1
  exact ⟨_, h1⟩
theorem SnK.mem {o : Option ((Nat × Nat) × NH)} {r : Option (Nat → Nat)} (h : SnK w o r) {z : Nat} (hz : z ∈ snQ o) : ∃ s' ν' ρ', StK w (s', z) ν' ρ' := by
  cases o with
  | none => cases hz
  | some h' =>
    cases r with
    | none => exact h.elim
    | some ρ' =>
      have : z = h'.1.2 := by
        unfold snQ at hz
        exact List.mem_singleton.mp hz
      subst this
      exact ⟨h'.1.1, h'.2, ρ', h⟩
theorem RcP.qs (h : RcP w x σ F s q ν η) {z : Nat} (hz : z ∈ hQs q η) : ∃ s' ν' ρ', StK w (s', z) ν' ρ' := by
  unfold hQs at hz
  rcases List.mem_cons.mp hz with rfl | hz
  · exact ⟨s, ν, σ.1, h.1.2.1, h.1.2.2.1, h.1.2.2.2.1⟩
  · rcases List.mem_append.mp hz with hz | hz
    · obtain ⟨y, h1, rfl⟩ := List.mem_map.mp hz
      obtain ⟨ρ', h2⟩ := h.2.2.2.2.1.mem h1
      exact ⟨y.1, ν, ρ', h2⟩
    · rcases List.mem_append.mp hz with hz | hz
      · exact h.2.2.2.2.2.2.1.1.mem hz
      · exact h.2.2.2.2.2.2.1.2.mem hz
theorem RcP.qlt (h : RcP w x σ F s q ν η) {z : Nat} (hz : z ∈ hQs q η) : z < wN w := by
  obtain ⟨s', ν', ρ', h1⟩ := h.qs hz
  exact h1.1.qlt h.2.1
theorem RcP.gP (h : RcP w x σ F s q ν η) : gR w x 17 2 = some (some (hP η)) := c_R h.2.2.1 2
theorem RcP.Pi (h : RcP w x σ F s q ν η) : hIs w (hP η) 1 = some () := c_C h.2.2.2.1.1
theorem RcP.lss (h : RcP w x σ F s q ν η) : (hSs η).length = σ.2.1.length := h.2.2.2.2.1.1
theorem c_act23 (h : RcP w x σ F s q ν η) (hl : σ.2.1.length < 12) (hC : 5 ≤ wC w) (hS : 39 ≤ wS w) : ∃ w' η', fX1_act_b23 x w = some w' ∧ RcP w' x (σ.1, σ.2.1 ++ [σ.1], σ.2.2) F s q ν η' ∧ hL η' = hL η ∧ wC w ≤ wC w' + 5 ∧ wS w ≤ wS w' + 39 := by
  have hlx := h.2.1.lt h.2.2.1
  obtain ⟨w1, e1, K1, S1, N1⟩ := c_cpS h.1.1 h.2.1 h.1.2.1 h.1.2.2.2.1 hC hS
  have h1 := h.kg K1
  have n1 : hNw w 5 21 [.null, .null, .null, .null, .int 0] = some (wN w, hMk w 5 (.inr (21, [.null, .null, .null, .null, .int 0]))) := c_new (by omega) (by omega)
  have r1 : gR (hMk w 5 (.inr (21, [.null, .null, .null, .null, .int 0]))) x 17 0 = some (some s) := c_R ((hMk_ne _ _ _ (by omega)).trans h.2.2.1) 0
  have a1 : aok w1 (wN w) = some () := by
    unfold aok hCl
    rw [S1.1]
    rfl
  obtain ⟨w2, e2, D2, K2⟩ := c_dqAdd h1.2.2.2.1 (by rw [List.length_map, h.lss]; exact hl) a1
  have em : List.map Prod.fst (hSs η) ++ [wN w] = List.map Prod.fst (hSs η ++ [(wN w, wN w + 1)]) := by rw [List.map_append]; rfl
  rw [em] at D2
  have hp : PsK w1 ν (hSs η ++ [(wN w, wN w + 1)]) (σ.2.1 ++ [σ.1]) := by
    refine ⟨by rw [List.length_append, List.length_append, h.lss]; rfl, fun j hj => ?_⟩
    rw [getD_snoc, getD_snoc, h.lss]
    rw [List.length_append, List.length_singleton, h.lss] at hj
    by_cases c : j < σ.2.1.length
    · rw [if_pos c, if_pos c]
      exact h1.2.2.2.2.1.2 j (by rw [h.lss]; exact c)
    · have : j = σ.2.1.length := by omega
      rw [if_neg c, if_neg c, if_pos this, if_pos this]
      exact ⟨S1, h1.1.2.2.1, h1.1.2.2.2.1⟩
  have hn : (q :: ((hSs η ++ [(wN w, wN w + 1)]).map Prod.snd ++ (snQ (hO0 η) ++ snQ (hO1 η)))).Nodup := by
    rw [List.map_append]
    exact nd_ins h.2.2.2.2.2.2.2.2.2.1 (fun hz => by
      have := h.qlt hz
      omega)
  have hol := h.2.2.2.2.2.2.2.2.2.2.1
  have hlo : hL η < wN w := by
    obtain ⟨⟨g, o1⟩, -⟩ := hol
    exact h.2.1.lt o1
  obtain ⟨h2, c1, c2, -⟩ := h1.dq K2 D2 hp hn (fun z hz => by
    rw [List.map_append] at hz
    rcases List.mem_append.mp hz with hz | hz
    · exact hol.2 z (List.mem_cons_of_mem _ (List.mem_append_left _ hz))
    · have : z = wN w + 1 := List.mem_singleton.mp hz
      omega)
  refine ⟨w2, _, ?_, h2, rfl, ?_, ?_⟩
  · have z0 : (0 : Int32) = zN 0 := rfl
    rw [z0] at n1 r1 e1
    simp (disch := omega) only [b2_some, bd_some, nm_eq, Option.map_some, zN_lit, zN_add, zN_mul, zN_neg1, if_true, if_false, reduceIte, eq_self, Nat.reduceEqDiff, Nat.reduceAdd, Nat.reduceMul, Nat.reduceSub, Nat.reduceLeDiff, Nat.one_ne_zero, not_false_eq_true, Bool.false_eq_true, zN_eq, zN_lt, zN_le,  fX1_act_b23, h.gP, n1, r1, e1, h1.Pi, e2]
  · have := K1.2.2.2.2.2.1; omega
  · have := K1.2.2.2.2.2.2; omega
theorem c_act (h : RcP w x σ F s q ν η) (hC : 5 ≤ wC w) (hS : 39 ≤ wS w) : ∃ w' η', fX1_act x w = some w' ∧ RcP w' x (kee σ) F s q ν η' ∧ hL η' = hL η ∧ wC w ≤ wC w' + 5 ∧ wS w ≤ wS w' + 39 := by
  have e1 := c_dqSize h.2.2.2.1
  rw [List.length_map, h.lss] at e1
  have h12 := h.2.2.2.1.2.2.1
  rw [List.length_map, h.lss] at h12
  unfold kee
  by_cases c : σ.2.1.length = 12
  · rw [if_pos c]
    obtain ⟨y, ys, ey⟩ : ∃ y ys, hSs η = y :: ys := by
      cases e : hSs η with
      | nil => have := h.lss; rw [e] at this; simp at this; omega
      | cons y ys => exact ⟨y, ys, rfl⟩
    have hD := h.2.2.2.1
    rw [ey, List.map_cons] at hD
    obtain ⟨w1, e2, D1, K1⟩ := c_dqRF hD
    have hps := h.2.2.2.2.1
    have hl := h.lss
    rw [ey] at hps hl
    have hp : PsK w ν ys σ.2.1.tail := by
      refine ⟨by rw [List.length_tail, ← hl]; rfl, fun j hj => ?_⟩
      rw [getD_tail]
      have := hps.2 (j + 1) (by rw [List.length_cons]; omega)
      exact this
    have hnd := h.2.2.2.2.2.2.2.2.2.1
    have hol := h.2.2.2.2.2.2.2.2.2.2.1
    unfold hQs at hnd
    rw [ey, List.map_cons] at hnd
    have hn : (q :: (ys.map Prod.snd ++ (snQ (hO0 η) ++ snQ (hO1 η)))).Nodup := by
      refine List.Nodup.sublist ?_ hnd
      exact List.Sublist.cons_cons q (List.sublist_cons_self _ _)
    obtain ⟨h1, c1, c2, c3⟩ := h.dq K1 D1 hp hn (fun z hz => hol.2 z (by
      unfold hQs
      rw [ey, List.map_cons]
      exact List.mem_cons_of_mem _ (List.mem_append_left _ (List.mem_cons_of_mem _ hz))))
    obtain ⟨w2, η', e3, h2, d0, d1, d2⟩ := c_act23 h1 (by rw [List.length_tail]; omega) (by omega) (by omega)
    have y1 := hps.2 0 (by rw [List.length_cons]; omega)
    have y2 : hIs w1 y.1 21 = some () := by
      have kp : KpK (fun k => k == (101, 0) || k == (4, 13)) w w1 := K1.kp (fun a c' qa hc => by
        have c1 := h.2.2.2.1.1
        obtain ⟨g, c2, -⟩ := h.2.2.2.1.2.2.2
        rcases qa with rfl | rfl
        · rw [c1] at hc; cases hc; rfl
        · rw [c2] at hc; cases hc; rfl)
      exact c_C (kp _ _ y1.1.1 rfl rfl)
    refine ⟨w2, η', ?_, h2, d0, by omega, by omega⟩
    simp (disch := omega) only [b2_some, bd_some, nm_eq, Option.map_some, zN_lit, zN_add, zN_mul, zN_neg1, if_true, if_false, reduceIte, eq_self, Nat.reduceEqDiff, Nat.reduceAdd, Nat.reduceMul, Nat.reduceSub, Nat.reduceLeDiff, Nat.one_ne_zero, not_false_eq_true, Bool.false_eq_true, zN_eq, zN_lt, zN_le,  fX1_act, h.gP, h.Pi, e1, c, e2, y2, e3]
  · rw [if_neg c]
    obtain ⟨w2, η', e3, h2, d0, d1, d2⟩ := c_act23 h (by omega) hC hS
    refine ⟨w2, η', ?_, h2, d0, d1, d2⟩
    simp (disch := omega) only [b2_some, bd_some, nm_eq, Option.map_some, zN_lit, zN_add, zN_mul, zN_neg1, if_true, if_false, reduceIte, eq_self, Nat.reduceEqDiff, Nat.reduceAdd, Nat.reduceMul, Nat.reduceSub, Nat.reduceLeDiff, Nat.one_ne_zero, not_false_eq_true, Bool.false_eq_true, zN_eq, zN_lt, zN_le,  fX1_act, h.gP, h.Pi, e1, c, e3]
end
/-- the component's state, whatever its handles; what an operation uses up -/
def RC (w : WH) (x o : Nat) (σ : SG) : Prop := ∃ F s q ν η, RcP w x σ F s q ν η ∧ hL η = o
def Don (w w' : WH) (x o : Nat) (σ : SG) (c n : Nat) : Prop := RC w' x o σ ∧ wC w ≤ wC w' + c ∧ wS w ≤ wS w' + n
