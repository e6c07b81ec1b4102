/-! Plain law: the component improves; snapshots -/
section
variable {w w' : WH} {x s q F n o a b v t : Nat} {ρ ρ' : Nat → Nat} {ν : NH} {σ : SG} {η : RH}
theorem c_imprR (h : RcP w x σ F s q ν η) (hC : 25 ≤ wC w) (hS : 100 ≤ wS w) : ∃ w', fX1_improved x w = some (zN (imp σ.1 (σ.1 1)).2, w') ∧ RcP w' x ((imp σ.1 (σ.1 1)).1, σ.2) F s q ν η ∧ wC w ≤ wC w' + 25 ∧ wS w ≤ wS w' + 100 := by
  obtain ⟨w', e, M, K⟩ := c_impr h.mr h.2.1 hC hS
  exact ⟨w', e, h.mut K.wq M.1, K.2.2.2.2.2.1, K.2.2.2.2.2.2⟩
theorem c_improve (h : RcP w x σ F s q ν η) (hC : 30 ≤ wC w) (hS : 139 ≤ wS w) : ∃ w', fX1_improve x w = some (zN (imp σ.1 (σ.1 1)).2, w') ∧ Don w w' x (hL η) ((imp σ.1 (σ.1 1)).1, (kee σ).2) 30 139 := by
  obtain ⟨w1, η1, e1, h1, d0, d1, d2⟩ := c_act h (by omega) (by omega)
  obtain ⟨w2, e2, h2, c1, c2⟩ := c_imprR h1 (by omega) (by omega)
  refine ⟨w2, ?_, ⟨F, s, q, ν, η1, h2, d0⟩, by omega, by omega⟩
  have e2' : fX1_improved x w1 = some (zN (imp σ.1 (σ.1 1)).2, w2) := e2
  simp (disch := omega) only [b2_some, bd_some, nm_eq, Option.map_some, zN_lit, zN_add, zN_mul, zN_neg1, if_true, if_false, reduceIte, eq_self, Nat.reduceEqDiff, Nat.reduceAdd, Nat.reduceMul, Nat.reduceSub, Nat.reduceLeDiff, Nat.one_ne_zero, not_false_eq_true, Bool.false_eq_true, zN_eq, zN_lt, zN_le,  fX1_improve, h.mr.xI, e1, h1.mr.xI, e2']
theorem c_optim1 (h : RcP w x σ F s q ν η) (hv : 1 ≤ v ∧ v ≤ 10) (hC : 260 ≤ wC w) (hS : 1040 ≤ wS w) : ∃ w', fX1_optimize x (zN v) w = some (.inl (zN (opt v (v + 1) σ.1 1).2), w') ∧ Don w w' x (hL η) ((opt v (v + 1) σ.1 1).1, (kee σ).2) 260 1040 := by
  obtain ⟨w1, η1, e1, h1, d0, d1, d2⟩ := c_act h (by omega) (by omega)
  have H : ∃ r, fX1_optimize_l18 x (zN v) (zN 1) w1 = some r ∧ ∃ w', r = (.inl (zN (opt v (v + 1) σ.1 1).2), w') ∧ RcP w' x ((opt v (v + 1) σ.1 1).1, (kee σ).2) F s q ν η1 ∧ wC w1 ≤ wC w' + 25 * v ∧ wS w1 ≤ wS w' + 100 * v := by
    refine wh_dn (P := fun k y => ∃ w' ρ' d, y = (zN d, w') ∧ 1 ≤ d ∧ d ≤ v ∧ (k + d = v + 1) ∧ opt v (v + 1) σ.1 1 = opt v (k + 1) ρ' d ∧ RcP w' x (ρ', (kee σ).2) F s q ν η1 ∧ wC w1 ≤ wC w' + 25 * (d - 1) ∧ wS w1 ≤ wS w' + 100 * (d - 1)) ?_ v _ ⟨w1, σ.1, 1, rfl, by omega, by omega, rfl, rfl, h1, by omega, by omega⟩
    rintro k y ⟨w', ρ', d, rfl, hd, hd', hk, ho, hR, c1, c2⟩
    obtain ⟨w2, e2, h2, c3, c4⟩ := c_imprR hR (by omega) (by omega)
    have e2' : fX1_improved x w' = some (zN (imp ρ' (ρ' 1)).2, w2) := e2
    have h2' : RcP w2 x ((imp ρ' (ρ' 1)).1, (kee σ).2) F s q ν η1 := h2
    have hcn : (imp ρ' (ρ' 1)).2 ≤ ρ' 1 := imp_cnt _
    have h24 : ρ' 1 ≤ 24 := hR.1.2.2.2.1.h1
    have xi := hR.mr.xI
    have ho2 : opt v (k + 1) ρ' d = if (imp ρ' (ρ' 1)).2 = 0 ∨ v ≤ d then ((imp ρ' (ρ' 1)).1, d) else opt v k (imp ρ' (ρ' 1)).1 (d + 1) := rfl
    by_cases c : v ≤ d
    · right
      rw [if_pos (.inr c)] at ho2
      rw [ho2] at ho
      have ed : d = v := by omega
      rw [ho]
      refine ⟨_, ?_, w2, rfl, h2', by omega, by omega⟩
      rw [ed]
      simp (disch := omega) only [b2_some, bd_some, nm_eq, Option.map_some, zN_lit, zN_add, zN_mul, zN_neg1, if_true, if_false, reduceIte, eq_self, Nat.reduceEqDiff, Nat.reduceAdd, Nat.reduceMul, Nat.reduceSub, Nat.reduceLeDiff, Nat.one_ne_zero, not_false_eq_true, Bool.false_eq_true, zN_eq, zN_lt, zN_le,  fX1_optimize_b18, Nat.le_refl, fX1_optimize_b38, xi, e2']
    · by_cases c0 : (imp ρ' (ρ' 1)).2 = 0
      · right
        rw [if_pos (.inl c0)] at ho2
        rw [ho2] at ho
        rw [ho]
        rw [c0] at e2'
        refine ⟨_, ?_, w2, rfl, h2', by omega, by omega⟩
        simp (disch := omega) only [b2_some, bd_some, nm_eq, Option.map_some, zN_lit, zN_add, zN_mul, zN_neg1, if_true, if_false, reduceIte, eq_self, Nat.reduceEqDiff, Nat.reduceAdd, Nat.reduceMul, Nat.reduceSub, Nat.reduceLeDiff, Nat.one_ne_zero, not_false_eq_true, Bool.false_eq_true, zN_eq, zN_lt, zN_le,  fX1_optimize_b18, c, xi, e2']
      · left
        rw [if_neg (fun h => by rcases h with h | h; exact c0 h; exact c h)] at ho2
        rw [ho2] at ho
        refine ⟨(zN (d + 1), w2), k - 1, by omega, ?_, w2, _, d + 1, rfl, by omega, by omega, by omega, by rw [show k - 1 + 1 = k by omega]; exact ho, h2', by omega, by omega⟩
        simp (disch := omega) only [b2_some, bd_some, nm_eq, Option.map_some, zN_lit, zN_add, zN_mul, zN_neg1, if_true, if_false, reduceIte, eq_self, Nat.reduceEqDiff, Nat.reduceAdd, Nat.reduceMul, Nat.reduceSub, Nat.reduceLeDiff, Nat.one_ne_zero, not_false_eq_true, Bool.false_eq_true, zN_eq, zN_lt, zN_le,  fX1_optimize_b18, c, xi, e2', c0]
  obtain ⟨r, e2, w2, rfl, h2, c1, c2⟩ := H
  refine ⟨w2, ?_, ⟨F, s, q, ν, η1, h2, d0⟩, by omega, by omega⟩
  have e0 := c_inR (w := w) (a := v) (b := 1) (c := 10) ⟨by omega, by omega⟩ ⟨by omega, by omega⟩ ⟨by omega, by omega⟩
  rw [if_pos (by omega)] at e0
  have z0 : (1 : Int64) = zJ 1 := rfl
  have z1 : (10 : Int64) = zJ 10 := rfl
  simp (disch := omega) only [b2_some, bd_some, nm_eq, Option.map_some, zN_lit, zN_add, zN_mul, zN_neg1, if_true, if_false, reduceIte, eq_self, Nat.reduceEqDiff, Nat.reduceAdd, Nat.reduceMul, Nat.reduceSub, Nat.reduceLeDiff, Nat.one_ne_zero, not_false_eq_true, Bool.false_eq_true, zN_eq, zN_lt, zN_le,  fX1_optimize, zN_J, z0, z1, e0, c_ra1, ex_, h.mr.xI, e1]
  exact e2
theorem nd_0 {q z : Nat} {A B R : List Nat} (h : (q :: (A ++ (B ++ R))).Nodup) (hz : z ∉ q :: (A ++ (B ++ R))) : (q :: (A ++ ([z] ++ R))).Nodup := by
  have sb : List.Sublist (q :: (A ++ R)) (q :: (A ++ (B ++ R))) := List.Sublist.cons_cons q (List.Sublist.append (List.Sublist.refl A) (List.sublist_append_right B R))
  have := nd_ins (h.sublist sb) (fun m => hz (sb.subset m))
  rw [List.append_assoc] at this
  exact this
theorem nd_1 {q z : Nat} {A B R : List Nat} (h : (q :: (A ++ (B ++ R))).Nodup) (hz : z ∉ q :: (A ++ (B ++ R))) : (q :: (A ++ (B ++ [z]))).Nodup := by
  have sb : List.Sublist (q :: (A ++ B ++ [])) (q :: (A ++ (B ++ R))) := by
    rw [List.append_nil]
    exact List.Sublist.cons_cons q (List.Sublist.append (List.Sublist.refl A) (List.sublist_append_left B R))
  have := nd_ins (h.sublist sb) (fun m => hz (sb.subset m))
  rw [List.append_nil, List.append_assoc] at this
  exact this
theorem mem_0 {q z y : Nat} {A B R : List Nat} (h : y ∈ q :: (A ++ ([z] ++ R))) : y ∈ q :: (A ++ (B ++ R)) ∨ y = z := by
  simp only [List.mem_cons, List.mem_append, List.not_mem_nil, or_false] at h ⊢
  rcases h with h | h | h | h
  · exact .inl (.inl h)
  · exact .inl (.inr (.inl h))
  · exact .inr h
  · exact .inl (.inr (.inr (.inr h)))
theorem mem_1 {q z y : Nat} {A B R : List Nat} (h : y ∈ q :: (A ++ (B ++ [z]))) : y ∈ q :: (A ++ (B ++ R)) ∨ y = z := by
  simp only [List.mem_cons, List.mem_append, List.not_mem_nil, or_false] at h ⊢
  rcases h with h | h | h | h
  · exact .inl (.inl h)
  · exact .inl (.inr (.inl h))
  · exact .inl (.inr (.inr (.inl h)))
  · exact .inr h
theorem OlK.ins {l l' : List Nat} {o z : Nat} (h : OlK w o l) (hz : z + 3 ≠ o) (hl : ∀ y ∈ l', y ∈ l ∨ y = z) : OlK w o l' := ⟨h.1, fun y hy => by
  rcases hl y hy with e | e
  · exact h.2 y e
  · rw [e]; exact hz⟩
/-- one snapshot is written -/
def snS (σ : SG) (j : Nat) : SG := if j = 0 then (σ.1, σ.2.1, some σ.1, σ.2.2.2) else (σ.1, σ.2.1, σ.2.2.1, some σ.1, σ.2.2.2.2)
def snE (η : RH) (j : Nat) (o : Option ((Nat × Nat) × NH)) : RH := if j = 0 then (η.1, o, η.2.2) else (η.1, η.2.1, o, η.2.2.2)
theorem RcP.sn (h : RcP w x σ F s q ν η) {j s' z : Nat} (hj : j < 2) (hst : StK w (s', z) ν σ.1) (hz : z ∉ hQs q η) (hzl : z + 3 ≠ hL η) : ∃ w', stR w (hSn η) 5 (zN j) (some s') = some w' ∧ RcP w' x (snS σ j) F s q ν (snE η j (some ((s', z), ν))) ∧ w'.2 = w.2 ∧ hL (snE η j (some ((s', z), ν))) = hL η := by
  obtain ⟨h1, h2, h3, h4, h5, ⟨g, h6, h6a, h6b⟩, h7, h8, h9, h10, h11, h12⟩ := h
  have s1 : stR w (hSn η) 5 (zN j) (some s') = some (hUp w (hSn η) (refA 2 (va_up g j (some s')))) := c_stR h6 hj (by omega) _
  have kp : KpK (fun k => k == (5, 2)) w (hUp w (hSn η) (refA 2 (va_up g j (some s')))) := ((Ko.refl (fun a => a = hSn η) w).up rfl _).kp (fun a c qa hc => by
    rw [qa, h6] at hc; cases hc; rfl)
  have hk : Kg F (fun a => a = hSn η) w (hUp w (hSn η) (refA 2 (va_up g j (some s')))) 0 0 := ((Ko.refl (fun a => a = hSn η) w).up rfl _).fw h1.1 h2 (fun a qa => ⟨refA 2 g, (by rw [qa]; exact h6), rfl⟩)
  have nc : ((2, hCap η) == ((5, 2) : Nat × Nat)) = false := rfl
  have hM : MS (hUp w (hSn η) (refA 2 (va_up g j (some s')))) F s q ν σ.1 := ⟨hk.2.1, h1.2.1.kp kp (by decide), h1.2.2.1.kp kp (by decide), h1.2.2.2.1, h1.2.2.2.2⟩
  have hKN := h12.kg h1.1 hk (fun a qa => by rw [qa, h6]; simp)
  refine ⟨_, s1, ?_, rfl, ?_⟩
  · have c0 : j = 0 ∨ j = 1 := by omega
    rcases c0 with rfl | rfl
    · refine ⟨hM, hk.2.2.1, kp _ _ h3 rfl rfl, h4.kp kp ⟨rfl, rfl⟩, h5.kp kp (by decide), ⟨_, hUp_eq _ _ _, if_pos rfl, (if_neg (by decide)).trans h6b⟩, ⟨hst.kp kp (by decide), h7.2.kp kp (by decide)⟩, h8.kp kp rfl, ⟨h9.1.kp kp ⟨rfl, nc⟩, h9.2⟩, ?_, ?_, hKN⟩
      · exact nd_0 h10 hz
      · exact (OlK.kp kp rfl h11 (fun _ hy => hy)).ins hzl (fun y hy => mem_0 hy)
    · refine ⟨hM, hk.2.2.1, kp _ _ h3 rfl rfl, h4.kp kp ⟨rfl, rfl⟩, h5.kp kp (by decide), ⟨_, hUp_eq _ _ _, (if_neg (by decide)).trans h6a, if_pos rfl⟩, ⟨h7.1.kp kp (by decide), hst.kp kp (by decide)⟩, h8.kp kp rfl, ⟨h9.1.kp kp ⟨rfl, nc⟩, h9.2⟩, ?_, ?_, hKN⟩
      · exact nd_1 h10 hz
      · exact (OlK.kp kp rfl h11 (fun _ hy => hy)).ins hzl (fun y hy => mem_1 hy)
  · unfold snE
    split <;> rfl
theorem c_slot1 (hj : v < 2) : fX1_requireSlot (zN v) w = some (.inl (), w) := by
  have e0 := c_inR (w := w) (a := v) (b := 0) (c := 1) ⟨by omega, by omega⟩ ⟨by omega, by omega⟩ ⟨by omega, by omega⟩
  rw [if_pos (by omega)] at e0
  have z0 : (0 : Int64) = zJ 0 := rfl
  have z1 : (1 : Int64) = zJ 1 := rfl
  simp (disch := omega) only [b2_some, bd_some, nm_eq, Option.map_some, zN_lit, zN_add, zN_mul, zN_neg1, if_true, if_false, reduceIte, eq_self, Nat.reduceEqDiff, Nat.reduceAdd, Nat.reduceMul, Nat.reduceSub, Nat.reduceLeDiff, Nat.one_ne_zero, not_false_eq_true, Bool.false_eq_true, zN_eq, zN_lt, zN_le,  fX1_requireSlot, zN_J, z0, z1, e0, c_ra1, ex_]
theorem c_save1 (h : RcP w x σ F s q ν η) (hj : v < 2) (hC : 5 ≤ wC w) (hS : 39 ≤ wS w) : ∃ w', fX1_saveSnapshot x (zN v) w = some (.inl (zN (σ.1 1)), w') ∧ Don w w' x (hL η) (snS σ v) 5 39 := by
  have hlx := h.2.1.lt h.2.2.1
  obtain ⟨w1, e1, K1, S1, N1⟩ := c_cpS h.1.1 h.2.1 h.1.2.1 h.1.2.2.2.1 hC hS
  have h1 := h.kg K1
  have n1 : hNw w 5 21 [.null, .null, .null, .null, .int 0] = some (wN w, hMk w 5 (.inr (21, [.null, .null, .null, .null, .int 0]))) := c_new (by omega) (by omega)
  have r1 : gR (hMk w 5 (.inr (21, [.null, .null, .null, .null, .int 0]))) x 17 0 = some (some s) := c_R ((hMk_ne _ _ _ (by omega)).trans h.2.2.1) 0
  have hlo : hL η < wN w := by
    obtain ⟨⟨g, o1⟩, -⟩ := h.2.2.2.2.2.2.2.2.2.2.1
    exact h.2.1.lt o1
  obtain ⟨w2, s2, h2, k2, l2⟩ := h1.sn (j := v) (s' := wN w) (z := wN w + 1) hj ⟨S1, h1.1.2.2.1, h1.1.2.2.2.1⟩ (fun m => by have := h.qlt m; omega) (by omega)
  refine ⟨w2, ?_, don_of h2 k2 l2 K1.2.2.2.2.2.1 K1.2.2.2.2.2.2⟩
  have gs : gR w x 17 3 = some (some (hSn η)) := c_R h.2.2.1 3
  have M2 := h2.mr
  have i1 : hIs w1 (wN w) 21 = some () := c_C S1.1
  have z0 : (0 : Int32) = zN 0 := rfl
  rw [z0] at n1 r1 e1
  have sg1 : (snS σ v).1 = σ.1 := by unfold snS; split <;> rfl
  have sz := c_size M2.1.2.2.1
  rw [sg1] at sz
  simp (disch := omega) only [b2_some, bd_some, nm_eq, Option.map_some, zN_lit, zN_add, zN_mul, zN_neg1, if_true, if_false, reduceIte, eq_self, Nat.reduceEqDiff, Nat.reduceAdd, Nat.reduceMul, Nat.reduceSub, Nat.reduceLeDiff, Nat.one_ne_zero, not_false_eq_true, Bool.false_eq_true, zN_eq, zN_lt, zN_le,  fX1_saveSnapshot, c_slot1 hj, ex_, gs, n1, r1, e1, i1, s2, M2.g0, c_snet M2.1.2.1, c_nal M2.1.2.2.1, c_alI M2.1.2.2.1, sz]
/-- a snapshot is taken up again -/
def snR_ (σ : SG) (j : Nat) : SG := match (if j = 0 then σ.2.2.1 else σ.2.2.2.1) with
  | none => σ
  | some ρ => (ρ, [], σ.2.2)
theorem c_rest1 (h : RcP w x σ F s q ν η) (hj : v < 2) (hC : 5 ≤ wC w) (hS : 39 ≤ wS w) : ∃ w', fX1_restoreSnapshot x (zN v) w = some (.inl (zI (match (if v = 0 then σ.2.2.1 else σ.2.2.2.1) with | none => -1 | some ρ => (ρ 1 : Int))), w') ∧ Don w w' x (hL η) (snR_ σ v) 5 39 := by
  have hlx := h.2.1.lt h.2.2.1
  have gs : gR w x 17 3 = some (some (hSn η)) := c_R h.2.2.1 3
  obtain ⟨g, h6, h6a, h6b⟩ := h.2.2.2.2.2.1
  have l1 : ldR w (hSn η) 5 (zN v) = some (g v) := c_ldR h6 hj (by omega)
  obtain ⟨oo, r, eo, er, hsk, hgv⟩ : ∃ oo r, oo = (if v = 0 then hO0 η else hO1 η) ∧ r = (if v = 0 then σ.2.2.1 else σ.2.2.2.1) ∧ SnK w oo r ∧ g v = snR oo := by
    have c0 : v = 0 ∨ v = 1 := by omega
    rcases c0 with rfl | rfl
    · exact ⟨_, _, rfl, rfl, h.2.2.2.2.2.2.1.1, h6a⟩
    · exact ⟨_, _, rfl, rfl, h.2.2.2.2.2.2.1.2, h6b⟩
  unfold snR_
  rw [← er]
  rw [hgv] at l1
  cases oo with
  | none =>
    cases r with
    | some r => exact hsk.elim
    | none =>
      have l1' : ldR w (hSn η) 5 (zN v) = some none := l1
      refine ⟨w, ?_, ⟨F, s, q, ν, η, h, rfl⟩, by omega, by omega⟩
      simp (disch := omega) only [b2_some, bd_some, nm_eq, Option.map_some, zN_lit, zN_add, zN_mul, zN_neg1, if_true, if_false, reduceIte, eq_self, Nat.reduceEqDiff, Nat.reduceAdd, Nat.reduceMul, Nat.reduceSub, Nat.reduceLeDiff, Nat.one_ne_zero, not_false_eq_true, Bool.false_eq_true, zN_eq, zN_lt, zN_le,  fX1_restoreSnapshot, c_slot1 hj, ex_, gs, l1']
  | some y =>
    cases r with
    | none => exact hsk.elim
    | some ρ1 =>
      have hst : StK w y.1 y.2 ρ1 := hsk
      have l1' : ldR w (hSn η) 5 (zN v) = some (some y.1.1) := l1
      obtain ⟨w1, e1, K1, S1, N1⟩ := c_cpS h.1.1 h.2.1 hst.1 hst.2.2 hC hS
      have h1 := h.kg K1
      have kp := K1.kp h.1.1 h.2.1
      have n1 : hNw w 5 21 [.null, .null, .null, .null, .int 0] = some (wN w, hMk w 5 (.inr (21, [.null, .null, .null, .null, .int 0]))) := c_new (by omega) (by omega)
      have gs2 : gR (hMk w 5 (.inr (21, [.null, .null, .null, .null, .int 0]))) x 17 3 = some (some (hSn η)) := c_R ((hMk_ne _ _ _ (by omega)).trans h.2.2.1) 3
      have l2 : ldR (hMk w 5 (.inr (21, [.null, .null, .null, .null, .int 0]))) (hSn η) 5 (zN v) = some (some y.1.1) := by
        have := h.2.1.lt h6
        rw [c_ldR ((hMk_ne _ _ _ (by omega)).trans h6) hj (by omega), hgv]
        rfl
      obtain ⟨np1, np2, np3⟩ := h.nP
      have p1 : hPut w1 x 17 0 (.ref (wN w)) = some (hUp w1 x (rtK (wN w) F η σ)) := c_P h1.2.2.1 (k := 0) (show 0 < 9 by decide) _
      have D1 : DqC (hUp w1 x (rtK (wN w) F η σ)) (hP η) (hE_ η) (hH η) ((hSs η).map Prod.fst) := by
        obtain ⟨b1, b2, b3, g', b4, b5⟩ := h1.2.2.2.1
        exact ⟨by rw [hUp_ne _ _ np1.symm]; exact b1, b2, b3, g', by rw [hUp_ne _ _ np2.symm]; exact b4, b5⟩
      obtain ⟨w3, e3, D3, K3⟩ := c_dqClr D1
      have hlo : hL η < wN w := by
        obtain ⟨⟨g, o1⟩, -⟩ := h.2.2.2.2.2.2.2.2.2.2.1
        exact h.2.1.lt o1
      have K13 : Ko (swQ x (hP η) (hE_ η)) w1 w3 := ((Ko.refl _ w1).up (.inl rfl) _).trans (K3.wk (fun a e => .inr e))
      have x3 : w3.1 x = some (rtK (wN w) F η σ) := K3.keep (hUp_eq _ _ _) (by rintro (e | e); exact np1 e; exact np2 e)
      have hnd := h.2.2.2.2.2.2.2.2.2.1
      have hn : ((wN w + 1) :: (([] : List (Nat × Nat)).map Prod.snd ++ (snQ (hO0 η) ++ snQ (hO1 η)))).Nodup := by
        refine List.nodup_cons.mpr ⟨fun m => ?_, (List.nodup_append.mp (List.nodup_cons.mp hnd).2).2.1⟩
        have := h.qlt (z := wN w + 1) (List.mem_cons_of_mem _ (List.mem_append_right _ m))
        omega
      obtain ⟨h3, k1, k2, -⟩ := h1.sw (hs := []) (ss := []) (s' := wN w) (z := wN w + 1) (ν' := y.2) (ρ' := ρ1) K13 x3 D3 ⟨S1, hst.2.1.kp kp (by decide), hst.2.2⟩ ⟨rfl, fun j hj => absurd hj (Nat.not_lt_zero _)⟩ hn (fun z hz => by
        have e : z = wN w + 1 := List.mem_singleton.mp hz
        omega) h1.2.2.2.2.2.2.2.1
      refine ⟨w3, ?_, ⟨F, wN w, wN w + 1, y.2, _, h3, rfl⟩, by have := K1.2.2.2.2.2.1; omega, by have := K1.2.2.2.2.2.2; omega⟩
      have z0 : (0 : Int32) = zN 0 := rfl
      rw [z0] at n1 gs2 l2 e1
      have gp : gR (hUp w1 x (rtK (wN w) F η σ)) x 17 2 = some (some (hP η)) := c_R (hUp_eq _ _ _) 2
      have ip : hIs (hUp w1 x (rtK (wN w) F η σ)) (hP η) 1 = some () := c_C D1.1
      have M3 := h3.mr
      have n2 : (some y.1.1 = none) = False := eq_false (by simp)
      have sz := c_size M3.1.2.2.1
      have sz' : fJ2_size (nAl y.2) w3 = some (zN (ρ1 1), w3) := sz
      simp (disch := omega) only [b2_some, bd_some, nm_eq, Option.map_some, zN_lit, zN_add, zN_mul, zN_neg1, if_true, if_false, reduceIte, eq_self, Nat.reduceEqDiff, Nat.reduceAdd, Nat.reduceMul, Nat.reduceSub, Nat.reduceLeDiff, Nat.one_ne_zero, not_false_eq_true, Bool.false_eq_true, zN_eq, zN_lt, zN_le,  fX1_restoreSnapshot, c_slot1 hj, ex_, gs, l1', n2, n1, gs2, l2, e1, p1, gp, ip, e3, M3.g0, c_snet M3.1.2.1, c_nal M3.1.2.2.1, c_alI M3.1.2.2.1, sz']
      rfl
end
