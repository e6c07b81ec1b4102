/-! Plain law: constant strings; the word none -/
theorem kn_str {w : WH} (h : KN w) {i : Nat} (hi : i < 5) : hIs w (wK w i) 16 = some () ∧ gR w (wK w i) 16 0 = some (some (wK w (10 + i))) ∧ gI w (wK w i) 16 1 = some (zN 0) ∧ hArr w (wK w (10 + i)) = some (2, (gl_len.getD i 0, .inl (fun j => (gl_byt.getD i []).getD j 0))) := by
  obtain ⟨hn, k0, k1, k2, -⟩ := h
  have m1 : i ∈ kNs := by
    have : i = 0 ∨ i = 1 ∨ i = 2 ∨ i = 3 ∨ i = 4 := by omega
    rcases this with rfl | rfl | rfl | rfl | rfl <;> decide
  have m2 : 10 + i ∈ kNs := by
    have : i = 0 ∨ i = 1 ∨ i = 2 ∨ i = 3 ∨ i = 4 := by omega
    rcases this with rfl | rfl | rfl | rfl | rfl <;> decide
  have n1 := (hn i m1).1
  have n2 := (hn (10 + i) m2).1
  have ix : ∀ K : Nat → Nat, (∀ i j, i < 5 → j < 5 → K i = K j → i = j) → kIx K (K i) = some i := by
    intro K hK
    have ne : ∀ j, j < 5 → i ≠ j → ¬ (K i = K j) := fun j hj hij e => hij (hK i j hi hj e)
    unfold kIx
    have : i = 0 ∨ i = 1 ∨ i = 2 ∨ i = 3 ∨ i = 4 := by omega
    rcases this with rfl | rfl | rfl | rfl | rfl
    · rw [if_pos rfl]
    · rw [if_neg (ne 0 (by omega) (by omega)), if_pos rfl]
    · rw [if_neg (ne 0 (by omega) (by omega)), if_neg (ne 1 (by omega) (by omega)), if_pos rfl]
    · rw [if_neg (ne 0 (by omega) (by omega)), if_neg (ne 1 (by omega) (by omega)), if_neg (ne 2 (by omega) (by omega)), if_pos rfl]
    · rw [if_neg (ne 0 (by omega) (by omega)), if_neg (ne 1 (by omega) (by omega)), if_neg (ne 2 (by omega) (by omega)), if_neg (ne 3 (by omega) (by omega)), if_pos rfl]
  have x1 := ix (wK w) k0
  have x2 := ix (fun i => wK w (10 + i)) k1
  refine ⟨?_, ?_, ?_, ?_⟩
  · unfold hIs hCl
    rw [n1]
    dsimp only
    rw [if_neg (by simp), if_pos ⟨rfl, rfl, by rw [x1]; rfl⟩]
  · unfold gR fld
    rw [n1]
    dsimp only
    unfold roF
    rw [if_pos rfl]
    rw [x1]
    rfl
  · unfold gI fld
    rw [n1]
    dsimp only
    unfold roF
    rw [if_pos rfl]
    rw [x1]
    rfl
  · unfold hArr
    rw [n2]
    dsimp only
    unfold roA
    rw [x2]
section
variable {w w' : WH} {F b V cap : Nat} {o : List Nat}
theorem c_bNon (hF : FiC w F) (hW : WF w) (hKN : KN w) (h : BdC w b V cap o) (ho : o.length ≤ 28000) (hcap : cap ≤ 29000) (hC : 1 ≤ wC w) (hS : 2 * (o.length + 4) + 2 ≤ wS w) :
    ∃ w' V' cap', fJ8_append b (wK w 4) w = some (some b, w') ∧ BdC w' b V' cap' (o ++ [110, 111, 110, 101]) ∧ (V' = V ∨ wN w ≤ V') ∧ Kg F (bdQ b V) w w' 1 (2 * (o.length + 4) + 2) ∧ (cap' = cap ∨ (cap < o.length + 4 ∧ cap' ≤ 2 * (o.length + 4) + 2)) := by
  obtain ⟨w1, V', cap', e1, B1, hm, hV, hK, hcp⟩ := c_bEns hF hW h (m := o.length + 4) (by omega) hcap hC hS
  have KN1 := hKN.kg hF hK h.some
  have eK : wK w1 = wK w := hK.2.2.2.2.1
  obtain ⟨s1, s2, s3, s4⟩ := kn_str hKN (i := 4) (by omega)
  obtain ⟨t1, t2, t3, t4⟩ := kn_str KN1 (i := 4) (by omega)
  have al : ∀ u : WH, hArr u (wK u 14) = some (2, (gl_len.getD 4 0, .inl (fun j => (gl_byt.getD 4 []).getD j 0))) → aLn u (wK u 14) = some (zN 4) := fun u hu => by
    unfold aLn
    rw [hu]
    rfl
  have a0 := al w s4
  have a1 := al w1 t4
  rw [eK] at t1 t2 t3 t4 a1
  have r3 : gI w b 15 3 = some (zN o.length) := by
    obtain ⟨⟨ml, h1⟩, -⟩ := h
    exact c_I h1 3
  have i0 := (c_bLat h).2
  have i1 := (c_bLat B1).2
  have hne := B1.ne
  obtain ⟨⟨ml, h1⟩, ⟨g, h2, h3, h4⟩, h5, h6⟩ := B1
  have q0 : gR w1 b 15 0 = some (some V') := c_R h1 0
  have q1 : gI w1 b 15 1 = some (zN 0) := c_I h1 1
  have q3 : gI w1 b 15 3 = some (zN o.length) := c_I h1 3
  have hVn : wK w 14 ≠ V' := fun e => by
    have := (KN1.1 14 (by decide)).1
    rw [eK, e, h2] at this
    cases this
  have cp : cpI w1 2 (wK w 14) (zN 0) V' (zN o.length) (zN 4) = some (hUp w1 V' (bytC cap' (va_cpy (fun j => (gl_byt.getD 4 []).getD j 0) g 0 o.length 4))) := by
    unfold cpI
    rw [t4, h2]
    unfold bytC
    dsimp only
    have z1 : (zN 4).toNatClampNeg = 4 := zN_cl (by omega)
    have z0 : (zN 0).toNatClampNeg = 0 := zN_cl (by omega)
    have z2 : (zN o.length).toNatClampNeg = o.length := zN_cl (by omega)
    rw [z1, z0, z2, if_pos]
    refine ⟨⟨rfl, rfl, hVn⟩, ⟨by decide, ?_, by decide, by decide, by omega⟩, fun _ i hi => ?_⟩
    · rw [show (0 : Int32) = zN 0 from rfl, zN_lt (by omega) (by omega)]; omega
    · have : i = 0 ∨ i = 1 ∨ i = 2 ∨ i = 3 := by omega
      rcases this with rfl | rfl | rfl | rfl <;> decide
  have cd : ∀ u : WH, gI u (wK w 4) 16 1 = some (zN 0) → fJ9_coder (wK w 4) u = some (zN 0, u) := fun u hu => by
    unfold fJ9_coder
    rw [if_neg (by decide), hu, bd_some, show fz_ .byte (zN 0) = some () from by decide, bd_some]
  have c0 := cd w s3
  have c1 := cd w1 t3
  have le : fJ9_length (wK w 4) w = some (zN 4, w) := by
    unfold fJ9_length
    rw [s2, bd_some, bd_some, a0, bd_some, s1, bd_some, c0, b2_some, show (31 : Int32) = zN 31 from rfl, zN_sr0]
  have w2b : (hUp w1 V' (bytC cap' (va_cpy (fun j => (gl_byt.getD 4 []).getD j 0) g 0 o.length 4))).1 b = some (bldC V' o.length ml) := (hUp_ne _ _ hne).trans h1
  have g3 : gI (hUp w1 V' (bytC cap' (va_cpy (fun j => (gl_byt.getD 4 []).getD j 0) g 0 o.length 4))) b 15 3 = some (zN o.length) := c_I w2b 3
  have p1 : hPut (hUp w1 V' (bytC cap' (va_cpy (fun j => (gl_byt.getD 4 []).getD j 0) g 0 o.length 4))) b 15 3 (.int (zN (o.length + 4))) = some (hUp (hUp w1 V' (bytC cap' (va_cpy (fun j => (gl_byt.getD 4 []).getD j 0) g 0 o.length 4))) b (bldC V' (o.length + 4) ml)) := c_P w2b (k := 3) (show 3 < 4 by decide) _
  have K2 := hK.up h2 rfl (hV.elim (fun e => .inr (.inr e)) .inl) (bytC cap' (va_cpy (fun j => (gl_byt.getD 4 []).getD j 0) g 0 o.length 4))
  have K3 := K2.up w2b rfl (.inr (.inl rfl)) (bldC V' (o.length + 4) ml)
  have bx : ∀ i, i < 4 → (gl_byt.getD 4 []).getD i 0 = zN ([110, 111, 110, 101].getD i 0) ∧ fits .byte (.int ((gl_byt.getD 4 []).getD i 0)) = true := by decide
  have V2 : (hUp (hUp w1 V' (bytC cap' (va_cpy (fun j => (gl_byt.getD 4 []).getD j 0) g 0 o.length 4))) b (bldC V' (o.length + 4) ml)).1 V' = some (bytC cap' (va_cpy (fun j => (gl_byt.getD 4 []).getD j 0) g 0 o.length 4)) := (hUp_ne _ _ hne.symm).trans (hUp_eq _ _ _)
  generalize hw2 : hUp w1 V' (bytC cap' (va_cpy (fun j => (gl_byt.getD 4 []).getD j 0) g 0 o.length 4)) = w2 at cp w2b g3 p1 K2 K3 V2
  have ps : fJ7_putStringAt b (zN o.length) (wK w 4) w1 = some w2 := by
    simp (disch := omega) only [b2_some, bd_some, nm_eq, Option.map_some, zN_lit, zN_add, zN_mul, zN_neg1, if_true, if_false, reduceIte, eq_self, Nat.reduceEqDiff, Nat.reduceAdd, Nat.reduceMul, Nat.reduceSub, Nat.reduceLeDiff, Nat.one_ne_zero, not_false_eq_true, Bool.false_eq_true, zN_eq, zN_lt, zN_le,  fJ7_putStringAt, i1, fJ7_inflateIfNeededFor, q0, q1, t1, c1, fJ9_getBytes, t2, a1, zN_sl0, cp]
  refine ⟨hUp w2 b (bldC V' (o.length + 4) ml), V', cap', ?_, ⟨⟨ml, by rw [List.length_append]; exact hUp_eq _ _ _⟩, ⟨_, V2, fun k hk => ?_, fun k hk => ?_⟩, by rw [List.length_append]; exact hm, h6⟩, hV, K3, by omega⟩
  · unfold fJ8_append fJ7_append
    rw [i0, bd_some, s1, bd_some, le, b2_some, r3, bd_some, i0, bd_some, show zN o.length + zN 4 = zN (o.length + 4) from zN_add _ _, e1, bd_some, q3, bd_some, i1, bd_some]
    rw [ps, bd_some, g3, bd_some, show zN o.length + zN 4 = zN (o.length + 4) from zN_add _ _, p1, bd_some, b2_some]
  · rw [List.length_append] at hk
    have hk' : k < o.length + 4 := hk
    rw [getD_app]
    unfold va_cpy
    by_cases q : k < o.length
    · rw [if_pos q, if_neg (by omega)]
      exact h3 k q
    · rw [if_neg q, if_pos (by omega), Nat.zero_add]
      exact (bx (k - o.length) (by omega)).1
  · unfold va_cpy
    by_cases q : o.length ≤ k ∧ k < o.length + 4
    · rw [if_pos q, Nat.zero_add]
      exact (bx (k - o.length) (by omega)).2
    · rw [if_neg q]
      exact h4 k hk
end
