/-! Plain law: the component's current state becomes another; undo, snapshots -/
section
variable {w w' : WH} {x s q F n o a b v t : Nat} {ρ ρ' : Nat → Nat} {ν : NH} {σ : SG} {η : RH}
def swQ (x P e : Nat) : Nat → Prop := fun a => a = x ∨ dqQ P e a
def swB (k : Nat × Nat) : Bool := k == (117, 0) || k == (101, 0) || k == (4, 13)
theorem RcP.sw (h : RcP w x σ F s q ν η) {h' s' z : Nat} {ν' : NH} {ss : List (Nat × Nat)} {hs : List (Nat → Nat)} {bu : Nat × (Nat → Nat)} {er : Nat × Int} (hK : Ko (swQ x (hP η) (hE_ η)) w w')
    (hx : w'.1 x = some (rtC s' F (hP η) (hSn η) (hTx η) (hOu η) (zN bu.1) (zN er.1) (zI er.2))) (hd : DqC w' (hP η) (hE_ η) h' (ss.map Prod.fst)) (hst : StK w (s', z) ν' ρ') (hp : PsK w ν' ss hs)
    (hn : (z :: (ss.map Prod.snd ++ (snQ (hO0 η) ++ snQ (hO1 η)))).Nodup) (hl : ∀ y ∈ z :: ss.map Prod.snd, y + 3 ≠ hL η) (htx : TxK w (hTx η) bu.1 bu.2) :
    RcP w' x (ρ', hs, σ.2.2.1, σ.2.2.2.1, bu, er, σ.2.2.2.2.2.2) F s' z ν' (ss, η.2.1, η.2.2.1, (hP η, hE_ η, h'), η.2.2.2.2) ∧ wC w' = wC w ∧ wS w' = wS w ∧ wN w' = wN w := by
  obtain ⟨h1, h2, h3, h4, h5, h6, h7, h8, h9, h10⟩ := h
  have c1 := h4.1
  obtain ⟨g, c2, -⟩ := h4.2.2.2
  have hk : Kg F _ w w' 0 0 := hK.fw h1.1 h2 (fun a qa => by
    rcases qa with rfl | rfl | rfl
    · exact ⟨_, h3, rfl⟩
    · exact ⟨_, c1, rfl⟩
    · exact ⟨_, c2, rfl⟩)
  have kp : KpK swB w w' := hK.kp (fun a c qa hc => by
    rcases qa with rfl | rfl | rfl
    · rw [h3] at hc; cases hc; rfl
    · rw [c1] at hc; cases hc; rfl
    · rw [c2] at hc; cases hc; rfl)
  have nc : swB (2, hCap η) = false := rfl
  refine ⟨⟨⟨hk.2.1, hst.1.kp kp (by decide), hst.2.1.kp kp (by decide), hst.2.2, by rw [hk.2.2.2.2.1]; exact h1.2.2.2.2⟩, hk.2.2.1, hx, hd, hp.kp kp (by decide), h6.kp kp rfl, ⟨h7.1.kp kp (by decide), h7.2.kp kp (by decide)⟩, htx.kp kp rfl, ⟨h9.1.kp kp ⟨rfl, nc⟩, h9.2⟩, hn, ?_, h10.2.2.kg h1.1 hk (fun a qa => by
    rcases qa with rfl | rfl | rfl
    · rw [h3]; simp
    · rw [c1]; simp
    · rw [c2]; simp)⟩, ?_, ?_, ?_⟩
  · obtain ⟨⟨g0, o1⟩, o2⟩ := h10.2.1
    refine ⟨⟨g0, kp _ _ o1 rfl rfl⟩, fun y hy => ?_⟩
    rcases List.mem_cons.mp hy with e | hy
    · exact hl y (by rw [e]; exact List.mem_cons_self ..)
    · rcases List.mem_append.mp hy with hy | hy
      · exact hl y (List.mem_cons_of_mem _ hy)
      · exact o2 y (List.mem_cons_of_mem _ (List.mem_append_right _ hy))
  · exact congrArg (fun z => z.2.2.1) hK.2
  · exact congrArg (fun z => z.2.2.2) hK.2
  · exact congrArg (fun z => z.2.1) hK.2
theorem Ko.wk {Q Q' : Nat → Prop} (h : Ko Q w w') (hQ : ∀ a, Q a → Q' a) : Ko Q' w w' := ⟨fun a ha => h.1 a (fun q => ha (hQ a q)), h.2⟩
theorem Ko.keep {Q : Nat → Prop} (h : Ko Q w w') {a : Nat} {c : hE} (hc : w.1 a = some c) (hq : ¬ Q a) : w'.1 a = some c := by rw [h.1 a hq]; exact hc
theorem RcP.nP (h : RcP w x σ F s q ν η) : x ≠ hP η ∧ x ≠ hE_ η ∧ hP η ≠ hE_ η := by
  have c1 := h.2.2.2.1.1
  obtain ⟨g, c2, -⟩ := h.2.2.2.1.2.2.2
  have c3 := h.2.2.1
  exact ⟨ne_kd c1 c3 rfl, ne_kd c2 c3 rfl, ne_kd c2 c1 rfl⟩
/-- what is taken back -/
def udo (σ : SG) : SG := match σ.2.1.getLast? with
  | none => σ
  | some ρ => (ρ, σ.2.1.dropLast, σ.2.2)
theorem snoc_of {α : Type} : ∀ {l : List α}, l ≠ [] → ∃ i y, l = i ++ [y] := by
  intro l h
  exact ⟨l.dropLast, l.getLast h, (List.dropLast_concat_getLast h).symm⟩
theorem c_undo (h : RcP w x σ F s q ν η) : ∃ w', fX1_undo x w = some (zI (if σ.2.1.length = 0 then -1 else (σ.2.1.length : Int) - 1), w') ∧ Don w w' x (hL η) (udo σ) 0 0 := by
  have e1 := c_dqEmp h.2.2.2.1
  rw [List.length_map, h.lss] at e1
  by_cases c : σ.2.1.length = 0
  · rw [if_pos c] at e1 ⊢
    have eu : udo σ = σ := by
      unfold udo
      rw [List.length_eq_zero_iff.mp c]
      rfl
    rw [eu]
    refine ⟨w, ?_, ⟨F, s, q, ν, η, h, rfl⟩, by omega, by omega⟩
    simp (disch := omega) only [b2_some, bd_some, nm_eq, Option.map_some, zN_lit, zN_add, zN_mul, zN_neg1, if_true, if_false, reduceIte, eq_self, Nat.reduceEqDiff, Nat.reduceAdd, Nat.reduceMul, Nat.reduceSub, Nat.reduceLeDiff, Nat.one_ne_zero, not_false_eq_true, Bool.false_eq_true, zN_eq, zN_lt, zN_le,  fX1_undo, h.gP, h.Pi, e1]
  · rw [if_neg c] at e1 ⊢
    obtain ⟨hi, ρ1, ehs⟩ := snoc_of (l := σ.2.1) (fun e => c (by rw [e]; rfl))
    obtain ⟨si, y, ess⟩ := snoc_of (l := hSs η) (fun e => c (by rw [← h.lss, e]; rfl))
    have hl := h.lss
    rw [ehs, ess, List.length_append, List.length_append, List.length_singleton, List.length_singleton] at hl
    have eu : udo σ = (ρ1, hi, σ.2.2) := by
      unfold udo
      rw [ehs, List.getLast?_append]
      simp
    rw [eu]
    have hD := h.2.2.2.1
    rw [ess, List.map_append] at hD
    obtain ⟨w1, e2, D1, K1⟩ := c_dqRL hD
    have hps := h.2.2.2.2.1
    rw [ehs, ess] at hps
    have hy : StK w y ν ρ1 := by
      have := hps.2 si.length (by rw [List.length_append, List.length_singleton]; omega)
      rw [getD_snoc, getD_snoc, if_neg (by omega), if_pos rfl, if_neg (by omega), if_pos (by omega)] at this
      exact this
    have hp : PsK w ν si hi := by
      refine ⟨by omega, fun j hj => ?_⟩
      have := hps.2 j (by rw [List.length_append, List.length_singleton]; omega)
      rw [getD_snoc, getD_snoc, if_pos hj, if_pos (by omega)] at this
      exact this
    have hnd := h.2.2.2.2.2.2.2.2.2.1
    have hol := h.2.2.2.2.2.2.2.2.2.2.1
    unfold hQs at hnd hol
    rw [ess, List.map_append] at hnd hol
    have hn : (y.2 :: (si.map Prod.snd ++ (snQ (hO0 η) ++ snQ (hO1 η)))).Nodup := by
      have h1 := (List.nodup_cons.mp hnd).2
      rw [List.append_assoc] at h1
      exact (List.Perm.nodup_iff List.perm_middle).mp h1
    obtain ⟨np1, np2, np3⟩ := h.nP
    have x1 : w1.1 x = some (rtK s F η σ) := K1.keep h.2.2.1 (by rintro (e | e); exact np1 e; exact np2 e)
    have p1 : hPut w1 x 17 0 (.ref y.1) = some (hUp w1 x (rtK y.1 F η σ)) := c_P x1 (k := 0) (show 0 < 9 by decide) _
    have K2 : Ko (swQ x (hP η) (hE_ η)) w (hUp w1 x (rtK y.1 F η σ)) := (K1.wk (fun a e => .inr e)).up (.inl rfl) _
    have D2 : DqC (hUp w1 x (rtK y.1 F η σ)) (hP η) (hE_ η) (hH η) (si.map Prod.fst) := by
      obtain ⟨b1, b2, b3, g, b4, b5⟩ := D1
      exact ⟨by rw [hUp_ne _ _ np1.symm]; exact b1, b2, b3, g, by rw [hUp_ne _ _ np2.symm]; exact b4, b5⟩
    obtain ⟨h2, k1, k2, -⟩ := h.sw K2 (hUp_eq _ _ _) D2 hy hp hn (fun z hz => by
      rcases List.mem_cons.mp hz with e | hz
      · rw [e]
        exact hol.2 _ (List.mem_cons_of_mem _ (List.mem_append_left _ (List.mem_append_right _ (List.mem_singleton.mpr rfl))))
      · exact hol.2 _ (List.mem_cons_of_mem _ (List.mem_append_left _ (List.mem_append_left _ hz)))) h.2.2.2.2.2.2.2.1
    refine ⟨_, ?_, ⟨F, y.1, y.2, ν, _, h2, rfl⟩, by omega, by omega⟩
    have g2 := h2.gP
    have i2 := h2.Pi
    have s2 := c_dqSize h2.2.2.2.1
    have yi : hIs w1 y.1 21 = some () := by
      have c1 := h.2.2.2.1.1
      obtain ⟨g, c2, -⟩ := h.2.2.2.1.2.2.2
      refine c_C (K1.keep hy.1.1 (fun e => ?_))
      rcases e with e | e
      · exact ne_kd c1 hy.1.1 rfl e
      · exact ne_kd c2 hy.1.1 rfl e
    have g2' : gR (hUp w1 x (rtK y.1 F η σ)) x 17 2 = some (some (hP η)) := g2
    have i2' : hIs (hUp w1 x (rtK y.1 F η σ)) (hP η) 1 = some () := i2
    have s2' : fJ18_size (hP η) (hUp w1 x (rtK y.1 F η σ)) = some (zN (List.map Prod.fst si).length, hUp w1 x (rtK y.1 F η σ)) := s2
    rw [List.length_map, show si.length = σ.2.1.length - 1 by rw [ehs, List.length_append, List.length_singleton]; omega] at s2'
    rw [show (σ.2.1.length : Int) - 1 = ((σ.2.1.length - 1 : Nat) : Int) by omega, zI_cast]
    simp (disch := omega) only [b2_some, bd_some, nm_eq, Option.map_some, zN_lit, zN_add, zN_mul, zN_neg1, if_true, if_false, reduceIte, eq_self, Nat.reduceEqDiff, Nat.reduceAdd, Nat.reduceMul, Nat.reduceSub, Nat.reduceLeDiff, Nat.one_ne_zero, not_false_eq_true, Bool.false_eq_true, zN_eq, zN_lt, zN_le,  fX1_undo, h.gP, h.Pi, e1, e2, yi, p1, g2', i2', s2']
end
