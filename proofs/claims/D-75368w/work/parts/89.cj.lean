/-! Plain law: the component's trial of an arc's tolls -/
def trC (b : Int32) (m : Int64) (ar x : Nat) : hE := .inr (18, [.ref ar, .int b, .long m, .ref x])
def ofr (b m : Int) (y : Nat) (v : Int) : Int × Int := if v < m ∨ (v = m ∧ b ≤ y) then (b, m) else (y, v)
theorem best_ofr {G : Nat → Int} {S : Nat → Prop} {b : Nat} (h : Best G S b) (y : Nat) : ∃ b' : Nat, ofr b (G b) y (G y) = ((b' : Int), G b') ∧ Best G (fun z => S z ∨ z = y) b' := by
  unfold ofr
  by_cases c : G y < G b ∨ (G y = G b ∧ (b : Int) ≤ y)
  · rw [if_pos c]
    refine ⟨b, rfl, .inl h.1, fun z hz => ?_⟩
    rcases hz with hz | rfl
    · exact h.2 z hz
    · exact ⟨by omega, fun e => by omega⟩
  · rw [if_neg c]
    refine ⟨y, rfl, .inr rfl, fun z hz => ?_⟩
    rcases hz with hz | rfl
    · have := h.2 z hz
      exact ⟨by omega, fun e => by
        by_cases e1 : G b < G y
        · omega
        · have := this.2 (by omega)
          omega⟩
    · exact ⟨Int.le_refl _, fun _ => Nat.le_refl _⟩
theorem Best.ofr {G : Nat → Int} {S : Nat → Prop} {b : Nat} (h : Best G S b) (y : Nat) : ∃ b' : Nat, ofr b (G b) y (G y) = ((b' : Int), G b') ∧ Best G (fun z => S z ∨ z = y) b' := best_ofr h y
theorem Best.congr {G : Nat → Int} {S S' : Nat → Prop} {b : Nat} (h : Best G S b) (hS : ∀ z, S z ↔ S' z) : Best G S' b := ⟨(hS b).mp h.1, fun z hz => h.2 z ((hS z).mpr hz)⟩
section
variable {w : WH} {x s q F : Nat} {ρ : Nat → Nat} {ν : NH} {t a I : Nat}
theorem MR.FC (h : MR w x F s q ν ρ) : FiC w F := h.1.1
theorem c_offer (h : MR w x F s q ν ρ) (hW : WF w) (ha : a < ρ 1) {y : Nat} (hy : y ≤ aMx ρ a) {b m : Int} (hb : bI b) (hm : bJ m) (hT : w.1 I = some (trC (zI b) (zJ m) (nAr ν a) x)) :
    ∃ w', fX11_offer I (zN y) w = some w' ∧ Kg F (· = I) w w' 0 0 ∧ w'.1 I = some (trC (zI (ofr b m y (alW ρ a y)).1) (zJ (ofr b m y (alW ρ a y)).2) (nAr ν a) x) := by
  have hI := h.inv
  have c := hI.ha ha
  obtain ⟨f, hf, hfv⟩ := h.1.2.1.2.1
  have h1 := h.stl hf hfv ha hy
  obtain ⟨w2, e2, hK2⟩ := c_all h1
  obtain ⟨w3, e3, hK3⟩ := c_back h hf hK2 (show a < 24 by omega) h.qF
  rw [hfv a (by omega)] at e3
  have h2 := h1.kf hK2
  have s1 : stI w q 0 (zN a) (zN y) = some (hUp w q (tolC (upd f a (zN y)))) := c_stI hf (by omega) (by omega) _
  have hT1 : (hUp w q (tolC (upd f a (zN y)))).1 I = some (trC (zI b) (zJ m) (nAr ν a) x) := keep_kd hf hT rfl _
  have hT2 := hK2.keep h1.FC hT1 rfl
  have hT3 := hK3.keep h.FC hT rfl
  have ct := c_toll h.1.2.1 h.1.2.2.1 hI ha
  have r0 : gR w I 18 3 = some (some x) := c_R hT 3
  have r1 : gR w I 18 0 = some (some (nAr ν a)) := c_R hT 0
  have r2 : gR (hUp w q (tolC (upd f a (zN y)))) I 18 3 = some (some x) := c_R hT1 3
  have r3 : gR w2 I 18 3 = some (some x) := c_R hT2 3
  have r4 : gR w2 I 18 0 = some (some (nAr ν a)) := c_R hT2 0
  have r5 : gJ w3 I 18 2 = some (zJ m) := c_J hT3 2
  have r6 : gI w3 I 18 1 = some (zI b) := c_I hT3 1
  have hal : 0 ≤ alW ρ a y ∧ alW ρ a y ≤ 539406054 := allI_rng (hI.stl ha hy)
  have n1 := lgc_lt (a := alW ρ a y) (b := m) ⟨by omega, by omega⟩ hm
  have n2 := lgc_eq' (a := alW ρ a y) (b := m) ⟨by omega, by omega⟩ hm
  have n3 : (zN y < zI b) = ((y : Int) < b) := by rw [← zI_cast, zI_lt ⟨by omega, by omega⟩ hb]
  have hk3 := hK3.kg (Q := (· = I)) h.FC hW
  have nF : ¬ (I = q) := by
    rintro rfl
    rw [hT] at hf
    cases hf
  have hgo : ∃ w', fX11_offer_b61 I (zN y) (zJ (alW ρ a y)) w3 = some w' ∧ Kg F (· = I) w w' 0 0 ∧ w'.1 I = some (trC (zI (ofr b m y (alW ρ a y)).1) (zJ (ofr b m y (alW ρ a y)).2) (nAr ν a) x) := by
    have p1 : hPut w3 I 18 1 (.int (zN y)) = some (hUp w3 I (trC (zN y) (zJ m) (nAr ν a) x)) := c_P hT3 (show 1 < 4 by decide) _
    have p2 : hPut (hUp w3 I (trC (zN y) (zJ m) (nAr ν a) x)) I 18 2 (.long (zJ (alW ρ a y))) = some (hUp w3 I (trC (zN y) (zJ (alW ρ a y)) (nAr ν a) x)) := by
      have e := c_P (hUp_eq w3 I (trC (zN y) (zJ m) (nAr ν a) x)) (show 2 < 4 by decide) (.long (zJ (alW ρ a y)))
      rw [hUp_hUp] at e
      exact e
    unfold ofr
    by_cases c1 : alW ρ a y < m
    · rw [if_pos (.inl c1)]
      refine ⟨w3, ?_, hk3, hT3⟩
      simp (disch := omega) only [b2_some, bd_some, nm_eq, Option.map_some, zN_lit, zN_add, zN_mul, zN_neg1, if_true, if_false, reduceIte, eq_self, Nat.reduceEqDiff, Nat.reduceAdd, Nat.reduceMul, Nat.reduceSub, Nat.reduceLeDiff, Nat.one_ne_zero, not_false_eq_true, Bool.false_eq_true, zN_eq, zN_lt, zN_le,  fX11_offer_b61, r5, n1, c1]
    · by_cases c2 : alW ρ a y = m
      · rw [eq_true c2] at n2
        rw [eq_false c1] at n1
        by_cases c3 : (y : Int) < b
        · rw [if_neg (by omega)]
          refine ⟨_, ?_, hk3.up hT3 rfl (.inr rfl) _, hUp_eq _ _ _⟩
          rw [zI_cast]
          simp (disch := omega) only [b2_some, bd_some, nm_eq, Option.map_some, zN_lit, zN_add, zN_mul, zN_neg1, if_true, if_false, reduceIte, eq_self, Nat.reduceEqDiff, Nat.reduceAdd, Nat.reduceMul, Nat.reduceSub, Nat.reduceLeDiff, Nat.one_ne_zero, not_false_eq_true, Bool.false_eq_true, zN_eq, zN_lt, zN_le,  fX11_offer_b61, r5, r6, n1, n2, n3, c3, fX11_offer_b88, p1, p2]
        · rw [if_pos (.inr ⟨c2, by omega⟩)]
          refine ⟨w3, ?_, hk3, hT3⟩
          simp (disch := omega) only [b2_some, bd_some, nm_eq, Option.map_some, zN_lit, zN_add, zN_mul, zN_neg1, if_true, if_false, reduceIte, eq_self, Nat.reduceEqDiff, Nat.reduceAdd, Nat.reduceMul, Nat.reduceSub, Nat.reduceLeDiff, Nat.one_ne_zero, not_false_eq_true, Bool.false_eq_true, zN_eq, zN_lt, zN_le,  fX11_offer_b61, r5, r6, n1, n2, n3, c3]
      · rw [if_neg (by omega)]
        refine ⟨_, ?_, hk3.up hT3 rfl (.inr rfl) _, hUp_eq _ _ _⟩
        rw [zI_cast]
        simp (disch := omega) only [b2_some, bd_some, nm_eq, Option.map_some, zN_lit, zN_add, zN_mul, zN_neg1, if_true, if_false, reduceIte, eq_self, Nat.reduceEqDiff, Nat.reduceAdd, Nat.reduceMul, Nat.reduceSub, Nat.reduceLeDiff, Nat.one_ne_zero, not_false_eq_true, Bool.false_eq_true, zN_eq, zN_lt, zN_le,  fX11_offer_b61, r5, r6, n1, n2, c1, c2, fX11_offer_b88, p1, p2]
  obtain ⟨w', e4, h4, h5⟩ := hgo
  refine ⟨w', ?_, h4, h5⟩
  unfold alW at e4
  simp (disch := omega) only [b2_some, bd_some, nm_eq, Option.map_some, zN_lit, zN_add, zN_mul, zN_neg1, if_true, if_false, reduceIte, eq_self, Nat.reduceEqDiff, Nat.reduceAdd, Nat.reduceMul, Nat.reduceSub, Nat.reduceLeDiff, Nat.one_ne_zero, not_false_eq_true, Bool.false_eq_true, zN_eq, zN_lt, zN_le,  fX11_offer, r0, r1, h.g0, c_sI h.1.2.1, ct, c_gtl h, c_aI h.1.2.2.1 ha, c_num h.1.2.2.1 ha, s1, r2, h1.xI, e2, r3, r4, h2.g0, c_gtl h2, c_aI h2.1.2.2.1 ha, c_num h2.1.2.2.1 ha, e3, e4]
end
