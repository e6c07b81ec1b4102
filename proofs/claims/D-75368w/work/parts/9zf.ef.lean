/-! Plain law: bytes of a long; the component appends them -/
def byt (v : Int64) (j : Nat) : Nat := (v.toBitVec.toNat >>> (56 - 8 * j)) % 256
theorem byt_lt (v : Int64) (j : Nat) : byt v j < 256 := Nat.mod_lt _ (by omega)
theorem byt_bit (v : Int64) {j : Nat} (i : Nat) : (byt v j).testBit i = (decide (i < 8) && v.toBitVec.getLsbD (56 - 8 * j + i)) := by
  unfold byt
  rw [show 256 = 2 ^ 8 from rfl, Nat.testBit_mod_two_pow, Nat.testBit_shiftRight]
  rfl
theorem zJ_bit {n : Nat} (hn : n < 256) (i : Nat) : (zJ (n : Int)).toBitVec.getLsbD i = n.testBit i := by
  have : (zJ (n : Int)).toBitVec = BitVec.ofNat 64 n := rfl
  rw [this, BitVec.getLsbD_ofNat]
  by_cases c : i < 64
  · rw [decide_eq_true c, Bool.true_and]
  · rw [decide_eq_false c, Bool.false_and]
    exact (Nat.testBit_lt_two_pow (Nat.lt_of_lt_of_le hn (Nat.le_trans (by decide : 256 ≤ 2 ^ 8) (Nat.pow_le_pow_right (by omega) (by omega))))).symm
theorem l255 : ∀ i, i < 64 → (255 : Int64).toBitVec.getLsbD i = decide (i < 8) := by decide +kernel
theorem sh_k : ∀ j, j < 8 → ((zN (56 - 8 * j)).toInt64.toUInt64 &&& Int64.toUInt64 63) = UInt64.ofNat (56 - 8 * j) := by decide +kernel
theorem c_byt (v : Int64) {j : Nat} (hj : j < 8) : (((v.toUInt64 >>> ((zN (56 - 8 * j)).toInt64.toUInt64 &&& Int64.toUInt64 63)).toInt64) &&& 255) = zJ (byt v j : Int) := by
  rw [sh_k j hj]
  apply Int64.toBitVec_inj.mp
  apply BitVec.eq_of_getLsbD_eq
  intro i hi
  rw [zJ_bit (byt_lt v j), byt_bit]
  have e1 : ((v.toUInt64 >>> UInt64.ofNat (56 - 8 * j)).toInt64 &&& 255).toBitVec = ((v.toUInt64 >>> UInt64.ofNat (56 - 8 * j)).toBitVec &&& (255 : Int64).toBitVec) := rfl
  rw [e1, BitVec.getLsbD_and, l255 i hi]
  have e2 : (v.toUInt64 >>> UInt64.ofNat (56 - 8 * j)).toBitVec = v.toBitVec >>> (56 - 8 * j) := by
    have : j = 0 ∨ j = 1 ∨ j = 2 ∨ j = 3 ∨ j = 4 ∨ j = 5 ∨ j = 6 ∨ j = 7 := by omega
    rcases this with rfl | rfl | rfl | rfl | rfl | rfl | rfl | rfl <;> (rw [UInt64.toBitVec_shiftRight]; rfl)
  rw [e2, BitVec.getLsbD_ushiftRight, Bool.and_comm]
def apC (v : Int64) : Nat → Nat
  | 0 => 0
  | j + 1 => apC v j + if byt v j = 0 then 0 else 1
def apL (v : Int64) (p : Nat × (Nat → Nat)) : Nat → Nat × (Nat → Nat)
  | 0 => p
  | j + 1 => if byt v j = 0 then apL v p j else ((apL v p j).1 + 1, upN (apL v p j).2 (apL v p j).1 (byt v j))
theorem apL_1 (v : Int64) (p : Nat × (Nat → Nat)) : ∀ j, (apL v p j).1 = p.1 + apC v j
  | 0 => rfl
  | j + 1 => by
    rw [apL, apC]
    by_cases c : byt v j = 0
    · rw [if_pos c, if_pos c, apL_1 v p j]; rfl
    · rw [if_neg c, if_neg c]
      show (apL v p j).1 + 1 = _
      rw [apL_1 v p j, Nat.add_assoc]
theorem apC_le (v : Int64) : ∀ j, apC v j ≤ j
  | 0 => Nat.le_refl _
  | j + 1 => by
    have := apC_le v j
    rw [apC]
    split <;> omega
theorem apC_mn (v : Int64) {i : Nat} : ∀ d, apC v i ≤ apC v (i + d)
  | 0 => Nat.le_refl _
  | d + 1 => by
    have := apC_mn v (i := i) d
    rw [← Nat.add_assoc, apC]
    omega
def sgT (σ : SG) (p : Nat × (Nat → Nat)) : SG := (σ.1, σ.2.1, σ.2.2.1, σ.2.2.2.1, p, σ.2.2.2.2.2.1, σ.2.2.2.2.2.2)
def apS (σ : SG) (v : Int64) : SG := if sgL σ + apC v 8 ≤ 600 then sgT σ (apL v (sgL σ, sgB σ) 8) else σ
def apI (σ : SG) (v : Int64) : Int := if sgL σ + apC v 8 ≤ 600 then (sgL σ + apC v 8 : Nat) else -2
theorem nar_b : ∀ b, b < 256 → vp_nar .byte ((zN b).toInt8.toInt32) = zI (sb b) := by decide +kernel
section
variable {w w' : WH} {x s q F : Nat} {ν : NH} {σ : SG} {η : RH}
theorem RcP.tx (h : RcP w x σ F s q ν η) {f f' : Nat → Int32} (hf : w.1 (hTx η) = some (bytC 600 f)) (hv : ∀ k, k < sgL σ → f' k = f k) : RcP (hUp w (hTx η) (bytC 600 f')) x σ F s q ν η := by
  obtain ⟨h1, h2, h3, h4, h5, h6, h7, ⟨f0, t1, t2, t3⟩, ⟨h9, h9c⟩, h10, h11, h12⟩ := h
  rw [hf] at t1
  cases t1
  have K : Kg F (fun a => a = hTx η) w (hUp w (hTx η) (bytC 600 f')) 0 0 := (Kg.refl (Q := fun a => a = hTx η) h1.1 h2).up hf rfl (.inr rfl) _
  have kp : KpK (fun y => y == (2, 600)) w (hUp w (hTx η) (bytC 600 f')) := fun a y hy hb' hb => K.keep h1.1 h2 hy hb' (fun qa => by
    rw [qa, hf] at hy
    cases hy
    cases hb)
  have nc : ((2, hCap η) == ((2, 600) : Nat × Nat)) = false := beq_false_of_ne (fun e => by
    have := congrArg Prod.snd e
    dsimp only at this
    omega)
  exact ⟨⟨K.2.1, h1.2.1.kp kp (by decide), h1.2.2.1.kp kp (by decide), h1.2.2.2.1, h1.2.2.2.2⟩, K.2.2.1, kp _ _ h3 rfl rfl, h4.kp kp ⟨rfl, rfl⟩, h5.kp kp (by decide), h6.kp kp rfl, ⟨h7.1.kp kp (by decide), h7.2.kp kp (by decide)⟩, ⟨f', hUp_eq _ _ _, t2, fun k hk => ⟨(t3 k hk).1, by rw [hv k hk]; exact (t3 k hk).2⟩⟩, ⟨h9.kp kp ⟨rfl, nc⟩, h9c⟩, h10, h11.kp kp rfl (fun _ hz => hz), h12.kg h1.1 K (fun a qa => by rw [qa, hf]; simp)⟩
theorem r_apb (h : RcP w x σ F s q ν η) {b : Nat} (hb : b < 256) (hn : sgL σ < 600) : ∃ w1 w2, stI w (hTx η) 2 (zN (sgL σ)) (zI (sb b)) = some w1 ∧ gI w1 x 17 5 = some (zN (sgL σ)) ∧ hPut w1 x 17 5 (.int (zN (sgL σ + 1))) = some w2 ∧ RcP w2 x (sgT σ (sgL σ + 1, upN (sgB σ) (sgL σ) b)) F s q ν η ∧ w2.2 = w.2 := by
  obtain ⟨f, t1, t2, t3⟩ := h.2.2.2.2.2.2.2.1
  have s1 : stI w (hTx η) 2 (zN (sgL σ)) (zI (sb b)) = some (hUp w (hTx η) (bytC 600 (upd f (sgL σ) (zI (sb b))))) := c_stI t1 hn (by omega) _
  have R1 := h.tx (f' := upd f (sgL σ) (zI (sb b))) t1 (fun k hk => if_neg (by omega))
  have htx : TxK (hUp w (hTx η) (bytC 600 (upd f (sgL σ) (zI (sb b))))) (hTx η) (sgL σ + 1) (upN (sgB σ) (sgL σ) b) := by
    refine ⟨_, hUp_eq _ _ _, by omega, fun k hk => ?_⟩
    by_cases c : k = sgL σ
    · rw [c, upN_eq]
      exact ⟨hb, if_pos rfl⟩
    · rw [upN_ne _ _ c]
      exact ⟨(t3 k (by omega)).1, (if_neg c).trans (t3 k (by omega)).2⟩
  have R2 := R1.rt (bu := (sgL σ + 1, upN (sgB σ) (sgL σ) b)) (er := σ.2.2.2.2.2.1) htx
  have p1 : hPut (hUp w (hTx η) (bytC 600 (upd f (sgL σ) (zI (sb b))))) x 17 5 (.int (zN (sgL σ + 1))) = some (hUp (hUp w (hTx η) (bytC 600 (upd f (sgL σ) (zI (sb b))))) x (rtC s F (hP η) (hSn η) (hTx η) (hOu η) (zN (sgL σ + 1)) (zN (sgE σ)) (zI (sgS σ)))) := c_P R1.2.2.1 (k := 5) (show 5 < 9 by decide) _
  exact ⟨_, _, s1, c_I R1.2.2.1 5, p1, R2, rfl⟩
theorem c_app (h : RcP w x σ F s q ν η) (v : Int64) : ∃ w', fX1_append x v w = some (zI (apI σ v), w') ∧ Don w w' x (hL η) (apS σ v) 0 0 := by
  have hl : sgL σ ≤ 600 := by
    obtain ⟨f, t1, t2, t3⟩ := h.2.2.2.2.2.2.2.1
    exact t2
  have gl : gI w x 17 5 = some (zN (sgL σ)) := c_I h.2.2.1 5
  have d8 : ∀ j : Nat, j < 8 → zI (56 - 8 * (j : Int)) = zN (56 - 8 * j) := fun j hj => by
    rw [zI_nn (by omega)]
    congr 1
    omega
  have e8 : ∀ j : Nat, zI (56 - 8 * (j : Int)) + zI (-8) = zI (56 - 8 * ((j + 1 : Nat) : Int)) := fun j => by
    rw [zI_add]
    congr 1
    omega
  have z8 : (-8 : Int32) = zI (-8) := rfl
  have lz : ∀ j, j < 8 → (lg_cmp (zJ (byt v j : Int)) 0 = zN 0) = (byt v j = 0) := fun j hj => by
    have := byt_lt v j
    have h2 := lgc_eq (a := (byt v j : Int)) (b := 0) (by unfold bJ; omega) (by unfold bJ; omega)
    rw [show (0 : Int64) = zJ 0 from rfl, h2]
    exact propext ⟨fun h => by omega, fun h => by omega⟩
  have L2 : sgL σ + apC v 8 ≤ 600 → ∃ r, fX1_append_l57 x v (zN 56) w = some r ∧ ∃ w', r = (zN (sgL σ + apC v 8), w') ∧ RcP w' x (sgT σ (apL v (sgL σ, sgB σ) 8)) F s q ν η ∧ w'.2 = w.2 := by
    intro hle
    refine wh_up (P := fun j y => j ≤ 8 ∧ ∃ w', y = (zI (56 - 8 * (j : Int)), w') ∧ RcP w' x (sgT σ (apL v (sgL σ, sgB σ) j)) F s q ν η ∧ w'.2 = w.2) 8 ?_ ?_ 8 0 _ (by omega) ⟨by omega, w, rfl, h, rfl⟩
    · rintro j y hj ⟨-, w', rfl, hR, hk⟩
      have n1 : ¬ (56 - 8 * j < 0) := by omega
      have ej := d8 j hj
      have e9 := e8 j
      have cb := c_byt v hj
      have b256 := byt_lt v j
      left
      by_cases c : byt v j = 0
      · have ea : apL v (sgL σ, sgB σ) (j + 1) = apL v (sgL σ, sgB σ) j := by rw [apL, if_pos c]
        refine ⟨(zI (56 - 8 * ((j + 1 : Nat) : Int)), w'), ?_, by omega, w', rfl, by rw [ea]; exact hR, hk⟩
        rw [c] at cb
        unfold fX1_append_b57 fX1_append_b103
        rw [if_neg (by rw [ej, show (0 : Int32) = zN 0 from rfl, zN_lt (by omega) (by omega)]; omega), ej, cb, nm_eq, if_pos (show (zJ ((0 : Nat) : Int)).toInt32 = 0 from rfl), z8, ← ej, e9]
      · have ea : apL v (sgL σ, sgB σ) (j + 1) = ((apL v (sgL σ, sgB σ) j).1 + 1, upN (apL v (sgL σ, sgB σ) j).2 (apL v (sgL σ, sgB σ) j).1 (byt v j)) := by rw [apL, if_neg c]
        have en := apL_1 v (sgL σ, sgB σ) j
        have em : apC v (j + 1) = apC v j + 1 := by rw [apC, if_neg c]
        have mn := apC_mn v (i := j + 1) (8 - (j + 1))
        rw [show j + 1 + (8 - (j + 1)) = 8 by omega] at mn
        have en' : (apL v (sgL σ, sgB σ) j).1 = sgL σ + apC v j := en
        have hlt : sgL (sgT σ (apL v (sgL σ, sgB σ) j)) < 600 := by
          show (apL v (sgL σ, sgB σ) j).1 < 600
          omega
        obtain ⟨w1, w2, s1, g1, p1, R2, k2⟩ := r_apb hR b256 hlt
        have gl' : gI w' x 17 5 = some (zN (apL v (sgL σ, sgB σ) j).1) := c_I hR.2.2.1 5
        have gt' : gR w' x 17 4 = some (some (hTx η)) := c_R hR.2.2.1 4
        have s1' : stI w' (hTx η) 2 (zN (apL v (sgL σ, sgB σ) j).1) (zI (sb (byt v j))) = some w1 := s1
        have g1' : gI w1 x 17 5 = some (zN (apL v (sgL σ, sgB σ) j).1) := g1
        have p1' : hPut w1 x 17 5 (.int (zN ((apL v (sgL σ, sgB σ) j).1 + 1))) = some w2 := p1
        refine ⟨(zI (56 - 8 * ((j + 1 : Nat) : Int)), w2), ?_, by omega, w2, rfl, by rw [ea]; exact R2, k2.trans hk⟩
        have nz : ¬ ((zJ (byt v j : Int)).toInt32 = 0) := by
          rw [zJ_I, show (0 : Int32) = zI 0 from rfl, zI_eq (by omega) (by omega)]
          omega
        unfold fX1_append_b57 fX1_append_b103
        rw [if_neg (by rw [ej, show (0 : Int32) = zN 0 from rfl, zN_lt (by omega) (by omega)]; omega), ej, cb, nm_eq, if_neg nz, gt', bd_some, gl', bd_some, bd_some, zJ_I, show zI (byt v j : Int) = zN (byt v j) from rfl, nar_b _ b256, s1', bd_some, g1', bd_some, show zN (apL v (sgL σ, sgB σ) j).1 + 1 = zN ((apL v (sgL σ, sgB σ) j).1 + 1) from zN_add _ 1, p1', bd_some, z8, ← ej, e9]
    · rintro y ⟨-, w', rfl, hR, hk⟩
      have en' : (apL v (sgL σ, sgB σ) 8).1 = sgL σ + apC v 8 := apL_1 v (sgL σ, sgB σ) 8
      have gl' : gI w' x 17 5 = some (zN (apL v (sgL σ, sgB σ) 8).1) := c_I hR.2.2.1 5
      rw [en'] at gl'
      refine ⟨_, ?_, w', rfl, hR, hk⟩
      unfold fX1_append_b57 fX1_append_b109
      rw [if_pos (show zI (56 - 8 * ((8 : Nat) : Int)) < 0 by decide), gl', bd_some]
      rfl
  have L1 : ∃ r, fX1_append_l6 x v (zN 0) (zN 56) w = some r ∧ ∃ w', r = (zI (apI σ v), w') ∧ Don w w' x (hL η) (apS σ v) 0 0 := by
    refine wh_up (P := fun j y => j ≤ 8 ∧ y = (zN (apC v j), zI (56 - 8 * (j : Int)), w)) 8 ?_ ?_ 8 0 _ (by omega) ⟨by omega, rfl⟩
    · rintro j y hj ⟨-, rfl⟩
      have ej := d8 j hj
      have e9 := e8 j
      have cb := c_byt v hj
      have lz' := lz j hj
      left
      refine ⟨(zN (apC v (j + 1)), zI (56 - 8 * ((j + 1 : Nat) : Int)), w), ?_, by omega, rfl⟩
      rw [apC]
      unfold fX1_append_b6 fX1_append_b30
      rw [if_neg (by rw [ej, show (0 : Int32) = zN 0 from rfl, zN_lt (by omega) (by omega)]; omega), ej, cb]
      by_cases c : byt v j = 0
      · rw [if_pos (show lg_cmp (zJ (byt v j : Int)) 0 = 0 from by rw [show (0 : Int32) = zN 0 from rfl, lz']; exact c), if_pos c, nm_eq, z8, ← ej, e9, show zN (apC v j) + 0 = zN (apC v j + 0) from zN_add _ 0]
      · rw [if_neg (show ¬ (lg_cmp (zJ (byt v j : Int)) 0 = 0) from by rw [show (0 : Int32) = zN 0 from rfl, lz']; exact c), if_neg c, nm_eq, z8, ← ej, e9, show zN (apC v j) + 1 = zN (apC v j + 1) from zN_add _ 1]
    · rintro y ⟨-, rfl⟩
      have c8 := apC_le v 8
      have b38 : fX1_append_b6 x v (zN (apC v 8)) (zI (56 - 8 * ((8 : Nat) : Int))) w = (fX1_append_b38 x v (zN (apC v 8)) w).map (fun y => (.inr y)) := if_pos (by decide)
      have cc : (zN (sgL σ) + zN (apC v 8) ≤ 600) = (sgL σ + apC v 8 ≤ 600) := by
        rw [zN_add, show (600 : Int32) = zN 600 from rfl, zN_le (by omega) (by omega)]
      unfold apI apS
      by_cases c : sgL σ + apC v 8 ≤ 600
      · rw [if_pos c, if_pos c]
        obtain ⟨r, e, w', rfl, hR, hk⟩ := L2 c
        refine ⟨_, ?_, w', rfl, don_of hR hk rfl (Nat.le_refl _) (Nat.le_refl _)⟩
        show fX1_append_b6 x v (zN (apC v 8)) (zI (56 - 8 * ((8 : Nat) : Int))) w = _
        rw [b38]
        unfold fX1_append_b38
        rw [gl, bd_some, if_pos (by rw [cc]; exact c), show (56 : Int32) = zN 56 from rfl, e]
        rfl
      · rw [if_neg c, if_neg c]
        refine ⟨_, ?_, w, rfl, ⟨F, s, q, ν, η, h, rfl⟩, Nat.le_refl _, Nat.le_refl _⟩
        show fX1_append_b6 x v (zN (apC v 8)) (zI (56 - 8 * ((8 : Nat) : Int))) w = _
        rw [b38]
        unfold fX1_append_b38
        rw [gl, bd_some, if_neg (by rw [cc]; exact c)]
        rfl
  obtain ⟨r, e, w', rfl, hd⟩ := L1
  exact ⟨w', e, hd⟩
end
