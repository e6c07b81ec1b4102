/-! Plain law: the component's output -/
def sgW (σ : SG) (o : List Nat) : SG := (σ.1, σ.2.1, σ.2.2.1, σ.2.2.2.1, σ.2.2.2.2.1, σ.2.2.2.2.2.1, o)
def rhW (η : RH) (V cap : Nat) : RH := (η.1, η.2.1, η.2.2.1, η.2.2.2.1, η.2.2.2.2.1, (V, cap), η.2.2.2.2.2.2)
section
variable {w w' : WH} {x s q F n k c : Nat} {ρ : Nat → Nat} {ν : NH} {t a : Nat} {σ : SG} {η : RH}
theorem RcP.bd (h : RcP w x σ F s q ν η) : BdC w (hOu η) (hV η) (hCap η) (sgO σ) := h.2.2.2.2.2.2.2.2.1.1
theorem RcP.kn (h : RcP w x σ F s q ν η) : KN w := h.2.2.2.2.2.2.2.2.2.2.2
theorem RcP.gO (h : RcP w x σ F s q ν η) : gR w x 17 8 = some (some (hOu η)) := c_R h.2.2.1 8
theorem RcP.ou {V' cap' : Nat} {o' : List Nat} (h : RcP w x σ F s q ν η) (hK : Kg F (bdQ (hOu η) (hV η)) w w' c n) (hB : BdC w' (hOu η) V' cap' o') (hc : cap' ≤ 522) : RcP w' x (sgW σ o') F s q ν (rhW η V' cap') := by
  obtain ⟨h1, h2, h3, h4, h5, h6, h7, h8, ⟨h9, h9c⟩, h10, h11, h12⟩ := h
  obtain ⟨⟨ml, b1⟩, ⟨g, b2, b3⟩, b4⟩ := h9
  have kp : KpK (fun k => k == (115, 0) || k == (2, hCap η)) w w' := fun a y hy hf hb => hK.keep h1.1 h2 hy hf (fun qa => by
    rcases qa with rfl | rfl
    · rw [b1] at hy; cases hy; cases hb
    · rw [b2] at hy
      cases hy
      have : kd (bytC (hCap η) g) = (2, hCap η) := rfl
      rw [this] at hb
      simp at hb)
  have n6 : ((2, 600) == ((115, 0) : Nat × Nat) || (2, 600) == ((2, hCap η) : Nat × Nat)) = false := by
    have : ((2, 600) == ((2, hCap η) : Nat × Nat)) = false := beq_false_of_ne (fun e => by
      have := congrArg Prod.snd e
      dsimp only at this
      omega)
    rw [this]
    rfl
  have nb : ((false = false ∧ false = false ∧ false = false ∧ false = false ∧ false = false ∧ false = false) ∧ (false = false ∧ false = false ∧ false = false ∧ false = false ∧ false = false)) := by decide
  refine ⟨⟨hK.2.1, h1.2.1.kp kp nb.2, h1.2.2.1.kp kp nb.1, h1.2.2.2.1, by rw [hK.2.2.2.2.1]; exact h1.2.2.2.2⟩, hK.2.2.1, kp _ _ h3 rfl rfl, h4.kp kp ⟨rfl, rfl⟩, h5.kp kp nb, h6.kp kp rfl, ⟨h7.1.kp kp nb, h7.2.kp kp nb⟩, h8.kp kp n6, ⟨hB, hc⟩, h10, h11.kp kp rfl (fun _ hz => hz), h12.kg h1.1 hK (fun a qa => ?_)⟩
  rcases qa with rfl | rfl
  · rw [b1]; simp
  · rw [b2]; simp
/-- what a piece of writing does -/
def WrD (F : Nat) (w w' : WH) (x : Nat) (σ : SG) (s q : Nat) (ν : NH) (η : RH) (o' : List Nat) (c n : Nat) : Prop := ∃ V' cap', RcP w' x (sgW σ o') F s q ν (rhW η V' cap') ∧ cap' ≤ 522 ∧ (V' = hV η ∨ wN w ≤ V') ∧ Kg F (bdQ (hOu η) (hV η)) w w' c n
theorem r_chr (h : RcP w x σ F s q ν η) {ch : Nat} (hc : ch < 128) (ho : (sgO σ).length ≤ 259) (hC : 1 ≤ wC w) (hS : 530 ≤ wS w) : ∃ w', fJ8_append_3 (hOu η) (zN ch) w = some (some (hOu η), w') ∧ WrD F w w' x σ s q ν η (sgO σ ++ [ch]) 1 530 := by
  have hcap : hCap η ≤ 522 := h.2.2.2.2.2.2.2.2.1.2
  obtain ⟨w', V', cap', e, B, hV, K, hcp⟩ := c_bChr h.1.1 h.2.1 h.bd hc (by omega) (by omega) hC (by omega)
  exact ⟨w', e, V', cap', h.ou K B (by omega), by omega, hV, K.mono (Nat.le_refl _) (by omega)⟩
theorem r_int (h : RcP w x σ F s q ν η) {v : Nat} (hv : v ≤ 9999) (ho : (sgO σ).length ≤ 256) (hC : 1 ≤ wC w) (hS : 530 ≤ wS w) : ∃ w', fJ8_append_2 (hOu η) (zN v) w = some (some (hOu η), w') ∧ WrD F w w' x σ s q ν η (sgO σ ++ dgs v) 1 530 := by
  have hcap : hCap η ≤ 522 := h.2.2.2.2.2.2.2.2.1.2
  obtain ⟨w', V', cap', e, B, hV, K, hcp⟩ := c_bInt h.1.1 h.2.1 h.kn h.bd hv (by omega) (by omega) hC (by omega)
  exact ⟨w', e, V', cap', h.ou K B (by omega), by omega, hV, K.mono (Nat.le_refl _) (by omega)⟩
theorem WrD.refl (h : RcP w x σ F s q ν η) : WrD F w w x σ s q ν η (sgO σ) 0 0 := ⟨hV η, hCap η, h, h.2.2.2.2.2.2.2.2.1.2, .inl rfl, Kg.refl h.1.1 h.2.1⟩
/-- one after the other -/
theorem WrD.tr {w2 : WH} {o1 o2 : List Nat} {c' n' V1 cap1 : Nat} (hv1 : V1 = hV η ∨ wN w ≤ V1) (hK : Kg F (bdQ (hOu η) (hV η)) w w' c n) (h2 : WrD F w' w2 x (sgW σ o1) s q ν (rhW η V1 cap1) o2 c' n') : WrD F w w2 x σ s q ν η o2 (c + c') (n + n') := by
  obtain ⟨V2, cap2, hR, hc, hv, hk⟩ := h2
  have hn := hK.2.2.2.1
  refine ⟨V2, cap2, hR, hc, ?_, hK.trans hk (fun a qa => ?_)⟩
  · rcases hv with hv | hv
    · have : V2 = V1 := hv
      rw [this]; exact hv1
    · exact .inr (by omega)
  · rcases qa with qa | qa
    · exact .inr (.inl qa)
    · have : a = V1 := qa
      rcases hv1 with e | e
      · exact .inr (.inr (this.trans e))
      · exact .inl (by omega)
theorem r_len (h : RcP w x σ F s q ν η) : fJ8_length (hOu η) w = some (zN (sgO σ).length, w) := c_bLen h.bd
theorem RcP.Oi (h : RcP w x σ F s q ν η) : hIs w (hOu η) 15 = some () := (c_bLat h.bd).2
theorem r_clr (h : RcP w x σ F s q ν η) : ∃ w', fJ8_setLength (hOu η) (zN 0) w = some w' ∧ WrD F w w' x σ s q ν η [] 0 0 := by
  have hcap : hCap η ≤ 522 := h.2.2.2.2.2.2.2.2.1.2
  have hl := h.bd.2.2.1
  obtain ⟨w', e, B, K⟩ := c_bLen0 h.1.1 h.2.1 h.bd (by omega) (by omega)
  exact ⟨w', e, hV η, hCap η, h.ou K B (by omega), hcap, .inl rfl, K⟩
theorem WrD.mono {o1 : List Nat} {c' n' : Nat} (h : WrD F w w' x σ s q ν η o1 c n) (hc : c ≤ c') (hn : n ≤ n') : WrD F w w' x σ s q ν η o1 c' n' := by
  obtain ⟨V2, cap2, hR, hc2, hv, hk⟩ := h
  exact ⟨V2, cap2, hR, hc2, hv, hk.mono hc hn⟩
theorem WrD.cell {o1 : List Nat} (h : WrD F w w' x σ s q ν η o1 c n) (h0 : RcP w x σ F s q ν η) {I : Nat} {y : hE} (hy : w.1 I = some y) (hf : finT y = false) (hk : (kd y).1 ≠ 115 ∧ (kd y).1 ≠ 2) : w'.1 I = some y := by
  obtain ⟨V2, cap2, hR, hc2, hv, hK⟩ := h
  obtain ⟨⟨ml, b1⟩, ⟨g, b2, b3⟩, b4⟩ := h0.bd
  refine hK.keep h0.1.1 h0.2.1 hy hf (fun qa => ?_)
  rcases qa with rfl | rfl
  · rw [b1] at hy; cases hy; exact hk.1 rfl
  · rw [b2] at hy; cases hy; exact hk.2 rfl
theorem WrD.don {o1 : List Nat} (h : WrD F w w' x σ s q ν η o1 c n) : Don w w' x (hL η) (sgW σ o1) c n := by
  obtain ⟨V2, cap2, hR, hc2, hv, hk⟩ := h
  exact ⟨⟨F, s, q, ν, _, hR, rfl⟩, hk.2.2.2.2.2.1, hk.2.2.2.2.2.2⟩
end
