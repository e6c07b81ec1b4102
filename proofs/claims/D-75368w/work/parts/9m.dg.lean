/-! Plain law: the component's actions: the current state changes -/
def stQ (s q : Nat) : Nat → Prop := fun a => a = s ∨ (q ≤ a ∧ a < q + 4)
section
variable {w w' : WH} {x s q F n c k : Nat} {ρ ρ' : Nat → Nat} {ν : NH} {σ : SG} {η : RH}
theorem StC.kQ {m : Nat} (h : StC w s q m ρ) {a : Nat} (ha : stQ s q a) : ∃ y, w.1 a = some y ∧ finT y = false ∧ (kd y = (121, 0) ∨ kd y = (0, 24) ∨ kd y = (0, 6) ∨ kd y = (100, 0) ∨ kd y = (1, 1)) := by
  obtain ⟨h1, ⟨f, h2, h3⟩, ⟨f', h4, h5⟩, h6, ⟨g, h7, h8⟩⟩ := h
  rcases ha with rfl | ⟨e1, e2⟩
  · exact ⟨_, h1, rfl, .inl rfl⟩
  · have : a = q ∨ a = q + 1 ∨ a = q + 2 ∨ a = q + 3 := by omega
    rcases this with rfl | rfl | rfl | rfl
    · exact ⟨_, h2, rfl, .inr (.inl rfl)⟩
    · exact ⟨_, h4, rfl, .inr (.inr (.inl rfl))⟩
    · exact ⟨_, h6, rfl, .inr (.inr (.inr (.inl rfl)))⟩
    · exact ⟨_, h7, rfl, .inr (.inr (.inr (.inr rfl)))⟩
theorem StC.sep {m m' s' z : Nat} (h : StC w s q m ρ) (h' : StC w s' z m' ρ') (hz : z ≠ q) : (¬ stQ s q s') ∧ (¬ stQ s q z) ∧ (¬ stQ s q (z + 1)) ∧ (¬ stQ s q (z + 2)) ∧ ¬ stQ s q (z + 3) := by
  obtain ⟨h1, ⟨f, h2, -⟩, ⟨f', h4, -⟩, h6, ⟨g, h7, -⟩⟩ := h
  obtain ⟨g1, ⟨f0, g2, -⟩, ⟨f0', g4, -⟩, g6, ⟨g0, g7, -⟩⟩ := h'
  have nk : ∀ {a b : Nat} {y y' : hE}, w.1 a = some y → w.1 b = some y' → (kd y == kd y') = false → b ≠ a := fun ha hb hk => ne_kd ha hb hk
  refine ⟨?_, ?_, ?_, ?_, ?_⟩
  · rintro (rfl | ⟨e1, e2⟩)
    · rw [h1] at g1
      have e : q = z := congrArg (fun y : Option hE => match y with
        | some (.inr (_, [_, .ref a, _, _, _])) => a
        | _ => 0) g1
      exact hz e.symm
    · have : s' = q ∨ s' = q + 1 ∨ s' = q + 2 ∨ s' = q + 3 := by omega
      rcases this with e | e | e | e
      · exact nk h2 g1 rfl e
      · exact nk h4 g1 rfl e
      · exact nk h6 g1 rfl e
      · exact nk h7 g1 rfl e
  · rintro (e | ⟨e1, e2⟩)
    · exact nk h1 g2 rfl e
    · have : z = q + 1 ∨ z = q + 2 ∨ z = q + 3 := by omega
      rcases this with e | e | e
      · exact nk h4 g2 rfl e
      · exact nk h6 g2 rfl e
      · exact nk h7 g2 rfl e
  · rintro (e | ⟨e1, e2⟩)
    · exact nk h1 g4 rfl e
    · have : z + 1 = q ∨ z + 1 = q + 2 ∨ z + 1 = q + 3 := by omega
      rcases this with e | e | e
      · exact nk h2 g4 rfl e
      · exact nk h6 g4 rfl e
      · exact nk h7 g4 rfl e
  · rintro (e | ⟨e1, e2⟩)
    · exact nk h1 g6 rfl e
    · have : z + 2 = q ∨ z + 2 = q + 1 ∨ z + 2 = q + 3 := by omega
      rcases this with e | e | e
      · exact nk h2 g6 rfl e
      · exact nk h4 g6 rfl e
      · exact nk h7 g6 rfl e
  · rintro (e | ⟨e1, e2⟩)
    · exact nk h1 g7 rfl e
    · have : z + 3 = q ∨ z + 3 = q + 1 ∨ z + 3 = q + 2 := by omega
      rcases this with e | e | e
      · exact nk h2 g7 rfl e
      · exact nk h4 g7 rfl e
      · exact nk h6 g7 rfl e
def mutB (y : Nat × Nat) : Bool := y == (121, 0) || y == (0, 24) || y == (0, 6) || y == (100, 0) || y == (1, 1)
theorem Kg.kq {m : Nat} (hS : StC w s q m ρ) (hF : FiC w F) (hW : WF w) (hK : Kg F (stQ s q) w w' c k) : KpK mutB w w' := fun a y hy hf hb => hK.keep hF hW hy hf (fun qa => by
  obtain ⟨y', e1, e2, e3⟩ := hS.kQ qa
  rw [hy] at e1
  cases e1
  rcases e3 with e | e | e | e | e <;> rw [e] at hb <;> cases hb)
theorem StK.mut {m : Nat} {h : Nat × Nat} {ν' : NH} (hS : StC w s q m ρ) (hF : FiC w F) (hW : WF w) (hK : Kg F (stQ s q) w w' c k) (h' : StK w h ν' ρ') (hz : h.2 ≠ q) : StK w' h ν' ρ' := by
  obtain ⟨a1, a2, a3⟩ := h'
  obtain ⟨n1, n2, n3, n4, n5⟩ := hS.sep a1 hz
  refine ⟨?_, a2.kp (hK.kq hS hF hW) (by decide), a3⟩
  obtain ⟨g1, ⟨f0, g2, g3⟩, ⟨f0', g4, g5⟩, g6, ⟨g0, g7, g8⟩⟩ := a1
  exact ⟨hK.keep hF hW g1 rfl n1, ⟨f0, hK.keep hF hW g2 rfl n2, g3⟩, ⟨f0', hK.keep hF hW g4 rfl n3, g5⟩, hK.keep hF hW g6 rfl n4, ⟨g0, hK.keep hF hW g7 rfl n5, g8⟩⟩
theorem getD_mm {α : Type} {l : List α} {j : Nat} (d : α) (h : j < l.length) : l.getD j d ∈ l := by
  have : l.getD j d = l[j] := by simp [h]
  rw [this]
  exact List.getElem_mem h
/-- the current state changes -/
theorem RcP.mut (h : RcP w x σ F s q ν η) (hK : Kg F (stQ s q) w w' c k) (hM : MS w' F s q ν ρ') : RcP w' x (ρ', σ.2) F s q ν η := by
  obtain ⟨h1, h2, h3, h4, h5, h6, h7, h8, h9, h10⟩ := h
  have kp := hK.kq h1.2.1 h1.1 h2
  have nd := (List.nodup_cons.mp h10.1).1
  obtain ⟨⟨g0, o1⟩, o2⟩ := h10.2.1
  have no : ¬ stQ s q (hL η) := by
    rintro (e | ⟨e1, e2⟩)
    · exact ne_kd h1.2.1.1 o1 rfl e
    · obtain ⟨b1, ⟨f, b2, -⟩, ⟨f', b4, -⟩, b6, ⟨g, b7, -⟩⟩ := h1.2.1
      have : hL η = q ∨ hL η = q + 1 ∨ hL η = q + 2 ∨ hL η = q + 3 := by omega
      rcases this with e | e | e | e
      · exact ne_kd b2 o1 rfl e
      · exact ne_kd b4 o1 rfl e
      · exact ne_kd b6 o1 rfl e
      · exact o2 q (List.mem_cons_self ..) e.symm
  have sk : ∀ {o : Option ((Nat × Nat) × NH)} {r : Option (Nat → Nat)}, SnK w o r → (∀ z ∈ snQ o, z ≠ q) → SnK w' o r := by
    intro o r ho hz
    cases o with
    | none => cases r with
      | none => trivial
      | some r => exact ho
    | some h => cases r with
      | none => exact ho
      | some r => exact StK.mut h1.2.1 h1.1 h2 hK ho (hz _ (by unfold snQ; exact List.mem_singleton.mpr rfl))
  refine ⟨hM, hK.2.2.1, kp _ _ h3 rfl rfl, h4.kp kp ⟨rfl, rfl⟩, ⟨h5.1, fun j hj => StK.mut h1.2.1 h1.1 h2 hK (h5.2 j hj) (fun e => nd ?_)⟩, h6.kp kp rfl, ⟨sk h7.1 (fun z hz e => nd ?_), sk h7.2 (fun z hz e => nd ?_)⟩, h8.kp kp rfl, ⟨h9.1.kp kp ⟨rfl, ?_⟩, h9.2⟩, h10.1, ⟨⟨g0, hK.keep h1.1 h2 o1 rfl no⟩, o2⟩, h10.2.2.kg h1.1 hK (fun a qa => by
    obtain ⟨y, e, -⟩ := h1.2.1.kQ qa
    rw [e]; simp)⟩
  · rw [← e]
    exact List.mem_append_left _ (List.mem_map_of_mem (getD_mm _ hj))
  · rw [← e]
    exact List.mem_append_right _ (List.mem_append_left _ hz)
  · rw [← e]
    exact List.mem_append_right _ (List.mem_append_right _ hz)
  · unfold mutB
    rfl
theorem stQ_q (s q : Nat) : ∀ a, a = q → stQ s q a := fun a e => .inr (by omega)
theorem Kg.wq (hK : Kg F (· = q) w w' c k) : Kg F (stQ s q) w w' c k := hK.wk (fun a e => .inr (stQ_q s q a e))
end
