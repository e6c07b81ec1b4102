/-! Plain law: the component's whole state -/
def bldC (V cnt : Nat) (ml : Int32) : hE := .inr (15, [.ref V, .int 0, .int ml, .int (zN cnt)])
def bytC (m : Nat) (g : Nat → Int32) : hE := .inl (2, m, .inl g)
def BdC (w : WH) (b V cap : Nat) (o : List Nat) : Prop := (∃ ml, w.1 b = some (bldC V o.length ml)) ∧ (∃ g, w.1 V = some (bytC cap g) ∧ (∀ k, k < o.length → g k = zN (o.getD k 0)) ∧ ∀ k, k < cap → fits .byte (.int (g k)) = true) ∧ o.length ≤ cap ∧ cap ≤ 60000
def StK (w : WH) (h : Nat × Nat) (ν : NH) (ρ : Nat → Nat) : Prop := StC w h.1 h.2 (nN ν) ρ ∧ NtC w ν ρ ∧ Inv ρ
def SnK (w : WH) (o : Option ((Nat × Nat) × NH)) (s : Option (Nat → Nat)) : Prop := match o, s with
  | none, none => True
  | some h, some ρ => StK w h.1 h.2 ρ
  | _, _ => False
def snQ (o : Option ((Nat × Nat) × NH)) : List Nat := match o with
  | none => []
  | some h => [h.1.2]
def snR (o : Option ((Nat × Nat) × NH)) : Option Nat := o.map fun h => h.1.1
def refA (m : Nat) (g : Nat → Option Nat) : hE := .inl (5, m, .inr (.inr (.inr (.inr g))))
/-- handles: past states, snapshots; deque's array and head; builder's array, its room -/
abbrev RH : Type := List (Nat × Nat) × Option ((Nat × Nat) × NH) × Option ((Nat × Nat) × NH) × (Nat × Nat × Nat) × (Nat × Nat × Nat) × (Nat × Nat) × Nat
def hSs (η : RH) : List (Nat × Nat) := η.1
def hO0 (η : RH) : Option ((Nat × Nat) × NH) := η.2.1
def hO1 (η : RH) : Option ((Nat × Nat) × NH) := η.2.2.1
def hP (η : RH) : Nat := η.2.2.2.1.1
def hE_ (η : RH) : Nat := η.2.2.2.1.2.1
def hH (η : RH) : Nat := η.2.2.2.1.2.2
def hSn (η : RH) : Nat := η.2.2.2.2.1.1
def hTx (η : RH) : Nat := η.2.2.2.2.1.2.1
def hOu (η : RH) : Nat := η.2.2.2.2.1.2.2
def hV (η : RH) : Nat := η.2.2.2.2.2.1.1
def hCap (η : RH) : Nat := η.2.2.2.2.2.1.2
/-- the law's own array of one long -/
def hL (η : RH) : Nat := η.2.2.2.2.2.2
def hQs (q : Nat) (η : RH) : List Nat := q :: ((hSs η).map Prod.snd ++ (snQ (hO0 η) ++ snQ (hO1 η)))
def sgL (σ : SG) : Nat := σ.2.2.2.2.1.1
def sgB (σ : SG) : Nat → Nat := σ.2.2.2.2.1.2
def sgE (σ : SG) : Nat := σ.2.2.2.2.2.1.1
def sgS (σ : SG) : Int := σ.2.2.2.2.2.1.2
def sgO (σ : SG) : List Nat := σ.2.2.2.2.2.2
def rtK (s F : Nat) (η : RH) (σ : SG) : hE := rtC s F (hP η) (hSn η) (hTx η) (hOu η) (zN (sgL σ)) (zN (sgE σ)) (zI (sgS σ))
def PsK (w : WH) (ν : NH) (ss : List (Nat × Nat)) (hs : List (Nat → Nat)) : Prop := ss.length = hs.length ∧ ∀ j, j < ss.length → StK w (ss.getD j (0, 0)) ν (hs.getD j id)
def TxK (w : WH) (Tx n : Nat) (β : Nat → Nat) : Prop := ∃ f, w.1 Tx = some (bytC 600 f) ∧ n ≤ 600 ∧ ∀ k, k < n → β k < 256 ∧ f k = zI (sb (β k))
def SaK (w : WH) (Sn : Nat) (o0 o1 : Option ((Nat × Nat) × NH)) : Prop := ∃ g, w.1 Sn = some (refA 2 g) ∧ g 0 = snR o0 ∧ g 1 = snR o1
/-- constants: no cells there; they are not alike -/
def kNs : List Nat := [0, 1, 2, 3, 4, 10, 11, 12, 13, 14, 20, 21]
def KCs (K : Nat → Nat) : Prop := (∀ i j, i < 5 → j < 5 → K i = K j → i = j) ∧ (∀ i j, i < 5 → j < 5 → K (10 + i) = K (10 + j) → i = j) ∧ (∀ i, i < 5 → K (10 + i) ≠ K 20 ∧ K (10 + i) ≠ K 21) ∧ K 20 ≠ K 21
def KN (w : WH) : Prop := (∀ i ∈ kNs, w.1 (wK w i) = none ∧ wK w i < wN w) ∧ KCs (wK w)
theorem KN.of {w w' : WH} (h : KN w) (e : ∀ a, w.1 a = none → a < wN w → w'.1 a = none) (hN : wN w ≤ wN w') (hK : wK w' = wK w) : KN w' := by
  refine ⟨fun i hi => ?_, by rw [hK]; exact h.2⟩
  obtain ⟨h1, h2⟩ := h.1 i hi
  rw [hK]
  exact ⟨e _ h1 h2, by omega⟩
theorem KN.kg {F c n : Nat} {Q : Nat → Prop} {w w' : WH} (h : KN w) (hF : FiC w F) (hk : Kg F Q w w' c n) (hQ : ∀ a, Q a → w.1 a ≠ none) : KN w' := h.of (fun a ha hl => by
  rw [hk.1 a hl ?_ (fun q => hQ a q ha)]
  · exact ha
  · rintro ⟨h1, h2⟩
    obtain ⟨c, e, -⟩ := hF.ty h1 h2
    rw [ha] at e
    cases e) hk.2.2.2.1 hk.2.2.2.2.1
def OlK (w : WH) (o : Nat) (l : List Nat) : Prop := (∃ g, w.1 o = some (lngC 1 g)) ∧ ∀ z ∈ l, z + 3 ≠ o
def RcP (w : WH) (x : Nat) (σ : SG) (F s q : Nat) (ν : NH) (η : RH) : Prop :=
  MS w F s q ν σ.1 ∧ WF w ∧ w.1 x = some (rtK s F η σ) ∧ DqC w (hP η) (hE_ η) (hH η) ((hSs η).map Prod.fst) ∧ PsK w ν (hSs η) σ.2.1 ∧ SaK w (hSn η) (hO0 η) (hO1 η) ∧ (SnK w (hO0 η) σ.2.2.1 ∧ SnK w (hO1 η) σ.2.2.2.1) ∧ TxK w (hTx η) (sgL σ) (sgB σ) ∧ (BdC w (hOu η) (hV η) (hCap η) (sgO σ) ∧ hCap η ≤ 522) ∧ (hQs q η).Nodup ∧ OlK w (hL η) (hQs q η) ∧ KN w
/-- cells of these kinds may change, no other -/
def KpK (B : Nat × Nat → Bool) (w w' : WH) : Prop := ∀ a c, w.1 a = some c → finT c = false → B (kd c) = false → w'.1 a = some c
section
variable {w w' : WH} {x s q F n : Nat} {ρ : Nat → Nat} {ν : NH} {σ : SG} {η : RH} {B : Nat × Nat → Bool}
theorem RcP.mr (h : RcP w x σ F s q ν η) : MR w x F s q ν σ.1 := ⟨h.1, _, _, _, _, _, _, _, h.2.2.1⟩
theorem NtC.kp (hk : KpK B w w') (hb : B (122, 0) = false ∧ B (102, 0) = false ∧ B (4, 24) = false ∧ B (4, 6) = false ∧ B (127, 0) = false ∧ B (128, 0) = false) (hN : NtC w ν ρ) : NtC w' ν ρ := by
  obtain ⟨b1, b2, b3, b4, b5, b6⟩ := hb
  obtain ⟨h1, h2, ⟨g, h3, h4⟩, h5, h6, ⟨g', h7, h8⟩, h9⟩ := hN
  exact ⟨hk _ _ h1 rfl b1, hk _ _ h2 rfl b2, ⟨g, hk _ _ h3 rfl b3, h4⟩, fun j hj => hk _ _ (h5 j hj) rfl b5, hk _ _ h6 rfl b2, ⟨g', hk _ _ h7 rfl b4, h8⟩, fun j hj => hk _ _ (h9 j hj) rfl b6⟩
theorem StC.kp {m : Nat} (hk : KpK B w w') (hb : B (121, 0) = false ∧ B (0, 24) = false ∧ B (0, 6) = false ∧ B (100, 0) = false ∧ B (1, 1) = false) (hS : StC w s q m ρ) : StC w' s q m ρ := by
  obtain ⟨b1, b2, b3, b4, b5⟩ := hb
  obtain ⟨h1, ⟨f, h2, h3⟩, ⟨f', h4, h5⟩, h6, ⟨g, h7, h8⟩⟩ := hS
  exact ⟨hk _ _ h1 rfl b1, ⟨f, hk _ _ h2 rfl b2, h3⟩, ⟨f', hk _ _ h4 rfl b3, h5⟩, hk _ _ h6 rfl b4, ⟨g, hk _ _ h7 rfl b5, h8⟩⟩
theorem StK.kp {h : Nat × Nat} (hk : KpK B w w') (hb : (B (122, 0) = false ∧ B (102, 0) = false ∧ B (4, 24) = false ∧ B (4, 6) = false ∧ B (127, 0) = false ∧ B (128, 0) = false) ∧ (B (121, 0) = false ∧ B (0, 24) = false ∧ B (0, 6) = false ∧ B (100, 0) = false ∧ B (1, 1) = false)) (hS : StK w h ν ρ) : StK w' h ν ρ := ⟨hS.1.kp hk hb.2, hS.2.1.kp hk hb.1, hS.2.2⟩
theorem SnK.kp {o : Option ((Nat × Nat) × NH)} {r : Option (Nat → Nat)} (hk : KpK B w w') (hb : (B (122, 0) = false ∧ B (102, 0) = false ∧ B (4, 24) = false ∧ B (4, 6) = false ∧ B (127, 0) = false ∧ B (128, 0) = false) ∧ (B (121, 0) = false ∧ B (0, 24) = false ∧ B (0, 6) = false ∧ B (100, 0) = false ∧ B (1, 1) = false)) (hS : SnK w o r) : SnK w' o r := by
  cases o with
  | none => cases r with
    | none => trivial
    | some r => exact hS
  | some h => cases r with
    | none => exact hS
    | some r => exact StK.kp hk hb hS
theorem PsK.kp {ss : List (Nat × Nat)} {hs : List (Nat → Nat)} (hk : KpK B w w') (hb : (B (122, 0) = false ∧ B (102, 0) = false ∧ B (4, 24) = false ∧ B (4, 6) = false ∧ B (127, 0) = false ∧ B (128, 0) = false) ∧ (B (121, 0) = false ∧ B (0, 24) = false ∧ B (0, 6) = false ∧ B (100, 0) = false ∧ B (1, 1) = false)) (hS : PsK w ν ss hs) : PsK w' ν ss hs := ⟨hS.1, fun j hj => (hS.2 j hj).kp hk hb⟩
theorem DqC.kp {P e h : Nat} {L : List Nat} (hk : KpK B w w') (hb : B (101, 0) = false ∧ B (4, 13) = false) (hd : DqC w P e h L) : DqC w' P e h L := by
  obtain ⟨h1, h2, h3, g, h4, h5⟩ := hd
  exact ⟨hk _ _ h1 rfl hb.1, h2, h3, g, hk _ _ h4 rfl hb.2, h5⟩
theorem SaK.kp {Sn : Nat} {o0 o1 : Option ((Nat × Nat) × NH)} (hk : KpK B w w') (hb : B (5, 2) = false) (h : SaK w Sn o0 o1) : SaK w' Sn o0 o1 := by
  obtain ⟨g, h1, h2⟩ := h
  exact ⟨g, hk _ _ h1 rfl hb, h2⟩
theorem TxK.kp {Tx n : Nat} {β : Nat → Nat} (hk : KpK B w w') (hb : B (2, 600) = false) (h : TxK w Tx n β) : TxK w' Tx n β := by
  obtain ⟨f, h1, h2⟩ := h
  exact ⟨f, hk _ _ h1 rfl hb, h2⟩
theorem BdC.kp {b V cap : Nat} {o : List Nat} (hk : KpK B w w') (hb : B (115, 0) = false ∧ B (2, cap) = false) (h : BdC w b V cap o) : BdC w' b V cap o := by
  obtain ⟨⟨ml, h1⟩, ⟨g, h2, h3⟩, h4⟩ := h
  exact ⟨⟨ml, hk _ _ h1 rfl hb.1⟩, ⟨g, hk _ _ h2 rfl hb.2, h3⟩, h4⟩
theorem OlK.kp {o : Nat} {l l' : List Nat} (hk : KpK B w w') (hb : B (1, 1) = false) (h : OlK w o l) (hl : ∀ z ∈ l', z ∈ l) : OlK w' o l' := by
  obtain ⟨⟨g, h1⟩, h2⟩ := h
  exact ⟨⟨g, hk _ _ h1 rfl hb⟩, fun z hz => h2 z (hl z hz)⟩
theorem Kg.kp {c k : Nat} (hF : FiC w F) (hW : WF w) (h : Kg F nQ w w' c k) : KpK (fun _ => false) w w' := fun _ _ hc ht _ => h.keep hF hW hc ht id
/-- a query -/
theorem RcP.kg {c k : Nat} (h : RcP w x σ F s q ν η) (hk : Kg F nQ w w' c k) : RcP w' x σ F s q ν η := by
  obtain ⟨h1, h2, h3, h4, h5, h6, h7, h8, h9, h10⟩ := h
  have kp := hk.kp h1.1 h2
  have hb : ((false = false ∧ false = false ∧ false = false ∧ false = false ∧ false = false ∧ false = false) ∧ (false = false ∧ false = false ∧ false = false ∧ false = false ∧ false = false)) := by decide
  exact ⟨⟨hk.2.1, h1.2.1.kp kp hb.2, h1.2.2.1.kp kp hb.1, h1.2.2.2.1, by rw [hk.2.2.2.2.1]; exact h1.2.2.2.2⟩, hk.2.2.1, kp _ _ h3 rfl rfl, h4.kp kp ⟨rfl, rfl⟩, h5.kp kp hb, h6.kp kp rfl, ⟨h7.1.kp kp hb, h7.2.kp kp hb⟩, h8.kp kp rfl, ⟨h9.1.kp kp ⟨rfl, rfl⟩, h9.2⟩, h10.1, h10.2.1.kp kp rfl (fun _ hz => hz), h10.2.2.kg h1.1 hk (fun _ q => q.elim)⟩
theorem RcP.kf (h : RcP w x σ F s q ν η) (hk : Kf w w' F) : RcP w' x σ F s q ν η := h.kg (hk.kg (Q := nQ) h.1.1 h.2.1)
/-- only these cells, of these kinds, change -/
theorem Ko.kp {Q : Nat → Prop} (h : Ko Q w w') (hQ : ∀ a c, Q a → w.1 a = some c → B (kd c) = true) : KpK B w w' := fun a c hc _ hb => by
  rw [h.1 a (fun q => by rw [hQ a c q hc] at hb; cases hb)]
  exact hc
theorem Ko.fw {Q : Nat → Prop} (h : Ko Q w w') (hF : FiC w F) (hW : WF w) (hQ : ∀ a, Q a → ∃ c, w.1 a = some c ∧ finT c = false) : Kg F Q w w' 0 0 := h.kg hF hW (fun a qa => by
  obtain ⟨c, h1, h2⟩ := hQ a qa
  exact ⟨hF.out h1 h2, hW.lt h1⟩)
/-- the deque changes -/
theorem RcP.dq {h' : Nat} {ss : List (Nat × Nat)} {hs : List (Nat → Nat)} (h : RcP w x σ F s q ν η) (hK : Ko (dqQ (hP η) (hE_ η)) w w') (hd : DqC w' (hP η) (hE_ η) h' (ss.map Prod.fst)) (hp : PsK w ν ss hs) (hn : (q :: (ss.map Prod.snd ++ (snQ (hO0 η) ++ snQ (hO1 η)))).Nodup) (hl : ∀ z ∈ ss.map Prod.snd, z + 3 ≠ hL η) :
    RcP w' x (σ.1, hs, σ.2.2) F s q ν (ss, η.2.1, η.2.2.1, (hP η, hE_ η, h'), η.2.2.2.2) ∧ wC w' = wC w ∧ wS w' = wS w ∧ wN w' = wN w := by
  obtain ⟨h1, h2, h3, h4, h5, h6, h7, h8, h9, h10⟩ := h
  have c1 := h4.1
  obtain ⟨g, c2, -⟩ := h4.2.2.2
  have hk : Kg F _ w w' 0 0 := hK.fw h1.1 h2 (fun a qa => by
    rcases qa with rfl | rfl
    · exact ⟨_, c1, rfl⟩
    · exact ⟨_, c2, rfl⟩)
  have kp : KpK (fun k => k == (101, 0) || k == (4, 13)) w w' := hK.kp (fun a c qa hc => by
    rcases qa with rfl | rfl
    · rw [c1] at hc; cases hc; rfl
    · rw [c2] at hc; cases hc; rfl)
  have nc : ((2, hCap η) == ((101, 0) : Nat × Nat) || (2, hCap η) == ((4, 13) : Nat × Nat)) = false := rfl
  refine ⟨⟨⟨hk.2.1, h1.2.1.kp kp (by decide), h1.2.2.1.kp kp (by decide), h1.2.2.2.1, by rw [hk.2.2.2.2.1]; exact h1.2.2.2.2⟩, hk.2.2.1, kp _ _ h3 rfl rfl, hd, hp.kp kp (by decide), h6.kp kp rfl, ⟨h7.1.kp kp (by decide), h7.2.kp kp (by decide)⟩, h8.kp kp rfl, ⟨h9.1.kp kp ⟨rfl, nc⟩, h9.2⟩, hn, ?_, h10.2.2.kg h1.1 hk (fun a qa => by
    rcases qa with rfl | rfl
    · rw [c1]; simp
    · rw [c2]; simp)⟩, ?_, ?_, ?_⟩
  · obtain ⟨⟨g0, o1⟩, o2⟩ := h10.2.1
    refine ⟨⟨g0, kp _ _ o1 rfl rfl⟩, fun z hz => ?_⟩
    unfold hQs at o2
    rcases List.mem_cons.mp hz with e | hz
    · rw [e]; exact o2 q (List.mem_cons_self ..)
    · rcases List.mem_append.mp hz with hz | hz
      · exact hl z hz
      · exact o2 z (List.mem_cons_of_mem _ (List.mem_append_right _ hz))
  · exact congrArg (fun z => z.2.2.1) hK.2
  · exact congrArg (fun z => z.2.2.2) hK.2
  · exact congrArg (fun z => z.2.1) hK.2
end
