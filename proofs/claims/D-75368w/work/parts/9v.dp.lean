/-! Plain law: operations: what they answer, as both sides give it -/
abbrev SP : Type := Nat × Int × SG
def spP (σ : SG) (z : Int) (A : Nat → Int) : SP := if 0 ≤ z ∧ z < σ.1 2 then (0, A z.toNat, σ) else (1, 0, σ)
def spA (σ : SG) (z : Int) (A : Nat → Int) : SP := if 0 ≤ z ∧ z < σ.1 1 then (0, A z.toNat, σ) else (1, 0, σ)
def spPA (σ : SG) (y z : Int) (A : Nat → Nat → Int) : SP := if (0 ≤ y ∧ y < σ.1 2) ∧ (0 ≤ z ∧ z < σ.1 1) then (0, A y.toNat z.toNat, σ) else (1, 0, σ)
def F1 {α : Type} (enc : Int → α) (km : Nat → Nat) (res : Option ((Sum α (Nat × Nat)) × WH)) (w : WH) (x o : Nat) (sp : SP) (c n : Nat) : Prop :=
  ∃ w', Don w w' x o sp.2.2 c n ∧ ((sp.1 = 0 ∧ res = some (.inl (enc sp.2.1), w')) ∨ ∃ j cc, sp.1 = km j ∧ 1 ≤ km j ∧ j ≤ 1 ∧ res = some (.inr (j, cc), w'))
def CoR (e : Int → Int64) (res : Option (Int32 × WH)) (w : WH) (x o : Nat) (sp : SP) (c n : Nat) : Prop :=
  ∃ w', Don w w' x o sp.2.2 c n ∧ res = some (zN sp.1, w') ∧ (sp.1 = 0 → ldJ w' o (zN 0) = some (e sp.2.1))
def km0 (j : Nat) : Nat := if j = 0 then 1 else 0
def km1 (j : Nat) : Nat := if j = 1 then 1 else 0
def km2 (j : Nat) : Nat := if j = 0 then 1 else 2
def eI (z : Int) : Int64 := (zI z).toInt64
def eB (z : Int) : Int64 := if zI z = 0 then 0 else 1
section
variable {w w' : WH} {x s q F n o c k : Nat} {ρ : Nat → Nat} {ν : NH} {σ : SG} {η : RH} {sp : SP}
theorem StC.ol {z m : Nat} {g : Nat → Int64} (ho : w.1 o = some (lngC 1 g)) (hK : Ko (fun a => a = o) w w') (h : StC w s z m ρ) (hz : z + 3 ≠ o) : StC w' s z m ρ := by
  obtain ⟨h1, ⟨f, h2, h3⟩, ⟨f', h4, h5⟩, h6, ⟨g', h7, h8⟩⟩ := h
  have k : ∀ {a : Nat} {y : hE}, w.1 a = some y → (kd (lngC 1 g) == kd y) = false → w'.1 a = some y := fun ha hk => hK.keep ha (ne_kd ho ha hk)
  exact ⟨k h1 rfl, ⟨f, k h2 rfl, h3⟩, ⟨f', k h4 rfl, h5⟩, k h6 rfl, ⟨g', hK.keep h7 hz, h8⟩⟩
theorem StK.ol {h : Nat × Nat} {g : Nat → Int64} (ho : w.1 o = some (lngC 1 g)) (hK : Ko (fun a => a = o) w w') (kp : KpK (fun k => k == (1, 1)) w w') (hS : StK w h ν ρ) (hz : h.2 + 3 ≠ o) : StK w' h ν ρ := ⟨hS.1.ol ho hK hz, hS.2.1.kp kp (by decide), hS.2.2⟩
theorem SnK.ol {oo : Option ((Nat × Nat) × NH)} {r : Option (Nat → Nat)} {g : Nat → Int64} (ho : w.1 o = some (lngC 1 g)) (hK : Ko (fun a => a = o) w w') (kp : KpK (fun k => k == (1, 1)) w w') (hS : SnK w oo r) (hz : ∀ z ∈ snQ oo, z + 3 ≠ o) : SnK w' oo r := by
  cases oo with
  | none => cases r with
    | none => trivial
    | some r => exact hS
  | some h => cases r with
    | none => exact hS
    | some r => exact StK.ol ho hK kp hS (hz _ (List.mem_singleton.mpr rfl))
theorem RcP.ol (h : RcP w x σ F s q ν η) (v : Int64) : ∃ w', stJ w (hL η) (zN 0) v = some w' ∧ RcP w' x σ F s q ν η ∧ ldJ w' (hL η) (zN 0) = some v ∧ w'.2 = w.2 := by
  obtain ⟨h1, h2, h3, h4, h5, h6, h7, h8, h9, h10, ⟨⟨g, o1⟩, o2⟩, h12⟩ := h
  have s1 : stJ w (hL η) (zN 0) v = some (hUp w (hL η) (lngC 1 (vp_updL g 0 v))) := c_stJ o1 (by omega) (by omega) v
  have hK : Ko (fun a => a = hL η) w (hUp w (hL η) (lngC 1 (vp_updL g 0 v))) := (Ko.refl (fun a => a = hL η) w).up rfl _
  have kp : KpK (fun k => k == (1, 1)) w (hUp w (hL η) (lngC 1 (vp_updL g 0 v))) := hK.kp (fun a c qa hc => by
    rw [qa, o1] at hc; cases hc; rfl)
  have hk : Kg F (fun a => a = hL η) w (hUp w (hL η) (lngC 1 (vp_updL g 0 v))) 0 0 := hK.fw h1.1 h2 (fun a qa => ⟨lngC 1 g, (by rw [qa]; exact o1), rfl⟩)
  have nc : ((2, hCap η) == ((1, 1) : Nat × Nat)) = false := rfl
  have oA : ∀ z ∈ (hSs η).map Prod.snd, z + 3 ≠ hL η := fun z hz => o2 z (List.mem_cons_of_mem _ (List.mem_append_left _ hz))
  refine ⟨_, s1, ⟨⟨hk.2.1, h1.2.1.ol o1 hK (o2 q (List.mem_cons_self ..)), h1.2.2.1.kp kp (by decide), h1.2.2.2.1, h1.2.2.2.2⟩, hk.2.2.1, kp _ _ h3 rfl rfl, h4.kp kp ⟨rfl, rfl⟩, ⟨h5.1, fun j hj => StK.ol o1 hK kp (h5.2 j hj) (oA _ (List.mem_map_of_mem (getD_mm _ hj)))⟩, h6.kp kp rfl, ⟨h7.1.ol o1 hK kp (fun z hz => o2 z (List.mem_cons_of_mem _ (List.mem_append_right _ (List.mem_append_left _ hz)))), h7.2.ol o1 hK kp (fun z hz => o2 z (List.mem_cons_of_mem _ (List.mem_append_right _ (List.mem_append_right _ hz))))⟩, h8.kp kp rfl, ⟨h9.1.kp kp ⟨rfl, nc⟩, h9.2⟩, h10, ⟨⟨_, hUp_eq _ _ _⟩, o2⟩, h12.kg h1.1 hk (fun a qa => by rw [qa, o1]; simp)⟩, ?_, rfl⟩
  exact (c_ldJ (hUp_eq _ _ _) (show 0 < 1 by omega) (by omega)).trans (congrArg some (if_pos rfl))
theorem Don.ol (h : Don w w' x o σ c k) (v : Int64) : ∃ w2, stJ w' o (zN 0) v = some w2 ∧ Don w w2 x o σ c k ∧ ldJ w2 o (zN 0) = some v := by
  obtain ⟨⟨F, s, q, ν, η, h1, rfl⟩, d1, d2⟩ := h
  obtain ⟨w2, s1, h2, l2, k2⟩ := h1.ol v
  exact ⟨w2, s1, don_of h2 k2 rfl d1 d2, l2⟩
theorem w0_cor (hx : hIs w x 17 = some ()) {g : Option ((Sum Int32 (Nat × Nat)) × WH)} (h : F1 zI km0 g w x o sp c k) : CoR eI ((hIs w x 17).bind fun _ => b2_ g fun o3 w1 => ex_ o3 (fun x5 => (stJ w1 o 0 (x5.toInt64)).bind fun w7 => some ((0 : Int32), w7)) (fun q6 => if q6.1 = 0 then (some (1, w1)) else none)) w x o sp c k := by
  obtain ⟨w', hd, ⟨e1, e2⟩ | ⟨j, cc, e1, e2, e3, e4⟩⟩ := h
  · obtain ⟨w2, s1, d2, l2⟩ := hd.ol (zI sp.2.1).toInt64
    refine ⟨w2, d2, ?_, fun _ => l2⟩
    rw [hx, bd_some, e2, b2_some, e1]
    unfold ex_
    dsimp only
    rw [show (0 : Int32) = zN 0 from rfl, s1]
    rfl
  · unfold km0 at e1 e2
    have j0 : j = 0 := by
      by_cases c : j = 0
      · exact c
      · rw [if_neg c] at e2; omega
    subst j0
    rw [if_pos rfl] at e1
    refine ⟨w', hd, ?_, fun h => by omega⟩
    rw [hx, bd_some, e4, b2_some, e1]
    rfl
theorem w0_corL (hx : hIs w x 17 = some ()) {g : Option ((Sum Int64 (Nat × Nat)) × WH)} (h : F1 zJ km0 g w x o sp c k) : CoR zJ ((hIs w x 17).bind fun _ => b2_ g fun o3 w1 => ex_ o3 (fun x5 => (stJ w1 o 0 x5).bind fun w7 => some ((0 : Int32), w7)) (fun q6 => if q6.1 = 0 then (some (1, w1)) else none)) w x o sp c k := by
  obtain ⟨w', hd, ⟨e1, e2⟩ | ⟨j, cc, e1, e2, e3, e4⟩⟩ := h
  · obtain ⟨w2, s1, d2, l2⟩ := hd.ol (zJ sp.2.1)
    refine ⟨w2, d2, ?_, fun _ => l2⟩
    rw [hx, bd_some, e2, b2_some, e1]
    unfold ex_
    dsimp only
    rw [show (0 : Int32) = zN 0 from rfl, s1]
    rfl
  · unfold km0 at e1 e2
    have j0 : j = 0 := by
      by_cases c : j = 0
      · exact c
      · rw [if_neg c] at e2; omega
    subst j0
    rw [if_pos rfl] at e1
    refine ⟨w', hd, ?_, fun h => by omega⟩
    rw [hx, bd_some, e4, b2_some, e1]
    rfl
theorem w1_cor (hx : hIs w x 17 = some ()) {g : Option ((Sum Int32 (Nat × Nat)) × WH)} (h : F1 zI km1 g w x o sp c k) : CoR eI ((hIs w x 17).bind fun _ => b2_ g fun o3 w1 => ex_ o3 (fun x5 => (stJ w1 o 0 (x5.toInt64)).bind fun w7 => some ((0 : Int32), w7)) (fun q6 => if q6.1 = 1 then (some (1, w1)) else none)) w x o sp c k := by
  obtain ⟨w', hd, ⟨e1, e2⟩ | ⟨j, cc, e1, e2, e3, e4⟩⟩ := h
  · obtain ⟨w2, s1, d2, l2⟩ := hd.ol (zI sp.2.1).toInt64
    refine ⟨w2, d2, ?_, fun _ => l2⟩
    rw [hx, bd_some, e2, b2_some, e1]
    unfold ex_
    dsimp only
    rw [show (0 : Int32) = zN 0 from rfl, s1]
    rfl
  · unfold km1 at e1 e2
    have j0 : j = 1 := by
      by_cases c : j = 1
      · exact c
      · rw [if_neg c] at e2; omega
    subst j0
    rw [if_pos rfl] at e1
    refine ⟨w', hd, ?_, fun h => by omega⟩
    rw [hx, bd_some, e4, b2_some, e1]
    rfl
theorem w2_cor (hx : hIs w x 17 = some ()) {g : Option ((Sum Int32 (Nat × Nat)) × WH)} (h : F1 zI km2 g w x o sp c k) : CoR eI ((hIs w x 17).bind fun _ => b2_ g fun o3 w1 => ex_ o3 (fun x5 => (stJ w1 o 0 (x5.toInt64)).bind fun w7 => some ((0 : Int32), w7)) (fun q6 => if q6.1 = 0 then (some (1, w1)) else (if q6.1 = 1 then (some (2, w1)) else none))) w x o sp c k := by
  obtain ⟨w', hd, ⟨e1, e2⟩ | ⟨j, cc, e1, e2, e3, e4⟩⟩ := h
  · obtain ⟨w2, s1, d2, l2⟩ := hd.ol (zI sp.2.1).toInt64
    refine ⟨w2, d2, ?_, fun _ => l2⟩
    rw [hx, bd_some, e2, b2_some, e1]
    unfold ex_
    dsimp only
    rw [show (0 : Int32) = zN 0 from rfl, s1]
    rfl
  · unfold km2 at e1 e2
    have j0 : j = 0 ∨ j = 1 := by omega
    refine ⟨w', hd, ?_, fun h => by omega⟩
    rw [hx, bd_some, e4, b2_some, e1]
    rcases j0 with rfl | rfl
    · rfl
    · rfl
theorem w2_corL (hx : hIs w x 17 = some ()) {g : Option ((Sum Int64 (Nat × Nat)) × WH)} (h : F1 zJ km2 g w x o sp c k) : CoR zJ ((hIs w x 17).bind fun _ => b2_ g fun o3 w1 => ex_ o3 (fun x5 => (stJ w1 o 0 x5).bind fun w7 => some ((0 : Int32), w7)) (fun q6 => if q6.1 = 0 then (some (1, w1)) else (if q6.1 = 1 then (some (2, w1)) else none))) w x o sp c k := by
  obtain ⟨w', hd, ⟨e1, e2⟩ | ⟨j, cc, e1, e2, e3, e4⟩⟩ := h
  · obtain ⟨w2, s1, d2, l2⟩ := hd.ol (zJ sp.2.1)
    refine ⟨w2, d2, ?_, fun _ => l2⟩
    rw [hx, bd_some, e2, b2_some, e1]
    unfold ex_
    dsimp only
    rw [show (0 : Int32) = zN 0 from rfl, s1]
    rfl
  · unfold km2 at e1 e2
    have j0 : j = 0 ∨ j = 1 := by omega
    refine ⟨w', hd, ?_, fun h => by omega⟩
    rw [hx, bd_some, e4, b2_some, e1]
    rcases j0 with rfl | rfl
    · rfl
    · rfl
/-- boolean answers -/
theorem wB_cor (hx : hIs w x 17 = some ()) {g : Option ((Sum Int32 (Nat × Nat)) × WH)} (h : F1 zI km0 g w x o sp c k) {B : Nat → Int32 → Int64 → WH → Option (Int32 × WH)} (hB : ∀ a b d u, B a b d u = (stJ u a b d).bind fun w1 => some (0, w1)) : CoR eB ((hIs w x 17).bind fun _ => b2_ g fun o3 w1 => ex_ o3 (fun x5 => if x5 = 0 then (B o 0 0 w1) else (B o 0 1 w1)) (fun q6 => if q6.1 = 0 then (some (1, w1)) else none)) w x o sp c k := by
  obtain ⟨w', hd, ⟨e1, e2⟩ | ⟨j, cc, e1, e2, e3, e4⟩⟩ := h
  · obtain ⟨w2, s1, d2, l2⟩ := hd.ol (eB sp.2.1)
    refine ⟨w2, d2, ?_, fun _ => l2⟩
    rw [hx, bd_some, e2, b2_some, e1]
    unfold ex_ 
    unfold eB at s1
    dsimp only
    rw [hB, hB]
    by_cases c : zI sp.2.1 = 0
    · rw [if_pos c] at s1 ⊢
      rw [show (0 : Int32) = zN 0 from rfl, s1]
      rfl
    · rw [if_neg c] at s1 ⊢
      rw [show (0 : Int32) = zN 0 from rfl, s1]
      rfl
  · unfold km0 at e1 e2
    have j0 : j = 0 := by
      by_cases c : j = 0
      · exact c
      · rw [if_neg c] at e2; omega
    subst j0
    rw [if_pos rfl] at e1
    refine ⟨w', hd, ?_, fun h => by omega⟩
    rw [hx, bd_some, e4, b2_some, e1]
    rfl
/-- no such index -/
theorem F1.thr {α : Type} {enc : Int → α} {km : Nat → Nat} (h : RcP w x σ F s q ν η) {j : Nat} (hj : j ≤ 1) (hm : 1 ≤ km j) {res : Option ((Sum α (Nat × Nat)) × WH)} (e : res = some (.inr (j, wN w), wTh w)) : F1 enc km res w x (hL η) (km j, 0, σ) 1 6 :=
  ⟨wTh w, h.kgd (wTh_Kg h.1.1 h.2.1), .inr ⟨j, _, rfl, hm, hj, e⟩⟩
theorem F1.mono {α : Type} {enc : Int → α} {km : Nat → Nat} {res : Option ((Sum α (Nat × Nat)) × WH)} {c' k' : Nat} (h : F1 enc km res w x o sp c k) (hc : c ≤ c') (hk : k ≤ k') : F1 enc km res w x o sp c' k' := by
  obtain ⟨w', hd, h⟩ := h
  exact ⟨w', hd.mono hc hk, h⟩
theorem F1.ok {α : Type} {enc : Int → α} {km : Nat → Nat} {res : Option ((Sum α (Nat × Nat)) × WH)} {a : Int} (hd : Don w w' x o σ c k) (e : res = some (.inl (enc a), w')) : F1 enc km res w x o (0, a, σ) c k := ⟨w', hd, .inl ⟨rfl, e⟩⟩
end
