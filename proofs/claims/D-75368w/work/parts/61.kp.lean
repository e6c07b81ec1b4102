/-! Plain law: paths against distances; the toll of an arc -/
def wsum (w : Nat → Option Int) : List Nat → Int
  | [] => 0
  | a :: l => wsum w l + (w a).getD 0
theorem Sol.path {A : Nat} {fr to : Nat → Nat} {w : Nat → Option Int} {t : Nat} {far : Nat → Option Int} (h : Sol A fr to w t far) : ∀ (l : List Nat) (n : Nat), isP fr to t n l → (∀ a ∈ l, a < A ∧ ∃ x, w a = some x) → ∃ z, far n = some z ∧ z ≤ wsum w l
  | [], n, hp, _ => by
    rw [show n = t from hp]
    exact ⟨0, h.1, Int.le_refl _⟩
  | a :: l, n, hp, ha => by
    obtain ⟨y, hy, hle⟩ := Sol.path h l (to a) hp.2 (fun b hb => ha b (List.mem_cons_of_mem _ hb))
    obtain ⟨h1, x, hx⟩ := ha a (List.mem_cons_self ..)
    obtain ⟨z, hz, hle'⟩ := h.2.1 a h1 x y hx hy
    rw [hp.1] at hz
    refine ⟨z, hz, ?_⟩
    rw [wsum, hx, Option.getD_some]
    omega
theorem wsum_code {u : Nat → Prop} {fe tl : Nat → Int} {K M c : Int} : ∀ l : List Nat, (∀ a ∈ l, u a) → wsum (wcd u fe tl K M c) l = K * lsum fe l + M * lsum tl l + c * l.length
  | [], _ => by simp [wsum, lsum]
  | a :: l, h => by
    rw [wsum, wsum_code l (fun b hb => h b (List.mem_cons_of_mem _ hb)), wcd_pos (h a (List.mem_cons_self ..)), Option.getD_some, lsum, lsum, List.length_cons]
    simp only [Int.mul_add, Int.natCast_add, Int.natCast_one, Int.mul_one]
    omega
section
variable {N A : Nat} {fr to : Nat → Nat} {u : Nat → Prop} {fe tl : Nat → Int} {s : Int} {t : Nat}
/-- every arc of a path leads from a node as far as the first one at most; no arc comes twice -/
theorem ptA_nodup (h : GN N A fr to u fe tl t) (hs : wB s) : ∀ (k : Nat) (n : Nat) (z : Int), z.toNat < k → dA A fr to u fe tl s t n = some z → (ptA A fr to u fe tl s t n).Nodup ∧ ∀ b ∈ ptA A fr to u fe tl s t n, ∃ y, dA A fr to u fe tl s t (fr b) = some y ∧ y ≤ z := by
  intro k
  induction k with
  | zero => intro n z h1; omega
  | succ k ih =>
    intro n z h1 hz
    by_cases hn : n = t
    · have : ptA A fr to u fe tl s t n = [] := by
        unfold ptA pth
        rw [if_pos hn]
      rw [this]
      exact ⟨List.nodup_nil, fun b hb => by cases hb⟩
    · rw [ptA_cons h hs hz hn]
      obtain ⟨g1, g2, g3, g4, -, g5⟩ := nA_ok h hs hz hn
      obtain ⟨x, y, hx, hy, hxy⟩ := tgt_iff.mp g4
      rw [g2, hz] at hxy
      have hxy := Option.some.inj hxy
      obtain ⟨ua, ex⟩ := (wcd_some _ _).mp hx
      have d := h.2.2.1 _ g1
      have := wA_rng hs _ _ d.1 d.2.1 d.2.2.1 d.2.2.2
      have hy0 := (dA_sol h hs).1.2.2.2 _ _ hy
      obtain ⟨i1, i2⟩ := ih _ y (by omega) hy
      refine ⟨List.nodup_cons.mpr ⟨fun hm => ?_, i1⟩, fun b hb => ?_⟩
      · obtain ⟨y', hy', hle⟩ := i2 _ hm
        rw [g2, hz] at hy'
        have := Option.some.inj hy'
        omega
      · rcases List.mem_cons.mp hb with rfl | hb
        · exact ⟨z, by rw [g2]; exact hz, Int.le_refl _⟩
        · obtain ⟨y', hy', hle⟩ := i2 _ hb
          exact ⟨y', hy', by omega⟩
end
/-- the long number of a path -/
def cod (ρ : Nat → Nat) (v : Nat) (p : List Nat) : Int := 1000000000 * lsum (feI ρ v) p + (100 * sgn ρ) * lsum (tlI ρ) p + p.length
section
variable {ρ : Nat → Nat} {m fz : Nat} {aw : Int} {t : Nat}
theorem dT_le (hI : Inv ρ) (ht : t < ρ 2) {n : Nat} {l : List Nat} (hp : isP (aFr ρ) (aTo ρ) (pTo ρ t) n l) (hu : ∀ a ∈ l, uT ρ m aw fz a) : ∃ z, dT ρ m aw fz t n = some z ∧ z ≤ cod ρ (pVa ρ t) l := by
  obtain ⟨z, hz, hle⟩ := (dA_sol (tw_GN (m := m) (aw := aw) (fz := fz) hI ht) (sgn_wB ρ)).1.path l n hp (fun a ha => ⟨(hu a ha).1, _, wcd_pos (hu a ha)⟩)
  rw [wsum_code l hu, Int.one_mul] at hle
  exact ⟨z, hz, hle⟩
theorem dT_cod (hI : Inv ρ) (ht : t < ρ 2) {n : Nat} {z : Int} (hz : dT ρ m aw fz t n = some z) : z = cod ρ (pVa ρ t) (pT ρ m aw fz t n) ∧ isP (aFr ρ) (aTo ρ) (pTo ρ t) n (pT ρ m aw fz t n) ∧ (∀ a ∈ pT ρ m aw fz t n, uT ρ m aw fz a) ∧ (pT ρ m aw fz t n).Nodup := by
  obtain ⟨h1, h2, h3, h4, h5, h6⟩ := pT_all hI ht hz
  exact ⟨h1, h5, h6, (ptA_nodup (tw_GN hI ht) (sgn_wB ρ) _ n z (Nat.lt_succ_self _) hz).1⟩
end
def upN (ρ : Nat → Nat) (k x : Nat) : Nat → Nat := fun j => if j = k then x else ρ j
/-- the row with another toll -/
def stl (ρ : Nat → Nat) (a x : Nat) : Nat → Nat := upN ρ (4 + 6 * a + 4) x
section
variable (ρ : Nat → Nat) (a x b : Nat)
theorem stl_low {k : Nat} (h : k < 4) : stl ρ a x k = ρ k := if_neg (by omega)
theorem stl_F : aFr (stl ρ a x) b = aFr ρ b := if_neg (by omega)
theorem stl_T : aTo (stl ρ a x) b = aTo ρ b := if_neg (by omega)
theorem stl_C : aCo (stl ρ a x) b = aCo ρ b := if_neg (by omega)
theorem stl_M : aMx (stl ρ a x) b = aMx ρ b := if_neg (by omega)
theorem stl_X : aCl (stl ρ a x) b = aCl ρ b := if_neg (by omega)
theorem stl_L : aTl (stl ρ a x) b = if b = a then x else aTl ρ b := by
  unfold aTl stl upN
  by_cases h : b = a
  · rw [if_pos (by omega), if_pos h]
  · rw [if_neg (by omega), if_neg h]
theorem stl_pF (h : a < 24) : pFr (stl ρ a x) b = pFr ρ b := if_neg (by omega)
theorem stl_pT (h : a < 24) : pTo (stl ρ a x) b = pTo ρ b := if_neg (by omega)
theorem stl_pD (h : a < 24) : pDe (stl ρ a x) b = pDe ρ b := if_neg (by omega)
theorem stl_pV (h : a < 24) : pVa (stl ρ a x) b = pVa ρ b := if_neg (by omega)
theorem stl_stl (y : Nat) : stl (stl ρ a x) a y = stl ρ a y := by
  funext j
  unfold stl upN
  by_cases h : j = 4 + 6 * a + 4
  · rw [if_pos h, if_pos h]
  · rw [if_neg h, if_neg h, if_neg h]
theorem stl_self : stl ρ a (aTl ρ a) = ρ := by
  funext j
  unfold stl upN
  by_cases h : j = 4 + 6 * a + 4
  · rw [if_pos h, h]; rfl
  · rw [if_neg h]
theorem stl_sgn : sgn (stl ρ a x) = sgn ρ := by unfold sgn; rw [stl_low ρ a x (by omega)]
end
theorem Inv.stl {ρ : Nat → Nat} (hI : Inv ρ) {a x : Nat} (ha : a < ρ 1) (hx : x ≤ aMx ρ a) : Inv (stl ρ a x) := by
  have h1 := hI.h1
  unfold Inv
  simp (disch := omega) only [stl_low, stl_F, stl_T, stl_C, stl_M, stl_X, stl_L, stl_pF, stl_pT, stl_pD, stl_pV]
  obtain ⟨h0, -, h2, h3, h4, h5, h6, h7, h8⟩ := hI
  refine ⟨h0, h1, h2, h3, fun b hb => ?_, h5, h6, h7, fun b hb hb' => ?_⟩
  · have := h4 b hb
    by_cases e : b = a
    · subst e; rw [if_pos rfl]; omega
    · rw [if_neg e]; exact this
  · rw [if_neg (by omega)]; exact h8 b hb hb'
theorem uT_stl {ρ : Nat → Nat} {m fz : Nat} {aw : Int} {a x b : Nat} : uT (stl ρ a x) m aw fz b ↔ uT ρ m aw fz b := by
  unfold uT
  rw [stl_low ρ a x (by omega), stl_F, stl_T, stl_M, stl_X]
theorem isP_congr {fr to fr' to' : Nat → Nat} {t : Nat} (h1 : ∀ a, fr a = fr' a) (h2 : ∀ a, to a = to' a) : ∀ (l : List Nat) n, isP fr to t n l ↔ isP fr' to' t n l
  | [], n => Iff.rfl
  | a :: l, n => by
    unfold isP
    rw [h1 a, h2 a, isP_congr h1 h2 l]
theorem isP_stl {ρ : Nat → Nat} {a x t n : Nat} {l : List Nat} : isP (aFr (stl ρ a x)) (aTo (stl ρ a x)) t n l ↔ isP (aFr ρ) (aTo ρ) t n l := isP_congr (fun b => stl_F ρ a x b) (fun b => stl_T ρ a x b) l n
theorem tl_stl (ρ : Nat → Nat) (a x : Nat) : ∀ l : List Nat, lsum (tlI (stl ρ a x)) l = lsum (tlI (stl ρ a 0)) l + x * (l.count a : Nat)
  | [] => by simp [lsum]
  | b :: l => by
    rw [lsum, lsum, tl_stl ρ a x l, List.count_cons]
    unfold tlI
    rw [stl_L, stl_L]
    by_cases e : b = a
    · subst e
      simp [Int.mul_add]
      omega
    · rw [if_neg e, if_neg e]
      simp [e]
      omega
theorem fe_stl (ρ : Nat → Nat) (v a x : Nat) : ∀ l : List Nat, lsum (feI (stl ρ a x) v) l = lsum (feI (stl ρ a 0) v) l + x * (l.count a : Nat)
  | [] => by simp [lsum]
  | b :: l => by
    rw [lsum, lsum, fe_stl ρ v a x l, List.count_cons]
    unfold feI feN
    rw [stl_L, stl_L, stl_C, stl_C]
    by_cases e : b = a
    · subst e
      simp [Int.mul_add]
      omega
    · rw [if_neg e, if_neg e]
      simp [e]
      omega
theorem cod_stl (ρ : Nat → Nat) (v a x : Nat) (l : List Nat) : cod (stl ρ a x) v l = cod (stl ρ a 0) v l + (1000000000 + 100 * sgn ρ) * (x * (l.count a : Nat)) := by
  unfold cod
  rw [tl_stl, fe_stl, stl_sgn, stl_sgn]
  generalize (x : Int) * (l.count a : Nat) = q
  simp only [Int.mul_add, Int.add_mul]
  omega
