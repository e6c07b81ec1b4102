/-! Plain law: the three codings of one network, the first tight arcs, the path -/
noncomputable def wcd (u : Nat → Prop) (fe tl : Nat → Int) (K M c : Int) (a : Nat) : Option Int := @ite _ (u a) (Classical.propDecidable _) (some (K * fe a + M * tl a + c)) none
theorem wcd_some {u : Nat → Prop} {fe tl : Nat → Int} {K M c : Int} (a : Nat) (x : Int) : wcd u fe tl K M c a = some x ↔ u a ∧ x = K * fe a + M * tl a + c := by
  unfold wcd
  by_cases h : u a
  · rw [if_pos h]
    exact ⟨fun e => ⟨h, (Option.some.inj e).symm⟩, fun e => by rw [e.2]⟩
  · rw [if_neg h]
    exact ⟨fun e => (by cases e), fun e => absurd e.1 h⟩
theorem wcd_pos {u : Nat → Prop} {fe tl : Nat → Int} {K M c : Int} {a : Nat} (h : u a) : wcd u fe tl K M c a = some (K * fe a + M * tl a + c) := if_pos h
theorem wcd_neg {u : Nat → Prop} {fe tl : Nat → Int} {K M c : Int} {a : Nat} (h : ¬ u a) : wcd u fe tl K M c a = none := if_neg h
/-- a network in range -/
def GN (N A : Nat) (fr to : Nat → Nat) (u : Nat → Prop) (fe tl : Nat → Int) (t : Nat) : Prop :=
  (∀ a, u a → a < A) ∧ (∀ a, a < A → fr a < N ∧ to a < N) ∧ (∀ a, a < A → 0 ≤ tl a ∧ tl a ≤ 9999 ∧ tl a + 1 ≤ fe a ∧ fe a ≤ 29979) ∧ N ≤ 10 ∧ t < N
def wB (s : Int) : Prop := s = 1 ∨ s = -1
theorem GN.bf {N A : Nat} {fr to : Nat → Nat} {u : Nat → Prop} {fe tl : Nat → Int} {t : Nat} (h : GN N A fr to u fe tl t) {K M c W : Int} (hk : ∀ f x : Int, 0 ≤ x → x ≤ 9999 → x + 1 ≤ f → f ≤ 29979 → 0 < K * f + M * x + c ∧ K * f + M * x + c ≤ W) (hW : 0 ≤ W) :
    BfN N A fr to (wcd u fe tl K M c) W t := by
  refine ⟨h.2.1, fun a x hx => ?_, h.2.2.2.2, hW⟩
  obtain ⟨ua, rfl⟩ := (wcd_some a x).mp hx
  have := h.2.2.1 a (h.1 a ua)
  exact hk _ _ this.1 this.2.1 this.2.2.1 this.2.2.2
def tgt (fr to : Nat → Nat) (w far : Nat → Option Int) (a : Nat) : Bool := match w a, far (to a), far (fr a) with
  | some x, some y, some z => decide (y + x = z)
  | _, _, _ => false
theorem tgt_iff {fr to : Nat → Nat} {w far : Nat → Option Int} {a : Nat} : tgt fr to w far a = true ↔ ∃ x y, w a = some x ∧ far (to a) = some y ∧ far (fr a) = some (y + x) := by
  unfold tgt
  split
  next x y z hx hy hz =>
    rw [decide_eq_true_iff]
    constructor
    · intro e; exact ⟨x, y, hx, hy, by rw [e]; exact hz⟩
    · rintro ⟨x', y', h1, h2, h3⟩
      rw [hx] at h1; rw [hy] at h2; rw [hz] at h3
      cases h1; cases h2; cases h3; rfl
  next hh =>
    constructor
    · intro h; cases h
    · rintro ⟨x', y', h1, h2, h3⟩
      exact (hh _ _ _ h1 h2 h3).elim
def nxf (A : Nat) (fr to : Nat → Nat) (w far : Nat → Option Int) (n : Nat) : Nat := ((List.range A).find? (fun a => fr a == n && tgt fr to w far a)).getD 0
theorem nxf_some {A : Nat} {fr to : Nat → Nat} {w far : Nat → Option Int} {n a : Nat} (ha : a < A) (hf : fr a = n) (ht : tgt fr to w far a = true) :
    nxf A fr to w far n ≤ a ∧ fr (nxf A fr to w far n) = n ∧ tgt fr to w far (nxf A fr to w far n) = true ∧ ∀ b, b < nxf A fr to w far n → ¬ (fr b = n ∧ tgt fr to w far b = true) := by
  unfold nxf
  cases e : (List.range A).find? (fun a => fr a == n && tgt fr to w far a) with
  | none =>
    have := (List.find?_eq_none.mp e) a (List.mem_range.mpr ha)
    simp [hf, ht] at this
  | some b =>
    have h1 := List.find?_some e
    simp only [Bool.and_eq_true, beq_iff_eq] at h1
    have h2 : ∀ c, c < b → ¬ (fr c = n ∧ tgt fr to w far c = true) := by
      intro c hc hh
      have h3 := List.find?_range_eq_some.mp e
      have h4 := h3.2.2 c hc
      simp [hh.1, hh.2] at h4
    refine ⟨?_, h1.1, h1.2, h2⟩
    rcases Nat.lt_or_ge a b with h | h
    · exact absurd ⟨hf, ht⟩ (h2 a h)
    · exact h
theorem Sol.nxf {A : Nat} {fr to : Nat → Nat} {w : Nat → Option Int} {t : Nat} {far : Nat → Option Int} (h : Sol A fr to w t far) :
    ∀ n, n ≠ t → ∀ z, far n = some z → nxf A fr to w far n < A ∧ fr (nxf A fr to w far n) = n ∧ ∃ x y, w (nxf A fr to w far n) = some x ∧ far (to (nxf A fr to w far n)) = some y ∧ z = y + x := by
  intro n hn z hz
  obtain ⟨a, ha, hf, x, y, hx, hy, e⟩ := h.2.2.1 n hn z hz
  obtain ⟨h1, h2, h3, -⟩ := nxf_some ha hf (tgt_iff.mpr ⟨x, y, hx, hy, by rw [hf, hz, e]⟩)
  obtain ⟨x', y', hx', hy', hz'⟩ := tgt_iff.mp h3
  rw [h2, hz] at hz'
  exact ⟨Nat.lt_of_le_of_lt h1 ha, h2, x', y', hx', hy', Option.some.inj hz'⟩
theorem nxf_congr {A : Nat} {fr to : Nat → Nat} {w w' far far' : Nat → Option Int} (h : ∀ a, a < A → tgt fr to w far a = tgt fr to w' far' a) : nxf A fr to w far = nxf A fr to w' far' := by
  funext n
  unfold nxf
  congr 1
  have : ∀ l : List Nat, (∀ a ∈ l, a < A) → l.find? (fun a => fr a == n && tgt fr to w far a) = l.find? (fun a => fr a == n && tgt fr to w' far' a) := by
    intro l
    induction l with
    | nil => intro _; rfl
    | cons b l ih =>
      intro hl
      simp only [List.find?_cons]
      rw [h b (hl b (List.mem_cons_self ..)), ih (fun a ha => hl a (List.mem_cons_of_mem _ ha))]
  exact this _ (fun a ha => List.mem_range.mp ha)
/-- the arcs from a node on -/
def pth (t : Nat) (to nx : Nat → Nat) : Nat → Nat → List Nat
  | 0, _ => []
  | k + 1, n => if n = t then [] else nx n :: pth t to nx k (to (nx n))
def lsum (f : Nat → Int) : List Nat → Int
  | [] => 0
  | a :: l => lsum f l + f a
theorem trf_pth {t : Nat} {to nx : Nat → Nat} {fe tl : Nat → Int} : ∀ k n, trf t to nx fe tl k n = (lsum fe (pth t to nx k n), lsum tl (pth t to nx k n), ((pth t to nx k n).length : Int))
  | 0, n => rfl
  | k + 1, n => by
    unfold trf pth
    split
    · rfl
    · rw [trf_pth k]
      simp [lsum]
/-- arcs that lead from a node to the last one -/
def isP (fr to : Nat → Nat) (t : Nat) : Nat → List Nat → Prop
  | n, [] => n = t
  | n, a :: l => fr a = n ∧ isP fr to t (to a) l
theorem hlexAB {N : Nat} (hN : N ≤ 10) {s : Int} (hs : wB s) (F T C F' T' C' : Int) (h1 : 0 ≤ T) (h2 : T ≤ 9999 * N) (h3 : 0 ≤ C) (h4 : C ≤ N) (h5 : 0 ≤ T') (h6 : T' ≤ 9999 * N) (h7 : 0 ≤ C') (h8 : C' ≤ N)
    (h : 1000000000 * F + (100 * s) * T + C ≤ 1000000000 * F' + (100 * s) * T' + C') : 10000000 * F + (16 * s) * T + C ≤ 10000000 * F' + (16 * s) * T' + C' := by
  rcases hs with rfl | rfl <;> omega
theorem hlexBA {N : Nat} (hN : N ≤ 10) {s : Int} (hs : wB s) (F T C F' T' C' : Int) (h1 : 0 ≤ T) (h2 : T ≤ 9999 * N) (h3 : 0 ≤ C) (h4 : C ≤ N) (h5 : 0 ≤ T') (h6 : T' ≤ 9999 * N) (h7 : 0 ≤ C') (h8 : C' ≤ N)
    (h : 10000000 * F + (16 * s) * T + C ≤ 10000000 * F' + (16 * s) * T' + C') : 1000000000 * F + (100 * s) * T + C ≤ 1000000000 * F' + (100 * s) * T' + C' := by
  rcases hs with rfl | rfl <;> omega
theorem wA_rng {s : Int} (hs : wB s) (f x : Int) (h1 : 0 ≤ x) (h2 : x ≤ 9999) (h3 : x + 1 ≤ f) (h4 : f ≤ 29979) : 0 < 1000000000 * f + (100 * s) * x + 1 ∧ 1000000000 * f + (100 * s) * x + 1 ≤ 30000000000000 := by
  rcases hs with rfl | rfl <;> omega
theorem wB_rng {s : Int} (hs : wB s) (f x : Int) (h1 : 0 ≤ x) (h2 : x ≤ 9999) (h3 : x + 1 ≤ f) (h4 : f ≤ 29979) : 0 < 10000000 * f + (16 * s) * x + 1 ∧ 10000000 * f + (16 * s) * x + 1 ≤ 30000000000000 := by
  rcases hs with rfl | rfl <;> omega
theorem wC_rng (f x : Int) (h1 : 0 ≤ x) (h2 : x ≤ 9999) (h3 : x + 1 ≤ f) (h4 : f ≤ 29979) : 0 < 1 * f + 0 * x + 0 ∧ 1 * f + 0 * x + 0 ≤ 30000000000000 := by omega
section
variable (A : Nat) (fr to : Nat → Nat) (u : Nat → Prop) (fe tl : Nat → Int) (s : Int) (t : Nat)
noncomputable def dA : Nat → Option Int := dst A fr to (wcd u fe tl 1000000000 (100 * s) 1) t
noncomputable def dB : Nat → Option Int := dst A fr to (wcd u fe tl 10000000 (16 * s) 1) t
noncomputable def dC : Nat → Option Int := dst A fr to (wcd u fe tl 1 0 0) t
noncomputable def nA : Nat → Nat := nxf A fr to (wcd u fe tl 1000000000 (100 * s) 1) (dA A fr to u fe tl s t)
noncomputable def ptA (n : Nat) : List Nat := pth t to (nA A fr to u fe tl s t) 10 n
end
section
variable {N A : Nat} {fr to : Nat → Nat} {u : Nat → Prop} {fe tl : Nat → Int} {s : Int} {t : Nat}
theorem dA_sol (h : GN N A fr to u fe tl t) (hs : wB s) : Sol A fr to (wcd u fe tl 1000000000 (100 * s) 1) t (dA A fr to u fe tl s t) ∧ Bf N A fr to (wcd u fe tl 1000000000 (100 * s) 1) 30000000000000 t (dA A fr to u fe tl s t) := dst_sol (h.bf (wA_rng hs) (by omega))
theorem dB_sol (h : GN N A fr to u fe tl t) (hs : wB s) : Sol A fr to (wcd u fe tl 10000000 (16 * s) 1) t (dB A fr to u fe tl s t) ∧ Bf N A fr to (wcd u fe tl 10000000 (16 * s) 1) 30000000000000 t (dB A fr to u fe tl s t) := dst_sol (h.bf (wB_rng hs) (by omega))
theorem dC_sol (h : GN N A fr to u fe tl t) : Sol A fr to (wcd u fe tl 1 0 0) t (dC A fr to u fe tl t) ∧ Bf N A fr to (wcd u fe tl 1 0 0) 30000000000000 t (dC A fr to u fe tl t) := dst_sol (h.bf wC_rng (by omega))
/-- all about the path from a node on -/
theorem ptA_all (h : GN N A fr to u fe tl t) (hs : wB s) {n : Nat} {z : Int} (hz : dA A fr to u fe tl s t n = some z) (k : Nat) (hk : 9 < k ∨ z.toNat < k) :
    pth t to (nA A fr to u fe tl s t) k n = ptA A fr to u fe tl s t n ∧ z = 1000000000 * lsum fe (ptA A fr to u fe tl s t n) + (100 * s) * lsum tl (ptA A fr to u fe tl s t n) + (ptA A fr to u fe tl s t n).length ∧
    (ptA A fr to u fe tl s t n).length + 1 ≤ N ∧ 0 ≤ lsum tl (ptA A fr to u fe tl s t n) ∧ lsum tl (ptA A fr to u fe tl s t n) ≤ 9999 * (ptA A fr to u fe tl s t n).length ∧ isP fr to t n (ptA A fr to u fe tl s t n) ∧ ∀ a ∈ ptA A fr to u fe tl s t n, u a := by
  have S := (dA_sol h hs).1
  have B := (dA_sol h hs).2
  have hw : ∀ a x, wcd u fe tl 1000000000 (100 * s) 1 a = some x → 0 < x := fun a x e => by
    obtain ⟨ua, rfl⟩ := (wcd_some a x).mp e
    have := h.2.2.1 a (h.1 a ua)
    exact (wA_rng hs _ _ this.1 this.2.1 this.2.2.1 this.2.2.2).1
  have hn := S.nxf
  have hzN : ∀ n z, dA A fr to u fe tl s t n = some z → n < N := fun n z e => by
    rcases Nat.lt_or_ge n N with h' | h'
    · exact h'
    · rw [B.2.2.2 n h'] at e; cases e
  -- length by fuel
  have L : ∀ (k n : Nat) (z : Int), dA A fr to u fe tl s t n = some z → z.toNat < k → (pth t to (nA A fr to u fe tl s t) k n).length + 1 ≤ N := by
    intro k n z e hk
    have h1 := trf_cnt (fe := fe) (tl := tl) (fun a ha => (h.2.1 a ha).2) hw S hn k n z e hk
    rw [trf_pth] at h1
    have h2 := cntB_top (hzN n z e) e
    dsimp only at h1
    have h3 : pth t to (nxf A fr to (wcd u fe tl 1000000000 (100 * s) 1) (dA A fr to u fe tl s t)) k n = pth t to (nA A fr to u fe tl s t) k n := rfl
    rw [h3] at h1
    omega
  -- fuel does not matter
  have St : ∀ (k k' n : Nat) (z : Int), dA A fr to u fe tl s t n = some z → (z.toNat < k ∨ (pth t to (nA A fr to u fe tl s t) k n).length < k) → (z.toNat < k' ∨ (pth t to (nA A fr to u fe tl s t) k' n).length < k') → pth t to (nA A fr to u fe tl s t) k n = pth t to (nA A fr to u fe tl s t) k' n := by
    intro k
    induction k with
    | zero => intro k' n z _ h1; rcases h1 with h1 | h1 <;> omega
    | succ k ih =>
      intro k' n z e h1 h2
      cases k' with
      | zero => rcases h2 with h2 | h2 <;> omega
      | succ k' =>
        unfold pth at h1 h2 ⊢
        by_cases ht : n = t
        · rw [if_pos ht, if_pos ht]
        · rw [if_neg ht] at h1 h2 ⊢
          rw [if_neg ht]
          obtain ⟨g1, g2, x, y, hx, hy, exy⟩ := hn n ht z e
          have := hw _ _ hx
          have := S.2.2.2 _ _ hy
          simp only [List.length_cons] at h1 h2
          congr 1
          refine ih k' _ y hy ?_ ?_
          · rcases h1 with h1 | h1
            · exact .inl (by omega)
            · exact .inr (by omega)
          · rcases h2 with h2 | h2
            · exact .inl (by omega)
            · exact .inr (by omega)
  have hbig := L (z.toNat + 1) n z hz (Nat.lt_succ_self _)
  have hN := h.2.2.2.1
  -- every fuel gives at most the length of the great one
  have Le : ∀ (k k' n : Nat), k ≤ k' → (pth t to (nA A fr to u fe tl s t) k n).length ≤ (pth t to (nA A fr to u fe tl s t) k' n).length := by
    intro k
    induction k with
    | zero => intro k' n _; exact Nat.zero_le _
    | succ k ih =>
      intro k' n hk
      cases k' with
      | zero => omega
      | succ k' =>
        unfold pth
        by_cases ht : n = t
        · rw [if_pos ht, if_pos ht]; exact Nat.le_refl _
        · rw [if_neg ht, if_neg ht]
          simp only [List.length_cons]
          have := ih k' (to (nA A fr to u fe tl s t n)) (by omega)
          omega
  have Lk : ∀ k, (pth t to (nA A fr to u fe tl s t) k n).length + 1 ≤ N := by
    intro k
    have h1 := Le k (k + z.toNat + 1) n (by omega)
    have h2 := L (k + z.toNat + 1) n z hz (by omega)
    omega
  have E10 : ∀ k, 9 < k ∨ z.toNat < k → pth t to (nA A fr to u fe tl s t) k n = ptA A fr to u fe tl s t n := fun k hk =>
    St k 10 n z hz (by have := Lk k; omega) (.inr (by have := Lk 10; omega))
  have Ez := E10 (z.toNat + 1) (.inr (Nat.lt_succ_self _))
  have hc := trf_code (fun a x q => ((wcd_some a x).mp q).2) hw S hn (z.toNat + 1) n z hz (Nat.lt_succ_self _)
  have ht := trf_tl (fe := fe) (D := 9999) (fun a ha => ⟨(h.2.2.1 a ha).1, (h.2.2.1 a ha).2.1⟩) hw S hn (z.toNat + 1) n z hz (Nat.lt_succ_self _)
  rw [trf_pth] at hc ht
  have Ez' : pth t to (nxf A fr to (wcd u fe tl 1000000000 (100 * s) 1) (dA A fr to u fe tl s t)) (z.toNat + 1) n = ptA A fr to u fe tl s t n := Ez
  rw [Ez'] at hc ht
  refine ⟨E10 k hk, hc, by have := Lk 10; exact this, ht.1, ht.2, ?_⟩
  -- chain
  have Ch : ∀ (k n : Nat) (z : Int), dA A fr to u fe tl s t n = some z → z.toNat < k → isP fr to t n (pth t to (nA A fr to u fe tl s t) k n) ∧ ∀ a ∈ pth t to (nA A fr to u fe tl s t) k n, u a := by
    intro k
    induction k with
    | zero => intro n z _ h1; omega
    | succ k ih =>
      intro n z e h1
      unfold pth
      by_cases ht : n = t
      · rw [if_pos ht]; exact ⟨ht, fun a ha => by cases ha⟩
      · rw [if_neg ht]
        obtain ⟨g1, g2, x, y, hx, hy, exy⟩ := hn n ht z e
        have := hw _ _ hx
        have := S.2.2.2 _ _ hy
        have i := ih _ y hy (by omega)
        refine ⟨⟨g2, i.1⟩, fun a ha => ?_⟩
        rcases List.mem_cons.mp ha with rfl | ha
        · exact ((wcd_some _ _).mp hx).1
        · exact i.2 a ha
  have := Ch _ n z hz (Nat.lt_succ_self _)
  rw [Ez] at this
  exact this
end
