/-! Plain law: the three codings say the same -/
section
variable {N A : Nat} {fr to : Nat → Nat} {u : Nat → Prop} {fe tl : Nat → Int} {s : Int} {t : Nat}
theorem dB_eq (h : GN N A fr to u fe tl t) (hs : wB s) (n : Nat) : dB A fr to u fe tl s t n = (dA A fr to u fe tl s t n).map fun _ => 10000000 * lsum fe (ptA A fr to u fe tl s t n) + (16 * s) * lsum tl (ptA A fr to u fe tl s t n) + (ptA A fr to u fe tl s t n).length := by
  have S := (dA_sol h hs).1
  have S2 := Sol.code (u := u) (fe := fe) (tl := tl) (N := N) (D := 9999) (K1 := 1000000000) (M1 := 100 * s) (K2 := 10000000) (M2 := 16 * s) (fun a x => wcd_some a x) (fun a x => wcd_some (K := 10000000) (M := 16 * s) (c := 1) a x)
    (fun a ua => by have := h.2.2.1 a (h.1 a ua); exact (wA_rng hs _ _ this.1 this.2.1 this.2.2.1 this.2.2.2).1) (fun a ua => by have := h.2.2.1 a (h.1 a ua); exact (wB_rng hs _ _ this.1 this.2.1 this.2.2.1 this.2.2.2).1)
    (fun a ha => ⟨(h.2.2.1 a ha).1, (h.2.2.1 a ha).2.1⟩) (fun a ha => (h.2.1 a ha).1) (fun a ha => (h.2.1 a ha).2) (by omega)
    (fun F T C F' T' C' => hlexAB h.2.2.2.1 hs F T C F' T' C') S S.nxf
  have hw : ∀ a x, wcd u fe tl 10000000 (16 * s) 1 a = some x → 0 < x := fun a x e => by
    obtain ⟨ua, rfl⟩ := (wcd_some a x).mp e
    have := h.2.2.1 a (h.1 a ua)
    exact (wB_rng hs _ _ this.1 this.2.1 this.2.2.1 this.2.2.2).1
  have e := dst_eq hw S2
  have e' := congrFun e n
  show dst A fr to (wcd u fe tl 10000000 (16 * s) 1) t n = _
  rw [e']
  cases hz : dA A fr to u fe tl s t n with
  | none => rfl
  | some z =>
    have := (ptA_all h hs hz (z.toNat + 1) (.inr (Nat.lt_succ_self _))).1
    simp only [Option.map_some, trf_pth]
    rw [show pth t to (nxf A fr to (wcd u fe tl 1000000000 (100 * s) 1) (dA A fr to u fe tl s t)) (z.toNat + 1) n = ptA A fr to u fe tl s t n from this]
theorem tgtAB (h : GN N A fr to u fe tl t) (hs : wB s) (a : Nat) (ha : a < A) : tgt fr to (wcd u fe tl 1000000000 (100 * s) 1) (dA A fr to u fe tl s t) a = tgt fr to (wcd u fe tl 10000000 (16 * s) 1) (dB A fr to u fe tl s t) a := by
  have key : ∀ y z, u a → dA A fr to u fe tl s t (to a) = some y → dA A fr to u fe tl s t (fr a) = some z →
      (z = y + (1000000000 * fe a + (100 * s) * tl a + 1) ↔
       10000000 * lsum fe (ptA A fr to u fe tl s t (fr a)) + (16 * s) * lsum tl (ptA A fr to u fe tl s t (fr a)) + (ptA A fr to u fe tl s t (fr a)).length =
       10000000 * lsum fe (ptA A fr to u fe tl s t (to a)) + (16 * s) * lsum tl (ptA A fr to u fe tl s t (to a)) + (ptA A fr to u fe tl s t (to a)).length + (10000000 * fe a + (16 * s) * tl a + 1)) := by
    intro y z ua hy hz
    obtain ⟨-, c1, l1, t1, t1', -⟩ := ptA_all h hs hz 10 (.inl (by omega))
    obtain ⟨-, c2, l2, t2, t2', -⟩ := ptA_all h hs hy 10 (.inl (by omega))
    have d := h.2.2.1 a ha
    have hN := h.2.2.2.1
    subst c1 c2
    generalize lsum fe (ptA A fr to u fe tl s t (fr a)) = F1 at *
    generalize lsum tl (ptA A fr to u fe tl s t (fr a)) = T1 at *
    generalize lsum fe (ptA A fr to u fe tl s t (to a)) = F2 at *
    generalize lsum tl (ptA A fr to u fe tl s t (to a)) = T2 at *
    generalize (ptA A fr to u fe tl s t (fr a)).length = C1 at *
    generalize (ptA A fr to u fe tl s t (to a)).length = C2 at *
    rcases hs with rfl | rfl <;> omega
  have hdB := dB_eq h hs
  apply Bool.eq_iff_iff.mpr
  rw [tgt_iff, tgt_iff]
  constructor
  · rintro ⟨x, y, hx, hy, hz⟩
    obtain ⟨ua, rfl⟩ := (wcd_some a x).mp hx
    refine ⟨_, _, wcd_pos ua, by rw [hdB, hy]; rfl, ?_⟩
    rw [hdB, hz, Option.map_some]
    exact congrArg some ((key y _ ua hy hz).mp rfl)
  · rintro ⟨x, y, hx, hy, hz⟩
    obtain ⟨ua, rfl⟩ := (wcd_some a x).mp hx
    rw [hdB] at hy hz
    cases e1 : dA A fr to u fe tl s t (to a) with
    | none => rw [e1] at hy; cases hy
    | some y1 =>
      cases e2 : dA A fr to u fe tl s t (fr a) with
      | none => rw [e2] at hz; cases hz
      | some z1 =>
        rw [e1] at hy; rw [e2] at hz
        refine ⟨_, y1, wcd_pos ua, rfl, congrArg some ((key y1 z1 ua e1 e2).mpr ?_)⟩
        have h1 := Option.some.inj hy
        have h2 := Option.some.inj hz
        dsimp only at h1 h2
        rw [h2, ← h1]
theorem nB_eq (h : GN N A fr to u fe tl t) (hs : wB s) : nxf A fr to (wcd u fe tl 10000000 (16 * s) 1) (dB A fr to u fe tl s t) = nA A fr to u fe tl s t :=
  (nxf_congr (fun a ha => tgtAB h hs a ha)).symm
theorem dC_eq (h : GN N A fr to u fe tl t) (hs : wB s) (n : Nat) : dC A fr to u fe tl t n = (dA A fr to u fe tl s t n).map fun _ => lsum fe (ptA A fr to u fe tl s t n) := by
  have S := (dA_sol h hs).1
  have hw : ∀ a x, wcd u fe tl 1 0 0 a = some x → 0 < x := fun a x e => by
    obtain ⟨ua, rfl⟩ := (wcd_some a x).mp e
    have := h.2.2.1 a (h.1 a ua)
    exact (wC_rng _ _ this.1 this.2.1 this.2.2.1 this.2.2.2).1
  have hN := h.2.2.2.1
  have S2 : Sol A fr to (wcd u fe tl 1 0 0) t (fun n => (dA A fr to u fe tl s t n).map fun _ => lsum fe (ptA A fr to u fe tl s t n)) := by
    refine ⟨?_, ?_, ?_, ?_⟩
    · dsimp only
      rw [S.1]
      simp [ptA, pth, lsum]
    · intro a ha x y hx hy
      obtain ⟨ua, rfl⟩ := (wcd_some a x).mp hx
      dsimp only at hy ⊢
      cases e : dA A fr to u fe tl s t (to a) with
      | none => rw [e] at hy; cases hy
      | some y1 =>
        rw [e] at hy
        have hy := Option.some.inj hy
        dsimp only at hy
        obtain ⟨z1, hz1, hle⟩ := S.2.1 a ha _ y1 (wcd_pos ua) e
        rw [hz1]
        refine ⟨_, rfl, ?_⟩
        dsimp only
        rw [← hy]
        obtain ⟨-, c1, l1, t1, t1', -⟩ := ptA_all h hs hz1 10 (.inl (by omega))
        obtain ⟨-, c2, l2, t2, t2', -⟩ := ptA_all h hs e 10 (.inl (by omega))
        have d := h.2.2.1 a ha
        rcases hs with rfl | rfl <;> omega
    · intro n hnt z hz
      dsimp only at hz ⊢
      cases e : dA A fr to u fe tl s t n with
      | none => rw [e] at hz; cases hz
      | some z1 =>
        rw [e] at hz
        have hz := Option.some.inj hz
        obtain ⟨g1, g2, x, y, hx, hy, exy⟩ := S.nxf n hnt z1 e
        obtain ⟨ua, rfl⟩ := (wcd_some _ _).mp hx
        refine ⟨_, g1, g2, _, _, wcd_pos ua, by rw [hy]; rfl, ?_⟩
        dsimp only at hz ⊢
        rw [← hz]
        have p1 := (ptA_all h hs e 11 (.inl (by omega))).1
        have p2 := (ptA_all h hs hy 10 (.inl (by omega))).1
        rw [← p1, ← p2]
        conv => lhs; unfold pth
        rw [if_neg hnt]
        simp only [lsum]
        show lsum fe (pth t to (nA A fr to u fe tl s t) 10 (to (nA A fr to u fe tl s t n))) + fe (nA A fr to u fe tl s t n) = _
        show _ = lsum fe (pth t to (nA A fr to u fe tl s t) 10 (to (nA A fr to u fe tl s t n))) + (1 * fe (nA A fr to u fe tl s t n) + 0 * tl (nA A fr to u fe tl s t n) + 0)
        omega
    · intro n z hz
      dsimp only at hz
      cases e : dA A fr to u fe tl s t n with
      | none => rw [e] at hz; cases hz
      | some z1 =>
        rw [e] at hz
        have hz := Option.some.inj hz
        dsimp only at hz
        obtain ⟨-, c1, l1, t1, t1', -, hu⟩ := ptA_all h hs e 10 (.inl (by omega))
        have : ∀ l : List Nat, (∀ a ∈ l, u a) → 0 ≤ lsum fe l := by
          intro l
          induction l with
          | nil => intro _; exact Int.le_refl _
          | cons b l ih =>
            intro hl
            have := ih (fun a ha => hl a (List.mem_cons_of_mem _ ha))
            have := h.2.2.1 b (h.1 b (hl b (List.mem_cons_self ..)))
            simp only [lsum]
            omega
        have := this _ hu
        omega
  exact congrFun (dst_eq hw S2) n
/-- a node on the way: the path is that of its first arc, and on -/
theorem ptA_cons (h : GN N A fr to u fe tl t) (hs : wB s) {n : Nat} {z : Int} (hz : dA A fr to u fe tl s t n = some z) (hn : n ≠ t) :
    ptA A fr to u fe tl s t n = nA A fr to u fe tl s t n :: ptA A fr to u fe tl s t (to (nA A fr to u fe tl s t n)) := by
  have p1 := (ptA_all h hs hz 11 (.inl (by omega))).1
  rw [← p1]
  conv => lhs; unfold pth
  rw [if_neg hn]
  rfl
theorem nA_ok (h : GN N A fr to u fe tl t) (hs : wB s) {n : Nat} {z : Int} (hz : dA A fr to u fe tl s t n = some z) (hn : n ≠ t) :
    nA A fr to u fe tl s t n < A ∧ fr (nA A fr to u fe tl s t n) = n ∧ u (nA A fr to u fe tl s t n) ∧ tgt fr to (wcd u fe tl 1000000000 (100 * s) 1) (dA A fr to u fe tl s t) (nA A fr to u fe tl s t n) = true ∧
    (∃ y, dA A fr to u fe tl s t (to (nA A fr to u fe tl s t n)) = some y) ∧ ∀ b, b < nA A fr to u fe tl s t n → ¬ (fr b = n ∧ tgt fr to (wcd u fe tl 1000000000 (100 * s) 1) (dA A fr to u fe tl s t) b = true) := by
  have S := (dA_sol h hs).1
  obtain ⟨a, ha, hf, x, y, hx, hy, e⟩ := S.2.2.1 n hn z hz
  obtain ⟨h1, h2, h3, h4⟩ := nxf_some ha hf (tgt_iff.mpr ⟨x, y, hx, hy, by rw [hf, hz, e]⟩)
  obtain ⟨x', y', hx', hy', -⟩ := tgt_iff.mp h3
  exact ⟨Nat.lt_of_le_of_lt h1 ha, h2, ((wcd_some _ _).mp hx').1, h3, ⟨y', hy'⟩, h4⟩
end
