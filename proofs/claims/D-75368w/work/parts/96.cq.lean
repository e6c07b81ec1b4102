/-! Plain law: BitSets joined, grown; steps -/
section
variable {w : WH} {b b2 ws ws2 m2 k F : Nat} {g g2 : Nat → Int64} {st st2 : Int32}
theorem c_or1 (h : Bs w b ws g 0 st) (h2 : Bs w b2 ws2 g2 m2 st2) (hb : b ≠ b2) (hws : ws ≠ ws2) : ∃ g', fJ17_or b b2 w = some (hUp (hUp w b (bsC ws (uM m2) st)) ws (lngC 1 g')) ∧ g' 0 = zJ m2 := by
  have hne := h.ne
  have n0 : ¬ (some b = some b2) := fun e => hb (Option.some.inj e)
  have r1 : hIs w b 0 = some () := c_C h.1
  have r2 : gI w b 0 1 = some (zN 0) := c_I h.1 1
  have r3 : gR w b 0 0 = some (some ws) := c_R h.1 0
  have r4 : aLn w ws = some (zN 1) := c_len h.2.1 (show 1 < 6 by decide)
  have q2 : gI w b2 0 1 = some (zN (uM m2)) := c_I h2.1 1
  by_cases e : m2 = 0
  · have eu : uM m2 = 0 := if_pos e
    rw [eu] at q2 ⊢
    have hs : hUp (hUp w b (bsC ws 0 st)) ws (lngC 1 g) = w := by
      rw [hUp_self (w := w) (a := b) (show w.1 b = some (bsC ws 0 st) from h.1), hUp_self h.2.1]
    refine ⟨g, ?_, by rw [e]; exact h.2.2.1⟩
    have l47 : fJ17_or_b47 b b2 (zN 0) (zN 0) w = some (.inr w) := by
      simp (disch := omega) only [b2_some, bd_some, nm_eq, Option.map_some, zN_lit, zN_add, zN_mul, zN_neg1, if_true, if_false, reduceIte, eq_self, Nat.reduceEqDiff, Nat.reduceAdd, Nat.reduceMul, Nat.reduceSub, Nat.reduceLeDiff, Nat.one_ne_zero, not_false_eq_true, Bool.false_eq_true, zN_eq, zN_lt, zN_le,  fJ17_or_b47, Nat.le_refl, fJ17_or_b73, q2, fJ17_or_b100, r1, bs_inv, Option.map]
    have l := wh_inr (body := fun q => fJ17_or_b47 b b2 (zN 0) q.1 q.2) (s := (zN 0, w)) l47
    rw [hs]
    simp (disch := omega) only [b2_some, bd_some, nm_eq, Option.map_some, zN_lit, zN_add, zN_mul, zN_neg1, if_true, if_false, reduceIte, eq_self, Nat.reduceEqDiff, Nat.reduceAdd, Nat.reduceMul, Nat.reduceSub, Nat.reduceLeDiff, Nat.one_ne_zero, not_false_eq_true, Bool.false_eq_true, zN_eq, zN_lt, zN_le,  fJ17_or, n0, r2, q2, mnI, Nat.le_refl, Nat.lt_irrefl, fJ17_or_b45]
    exact l
  · have eu : uM m2 = 1 := if_neg e
    rw [eu] at q2 ⊢
    have p1 : hPut w b 0 1 (.int (zN 1)) = some (hUp w b (bsC ws 1 st)) := c_P h.1 (show 1 < 3 by decide) _
    obtain ⟨w1, hw1⟩ : ∃ w1, w1 = hUp w b (bsC ws 1 st) := ⟨_, rfl⟩
    rw [← hw1] at p1
    have c1 : w1.1 b = some (bsC ws 1 st) := by rw [hw1]; exact hUp_eq _ _ _
    have c2 : w1.1 ws = some (lngC 1 g) := by rw [hw1, hUp_ne _ _ hne.symm]; exact h.2.1
    have c3 : w1.1 b2 = some (bsC ws2 1 st2) := by rw [hw1, hUp_ne _ _ (Ne.symm hb), h2.1, eu]
    have c4 : w1.1 ws2 = some (lngC 1 g2) := by
      rw [hw1, hUp_ne _ _ (fun e => ?_)]
      · exact h2.2.1
      · have h1 := h.1
        rw [← e, h2.2.1] at h1
        cases h1
    have q3 : gI w1 b2 0 1 = some (zN 1) := c_I c3 1
    have q4 : gR w1 b2 0 0 = some (some ws2) := c_R c3 0
    have q5 : gR w1 b 0 0 = some (some ws) := c_R c1 0
    have q6 : gI w1 b 0 1 = some (zN 1) := c_I c1 1
    have cp : cpJ w1 ws2 (zN 0) ws (zN 0) (zN 1 - zN 0) = some (hUp w1 ws (lngC 1 (va_cpy g2 g 0 0 1))) := by
      unfold cpJ
      rw [c4, c2]
      exact if_pos ⟨⟨rfl, rfl, Ne.symm hws⟩, by decide, by decide, by decide, by decide, by decide⟩
    have r9 : ∀ l, hIs (hUp w1 ws l) b 0 = some () := fun l => c_C (fs := [.ref ws, .int 1, .int st]) (by rw [hUp_ne _ _ hne]; exact c1)
    refine ⟨va_cpy g2 g 0 0 1, ?_, by rw [← h2.2.2.1]; rfl⟩
    have l47 : fJ17_or_b47 b b2 (zN 0) (zN 0) w1 = some (.inr (hUp w1 ws (lngC 1 (va_cpy g2 g 0 0 1)))) := by
      simp (disch := omega) only [b2_some, bd_some, nm_eq, Option.map_some, zN_lit, zN_add, zN_mul, zN_neg1, if_true, if_false, reduceIte, eq_self, Nat.reduceEqDiff, Nat.reduceAdd, Nat.reduceMul, Nat.reduceSub, Nat.reduceLeDiff, Nat.one_ne_zero, not_false_eq_true, Bool.false_eq_true, zN_eq, zN_lt, zN_le,  fJ17_or_b47, Nat.le_refl, fJ17_or_b73, q3, q4, q5, q6, cp, fJ17_or_b100, r9, bs_inv, Option.map]
    have l := wh_inr (body := fun q => fJ17_or_b47 b b2 (zN 0) q.1 q.2) (s := (zN 0, w1)) l47
    rw [← hw1]
    simp (disch := omega) only [b2_some, bd_some, nm_eq, Option.map_some, zN_lit, zN_add, zN_mul, zN_neg1, if_true, if_false, reduceIte, eq_self, Nat.reduceEqDiff, Nat.reduceAdd, Nat.reduceMul, Nat.reduceSub, Nat.reduceLeDiff, Nat.one_ne_zero, not_false_eq_true, Bool.false_eq_true, zN_eq, zN_lt, zN_le,  fJ17_or, n0, r2, q2, mnI, fJ17_ensureCapacity, r1, r3, r4, Nat.le_refl, q2, p1, fJ17_or_b45]
    exact l
end
section
variable {w : WH} {b ws nw u k F : Nat} {W : Nat → Nat} {st : Int32}
/-- one bit more, where the words are there -/
theorem bs_put {g : Nat → Int64} {u' : Nat} {w5 : WH} (hb : w5.1 b = some (bsC ws u' st)) (hw : w5.1 ws = some (lngC nw g)) (hg : ∀ k, k < nw → g k = zJ (W k)) (hn : nw ≤ 1024) (hu : u' ≤ nw) (hW : ∀ k, W k < 2 ^ 64) (hk : k / 64 < u') (hz : ∀ j, u' ≤ j → W j = 0) (hl : W (u' - 1) ≠ 0 ∨ u' = k / 64 + 1) :
    BSn (hUp w5 ws (lngC nw (vp_updL g (k / 64) (zJ ((W (k / 64) ||| 2 ^ (k % 64) : Nat) : Int))))) b ws nw u' (fun j => if j = k / 64 then W (k / 64) ||| 2 ^ (k % 64) else W j) st ∧ ∀ i, bit (fun j => if j = k / 64 then W (k / 64) ||| 2 ^ (k % 64) else W j) i = (bit W i || i == k) := by
  have hne : b ≠ ws := fun e => by rw [e, hw] at hb; cases hb
  refine ⟨⟨by rw [hUp_ne _ _ hne]; exact hb, ⟨_, hUp_eq _ _ _, fun j hj => ?_⟩, hu, hn, fun j hj => ?_, fun h0 => ?_, fun j => ?_⟩, fun i => ?_⟩
  · unfold vp_updL
    dsimp only
    by_cases e : j = k / 64
    · rw [if_pos e, if_pos e]
    · rw [if_neg e, if_neg e, hg j hj]
  · dsimp only
    rw [if_neg (by omega), hz j hj]
  · dsimp only
    by_cases e : u' - 1 = k / 64
    · rw [if_pos e]; exact or_ne _ _
    · rw [if_neg e]
      rcases hl with hl | hl
      · exact hl
      · omega
  · dsimp only
    by_cases e : j = k / 64
    · rw [if_pos e]; exact orb_lt (hW _) (by omega)
    · rw [if_neg e]; exact hW j
  · unfold bit
    dsimp only
    by_cases e : i / 64 = k / 64
    · rw [if_pos e, Nat.testBit_or, Nat.testBit_two_pow, e]
      congr 1
      by_cases e2 : k % 64 = i % 64
      · rw [decide_eq_true e2, beq_iff_eq.mpr (show i = k by omega)]
      · rw [decide_eq_false e2, beq_false_of_ne (show i ≠ k by omega)]
    · rw [if_neg e, beq_false_of_ne (show i ≠ k by omega), Bool.or_false]
theorem zJ_shl64 {k : Nat} (hk : k < 2147483648) : (1 : Int64) <<< ((zN k).toInt64 &&& 63) = zJ ((2 ^ (k % 64) : Nat) : Int) := zJ_ext fun i hi => by
  rw [Int64.toBitVec_shiftLeft]
  show ((1 : Int64).toBitVec <<< (((zN k).toInt64 &&& 63).toBitVec.smod 64).toNat).getLsbD i = _
  rw [zJ_amt hk, BitVec.getLsbD_shiftLeft, zJ_gb _ hi, show (1 : Int64) = zJ (1 : Nat) from rfl, zJ_gb 1 (by omega), Nat.testBit_two_pow]
  have hm : k % 64 < 64 := by omega
  generalize k % 64 = j at *
  rcases Nat.lt_trichotomy i j with h | h | h
  · simp [h, show ¬ j = i by omega]
  · subst h; simp [hi]
  · rw [show (1 : Nat).testBit (i - j) = false from by
      rw [show (1 : Nat) = 2 ^ 0 from rfl, Nat.testBit_two_pow]; exact decide_eq_false (by omega)]
    simp [show ¬ j = i by omega]
theorem Kg.upo {Q : Nat → Prop} {w w' : WH} {c n : Nat} (h : Kg F Q w w' c n) {a : Nat} {y : hE} (hy : w'.1 a = some y) (hf : ¬ (F ≤ a ∧ a < F + 6)) (ha : wN w ≤ a ∨ Q a) (x : hE) : Kg F Q w (hUp w' a x) c n := by
  obtain ⟨h1, h2, h3, h4, h5, h6, h7⟩ := h
  refine ⟨fun b hb hfb hq => ?_, h2.upo hf x, h3.up (h3.lt hy) x, h4, h5, h6, h7⟩
  rw [hUp_ne w' x (fun e => by subst e; rcases ha with e | e; omega; exact hq e), h1 b hb hfb hq]
theorem c_setn (h : BSn w b ws nw u W st) (hF : FiC w F) (hW : WF w) (hb : ¬ (F ≤ b ∧ b < F + 6)) (hwsF : ¬ (F ≤ ws ∧ ws < F + 6)) (hk : k < 10000) (h1 : 1 ≤ nw) (h2 : nw ≤ 314) (hC : 1 ≤ wC w) (hS : 314 ≤ wS w) :
    ∃ w' ws' nw' u' W' st', fJ17_set_3 b (zN k) w = some w' ∧ BSn w' b ws' nw' u' W' st' ∧ (∀ i, bit W' i = (bit W i || i == k)) ∧ Kg F (fun a => a = b ∨ a = ws) w w' 1 314 ∧ (1 ≤ nw' ∧ nw' ≤ 314) ∧ (ws' = ws ∨ ws' = wN w) := by
  have hFl := hF.lt hW
  obtain ⟨hc, ⟨g, hw, hg⟩, hu, hn, hz, hl, hWb⟩ := h
  have hne : b ≠ ws := fun e => by rw [e, hw] at hc; cases hc
  have n0 : zN 0 ≤ zN k := by rw [zN_le (by omega) (by omega)]; omega
  have s6 : zN k >>> (zN 6 &&& zN 31) = zN (k / 64) := zN_shr6 (by omega)
  have r1 : hIs w b 0 = some () := c_C hc
  have r2 : gI w b 0 1 = some (zN u) := c_I hc 1
  have r3 : gR w b 0 0 = some (some ws) := c_R hc 0
  have r4 : aLn w ws = some (zN nw) := c_len hw (show 1 < 6 by decide)
  have e1 := zJ_shl64 (k := k) (by omega)
  have K0 : Kg F (fun a => a = b ∨ a = ws) w w 0 0 := Kg.refl hF hW
  have fin : ∀ (w5 : WH) (ws5 nw5 u5 : Nat) (st5 : Int32) (g5 : Nat → Int64) (c n : Nat), fJ17_expandTo b (zN (k / 64)) w = some w5 → w5.1 b = some (bsC ws5 u5 st5) → w5.1 ws5 = some (lngC nw5 g5) → (∀ k, k < nw5 → g5 k = zJ (W k)) → u5 ≤ nw5 → k / 64 < u5 → (∀ j, u5 ≤ j → W j = 0) → (W (u5 - 1) ≠ 0 ∨ u5 = k / 64 + 1) → Kg F (fun a => a = b ∨ a = ws) w w5 1 314 → nw5 ≤ 314 → (ws5 = ws ∨ ws5 = wN w) →
      ∃ w' ws' nw' u' W' st', fJ17_set_3 b (zN k) w = some w' ∧ BSn w' b ws' nw' u' W' st' ∧ (∀ i, bit W' i = (bit W i || i == k)) ∧ Kg F (fun a => a = b ∨ a = ws) w w' 1 314 ∧ (1 ≤ nw' ∧ nw' ≤ 314) ∧ (ws' = ws ∨ ws' = wN w) := by
    intro w5 ws5 nw5 u5 st5 g5 c n x5 c5 d5 hg5 hu5 hk5 hz5 hl5 hK5 hn5 hws5
    have hne5 : b ≠ ws5 := fun e => by rw [e, d5] at c5; cases c5
    obtain ⟨B1, B2⟩ := bs_put (k := k) c5 d5 hg5 (by omega) hu5 hWb hk5 hz5 hl5
    have q5 : gR w5 b 0 0 = some (some ws5) := c_R c5 0
    have l5 : ldJ w5 ws5 (zN (k / 64)) = some (zJ (W (k / 64))) := by rw [c_ldJ d5 (by omega) (by omega), hg5 _ (by omega)]
    have t5 := c_stJ d5 (k := k / 64) (by omega) (by omega) (zJ ((W (k / 64) ||| 2 ^ (k % 64) : Nat) : Int))
    have r6 : ∀ l, hIs (hUp w5 ws5 l) b 0 = some () := fun l => c_C (fs := [.ref ws5, .int (zN u5), .int st5]) (by rw [hUp_ne _ _ hne5]; exact c5)
    refine ⟨_, ws5, nw5, u5, _, st5, ?_, B1, B2, hK5.upo d5 ?_ ?_ _, ⟨by omega, hn5⟩, hws5⟩
    · unfold fJ17_set_3
      simp only [show (0 : Int32) = zN 0 from rfl, if_pos n0, fJ17_wordIndex, b2_some, show (6 : Int32) = zN 6 from rfl, show (31 : Int32) = zN 31 from rfl, s6, r1, bd_some, x5, q5, l5, e1, zJ_or, t5, r6, bs_inv]
      rfl
    · rcases hws5 with e | e
      · rw [e]; exact hwsF
      · rw [e]; omega
    · rcases hws5 with e | e
      · exact .inr (.inr e)
      · exact .inl (Nat.le_of_eq e.symm)
  have k157 : k / 64 ≤ 156 := by omega
  have x1 : zN (k / 64) + zN 1 = zN (k / 64 + 1) := zN_add _ _
  by_cases cA : k / 64 < u
  · refine fin w ws nw u st g 0 0 ?_ hc hw hg hu cA hz (.inl (hl (by omega))) (K0.mono (by omega) (by omega)) h2 (.inl rfl)
    have n1 : k / 64 + 1 ≤ u := cA
    simp (disch := omega) only [b2_some, bd_some, nm_eq, Option.map_some, zN_lit, zN_add, zN_mul, zN_neg1, if_true, if_false, reduceIte, eq_self, Nat.reduceEqDiff, Nat.reduceAdd, Nat.reduceMul, Nat.reduceSub, Nat.reduceLeDiff, Nat.one_ne_zero, not_false_eq_true, Bool.false_eq_true, zN_eq, zN_lt, zN_le,  fJ17_expandTo, x1, r2, n1]
  · have n1 : ¬ (k / 64 + 1 ≤ u) := by omega
    by_cases cB : k / 64 + 1 ≤ nw
    · have p1 : hPut w b 0 1 (.int (zN (k / 64 + 1))) = some (hUp w b (bsC ws (k / 64 + 1) st)) := c_P hc (show 1 < 3 by decide) _
      refine fin (hUp w b (bsC ws (k / 64 + 1) st)) ws nw (k / 64 + 1) st g 0 0 ?_ (hUp_eq _ _ _) (by rw [hUp_ne _ _ hne.symm]; exact hw) hg cB (by omega) (fun j hj => hz j (by omega)) (.inr rfl) ((K0.upo hc hb (.inr (.inl rfl)) _).mono (by omega) (by omega)) h2 (.inl rfl)
      simp (disch := omega) only [b2_some, bd_some, nm_eq, Option.map_some, zN_lit, zN_add, zN_mul, zN_neg1, if_true, if_false, reduceIte, eq_self, Nat.reduceEqDiff, Nat.reduceAdd, Nat.reduceMul, Nat.reduceSub, Nat.reduceLeDiff, Nat.one_ne_zero, not_false_eq_true, Bool.false_eq_true, zN_eq, zN_lt, zN_le,  fJ17_expandTo, x1, r2, n1, r1, fJ17_ensureCapacity, r3, r4, cB, p1]
    · obtain ⟨nn, hnn⟩ : ∃ nn, nn = if 2 * nw < k / 64 + 1 then k / 64 + 1 else 2 * nw := ⟨_, rfl⟩
      have b1 : k / 64 + 1 ≤ nn := by rw [hnn]; split <;> omega
      have b2 : nn ≤ 314 := by rw [hnn]; split <;> omega
      have mx : mxI (zN (2 * nw)) (zN (k / 64 + 1)) = zN nn := by
        unfold mxI
        by_cases e : 2 * nw < k / 64 + 1
        · rw [if_pos ((zN_lt (by omega) (by omega)).mpr e), hnn, if_pos e]
        · rw [if_neg (fun h => e ((zN_lt (by omega) (by omega)).mp h)), hnn, if_neg e]
      have a1 : hNa w 1 (zN nn) = some (wN w, hMk w nn (lngC nn (fun _ => 0))) := by
        unfold hNa
        rw [zN_cl (by omega), if_pos ⟨by rw [show (0 : Int32) = zN 0 from rfl, zN_lt (by omega) (by omega)]; omega, by omega, hC, by omega⟩]
        rfl
      have hb4 := hW.lt hc
      have hw4 := hW.lt hw
      have e2 : (hMk w nn (lngC nn (fun _ => 0))).1 ws = some (lngC nw g) := by rw [hMk_ne _ _ _ (by omega)]; exact hw
      have q4 : aLn (hMk w nn (lngC nn (fun _ => 0))) ws = some (zN nw) := c_len e2 (show 1 < 6 by decide)
      have mn : mnI (zN nw) (zN nn) = zN nw := by
        unfold mnI
        rw [if_neg (fun h => (show ¬ nn < nw by omega) ((zN_lt (by omega) (by omega)).mp h))]
      have cp : cpJ (hMk w nn (lngC nn (fun _ => 0))) ws (zN 0) (wN w) (zN 0) (zN nw) = some (hMk w nn (lngC nn (va_cpy g (fun _ => 0) 0 0 nw))) := by
        unfold cpJ
        rw [e2, hMk_eq]
        show (if _ then some (hUp _ _ _) else none) = _
        rw [hMk_up, zN_cl (by omega), zN_cl (by omega)]
        exact if_pos ⟨⟨rfl, rfl, by omega⟩, by decide, by decide, by rw [show (0 : Int32) = zN 0 from rfl, zN_lt (by omega) (by omega)]; omega, by omega, by omega⟩
      obtain ⟨w1, hw1⟩ : ∃ w1, w1 = hMk w nn (lngC nn (va_cpy g (fun _ => 0) 0 0 nw)) := ⟨_, rfl⟩
      have c1 : w1.1 b = some (bsC ws u st) := by rw [hw1, hMk_ne _ _ _ (by omega)]; exact hc
      have d1 : w1.1 (wN w) = some (lngC nn (va_cpy g (fun _ => 0) 0 0 nw)) := by rw [hw1, hMk_eq]
      have p1 : hPut w1 b 0 0 (.ref (wN w)) = some (hUp w1 b (bsC (wN w) u st)) := c_P c1 (show 0 < 3 by decide) _
      have p2 : hPut (hUp w1 b (bsC (wN w) u st)) b 0 2 (.int (zN 0)) = some (hUp w1 b (bsC (wN w) u (zN 0))) := by
        have := c_P (hUp_eq w1 b (bsC (wN w) u st)) (show 2 < 3 by decide) (.int (zN 0))
        rw [hUp_hUp] at this
        exact this
      have p3 : hPut (hUp w1 b (bsC (wN w) u (zN 0))) b 0 1 (.int (zN (k / 64 + 1))) = some (hUp w1 b (bsC (wN w) (k / 64 + 1) (zN 0))) := by
        have := c_P (hUp_eq w1 b (bsC (wN w) u (zN 0))) (show 1 < 3 by decide) (.int (zN (k / 64 + 1)))
        rw [hUp_hUp] at this
        exact this
      have K1 : Kg F (fun a => a = b ∨ a = ws) w w1 1 nn := by rw [hw1]; exact Kg.mk hF hW _ _
      refine fin (hUp w1 b (bsC (wN w) (k / 64 + 1) (zN 0))) (wN w) nn (k / 64 + 1) (zN 0) _ 0 0 ?_ (hUp_eq _ _ _) (by rw [hUp_ne _ _ (by omega)]; exact d1) (fun j hj => ?_) b1 (by omega) (fun j hj => hz j (by omega)) (.inr rfl) ((K1.upo c1 hb (.inr (.inl rfl)) _).mono (by omega) (by omega)) b2 (.inr rfl)
      · have cp' : fJ13_copyOf_4 ws (zN nn) w = some (some (wN w), w1) := by
          have n5 : ¬ (nn = nw) := by omega
          rw [hw1]
          simp (disch := omega) only [b2_some, bd_some, nm_eq, Option.map_some, zN_lit, zN_add, zN_mul, zN_neg1, if_true, if_false, reduceIte, eq_self, Nat.reduceEqDiff, Nat.reduceAdd, Nat.reduceMul, Nat.reduceSub, Nat.reduceLeDiff, Nat.one_ne_zero, not_false_eq_true, Bool.false_eq_true, zN_eq, zN_lt, zN_le,  fJ13_copyOf_4, r4, n5, a1, q4, mn, cp]
        simp (disch := omega) only [b2_some, bd_some, nm_eq, Option.map_some, zN_lit, zN_add, zN_mul, zN_neg1, if_true, if_false, reduceIte, eq_self, Nat.reduceEqDiff, Nat.reduceAdd, Nat.reduceMul, Nat.reduceSub, Nat.reduceLeDiff, Nat.one_ne_zero, not_false_eq_true, Bool.false_eq_true, zN_eq, zN_lt, zN_le,  fJ17_expandTo, x1, r2, n1, r1, fJ17_ensureCapacity, r3, r4, cB, mx, cp', va_rf, p1, p2, fJ17_ensureCapacity_b38, p3]
      · unfold va_cpy
        by_cases e : j < nw
        · rw [if_pos ⟨Nat.zero_le _, by omega⟩, show 0 + (j - 0) = j by omega, hg j e]
        · rw [if_neg (by omega), hz j (by omega)]
          rfl
end
