/-! Plain law: BitSets made, joined, grown -/
theorem hMk_upo (w : WH) {a n : Nat} {c x : hE} (h : a ≠ wN w) : hUp (hMk w n c) a x = hMk (hUp w a x) n c := by
  unfold hUp hMk va_up
  congr 1
  funext j
  dsimp only
  by_cases e : j = a
  · rw [if_pos e, if_neg (show ¬ j = wN (fun j => if j = a then some x else w.1 j, w.2) from fun e' => h (e.symm.trans e')), if_pos e]
  · rw [if_neg e]
    by_cases e' : j = wN w
    · rw [if_pos e', if_pos (show j = wN (fun j => if j = a then some x else w.1 j, w.2) from e')]
    · rw [if_neg e', if_neg (show ¬ j = wN (fun j => if j = a then some x else w.1 j, w.2) from e'), if_neg e]
def bsN (w : WH) (st : Int32) : WH := hMk (hMk w 3 (bsC (wN w + 1) 0 st)) 1 (lngC 1 (fun _ => 0))
section
variable {w : WH} {b ws m m' k F : Nat} {g : Nat → Int64} {st : Int32}
theorem bsN_Bs (w : WH) (st : Int32) : Bs (bsN w st) (wN w) (wN w + 1) (fun _ => 0) 0 st := ⟨by unfold bsN; rw [hMk_ne _ _ _ (show wN w ≠ wN w + 1 by omega), hMk_eq]; rfl, hMk_eq _ _ _, rfl, by decide⟩
theorem bsN_Kg {Q : Nat → Prop} (hF : FiC w F) (hW : WF w) (st : Int32) : Kg F Q w (bsN w st) 2 4 := by
  have k1 : Kg F Q w (hMk w 3 (bsC (wN w + 1) 0 st)) 1 3 := Kg.mk hF hW _ _
  exact k1.tr0 (Kg.mk (hF.mk hW _ _) (hW.mk _ _) 1 (lngC 1 (fun _ => 0)))
theorem bs_words {w1 : WH} {b u : Nat} {st : Int32} (hb : w1.1 b = some (.inr (0, [.null, .int (zN u), .int st]))) (hlt : b ≠ wN w1) (n : Nat) (h1 : 1 ≤ n) (h2 : n ≤ 64) (hC : 1 ≤ wC w1) (hS : 1 ≤ wS w1) : fJ17_initWords b (zN n) w1 = some (hUp (hMk w1 1 (lngC 1 (fun _ => 0))) b (bsC (wN w1) u st)) := by
  have e1 : zN n - 1 = zN (n - 1) := zN_sub (b := 1) h1
  have s6 : zN (n - 1) >>> (zN 6 &&& zN 31) = zN ((n - 1) / 64) := zN_shr6 (by omega)
  rw [show (n - 1) / 64 = 0 by omega] at s6
  have a1 : hNa w1 1 (zN 0 + 1) = some (wN w1, hMk w1 1 (lngC 1 (fun _ => 0))) := by
    unfold hNa
    rw [if_pos]
    · rfl
    · rw [show zN 0 + 1 = zN 1 from rfl, zN_cl (by omega)]
      exact ⟨by decide, by omega, hC, hS⟩
  have p1 : hPut (hMk w1 1 (lngC 1 (fun _ => 0))) b 0 0 (.ref (wN w1)) = some (hUp (hMk w1 1 (lngC 1 (fun _ => 0))) b (bsC (wN w1) u st)) := c_P (fs := [.null, .int (zN u), .int st]) (by rw [hMk_ne _ _ _ hlt]; exact hb) (show 0 < 3 by decide) _
  unfold fJ17_initWords fJ17_wordIndex
  simp only [e1, show (6 : Int32) = zN 6 from rfl, show (31 : Int32) = zN 31 from rfl, s6, b2_some, a1, p1, bd_some]
theorem c_bsnew {n : Nat} (h1 : 1 ≤ n) (h2 : n ≤ 64) (hC : 2 ≤ wC w) (hS : 4 ≤ wS w) : fJ17_init (wN w) (zN n) (hMk w 3 (.inr (0, [.null, .int 0, .int 0]))) = some (bsN w 1) := by
  have p1 := c_P (hMk_eq w 3 (.inr (0, [.null, .int 0, .int 0]))) (k := 1) (show 1 < 3 by decide) (.int 0)
  rw [hMk_up] at p1
  have p2 := c_P (hMk_eq w 3 (.inr (0, [.null, .int 0, .int 0]))) (k := 2) (show 2 < 3 by decide) (.int 0)
  rw [hMk_up] at p2
  have r1 : hIs (hMk w 3 (.inr (0, [.null, .int 0, .int 0]))) (wN w) 0 = some () := c_C (hMk_eq _ _ _)
  have e1 := bs_words (w1 := hMk w 3 (.inr (0, [.null, .int 0, .int 0]))) (b := wN w) (u := 0) (st := 0) (hMk_eq _ _ _) (show wN w ≠ wN w + 1 by omega) n h1 h2 (by rw [hMk_C]; omega) (by rw [hMk_S]; omega)
  rw [hMk_upo _ (show wN w ≠ wN w + 1 by omega), hMk_up] at e1
  have n0 : (0 : Int32) ≤ zN n := by rw [show (0 : Int32) = zN 0 from rfl, zN_le (by omega) (by omega)]; omega
  have p3 := c_P ((hMk_ne (hMk w 3 (bsC (wN w + 1) 0 0)) 1 (lngC 1 (fun _ => 0)) (show wN w ≠ wN w + 1 by omega)).trans (hMk_eq _ _ _)) (k := 2) (show 2 < 3 by decide) (.int 1)
  rw [hMk_upo _ (show wN w ≠ wN w + 1 by omega), hMk_up] at p3
  unfold fJ17_init
  simp only [p1, bd_some, List.set, p2, if_pos n0, r1, e1]
  exact congrArg (fun o : Option WH => o.bind fun w9 => some w9) p3
theorem c_bsnew2 (hC : 2 ≤ wC w) (hS : 4 ≤ wS w) : fJ17_init_2 (wN w) (hMk w 3 (.inr (0, [.null, .int 0, .int 0]))) = some (bsN w 0) := by
  have p1 := c_P (hMk_eq w 3 (.inr (0, [.null, .int 0, .int 0]))) (k := 1) (show 1 < 3 by decide) (.int 0)
  rw [hMk_up] at p1
  have p2 := c_P (hMk_eq w 3 (.inr (0, [.null, .int 0, .int 0]))) (k := 2) (show 2 < 3 by decide) (.int 0)
  rw [hMk_up] at p2
  have r1 : hIs (hMk w 3 (.inr (0, [.null, .int 0, .int 0]))) (wN w) 0 = some () := c_C (hMk_eq _ _ _)
  have e1 := bs_words (w1 := hMk w 3 (.inr (0, [.null, .int 0, .int 0]))) (b := wN w) (u := 0) (st := 0) (hMk_eq _ _ _) (show wN w ≠ wN w + 1 by omega) 64 (by omega) (by omega) (by rw [hMk_C]; omega) (by rw [hMk_S]; omega)
  rw [hMk_upo _ (show wN w ≠ wN w + 1 by omega), hMk_up] at e1
  have p3 := c_P ((hMk_ne (hMk w 3 (bsC (wN w + 1) 0 0)) 1 (lngC 1 (fun _ => 0)) (show wN w ≠ wN w + 1 by omega)).trans (hMk_eq _ _ _)) (k := 2) (show 2 < 3 by decide) (.int 0)
  rw [hMk_upo _ (show wN w ≠ wN w + 1 by omega), hMk_up] at p3
  unfold fJ17_init_2
  rw [show zN 64 = (64 : Int32) from rfl] at e1
  simp only [p1, bd_some, List.set, p2, r1, e1]
  exact congrArg (fun o : Option WH => o.bind fun w9 => some w9) p3
/-- bits 0 to n - 1 are set in an empty set -/
theorem c_setr (h : Bs w b ws g 0 st) {n : Nat} (hn : n ≤ 62) : fJ17_set b (zN 0) (zN n) w = some (bU w b ws g (2 ^ n - 1) st) := by
  have hne := h.ne
  have cr : fJ17_checkRange (zN 0) (zN n) w = some w := by
    have n0 : zN 0 ≤ zN n := by rw [zN_le (by omega) (by omega)]; omega
    unfold fJ17_checkRange
    simp only [show (0 : Int32) = zN 0 from rfl, if_pos n0, if_pos (show zN 0 ≤ zN 0 by decide)]
  by_cases e0 : n = 0
  · subst e0
    unfold fJ17_set
    rw [cr, bd_some, if_pos rfl, show 2 ^ 0 - 1 = 0 from rfl, bU_self h]
  · have n1 : ¬ (zN 0 = zN n) := by rw [zN_eq (by omega) (by omega)]; omega
    have e1 : zN n - 1 = zN (n - 1) := zN_sub (b := 1) (by omega)
    have s6 : zN (n - 1) >>> (zN 6 &&& zN 31) = zN ((n - 1) / 64) := zN_shr6 (by omega)
    rw [show (n - 1) / 64 = 0 by omega] at s6
    have s60 : zN 0 >>> (zN 6 &&& zN 31) = zN 0 := by decide
    have r1 : hIs w b 0 = some () := c_C h.1
    have r2 : gI w b 0 1 = some (zN 0) := c_I h.1 1
    have r3 : gR w b 0 0 = some (some ws) := c_R h.1 0
    have r4 : aLn w ws = some (zN 1) := c_len h.2.1 (show 1 < 6 by decide)
    have p1 : hPut w b 0 1 (.int (zN 1)) = some (hUp w b (bsC ws 1 st)) := c_P h.1 (show 1 < 3 by decide) _
    have x1 : fJ17_expandTo b (zN 0) w = some (hUp w b (bsC ws 1 st)) := by
      simp (disch := omega) only [b2_some, bd_some, nm_eq, Option.map_some, zN_lit, zN_add, zN_mul, zN_neg1, if_true, if_false, reduceIte, eq_self, Nat.reduceEqDiff, Nat.reduceAdd, Nat.reduceMul, Nat.reduceSub, Nat.reduceLeDiff, Nat.one_ne_zero, not_false_eq_true, Bool.false_eq_true, zN_eq, zN_lt, zN_le,  fJ17_expandTo, fJ17_ensureCapacity, r1, r2, r3, r4, p1, Nat.le_refl]
    have l5 : ldJ (hUp w b (bsC ws 1 st)) ws (zN 0) = some (zJ ((0 : Nat) : Int)) := by
      rw [c_ldJ (n := 1) (f := g) (by rw [hUp_ne _ _ hne.symm]; exact h.2.1) (by omega) (by omega), h.2.2.1]
    have r5 : gR (hUp w b (bsC ws 1 st)) b 0 0 = some (some ws) := c_R (hUp_eq _ _ _) 0
    have t5 : ∀ y, stJ (hUp w b (bsC ws 1 st)) ws (zN 0) y = some (hUp (hUp w b (bsC ws 1 st)) ws (lngC 1 (vp_updL g 0 y))) := fun y => c_stJ (n := 1) (f := g) (by rw [hUp_ne _ _ hne.symm]; exact h.2.1) (by omega) (by omega) y
    have r6 : ∀ l, hIs (hUp (hUp w b (bsC ws 1 st)) ws l) b 0 = some () := fun l => c_C (fs := [.ref ws, .int 1, .int st]) (by rw [hUp_ne _ _ hne, hUp_eq]; rfl)
    have t : ∀ n, n < 63 → n ≠ 0 → zJ ((0 : Nat) : Int) ||| (((-1 : Int64) <<< ((zN 0).toInt64 &&& 63)) &&& (((-1 : Int64).toUInt64 >>> ((-zN n).toInt64.toUInt64 &&& Int64.toUInt64 63)).toInt64)) = zJ ((2 ^ n - 1 : Nat) : Int) := by decide +kernel
    have hp := Nat.two_pow_pos n
    have hp2 : 2 ^ 1 ≤ 2 ^ n := Nat.pow_le_pow_right (by omega) (show 1 ≤ n by omega)
    have eu : uM (2 ^ n - 1) = 1 := if_neg (by omega)
    unfold bU
    rw [eu]
    unfold fJ17_set
    rw [cr, bd_some, if_neg n1]
    simp only [fJ17_wordIndex, b2_some, e1, show (6 : Int32) = zN 6 from rfl, show (31 : Int32) = zN 31 from rfl, s6, s60, r1, bd_some, x1, nm_eq, fJ17_set_b45, if_true, r5, l5, t n (by omega) e0, t5, fJ17_set_b119, r6, bs_inv]
end
