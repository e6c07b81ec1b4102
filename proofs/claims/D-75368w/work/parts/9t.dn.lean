/-! Plain law: the component's best pair -/
def tG (f : Nat → Int32) (a b : Nat) (o t : Int32) : Nat → Int32 := upd (upd f a o) b t
theorem tG_a {f : Nat → Int32} {a b : Nat} (hab : a ≠ b) (o t o' : Int32) : upd (tG f a b o t) a o' = tG f a b o' t := by
  funext k
  unfold tG upd
  by_cases e : k = a
  · rw [if_pos e, if_neg (by omega), if_pos e]
  · rw [if_neg e]
    by_cases e2 : k = b
    · rw [if_pos e2, if_pos e2]
    · rw [if_neg e2, if_neg e2, if_neg e, if_neg e]
theorem tG_b {f : Nat → Int32} {a b : Nat} (o t t' : Int32) : upd (tG f a b o t) b t' = tG f a b o t' := by
  funext k
  unfold tG upd
  by_cases e : k = b
  · rw [if_pos e, if_pos e]
  · rw [if_neg e, if_neg e, if_neg e]
theorem tG_ga {f : Nat → Int32} {a b : Nat} (hab : a ≠ b) (o t : Int32) : tG f a b o t a = o := by
  unfold tG upd
  rw [if_neg hab, if_pos rfl]
theorem tG_gb {f : Nat → Int32} {a b : Nat} (o t : Int32) : tG f a b o t b = t := if_pos rfl
theorem tG_self {f : Nat → Int32} {a b : Nat} (hab : a ≠ b) : tG f a b (f a) (f b) = f := by
  funext k
  unfold tG upd
  by_cases e : k = b
  · rw [if_pos e, e]
  · rw [if_neg e]
    by_cases e2 : k = a
    · rw [if_pos e2, e2]
    · rw [if_neg e2]
section
variable {w w' y : WH} {x s q F a b st : Nat} {ρ : Nat → Nat} {ν : NH} {f : Nat → Int32}
/-- other tolls in the current state, all else alike -/
def TlW (w : WH) (F q : Nat) (g : Nat → Int32) (y : WH) : Prop := Kg F (fun a => a = q) w y 0 0 ∧ y.1 q = some (tolC g)
theorem TlW.stI (h : TlW w F q f y) {k : Nat} (hk : k < 24) (v : Int32) : stI y q 0 (zN k) v = some (hUp y q (tolC (upd f k v))) ∧ TlW w F q (upd f k v) (hUp y q (tolC (upd f k v))) := ⟨c_stI h.2 hk (by omega) v, h.1.up h.2 rfl (.inr rfl) _, hUp_eq _ _ _⟩
theorem TlW.ldI (h : TlW w F q f y) {k : Nat} (hk : k < 24) : ldI y q 0 (zN k) = some (f k) := c_ldI h.2 hk (by omega)
theorem TlW.acc (h : TlW w F q f y) (hM : MR w x F s q ν ρ) (hW : WF w) : gR y x 17 0 = some (some s) ∧ gR y s 21 1 = some (some q) ∧ hIs y x 17 = some () := by
  obtain ⟨g, hg, -⟩ := hM.1.2.1.2.1
  obtain ⟨h1, P, Sn, Tx, Ou, len, err, es, h2⟩ := hM
  have hx : y.1 x = _ := h.1.keep h1.1 hW h2 rfl (ne_kd hg h2 rfl)
  have hs : y.1 s = _ := h.1.keep h1.1 hW h1.2.1.1 rfl (ne_kd hg h1.2.1.1 rfl)
  exact ⟨c_R hx 0, c_R hs 1, c_C hx⟩
theorem TlW.back (h : TlW w F q f y) (hM : MR w x F s q ν ρ) {g : Nat → Int32} (hg : w.1 q = some (tolC g)) : Kg F nQ w (hUp y q (tolC g)) 0 0 := by
  have k1 := h.1.up h.2 rfl (.inr rfl) (tolC g)
  refine ⟨fun c hc hf _ => ?_, k1.2⟩
  by_cases e : c = q
  · rw [e, hUp_eq, hg]
  · exact k1.1 c hc hf e
theorem TlW.mr (hM : MR w x F s q ν ρ) (hW : WF w) {g : Nat → Int32} (hg : w.1 q = some (tolC g)) (hgv : ∀ k, k < 24 → g k = zN (aTl ρ k)) {i j : Nat} (h : TlW w F q (tG g a b (zN i) (zN j)) y) (ha : a < ρ 1) (hb : b < ρ 1) (hi : i ≤ aMx ρ a) (hj : j ≤ aMx ρ b) : MR y x F s q ν (stl (stl ρ a i) b j) := by
  have M0 := hM.kg hW (h.back hM hg)
  have M1 := M0.stl (hUp_eq _ _ _) hgv ha hi
  rw [hUp_hUp] at M1
  have M2 := M1.stl (hUp_eq _ _ _) (fun k hk => by
    rw [stl_L]
    unfold upd
    by_cases e : k = a
    · rw [if_pos e, if_pos e]
    · rw [if_neg e, if_neg e]; exact hgv k hk) (a := b) (y := j) (by rw [stl_low _ _ _ (by omega)]; exact hb) (by rw [stl_M]; exact hj)
  rw [hUp_hUp] at M2
  have e : hUp y q (tolC (upd (upd g a (zN i)) b (zN j))) = y := hUp_self h.2
  rw [e] at M2
  exact M2
theorem TlW.kf (h : TlW w F q f y) {y' : WH} (hF : FiC w F) (hW : WF w) (hq : ¬ (F ≤ q ∧ q < F + 6)) (hk : Kf y y' F) : TlW w F q f y' := by
  refine ⟨h.1.tr0 (hk.kg h.1.2.1 h.1.2.2.1), ?_⟩
  rw [hk.1 q hq]
  exact h.2
theorem bpI_nn (ρ : Nat → Nat) (a b st one : Nat) (hF : ∀ j, 0 ≤ bpF ρ a b one j) (k : Nat) (q : Int × Int) : 0 ≤ (bpI ρ a b st one (k + 1) q).1 := by
  rw [bpI]
  split
  · exact hF _
  · have := hF (k * st)
    omega
theorem c_bpI (hM : MR w x F s q ν ρ) (hW : WF w) {g : Nat → Int32} (hg : w.1 q = some (tolC g)) (hgv : ∀ k, k < 24 → g k = zN (aTl ρ k)) (hab : a ≠ b) (ha : a < ρ 1) (hb : b < ρ 1) (hst : 1 ≤ st ∧ st ≤ 9999) {one : Nat} (ho : one ≤ aMx ρ a) (hy : TlW w F q (tG g a b (zN one) (zN 0)) y) {p : Int × Int} (hp : -1 ≤ p.1 ∧ p.1 ≤ 539406054) {e0 : Int32} (he : 0 ≤ p.1 → e0 = zI p.2) (v6 v7 : Int32) :
    ∃ y' t', fX1_bestPair_l183 x (zN a) (zN b) (zN st) (zN (aMx ρ a)) (zN (aMx ρ b)) v6 v7 e0 (zJ p.1) y = some (.inl (zI (bpI ρ a b st one (aMx ρ b / st + 1) p).2, zJ (bpI ρ a b st one (aMx ρ b / st + 1) p).1, y')) ∧ TlW w F q (tG g a b (zN (one + st)) t') y' ∧ 0 ≤ (bpI ρ a b st one (aMx ρ b / st + 1) p).1 ∧ (bpI ρ a b st one (aMx ρ b / st + 1) p).1 ≤ 539406054 := by
  have hI := hM.inv
  have h1 := hI.h1
  have ca := hI.ha ha
  have cb := hI.ha hb
  have hqF := hM.qF
  have hFr : ∀ j, j ≤ aMx ρ b → 0 ≤ bpF ρ a b one j ∧ bpF ρ a b one j ≤ 539406054 := fun j hj => allI_rng ((hI.stl ha ho).stl (by rw [stl_low _ _ _ (by omega)]; exact hb) (by rw [stl_M]; exact hj))
  have hmd : ∀ k, k < aMx ρ b / st + 1 → k * st ≤ aMx ρ b := fun k hk => mul_le_div (by omega) hk
  have hbp : ∀ k, k ≤ aMx ρ b / st + 1 → -1 ≤ (bpI ρ a b st one k p).1 ∧ (bpI ρ a b st one k p).1 ≤ 539406054 := by
    intro k
    induction k with
    | zero => intro _; exact hp
    | succ k ih =>
      intro hk
      have := hFr (k * st) (hmd k (by omega))
      rw [bpI]
      split
      · exact ⟨by omega, this.2⟩
      · exact ih (by omega)
  have hnn : 0 ≤ (bpI ρ a b st one (aMx ρ b / st + 1) p).1 := by
    rw [bpI]
    have := hFr (aMx ρ b / st * st) (hmd _ (by omega))
    split
    · exact this.1
    · omega
  have H : ∃ r, fX1_bestPair_l183 x (zN a) (zN b) (zN st) (zN (aMx ρ a)) (zN (aMx ρ b)) v6 v7 e0 (zJ p.1) y = some r ∧ ∃ y' t', r = (.inl (zI (bpI ρ a b st one (aMx ρ b / st + 1) p).2, zJ (bpI ρ a b st one (aMx ρ b / st + 1) p).1, y')) ∧ TlW w F q (tG g a b (zN (one + st)) t') y' := by
    refine wh_up (P := fun k z => k ≤ aMx ρ b / st + 1 ∧ ∃ y' e, z = (e, zJ (bpI ρ a b st one k p).1, y') ∧ (0 ≤ (bpI ρ a b st one k p).1 → e = zI (bpI ρ a b st one k p).2) ∧ TlW w F q (tG g a b (zN one) (zN (k * st))) y') (aMx ρ b / st + 1) ?_ ?_ (aMx ρ b / st + 1) 0 _ (Nat.zero_add _) ⟨Nat.zero_le _, y, e0, rfl, he, by rw [Nat.zero_mul]; exact hy⟩
    · rintro k z hk ⟨-, y', e, rfl, hE, hT⟩
      have hks := hmd k hk
      have M := hT.mr hM hW hg hgv ha hb ho hks
      obtain ⟨y2, e2, k2⟩ := c_all M
      have hT2 := hT.kf hM.FC hW hqF k2
      obtain ⟨a1, a2, a3⟩ := hT.acc hM hW
      obtain ⟨b1, b2, b3⟩ := hT2.acc hM hW
      have l1 := hT.ldI (k := b) (by omega)
      have l2 := hT2.ldI (k := b) (by omega)
      have l3 := hT2.ldI (k := a) (by omega)
      rw [tG_gb] at l1 l2
      rw [tG_ga hab] at l3
      obtain ⟨s1, hT3⟩ := hT2.stI (k := b) (by omega) (zN (k * st + st))
      rw [tG_b] at s1 hT3
      rw [show k * st + st = (k + 1) * st by rw [Nat.add_mul, Nat.one_mul]] at s1 hT3
      have n1 : ¬ (aMx ρ b < k * st) := by omega
      have hv := hFr (k * st) hks
      have hw := hbp k (by omega)
      have e2' : fX1_brought x y' = some (zJ (bpF ρ a b one (k * st)), y2) := e2
      have m2 := lgc_gt (a := bpF ρ a b one (k * st)) (b := (bpI ρ a b st one k p).1) ⟨by omega, by omega⟩ ⟨by omega, by omega⟩
      have ek : k * st + st = (k + 1) * st := by rw [Nat.add_mul, Nat.one_mul]
      left
      rw [bpI]
      by_cases c : (bpI ρ a b st one k p).1 < bpF ρ a b one (k * st)
      · rw [if_pos c]
        rw [eq_true c] at m2
        refine ⟨(zN (10000 * one + k * st), zJ (bpF ρ a b one (k * st)), hUp y2 q (tolC (tG g a b (zN one) (zN ((k + 1) * st))))), ?_, by omega, _, _, rfl, fun _ => ?_, hT3⟩
        · simp (disch := omega) only [b2_some, bd_some, nm_eq, Option.map_some, zN_lit, zN_add, zN_mul, zN_neg1, if_true, if_false, reduceIte, eq_self, Nat.reduceEqDiff, Nat.reduceAdd, Nat.reduceMul, Nat.reduceSub, Nat.reduceLeDiff, Nat.one_ne_zero, not_false_eq_true, Bool.false_eq_true, zN_eq, zN_lt, zN_le,  fX1_bestPair_b183, a1, a2, a3, l1, n1, e2', m2, b1, b2, l2, l3, fX1_bestPair_b239, fX1_bestPair_b243, ek, s1]
        · rw [← zI_cast, show ((10000 * one + k * st : Nat) : Int) = 10000 * (one : Int) + ((k * st : Nat) : Int) by rw [Int.natCast_add, Int.natCast_mul]; rfl]
      · rw [if_neg c]
        rw [eq_false c] at m2
        refine ⟨(e, zJ (bpI ρ a b st one k p).1, hUp y2 q (tolC (tG g a b (zN one) (zN ((k + 1) * st))))), ?_, by omega, _, e, rfl, hE, hT3⟩
        simp (disch := omega) only [b2_some, bd_some, nm_eq, Option.map_some, zN_lit, zN_add, zN_mul, zN_neg1, if_true, if_false, reduceIte, eq_self, Nat.reduceEqDiff, Nat.reduceAdd, Nat.reduceMul, Nat.reduceSub, Nat.reduceLeDiff, Nat.one_ne_zero, not_false_eq_true, Bool.false_eq_true, zN_eq, zN_lt, zN_le,  fX1_bestPair_b183, a1, a2, a3, l1, n1, e2', m2, b1, b2, l2, fX1_bestPair_b211, fX1_bestPair_b243, ek, s1]
    · rintro z ⟨-, y', e, rfl, hE, hT⟩
      obtain ⟨a1, a2, a3⟩ := hT.acc hM hW
      have l1 := hT.ldI (k := b) (by omega)
      have l3 := hT.ldI (k := a) (by omega)
      rw [tG_gb] at l1
      rw [tG_ga hab] at l3
      have n1 : aMx ρ b < (aMx ρ b / st + 1) * st := lt_mul_div (by omega)
      have nb : (aMx ρ b / st + 1) * st ≤ 9999 + 9999 := by
        rw [Nat.add_mul, Nat.one_mul]
        have := Nat.div_mul_le_self (aMx ρ b) st
        omega
      obtain ⟨s1, hT3⟩ := hT.stI (k := a) (by omega) (zN (one + st))
      rw [tG_a hab] at s1 hT3
      rw [hE hnn]
      refine ⟨_, ?_, _, _, rfl, hT3⟩
      generalize (aMx ρ b / st + 1) * st = m at l1 n1 nb s1
      simp (disch := omega) only [b2_some, bd_some, nm_eq, Option.map_some, zN_lit, zN_add, zN_mul, zN_neg1, if_true, if_false, reduceIte, eq_self, Nat.reduceEqDiff, Nat.reduceAdd, Nat.reduceMul, Nat.reduceSub, Nat.reduceLeDiff, Nat.one_ne_zero, not_false_eq_true, Bool.false_eq_true, zN_eq, zN_lt, zN_le,  fX1_bestPair_b183, a1, a2, l1, n1, fX1_bestPair_b259, l3, s1]
  obtain ⟨r, e, y', t', rfl, hT⟩ := H
  exact ⟨y', t', e, hT, hnn, (hbp _ (Nat.le_refl _)).2⟩
noncomputable def bpR (ρ : Nat → Nat) (a b st : Nat) : Int := if (aMx ρ a / st + 1) * (aMx ρ b / st + 1) ≤ 400 then (bpO ρ a b st (aMx ρ b / st + 1) (aMx ρ a / st + 1)).2 else -3
theorem c_bpO (hM : MR w x F s q ν ρ) (hW : WF w) {g : Nat → Int32} (hg : w.1 q = some (tolC g)) (hgv : ∀ k, k < 24 → g k = zN (aTl ρ k)) (hab : a ≠ b) (ha : a < ρ 1) (hb : b < ρ 1) (hst : 1 ≤ st ∧ st ≤ 9999) {t0 : Int32} (hy : TlW w F q (tG g a b (zN 0) t0) y) :
    ∃ y', fX1_bestPair_l159 x (zN a) (zN b) (zN st) (zN (aMx ρ a)) (zN (aMx ρ b)) (g a) (g b) (-1) (-1) y = some (.inl (zI (bpO ρ a b st (aMx ρ b / st + 1) (aMx ρ a / st + 1)).2), y') ∧ Kg F nQ w y' 0 0 := by
  have hI := hM.inv
  have h1 := hI.h1
  have ca := hI.ha ha
  have cb := hI.ha hb
  have hmd : ∀ k, k < aMx ρ a / st + 1 → k * st ≤ aMx ρ a := fun k hk => mul_le_div (by omega) hk
  have H : ∃ r, fX1_bestPair_l159 x (zN a) (zN b) (zN st) (zN (aMx ρ a)) (zN (aMx ρ b)) (g a) (g b) (-1) (-1) y = some r ∧ ∃ y', r = (.inl (zI (bpO ρ a b st (aMx ρ b / st + 1) (aMx ρ a / st + 1)).2), y') ∧ Kg F nQ w y' 0 0 := by
    refine wh_up (P := fun k z => k ≤ aMx ρ a / st + 1 ∧ ∃ y' e t', z = (e, zJ (bpO ρ a b st (aMx ρ b / st + 1) k).1, y') ∧ (0 ≤ (bpO ρ a b st (aMx ρ b / st + 1) k).1 → e = zI (bpO ρ a b st (aMx ρ b / st + 1) k).2) ∧ TlW w F q (tG g a b (zN (k * st)) t') y' ∧ -1 ≤ (bpO ρ a b st (aMx ρ b / st + 1) k).1 ∧ (bpO ρ a b st (aMx ρ b / st + 1) k).1 ≤ 539406054 ∧ (1 ≤ k → 0 ≤ (bpO ρ a b st (aMx ρ b / st + 1) k).1)) (aMx ρ a / st + 1) ?_ ?_ (aMx ρ a / st + 1) 0 _ (Nat.zero_add _) ⟨Nat.zero_le _, y, -1, t0, rfl, fun h => absurd (show (0 : Int) ≤ -1 from h) (by decide), by rw [Nat.zero_mul]; exact hy, (show (-1 : Int) ≤ -1 by decide), (show (-1 : Int) ≤ 539406054 by decide), fun h => absurd h (by decide)⟩
    · rintro k z hk ⟨-, y', e, t', rfl, hE, hT, hb1, hb2, -⟩
      have hks := hmd k hk
      obtain ⟨a1, a2, a3⟩ := hT.acc hM hW
      have l1 := hT.ldI (k := a) (by omega)
      rw [tG_ga hab] at l1
      obtain ⟨s1, hT1⟩ := hT.stI (k := b) (by omega) (zN 0)
      rw [tG_b] at s1 hT1
      obtain ⟨y2, t2, e2, hT2, hn, hm⟩ := c_bpI hM hW hg hgv hab ha hb hst hks hT1 ⟨hb1, hb2⟩ hE (g a) (g b)
      have ek : k * st + st = (k + 1) * st := by rw [Nat.add_mul, Nat.one_mul]
      rw [ek] at hT2
      have n1 : ¬ (aMx ρ a < k * st) := by omega
      left
      refine ⟨_, ?_, by omega, y2, _, t2, rfl, fun _ => rfl, hT2, ?_, hm, fun _ => hn⟩
      · simp (disch := omega) only [b2_some, bd_some, nm_eq, Option.map_some, zN_lit, zN_add, zN_mul, zN_neg1, if_true, if_false, reduceIte, eq_self, Nat.reduceEqDiff, Nat.reduceAdd, Nat.reduceMul, Nat.reduceSub, Nat.reduceLeDiff, Nat.one_ne_zero, not_false_eq_true, Bool.false_eq_true, zN_eq, zN_lt, zN_le,  fX1_bestPair_b159, a1, a2, l1, n1, s1]
        exact e2
      · show -1 ≤ (bpI ρ a b st (k * st) (aMx ρ b / st + 1) (bpO ρ a b st (aMx ρ b / st + 1) k)).1
        omega
    · rintro z ⟨-, y', e, t', rfl, hE, hT, hb1, hb2, hb3⟩
      have hnn := hb3 (Nat.succ_le_succ (Nat.zero_le _))
      obtain ⟨a1, a2, a3⟩ := hT.acc hM hW
      have l1 := hT.ldI (k := a) (by omega)
      rw [tG_ga hab] at l1
      have n1 : aMx ρ a < (aMx ρ a / st + 1) * st := lt_mul_div (by omega)
      have nb : (aMx ρ a / st + 1) * st ≤ 9999 + 9999 := by
        rw [Nat.add_mul, Nat.one_mul]
        have := Nat.div_mul_le_self (aMx ρ a) st
        omega
      obtain ⟨s1, hT1⟩ := hT.stI (k := a) (by omega) (g a)
      rw [tG_a hab] at s1 hT1
      obtain ⟨b1, b2, b3⟩ := hT1.acc hM hW
      obtain ⟨s2, hT2⟩ := hT1.stI (k := b) (by omega) (g b)
      rw [tG_b, tG_self hab] at s2 hT2
      have kb := hT2.back hM hg
      rw [hUp_hUp] at kb
      have hfin : Kg F nQ w (hUp (hUp y' q (tolC (tG g a b (g a) t'))) q (tolC g)) 0 0 := by
        have := hT2.back hM hg
        rw [show hUp (hUp (hUp y' q (tolC (tG g a b (g a) t'))) q (tolC g)) q (tolC g) = hUp (hUp y' q (tolC (tG g a b (g a) t'))) q (tolC g) from hUp_self hT2.2] at this
        exact this
      rw [hE hnn]
      refine ⟨_, ?_, _, rfl, hfin⟩
      generalize (aMx ρ a / st + 1) * st = m at l1 n1 nb
      simp (disch := omega) only [b2_some, bd_some, nm_eq, Option.map_some, zN_lit, zN_add, zN_mul, zN_neg1, if_true, if_false, reduceIte, eq_self, Nat.reduceEqDiff, Nat.reduceAdd, Nat.reduceMul, Nat.reduceSub, Nat.reduceLeDiff, Nat.one_ne_zero, not_false_eq_true, Bool.false_eq_true, zN_eq, zN_lt, zN_le,  fX1_bestPair_b159, a1, a2, l1, n1, fX1_bestPair_b275, s1, b1, b2, s2]
  obtain ⟨r, e, y', rfl, hT⟩ := H
  exact ⟨y', e, hT⟩
theorem c_bp1 (hM : MR w x F s q ν ρ) (hW : WF w) (hab : a ≠ b) (ha : a < ρ 1) (hb : b < ρ 1) (hst : 1 ≤ st ∧ st ≤ 9999) :
    ∃ w', fX1_bestPair x (zN a) (zN b) (zN st) w = some (.inl (zI (bpR ρ a b st)), w') ∧ Kg F nQ w w' 0 0 := by
  have hI := hM.inv
  have h1 := hI.h1
  have ca := hI.ha ha
  have cb := hI.ha hb
  have ga := c_geta hM.1.2.2.1 hI ha
  have gb := c_geta hM.1.2.2.1 hI hb
  have aa := c_aI hM.1.2.2.1 ha
  have ab := c_aI hM.1.2.2.1 hb
  have ma := c_most hM.1.2.2.1 ha
  have mb := c_most hM.1.2.2.1 hb
  have e0 := c_inR (w := w) (a := st) (b := 1) (c := 9999) ⟨by omega, by omega⟩ ⟨by omega, by omega⟩ ⟨by omega, by omega⟩
  rw [if_pos (by omega)] at e0
  have z0 : (1 : Int64) = zJ 1 := rfl
  have z1 : (9999 : Int64) = zJ 9999 := rfl
  have nz : nzI (zN st) = some () := by
    unfold nzI
    rw [if_neg]
    rw [show (0 : Int32) = zN 0 from rfl, zN_eq (by omega) (by omega)]
    omega
  have d1 : zN (aMx ρ a) / zN st = zN (aMx ρ a / st) := zN_div (by omega) (by omega)
  have d2 : zN (aMx ρ b) / zN st = zN (aMx ρ b / st) := zN_div (by omega) (by omega)
  have b1 : aMx ρ a / st ≤ aMx ρ a := Nat.div_le_self _ _
  have b2 : aMx ρ b / st ≤ aMx ρ b := Nat.div_le_self _ _
  have b3 : (aMx ρ a / st + 1) * (aMx ρ b / st + 1) ≤ 10000 * 10000 := Nat.mul_le_mul (by omega) (by omega)
  obtain ⟨g, hg, hgv⟩ := hM.1.2.1.2.1
  have l1 : ldI w q 0 (zN a) = some (g a) := c_ldI hg (by omega) (by omega)
  have l2 : ldI w q 0 (zN b) = some (g b) := c_ldI hg (by omega) (by omega)
  have s1 : stI w q 0 (zN a) (zN 0) = some (hUp w q (tolC (upd g a (zN 0)))) := c_stI hg (by omega) (by omega) _
  have eg : upd g a (zN 0) = tG g a b (zN 0) (g b) := by
    funext k
    unfold tG upd
    by_cases e : k = b
    · rw [if_pos e, if_neg (by omega), e]
    · rw [if_neg e]
  unfold bpR
  by_cases c : (aMx ρ a / st + 1) * (aMx ρ b / st + 1) ≤ 400
  · have hT : TlW w F q (tG g a b (zN 0) (g b)) (hUp w q (tolC (upd g a (zN 0)))) := ⟨(Kg.refl (Q := fun a => a = q) hM.FC hW).up hg rfl (.inr rfl) _, by rw [eg]; exact hUp_eq _ _ _⟩
    obtain ⟨y', e2, hK⟩ := c_bpO hM hW hg hgv hab ha hb hst hT
    refine ⟨y', ?_, hK⟩
    rw [if_pos c]
    have m1 : (-1 : Int32) = zI (-1) := rfl
    have m2 : (-1 : Int64) = zJ (-1) := rfl
    rw [m1, m2] at e2
    generalize hUp w q (tolC (upd g a (zN 0))) = w1 at s1 e2
    simp (disch := omega) only [b2_some, bd_some, nm_eq, Option.map_some, zN_lit, zN_add, zN_mul, zN_neg1, if_true, if_false, reduceIte, eq_self, Nat.reduceEqDiff, Nat.reduceAdd, Nat.reduceMul, Nat.reduceSub, Nat.reduceLeDiff, Nat.one_ne_zero, not_false_eq_true, Bool.false_eq_true, zN_eq, zN_lt, zN_le,  fX1_bestPair, hM.xI, c_isA1 hM ha, c_isA1 hM hb, fX1_bestPair_b21, c_rq1, ex_, hab, zN_J, z0, z1, e0, fX1_bestPair_b46, c_ra1, hM.g0, hM.g1, hM.xI, hM.1.FI, c_snet hM.1.2.1, c_sI hM.1.2.1, c_nal hM.1.2.2.1, c_ntl hM.1.2.2.1, c_nn hM.1.2.2.1, c_alI hM.1.2.2.1, c_tlI hM.1.2.2.1, c_size hM.1.2.2.1, c_size2 hM.1.2.2.1, c_gtl hM, ga, gb, aa, ab, ma, mb, nz, d1, d2, c, fX1_bestPair_b119, l1, l2, s1]
    exact e2
  · refine ⟨w, ?_, Kg.refl hM.FC hW⟩
    rw [if_neg c]
    simp (disch := omega) only [b2_some, bd_some, nm_eq, Option.map_some, zN_lit, zN_add, zN_mul, zN_neg1, if_true, if_false, reduceIte, eq_self, Nat.reduceEqDiff, Nat.reduceAdd, Nat.reduceMul, Nat.reduceSub, Nat.reduceLeDiff, Nat.one_ne_zero, not_false_eq_true, Bool.false_eq_true, zN_eq, zN_lt, zN_le,  fX1_bestPair, hM.xI, c_isA1 hM ha, c_isA1 hM hb, fX1_bestPair_b21, c_rq1, ex_, hab, zN_J, z0, z1, e0, fX1_bestPair_b46, c_ra1, hM.g0, hM.g1, hM.xI, hM.1.FI, c_snet hM.1.2.1, c_sI hM.1.2.1, c_nal hM.1.2.2.1, c_ntl hM.1.2.2.1, c_nn hM.1.2.2.1, c_alI hM.1.2.2.1, c_tlI hM.1.2.2.1, c_size hM.1.2.2.1, c_size2 hM.1.2.2.1, c_gtl hM, ga, gb, aa, ab, ma, mb, nz, d1, d2, c, fX1_bestPair_b116]
    rfl
end
