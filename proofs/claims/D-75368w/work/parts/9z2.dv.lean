/-! Plain law: the component's path as a linked list -/
def lkC (L0 k : Nat) (mc : Int32) : hE := .inr (11, [.int mc, .int (zN k), if k = 0 then .null else .ref (L0 + k), if k = 0 then .null else .ref (L0 + 1)])
def ndC (L0 k j it : Nat) : hE := .inr (3, [.ref it, if j = 1 then .null else .ref (L0 + j - 1), if j = k then .null else .ref (L0 + j + 1)])
def LkC (w : WH) (L0 k : Nat) (it : Nat → Nat) : Prop := (∃ mc, w.1 L0 = some (lkC L0 k mc)) ∧ ∀ j, 1 ≤ j → j ≤ k → w.1 (L0 + j) = some (ndC L0 k j (it j))
section
variable {w w0 : WH} {L0 k F : Nat} {it : Nat → Nat} {a : Nat}
theorem LkC.up (h : LkC w L0 k it) {b : Nat} (hb : b < L0 ∨ L0 + k < b) (c : hE) : LkC (hUp w b c) L0 k it := by
  obtain ⟨⟨mc, h1⟩, h2⟩ := h
  exact ⟨⟨mc, by rw [hUp_ne _ _ (by omega)]; exact h1⟩, fun j j1 j2 => by rw [hUp_ne _ _ (by omega)]; exact h2 j j1 j2⟩
theorem LkC.eq {w' : WH} (h : LkC w L0 k it) (e : ∀ b, L0 ≤ b → b ≤ L0 + k → w'.1 b = w.1 b) : LkC w' L0 k it := by
  obtain ⟨⟨mc, h1⟩, h2⟩ := h
  exact ⟨⟨mc, by rw [e _ (by omega) (by omega)]; exact h1⟩, fun j j1 j2 => by rw [e _ (by omega) (by omega)]; exact h2 j j1 j2⟩
theorem c_lkAdd {F c n : Nat} {Q : Nat → Prop} (h : LkC w L0 k it) (hN : wN w = L0 + k + 1) (hK : Kg F Q w0 w c n) (h0 : wN w0 ≤ L0) (hC : 1 ≤ wC w) (hS : 3 ≤ wS w) :
    ∃ w' it', fJ31_addFirst L0 a w = some w' ∧ LkC w' L0 (k + 1) it' ∧ (∀ j, 1 ≤ j → j ≤ k → it' j = it j) ∧ it' (k + 1) = a ∧ wN w' = L0 + (k + 1) + 1 ∧ Kg F Q w0 w' (c + 1) (n + 3) ∧ ∀ b, b < L0 → w'.1 b = w.1 b := by
  obtain ⟨⟨mc, h1⟩, h2⟩ := h
  have hF := hK.2.1
  have hW := hK.2.2.1
  have r0 : hIs w L0 11 = some () := c_C h1
  have r1 : gR w L0 11 2 = some (if k = 0 then none else some (L0 + k)) := by
    rw [c_R h1 2]
    show vR (some (if k = 0 then Value.null else Value.ref (L0 + k))) = _
    by_cases e : k = 0
    · rw [if_pos e, if_pos e]; rfl
    · rw [if_neg e, if_neg e]; rfl
  have n1 : hNw w 3 3 [.null, .null, .null] = some (wN w, hMk w 3 (.inr (3, [.null, .null, .null]))) := c_new hC hS
  have A0 := hMk_eq w 3 (.inr (3, [.null, .null, .null]))
  have K1 : Kg F Q w0 (hMk w 3 (.inr (3, [.null, .null, .null]))) (c + 1) (n + 3) := hK.tr0 (Kg.mk hF hW _ _)
  have L1 : (hMk w 3 (.inr (3, [.null, .null, .null]))).1 L0 = some (lkC L0 k mc) := (hMk_ne _ _ _ (by omega)).trans h1
  have D1 : ∀ j, 1 ≤ j → j ≤ k → (hMk w 3 (.inr (3, [.null, .null, .null]))).1 (L0 + j) = some (ndC L0 k j (it j)) := fun j j1 j2 => (hMk_ne _ _ _ (by omega)).trans (h2 j j1 j2)
  have N1 : wN (hMk w 3 (.inr (3, [.null, .null, .null]))) = L0 + (k + 1) + 1 := by rw [hMk_N]; omega
  have B1 : ∀ b, b < L0 → (hMk w 3 (.inr (3, [.null, .null, .null]))).1 b = w.1 b := fun b hb => hMk_ne _ _ _ (by omega)
  rw [show wN w = L0 + (k + 1) by omega] at n1 A0
  generalize hMk w 3 (.inr (3, [.null, .null, .null])) = w1 at n1 A0 K1 L1 D1 N1 B1
  -- the node
  have nx : va_rf (if k = 0 then none else some (L0 + k)) = (if k = 0 then .null else .ref (L0 + k)) := by
    by_cases e : k = 0
    · rw [if_pos e, if_pos e]; rfl
    · rw [if_neg e, if_neg e]; rfl
  have p1 := c_P A0 (k := 0) (show 0 < 3 by decide) (.ref a)
  have p2 := c_P (hUp_eq w1 (L0 + (k + 1)) (.inr (3, [.ref a, .null, .null]))) (k := 1) (show 1 < 3 by decide) (va_rf (if k = 0 then none else some (L0 + k)))
  rw [hUp_hUp, nx] at p2
  have p3 := c_P (hUp_eq w1 (L0 + (k + 1)) (.inr (3, [.ref a, (if k = 0 then .null else .ref (L0 + k)), .null]))) (k := 2) (show 2 < 3 by decide) (va_rf none)
  rw [hUp_hUp] at p3
  have i1 : fJ20_init (L0 + (k + 1)) none a (if k = 0 then none else some (L0 + k)) w1 = some (hUp w1 (L0 + (k + 1)) (ndC L0 (k + 1) (k + 1) a)) := by
    have en : ndC L0 (k + 1) (k + 1) a = .inr (3, [.ref a, (if k = 0 then .null else .ref (L0 + k)), .null]) := by
      unfold ndC
      rw [if_pos rfl, show L0 + (k + 1) - 1 = L0 + k by omega]
      by_cases e : k = 0
      · rw [if_pos (by omega), if_pos e]
      · rw [if_neg (by omega), if_neg e]
    rw [en]
    unfold fJ20_init
    rw [nx]
    have p1' : hPut w1 (L0 + (k + 1)) 3 0 (.ref a) = some (hUp w1 (L0 + (k + 1)) (.inr (3, [.ref a, .null, .null]))) := p1
    have p2' : hPut (hUp w1 (L0 + (k + 1)) (.inr (3, [.ref a, .null, .null]))) (L0 + (k + 1)) 3 1 (if k = 0 then .null else .ref (L0 + k)) = some (hUp w1 (L0 + (k + 1)) (.inr (3, [.ref a, (if k = 0 then .null else .ref (L0 + k)), .null]))) := p2
    have p3' : hPut (hUp w1 (L0 + (k + 1)) (.inr (3, [.ref a, (if k = 0 then .null else .ref (L0 + k)), .null]))) (L0 + (k + 1)) 3 2 (va_rf none) = some (hUp w1 (L0 + (k + 1)) (.inr (3, [.ref a, (if k = 0 then .null else .ref (L0 + k)), .null]))) := p3
    rw [p1', bd_some, p2', bd_some, p3', bd_some]
  have K2 := K1.up A0 rfl (.inl (by omega)) (ndC L0 (k + 1) (k + 1) a)
  have A2 := hUp_eq w1 (L0 + (k + 1)) (ndC L0 (k + 1) (k + 1) a)
  have L2 : (hUp w1 (L0 + (k + 1)) (ndC L0 (k + 1) (k + 1) a)).1 L0 = _ := (hUp_ne _ _ (by omega)).trans L1
  have D2 : ∀ j, 1 ≤ j → j ≤ k → (hUp w1 (L0 + (k + 1)) (ndC L0 (k + 1) (k + 1) a)).1 (L0 + j) = some (ndC L0 k j (it j)) := fun j j1 j2 => (hUp_ne _ _ (by omega)).trans (D1 j j1 j2)
  have N2 : wN (hUp w1 (L0 + (k + 1)) (ndC L0 (k + 1) (k + 1) a)) = L0 + (k + 1) + 1 := N1
  have B2 : ∀ b, b < L0 → (hUp w1 (L0 + (k + 1)) (ndC L0 (k + 1) (k + 1) a)).1 b = w.1 b := fun b hb => (hUp_ne _ _ (by omega)).trans (B1 b hb)
  generalize hUp w1 (L0 + (k + 1)) (ndC L0 (k + 1) (k + 1) a) = w2 at i1 K2 A2 L2 D2 N2 B2
  -- first
  have p4 : hPut w2 L0 11 2 (.ref (L0 + (k + 1))) = some (hUp w2 L0 (.inr (11, [.int mc, .int (zN k), .ref (L0 + (k + 1)), if k = 0 then .null else .ref (L0 + 1)]))) := c_P L2 (k := 2) (show 2 < 4 by decide) _
  have K3 := K2.up L2 rfl (.inl h0) (.inr (11, [.int mc, .int (zN k), .ref (L0 + (k + 1)), if k = 0 then .null else .ref (L0 + 1)]))
  have A3 : (hUp w2 L0 (.inr (11, [.int mc, .int (zN k), .ref (L0 + (k + 1)), if k = 0 then .null else .ref (L0 + 1)]))).1 (L0 + (k + 1)) = _ := (hUp_ne _ _ (by omega)).trans A2
  have L3 := hUp_eq w2 L0 (.inr (11, [.int mc, .int (zN k), .ref (L0 + (k + 1)), if k = 0 then .null else .ref (L0 + 1)]))
  have D3 : ∀ j, 1 ≤ j → j ≤ k → (hUp w2 L0 (.inr (11, [.int mc, .int (zN k), .ref (L0 + (k + 1)), if k = 0 then .null else .ref (L0 + 1)]))).1 (L0 + j) = some (ndC L0 k j (it j)) := fun j j1 j2 => (hUp_ne _ _ (by omega)).trans (D2 j j1 j2)
  have N3 : wN (hUp w2 L0 (.inr (11, [.int mc, .int (zN k), .ref (L0 + (k + 1)), if k = 0 then .null else .ref (L0 + 1)]))) = L0 + (k + 1) + 1 := N2
  have B3 : ∀ b, b < L0 → (hUp w2 L0 (.inr (11, [.int mc, .int (zN k), .ref (L0 + (k + 1)), if k = 0 then .null else .ref (L0 + 1)]))).1 b = w.1 b := fun b hb => (hUp_ne _ _ (by omega)).trans (B2 b hb)
  generalize hUp w2 L0 (.inr (11, [.int mc, .int (zN k), .ref (L0 + (k + 1)), if k = 0 then .null else .ref (L0 + 1)])) = w3 at p4 K3 A3 L3 D3 N3 B3
  -- the rest of the record
  have fin : ∀ w4 : WH, w4.1 L0 = some (.inr (11, [.int mc, .int (zN k), .ref (L0 + (k + 1)), .ref (L0 + 1)])) → fJ31_linkFirst_b38 L0 w4 = some (hUp w4 L0 (lkC L0 (k + 1) (mc + 1))) := by
    intro w4 h4
    have g1 : gI w4 L0 11 1 = some (zN k) := c_I h4 1
    have q1 := c_P h4 (k := 1) (show 1 < 4 by decide) (.int (zN (k + 1)))
    have g2 : gI (hUp w4 L0 (.inr (11, [.int mc, .int (zN (k + 1)), .ref (L0 + (k + 1)), .ref (L0 + 1)]))) L0 11 0 = some mc := c_I (hUp_eq _ _ _) 0
    have q2 := c_P (hUp_eq w4 L0 (.inr (11, [.int mc, .int (zN (k + 1)), .ref (L0 + (k + 1)), .ref (L0 + 1)]))) (k := 0) (show 0 < 4 by decide) (.int (mc + 1))
    rw [hUp_hUp] at q2
    have el : lkC L0 (k + 1) (mc + 1) = .inr (11, [.int (mc + 1), .int (zN (k + 1)), .ref (L0 + (k + 1)), .ref (L0 + 1)]) := by
      unfold lkC
      rw [if_neg (by omega), if_neg (by omega)]
    rw [el]
    unfold fJ31_linkFirst_b38
    rw [g1, bd_some, show zN k + 1 = zN (k + 1) from zN_add k 1]
    have q1' : hPut w4 L0 11 1 (.int (zN (k + 1))) = some (hUp w4 L0 (.inr (11, [.int mc, .int (zN (k + 1)), .ref (L0 + (k + 1)), .ref (L0 + 1)]))) := q1
    have q2' : hPut (hUp w4 L0 (.inr (11, [.int mc, .int (zN (k + 1)), .ref (L0 + (k + 1)), .ref (L0 + 1)]))) L0 11 0 (.int (mc + 1)) = some (hUp w4 L0 (.inr (11, [.int (mc + 1), .int (zN (k + 1)), .ref (L0 + (k + 1)), .ref (L0 + 1)]))) := q2
    rw [q1', bd_some, g2, bd_some, q2', bd_some]
  by_cases e : k = 0
  · subst e
    rw [if_pos rfl] at r1 i1 L3
    have p5 : hPut w3 L0 11 3 (.ref (L0 + 1)) = some (hUp w3 L0 (.inr (11, [.int mc, .int (zN 0), .ref (L0 + (0 + 1)), .ref (L0 + 1)]))) := c_P L3 (k := 3) (show 3 < 4 by decide) _
    have f1 := fin _ (hUp_eq w3 L0 (.inr (11, [.int mc, .int (zN 0), .ref (L0 + (0 + 1)), .ref (L0 + 1)])))
    rw [hUp_hUp] at f1
    refine ⟨hUp w3 L0 (lkC L0 (0 + 1) (mc + 1)), fun j => if j = 0 + 1 then a else it j, ?_, ⟨⟨_, hUp_eq _ _ _⟩, fun j j1 j2 => ?_⟩, fun j j1 j2 => by omega, if_pos rfl, N3, K3.up L3 rfl (.inl h0) _, fun b hb => (hUp_ne _ _ (by omega)).trans (B3 b hb)⟩
    · unfold fJ31_addFirst fJ31_linkFirst
      rw [r0, bd_some, r1, bd_some, n1, b2_some, i1, bd_some, p4, bd_some, if_pos rfl]
      rw [p5, bd_some, f1, bd_some]
    · have : j = 0 + 1 := by omega
      subst this
      show _ = some (ndC L0 (0 + 1) (0 + 1) (if 0 + 1 = 0 + 1 then a else it (0 + 1)))
      rw [if_pos rfl, hUp_ne _ _ (by omega)]
      exact A3
  · rw [if_neg e] at r1 i1 L3
    have D3k := D3 k (by omega) (Nat.le_refl _)
    have en : ndC L0 k k (it k) = .inr (3, [.ref (it k), (if k = 1 then .null else .ref (L0 + k - 1)), .null]) := by
      unfold ndC
      rw [if_pos (show k = k from rfl)]
    rw [en] at D3k
    have en2 : ndC L0 (k + 1) k (it k) = .inr (3, [.ref (it k), (if k = 1 then .null else .ref (L0 + k - 1)), .ref (L0 + (k + 1))]) := by
      unfold ndC
      rw [if_neg (show ¬ k = k + 1 by omega)]
      rfl
    have p5 : hPut w3 (L0 + k) 3 2 (.ref (L0 + (k + 1))) = some (hUp w3 (L0 + k) (ndC L0 (k + 1) k (it k))) := by
      rw [en2]
      exact c_P D3k (k := 2) (show 2 < 3 by decide) _
    have L4 : (hUp w3 (L0 + k) (ndC L0 (k + 1) k (it k))).1 L0 = _ := (hUp_ne _ _ (by omega)).trans L3
    have f1 := fin _ L4
    have K4 := K3.up D3k rfl (.inl (by omega)) (ndC L0 (k + 1) k (it k))
    refine ⟨hUp (hUp w3 (L0 + k) (ndC L0 (k + 1) k (it k))) L0 (lkC L0 (k + 1) (mc + 1)), fun j => if j = k + 1 then a else it j, ?_, ⟨⟨_, hUp_eq _ _ _⟩, fun j j1 j2 => ?_⟩, fun j j1 j2 => if_neg (by omega), if_pos rfl, N3, K4.up L4 rfl (.inl h0) _, fun b hb => (hUp_ne _ _ (by omega)).trans ((hUp_ne _ _ (by omega)).trans (B3 b hb))⟩
    · unfold fJ31_addFirst fJ31_linkFirst
      rw [r0, bd_some, r1, bd_some, n1, b2_some, i1, bd_some, p4, bd_some, if_neg (by simp)]
      rw [bd_some, p5, bd_some, f1, bd_some]
    · rw [hUp_ne _ _ (by omega)]
      show _ = some (ndC L0 (k + 1) j (if j = k + 1 then a else it j))
      by_cases c1 : j = k + 1
      · subst c1
        rw [if_pos rfl, hUp_ne _ _ (by omega)]
        exact A3
      · rw [if_neg c1]
        by_cases c2 : j = k
        · subst c2
          exact hUp_eq _ _ _
        · rw [hUp_ne _ _ (by omega), D3 j j1 (by omega)]
          unfold ndC
          rw [if_neg c2, if_neg c1]
end
