/-! PART 47: plain: a year of the Model -/
set_option maxRecDepth 100000
theorem sIs_lt (w : SW) (p f : Nat) : sIs w p f < 3 := by
  unfold sIs
  by_cases c : (wR w p).testBit f = true
  · rw [if_pos c]; decide
  · rw [if_neg c]
    by_cases c2 : (wW w p).testBit f = true
    · rw [if_pos c2]; decide
    · rw [if_neg c2]; decide
def sCan (w : SW) (p m f : Nat) : Bool := decide (sIs w m f ≠ 0 ∧ sIs w p f ≠ 1 ∧ ¬ (sIs w p f = 2 ∧ sIs w m f = 2))
def sNxt (k : SK) (w : SW) (p : Nat) : Nat → Nat → Nat
  | 0, _ => 0
  | n + 1, f => if sCan w p (wM w p - 1) f = true ∧ sHo k w 0 p f = true then f + 1 else sNxt k w p n (f + 1)
/-- what one is taught next (f + 1); 0: nothing -/
def sNext (k : SK) (w : SW) (p : Nat) : Nat := if wM w p = 0 then 0 else sNxt k w p (kF k) 0
theorem sNxt_S (k : SK) (w : SW) (p n f : Nat) : sNxt k w p (n + 1) f = if sCan w p (wM w p - 1) f = true ∧ sHo k w 0 p f = true then f + 1 else sNxt k w p n (f + 1) := rfl
theorem sNxt_le (k : SK) (w : SW) (p : Nat) : ∀ n f, sNxt k w p n f ≤ f + n
  | 0, f => Nat.zero_le _
  | n + 1, f => by
    unfold sNxt
    by_cases c : sCan w p (wM w p - 1) f = true ∧ sHo k w 0 p f = true
    · rw [if_pos c]; omega
    · rw [if_neg c]
      have := sNxt_le k w p n (f + 1)
      omega
theorem sNext_le (k : SK) (w : SW) (p : Nat) : sNext k w p ≤ kF k := by
  unfold sNext
  by_cases c : wM w p = 0
  · rw [if_pos c]; omega
  · rw [if_neg c]
    have := sNxt_le k w p (kF k) 0
    omega
theorem m1_ne {n : Nat} (h0 : n ≠ 0) (h : n < 1000) : ¬ nI n - 1 = -1 := by
  intro q
  have := (m1_inj (a := n) (b := 0) h (by decide)).mp (by rw [q]; decide)
  omega
theorem sHo_none {k : SK} {w : SW} {i p f : Nat} (h : kTe k i = none) : sHo k w i p f = true := by unfold sHo; rw [h]
theorem m_taughtNext_v {k : SK} {w : SW} {z : MS} (h : mOk k w z) {p : Nat} (hp : p < kP k) : ∃ z', m_taughtNext (nI p) z = some (nI (sNext k w p) - 1, z') ∧ mEv z z' := by
  have h8 := h.1.2.1
  have hF := h.1.1
  have hm := (h.2.1.2.2 p hp).1
  have fin : Ok (m_taughtNext (nI p) z) (fun r => r.1 = nI (sNext k w p) - 1 ∧ mEv z r.2) := by
    unfold m_taughtNext
    rw [m_masterOf_v h hp, bnd_s]
    by_cases c0 : wM w p = 0
    · rw [c0, if_pos (by decide)]
      refine Ok.of ⟨?_, mEv.rf z⟩
      unfold sNext
      rw [if_pos c0]
      show (-1 : Int32) = nI 0 - 1
      decide
    · rw [if_neg (m1_ne c0 (by omega)), nI_m1 (by omega)]
      have hn : sNext k w p = sNxt k w p (kF k) 0 := by unfold sNext; rw [if_neg c0]
      rw [hn]
      refine fx_okN (F := m_taughtNext_L15 (nI p) (nI (wM w p - 1))) (z := fun _ _ => none) (fun s j x => s (nI j) x) (kF k) (fun j x => mEv z x ∧ sNxt k w p (kF k - j) j = sNxt k w p (kF k) 0) _ ?_ ?_ FU 0 z (Nat.zero_le _) ⟨mEv.rf z, rfl⟩ (FU_gt (by omega))
      · rintro s j x hj ⟨he, hs⟩ go
        have hx := he.ok h
        rw [show kF k - j = (kF k - (j + 1)) + 1 by omega, sNxt_S] at hs
        have gon : ∀ x', mEv x x' → sNxt k w p (kF k - (j + 1)) (j + 1) = sNxt k w p (kF k) 0 → Ok (s (nI j + 1) x') (fun r => r.1 = nI (sNxt k w p (kF k) 0) - 1 ∧ mEv z r.2) := fun x' he' hs' => by rw [nI_1]; exact go x' ⟨he.tr he', hs'⟩
        have hyes : ∀ x', mEv x x' → sCan w p (wM w p - 1) j = true ∧ sHo k w 0 p j = true → Ok (some (nI j, x')) (fun r => r.1 = nI (sNxt k w p (kF k) 0) - 1 ∧ mEv z r.2) := fun x' he' hc => by
          rw [if_pos hc] at hs
          exact Ok.of ⟨by rw [← hs]; exact (nI_pred j).symm, he.tr he'⟩
        have hno : sCan w p (wM w p - 1) j ≠ true → Ok (s (nI j + 1) x) (fun r => r.1 = nI (sNxt k w p (kF k) 0) - 1 ∧ mEv z r.2) := fun hc => by
          rw [if_neg (fun q => hc q.1)] at hs
          exact gon x (mEv.rf x) hs
        have hcan : sCan w p (wM w p - 1) j = true → Ok (if (mA x 47 (Int32.toNatClampNeg 3)) = (-1) then some (nI j, x) else bnd (m_holds 0 (nI p) (nI j) x) fun r5 z8 => if (bI r5) = 0 then s (nI j + 1) z8 else some (nI j, z8)) (fun r => r.1 = nI (sNxt k w p (kF k) 0) - 1 ∧ mEv z r.2) := fun hc => by
          rw [show (Int32.toNatClampNeg 3) = 3 + 0 from by decide]
          rcases hx.codes (i := 0) (by decide) with ⟨q1, q2⟩ | ⟨q1, -⟩
          · rw [if_pos q1]
            exact hyes x (mEv.rf x) ⟨hc, sHo_none q2⟩
          · rw [if_neg q1]
            obtain ⟨x', g1, g2⟩ := m_holds_v hx (i := 0) (f := j) (by decide) q1 hp (by omega) (fun _ => ⟨hj, by omega⟩)
            have g1 : m_holds 0 (nI p) (nI j) x = some (sHo k w 0 p j, x') := g1
            rw [g1, bnd_s]
            cases hh : sHo k w 0 p j with
            | false =>
              rw [if_pos (by decide)]
              rw [if_neg (by rw [hh]; simp)] at hs
              exact gon x' g2 hs
            | true =>
              rw [if_neg (by decide)]
              exact hyes x' g2 ⟨hc, hh⟩
        show Ok (m_taughtNext_L15 (nI p) (nI (wM w p - 1)) s (nI j) x) _
        unfold m_taughtNext_L15
        rw [m_factMany_v hx, bnd_s, if_neg (nI_ge hj (by omega)), m_isOf_v hx hp (by omega), bnd_s, m_isOf_v hx (by omega) (by omega), bnd_s]
        simp only [jn_s]
        have l1 := sIs_lt w p j
        have l2 := sIs_lt w (wM w p - 1) j
        unfold sCan at hno hcan
        generalize sIs w p j = a at l1 hno hcan ⊢
        generalize sIs w (wM w p - 1) j = b at l2 hno hcan ⊢
        rcases (show b = 0 ∨ b = 1 ∨ b = 2 by omega) with rfl | rfl | rfl
        · rw [if_pos (by decide)]
          exact hno (by simp)
        · rw [if_neg (by decide)]
          rcases (show a = 0 ∨ a = 1 ∨ a = 2 by omega) with rfl | rfl | rfl
          · rw [if_neg (by decide), if_neg (by decide)]
            exact hcan (by decide)
          · rw [if_pos (by decide)]
            exact hno (by decide)
          · rw [if_neg (by decide), if_pos (by decide), if_neg (by decide)]
            exact hcan (by decide)
        · rw [if_neg (by decide)]
          rcases (show a = 0 ∨ a = 1 ∨ a = 2 by omega) with rfl | rfl | rfl
          · rw [if_neg (by decide), if_neg (by decide)]
            exact hcan (by decide)
          · rw [if_pos (by decide)]
            exact hno (by decide)
          · rw [if_neg (by decide), if_pos (by decide), if_pos (by decide)]
            exact hno (by decide)
      · rintro s x ⟨he, hs⟩
        have hx := he.ok h
        show Ok (m_taughtNext_L15 (nI p) (nI (wM w p - 1)) s (nI (kF k)) x) _
        unfold m_taughtNext_L15
        rw [m_factMany_v hx, bnd_s, if_pos (nI_le (Nat.le_refl _) (by omega))]
        rw [Nat.sub_self] at hs
        refine Ok.of ⟨?_, he⟩
        rw [← hs]
        show (-1 : Int32) = nI 0 - 1
        decide
  obtain ⟨⟨r, z'⟩, e, q1, q2⟩ := fin
  exact ⟨z', by rw [e]; cases q1; rfl, q2⟩
/-- the lesson of one in a year (f + 1; 0 none), some being ill; what he then is of it -/
def sLes (k : SK) (w : SW) (ill p : Nat) : Nat := if ill.testBit p = true then 0 else sNext k w p
def sLrn (k : SK) (w : SW) (p f : Nat) : Nat := if sIs w p f = 0 ∧ (sIs w (wM w p - 1) f = 2 ∨ (kTe k 1 ≠ none ∧ sHo k w 1 p f = true)) then 2 else 1
def sTauS (k : SK) (w : SW) (ill p : Nat) (v : SW) : SW := if sLes k w ill p = 0 then v else sMake v p (sLes k w ill p - 1) (sLrn k w p (sLes k w ill p - 1))
def sTau (k : SK) (w : SW) (ill : Nat) : SW := itN (sTauS k w ill) (kP k) 0 w
theorem sLes_le (k : SK) (w : SW) (ill p : Nat) : sLes k w ill p ≤ kF k := by
  unfold sLes
  by_cases c : ill.testBit p = true
  · rw [if_pos c]; omega
  · rw [if_neg c]
    exact sNext_le k w p
theorem sLes_m {k : SK} {w : SW} {ill p : Nat} (h : sLes k w ill p ≠ 0) : wM w p ≠ 0 := by
  intro q
  apply h
  unfold sLes sNext
  rw [if_pos q, ite_self]
