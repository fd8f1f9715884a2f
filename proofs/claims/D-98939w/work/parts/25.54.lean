/-! PART 54: plain: the Model: yearsTill, master, gift, law -/
set_option maxRecDepth 100000
theorem sTill_yes {k : SK} {P : SW → Bool} {n : Nat} {v : SW} {j : Nat} (h : P v = true) : sTill k P n v j = some j := by
  cases n with
  | zero => show (if P v = true then some j else none) = _; rw [if_pos h]
  | succ n => rw [sTill_S, if_pos h]
theorem sTill_le {k : SK} {P : SW → Bool} : ∀ {n : Nat} {v : SW} {j m : Nat}, sTill k P n v j = some m → m ≤ j + n
  | 0, v, j, m, h => by
    have h : (if P v = true then some j else none) = some m := h
    by_cases c : P v = true
    · rw [if_pos c] at h; cases h; omega
    · rw [if_neg c] at h; cases h
  | n + 1, v, j, m, h => by
    rw [sTill_S] at h
    by_cases c : P v = true
    · rw [if_pos c] at h; cases h; omega
    · rw [if_neg c] at h
      by_cases c2 : wY v < 999
      · rw [if_pos c2] at h
        have := sTill_le h
        omega
      · rw [if_neg c2] at h; cases h
theorem m_yearsTill_v {k : SK} {w : SW} {z1 x0 : MS} (th : mT k z1 w x0) (hy : wY w ≤ 999) {p : Nat} (hp : p < kP k) : Ok (m_yearsTill (nI p) x0) (fun r => r.1 = nI ((sTill k (fun v => (wF v p).testBit 0) 40 w 0).getD 41) ∧ ∃ v, mT k z1 v r.2) := by
  unfold m_yearsTill
  refine fx_ok (F := m_yearsTill_L2 (nI p)) (z := fun _ _ => none) (fun s (a : Nat × SW × MS) => s (nI a.1) a.2.2) (fun a => 41 - a.1) (fun a => mT k z1 a.2.1 a.2.2 ∧ wY a.2.1 ≤ 999 ∧ ((a.1 ≤ 40 ∧ sTill k (fun v => (wF v p).testBit 0) (40 - a.1) a.2.1 a.1 = sTill k (fun v => (wF v p).testBit 0) 40 w 0) ∨ (a.1 = 41 ∧ (wF a.2.1 p).testBit 0 = false ∧ sTill k (fun v => (wF v p).testBit 0) 40 w 0 = none))) _ ?_ FU (0, w, x0) ⟨th, hy, Or.inl ⟨Nat.zero_le _, rfl⟩⟩ (FU_gt (by show 41 - 0 < 1000000; decide))
  rintro s ⟨j, v, x⟩ ⟨hx, hyv, hs⟩ go
  have hx : mT k z1 v x := hx
  have hyv : wY v ≤ 999 := hyv
  generalize hR : sTill k (fun v => (wF v p).testBit 0) 40 w 0 = R at hs go ⊢
  have hs : (j ≤ 40 ∧ sTill k (fun v => (wF v p).testBit 0) (40 - j) v j = R) ∨ (j = 41 ∧ (wF v p).testBit 0 = false ∧ R = none) := hs
  show Ok (m_yearsTill_L2 (nI p) s (nI j) x) _
  unfold m_yearsTill_L2
  rw [m_hasPassed_v hx.ok hp, bnd_s]
  cases c : (wF v p).testBit 0 with
  | true =>
    rw [if_neg (by decide)]
    refine Ok.of ⟨?_, v, hx⟩
    rcases hs with ⟨-, hs⟩ | ⟨-, hs, -⟩
    · rw [sTill_yes (P := fun v => (wF v p).testBit 0) c] at hs
      rw [← hs]
      rfl
    · rw [c] at hs; cases hs
  | false =>
    rw [if_pos (by decide)]
    have done : R = none → Ok (s 41 x) (fun r => r.1 = nI (R.getD 41) ∧ ∃ v, mT k z1 v r.2) ∨ j = 41 := fun hn => by
      by_cases e : j = 41
      · exact Or.inr e
      · exact Or.inl (go (41, v, x) ⟨hx, hyv, Or.inr ⟨rfl, c, hn⟩⟩ (by show 41 - 41 < 41 - j; rcases hs with ⟨h1, -⟩ | ⟨h1, -⟩ <;> omega))
    rcases hs with ⟨h1, hs⟩ | ⟨rfl, -, hs⟩
    · rw [if_neg (show ¬ (40 : Int32) < nI j from nI_nlt (a := 40) h1 (by decide)), jn_s]
      by_cases c2 : j = 40
      · subst c2
        rw [if_pos (by decide)]
        have hn : R = none := by
          rw [← hs, Nat.sub_self]
          show (if (wF v p).testBit 0 = true then _ else _) = _
          rw [if_neg (by rw [c]; decide)]
        exact (done hn).resolve_right (by decide)
      · rw [if_neg (show ¬ (40 : Int32) ≤ nI j from nI_ge (b := 40) (by omega) (by decide)), show (Int32.toNatClampNeg 0) = 0 from by decide, hx.ok.y]
        rw [show 40 - j = (40 - (j + 1)) + 1 by omega, sTill_S, if_neg (by rw [c]; decide)] at hs
        by_cases c3 : wY v < 999
        · rw [if_pos c3] at hs
          rw [if_neg (show ¬ (999 : Int32) ≤ nI (wY v) from nI_ge (b := 999) c3 (by decide))]
          refine Ok.bnv _ (hx.year (by omega)) (fun y hy' => ?_)
          rw [nI_1]
          exact go (j + 1, sYear k v 0, y) ⟨hy', by show wY (sYear k v 0) ≤ 999; rw [sYear_Y]; omega, Or.inl ⟨by show j + 1 ≤ 40; omega, hs⟩⟩ (by show 41 - (j + 1) < 41 - j; omega)
        · rw [if_neg c3] at hs
          rw [if_pos (show (999 : Int32) ≤ nI (wY v) from nI_le (a := 999) (by omega) (by omega))]
          exact (done hs.symm).resolve_right (by omega)
    · rw [if_pos (by decide), hs]
      exact Ok.of ⟨rfl, v, hx⟩
/-- who would be the best master of p (m + 1; 0 none) and how soon p passes then -/
def sMasS (k : SK) (w : SW) (p m : Nat) (a : Nat × Nat) : Nat × Nat :=
  if sBy (wM w) 8 (m + 1) p = true then a else
    match sTill k (fun v => (wF v p).testBit 0) 40 (uM w p (m + 1)) 0 with
    | some n => if n < a.2 then (m + 1, n) else a
    | none => a
def sMas (k : SK) (w : SW) (p n : Nat) : Nat × Nat := itN (sMasS k w p) n 0 (0, 41)
theorem sMas_in (k : SK) (w : SW) (p : Nat) : ∀ n, (sMas k w p n).1 ≤ n ∧ (sMas k w p n).2 ≤ 41
  | 0 => ⟨Nat.le_refl _, Nat.le_refl _⟩
  | n + 1 => by
    obtain ⟨h1, h2⟩ := sMas_in k w p n
    have e : sMas k w p (n + 1) = sMasS k w p n (sMas k w p n) := itN_S _ _ _
    rw [e]
    generalize sMas k w p n = a at h1 h2 ⊢
    unfold sMasS
    by_cases c : sBy (wM w) 8 (n + 1) p = true
    · rw [if_pos c]; exact ⟨by omega, h2⟩
    · rw [if_neg c]
      cases hs : sTill k (fun v => (wF v p).testBit 0) 40 (uM w p (n + 1)) 0 with
      | none => exact ⟨by show a.1 ≤ n + 1; omega, h2⟩
      | some m =>
        have := sTill_le hs
        show (if m < a.2 then (n + 1, m) else a).1 ≤ n + 1 ∧ (if m < a.2 then (n + 1, m) else a).2 ≤ 41
        by_cases c2 : m < a.2
        · rw [if_pos c2]; exact ⟨Nat.le_refl _, by show m ≤ 41; omega⟩
        · rw [if_neg c2]; exact ⟨by omega, h2⟩
def spMaster (k : SK) (w : SW) (p : Nat) (what : Int32) : Int32 := if (sMas k w p (kP k)).1 = 0 ∨ what = 0 then nI (sMas k w p (kP k)).1 - 1 else nI (sMas k w p (kP k)).2
theorem mSW_master {k : SK} {w : SW} {z : MS} {p m : Nat} (h : mSW k w z) : mSW k (uM w p m) (wA z 53 (1 + 5 * p) (nI m - 1)) := by
  have := mSW_set (w' := uM w p m) (p := p) (c := 0) (x := nI m - 1) h (by decide) rfl (fun q _ => by rw [wM_u]; by_cases g : q = p <;> simp [g]) (fun q _ => by simp [uM, wR]) (fun q _ => by simp [uM, wW]) (fun q _ => by simp [uM, wL']) (fun q _ => by simp [uM, wF])
  exact this
theorem m_master_v {k : SK} {w : SW} {z : MS} (h : mOk k w z) (hz : mI z 58 = bI false) (hy : wY w ≤ 999) (a what : Int32) : Ok (m_master a what z) (fun r => r.1 = (if sPn (kP k) a = true ∧ sIn what 0 1 = true then spMaster k w a.toNatClampNeg what else -1) ∧ mBk z r.2) := by
  unfold m_master
  rw [m_isPerson_s h, bnd_s]
  cases c : sPn (kP k) a with
  | false => exact Ok.of ⟨rfl, mBk.rf z⟩
  | true =>
    have h8 := h.1.2.1
    obtain ⟨p, hp, rfl⟩ := sPn_nat c h8
    rw [if_neg (by decide), m_isIn_i, bnd_s, show (0 : Int64).toInt = 0 from by decide, show (1 : Int64).toInt = 1 from by decide]
    cases c2 : sIn what 0 1 with
    | false => exact Ok.of ⟨rfl, mBk.rf z⟩
    | true =>
      rw [if_neg (by decide), if_pos ⟨rfl, rfl⟩, nI_c (by omega)]
      refine Ok.bnv _ (m_putsAside_v h) (fun z1 hz1 => ?_)
      obtain ⟨th, hput⟩ := hz1
      rw [jn_s]
      have hw1 := th.1
      refine fx_okN (F := m_master_L33 (nI p) _) (z := fun _ _ _ _ => none) (fun s j (b : (Nat × Nat) × MS) => s (nI b.1.1 - 1) (nI b.1.2) (nI j) b.2) (kP k) (fun j b => b.1 = sMas k w p j ∧ mT k z1 w b.2) _ ?_ ?_ FU 0 ((0, 41), z1) (Nat.zero_le _) ⟨rfl, th.t⟩ (FU_gt (by omega))
      · rintro s j ⟨⟨a1, a2⟩, x⟩ hj ⟨ha, hx⟩ go
        have ha : (a1, a2) = sMas k w p j := ha
        have hx : mT k z1 w x := hx
        have hS : sMas k w p (j + 1) = sMasS k w p j (a1, a2) := by rw [ha]; exact itN_S _ _ _
        have hin := sMas_in k w p j
        rw [← ha] at hin
        have hin2 : a2 ≤ 41 := hin.2
        show Ok (m_master_L33 (nI p) _ s (nI a1 - 1) (nI a2) (nI j) x) _
        unfold m_master_L33
        have hb := m_isTaughtBy_v hx.ok (a := j + 1) (p := p) (by omega) hp
        rw [nI_pred] at hb
        rw [m_personMany_v hx.ok, bnd_s, if_neg (nI_ge hj (by omega)), hb, bnd_s]
        simp only [jn_s]
        unfold sMasS at hS
        cases cb : sBy (wM w) 8 (j + 1) p with
        | true =>
          rw [cb, if_pos rfl] at hS
          rw [if_neg (by decide), nI_1]
          exact go ((a1, a2), x) ⟨hS.symm, hx⟩
        | false =>
          rw [cb, if_neg (by decide)] at hS
          rw [if_pos (by decide), ix0, ck_t (inb_nI (by show _ < 132; omega) (by decide)), nm_s, nI_c (by omega)]
          have hwok : wOk k (uM w p (j + 1)) := h.2.1.master h.1 (by omega) (Or.inr cb)
          have hx2 : mT k z1 (uM w p (j + 1)) (wA x 53 (1 + 5 * p) (nI j)) := by
            have e := mSW_master (p := p) (m := j + 1) hx.ok.2.2.2
            rw [nI_pred] at e
            exact hx.same (mNow.now x (by omega) _).same hwok e
          refine Ok.bnd _ (m_yearsTill_v hx2 hy hp) (fun r y hr => ?_)
          obtain ⟨hr, v, hv⟩ := hr
          have hr : r = nI ((sTill k (fun v => (wF v p).testBit 0) 40 (uM w p (j + 1)) 0).getD 41) := hr
          have hv : mT k z1 v y := hv
          refine Ok.bnv _ (m_triesAnew_v th hv) (fun y2 hy2 => ?_)
          have hy2 := hy2.1
          cases hs : sTill k (fun v => (wF v p).testBit 0) 40 (uM w p (j + 1)) 0 with
          | none =>
            rw [hs] at hS hr
            have hr : r = nI 41 := hr
            rw [hr, if_neg (nI_nlt hin2 (by decide)), nI_1]
            exact go ((a1, a2), y2) ⟨hS.symm, hy2⟩
          | some n =>
            rw [hs] at hS hr
            have hr : r = nI n := hr
            have hle := sTill_le hs
            have hS : sMas k w p (j + 1) = if n < a2 then (j + 1, n) else (a1, a2) := hS
            rw [hr]
            by_cases cn : n < a2
            · rw [if_pos cn] at hS
              rw [if_pos (nI_lt cn (by omega)), nI_1]
              have g := go ((j + 1, n), y2) ⟨hS.symm, hy2⟩
              have g : Ok (s (nI (j + 1) - 1) (nI n) (nI (j + 1)) y2) _ := g
              rw [nI_pred] at g
              exact g
            · rw [if_neg cn] at hS
              rw [if_neg (nI_nlt (by omega) (by omega)), nI_1]
              exact go ((a1, a2), y2) ⟨hS.symm, hy2⟩
      · rintro s ⟨⟨a1, a2⟩, x⟩ ⟨ha, hx⟩
        have ha : (a1, a2) = sMas k w p (kP k) := ha
        have hx : mT k z1 w x := hx
        have hin := sMas_in k w p (kP k)
        rw [← ha] at hin
        have hin1 : a1 ≤ kP k := hin.1
        show Ok (m_master_L33 (nI p) _ s (nI a1 - 1) (nI a2) (nI (kP k)) x) _
        unfold m_master_L33
        rw [m_personMany_v hx.ok, bnd_s, if_pos (nI_le (Nat.le_refl _) (by omega))]
        refine Ok.bnv _ (m_takesBack_v hz th hput hx) (fun y hy' => ?_)
        unfold spMaster
        rw [← ha]
        show Ok (if nI a1 - 1 = -1 then _ else if what = 0 then _ else _) (fun (r : Int32 × MS) => r.1 = (if a1 = 0 ∨ what = 0 then nI a1 - 1 else nI a2) ∧ mBk z r.2)
        by_cases c0 : a1 = 0
        · subst c0
          rw [if_pos (by decide), if_pos (Or.inl rfl)]
          exact Ok.of ⟨(by show (-1 : Int32) = nI 0 - 1; decide), hy'⟩
        · rw [if_neg (m1_ne c0 (by omega))]
          by_cases cw : what = 0
          · rw [if_pos cw, if_pos (Or.inr cw)]
            exact Ok.of ⟨rfl, hy'⟩
          · rw [if_neg cw, if_neg (by rintro (q | q); exact c0 q; exact cw q)]
            exact Ok.of ⟨rfl, hy'⟩
