/-! PART 34: plain: the Model tells the value of a question -/
set_option maxRecDepth 100000
/-- whether person x is right about f -/
def sOf (k : SK) (w : SW) (f : Nat) (x : Int64) : Int64 := if 0 ≤ x.toInt ∧ x.toInt < kP k then (if (wR w x.toInt.toNat).testBit f = true then 1 else 0) else 0
def qP (k : SK) (w : SW) (p f : Nat) : Nat → Int64 := fun j => sClip (sPart k w true p f j)
def qB (k : SK) (w : SW) (f : Nat) : Int64 → Int64 := fun x => sClip (sOf k w f x)
theorem m_qOf_v {k : SK} {w : SW} {z : MS} (h : mOk k w z) {f : Nat} (hf : f < 8) (x : Int64) (a : Int32) : m_qOf a x (nI f) z = some (sOf k w f x, z) := by
  have h8 := h.1.2.1
  have et : (Int32.toInt64 (nI (kP k) - 1)).toInt = (kP k : Int) - 1 := by
    rw [Int32.toInt_toInt64]
    have : ∀ n, n ≤ 8 → (nI n - 1).toInt = (n : Int) - 1 := by decide +kernel
    exact this _ h8
  unfold m_qOf sOf
  rw [m_personMany_v h, bnd_s, m_isIn_v, bnd_s, et, show (0 : Int64).toInt = 0 from by decide]
  by_cases c : 0 ≤ x.toInt ∧ x.toInt < kP k
  · obtain ⟨n, hn⟩ : ∃ n : Nat, x.toInt = n := ⟨x.toInt.toNat, by omega⟩
    have hnk : n < kP k := by omega
    have ex : Int64.toInt32 x = nI n := by
      have e1 : x = lN n := by
        apply Int64.toInt_inj.mp
        rw [hn]
        have : ∀ n : Nat, n < 9 → (n : Int) = (lN n).toInt := by decide +kernel
        exact this n (by omega)
      rw [e1, lN_i]
    rw [decide_eq_true (by omega), if_neg (by decide), if_pos c, ex, m_rightOf_v h hnk, bnd_s, hn]
    have r8 : wR w n < 256 := by
      have : 2 ^ kF k ≤ 2 ^ 8 := Nat.pow_le_pow_right (by decide) h.1.1
      exact Nat.lt_of_lt_of_le (h.2.1.2.2 n hnk).2.1 this
    show some (Int32.toInt64 ((nI (wR w n) >>> (nI f &&& 31)) &&& 1), z) = some ((if (wR w n).testBit f = true then 1 else 0), z)
    have key : ∀ s, s < 256 → ∀ f, f < 8 → Int32.toInt64 ((nI s >>> (nI f &&& 31)) &&& 1) = if s.testBit f = true then (1 : Int64) else 0 := by decide +kernel
    rw [key _ r8 f hf]
  · rw [decide_eq_false (by omega), if_pos (by decide), if_neg c]
theorem m_qTold_loop {k : SK} {w : SW} {z : MS} (h : mOk k w z) {p f : Nat} {c : List Int32} {Q : Int64 × MS → Prop} {K : MS → Option (Int64 × MS)} (hp : p < kP k) (hf : f < kF k) (hb : c.length ≤ 1600) (hd : cDep (alOf 2) c 0 = some 1) (hno : no52 c) (hcE : mI z 94 = nI c.length) (hcC : ∀ j, j < c.length → mA z 93 j = c.getD j 0) (h55 : mI z 55 = nI p) (h52 : mI z 52 = nI 2) (h100 : mI z 100 = 0)
    (hK : ∀ x v, mPl z x → mB x 99 0 = v → sRun (qP k w p f) (qB k w f) c [] = some [v] → Ok (K x) Q) : Ok (fx (m_qTold_L7 (nI f) K) (fun _ _ => none) FU 0 z) Q := by
  have f8 : f < 8 := by have := h.1.1; omega
  refine fx_okN (F := m_qTold_L7 (nI f) K) (z := fun _ _ => none) (fun s j x => s (nI j) x) c.length (fun j x => mPl z x ∧ mI x 55 = nI p ∧ mI x 52 = nI 2 ∧ ∃ st, mStk st x ∧ st.length ≤ j ∧ cDep (alOf 2) (c.drop j) st.length = some 1 ∧ sRun (qP k w p f) (qB k w f) (c.drop j) st = sRun (qP k w p f) (qB k w f) c []) Q ?_ ?_ FU 0 z (Nat.zero_le _) ⟨⟨fun _ _ => rfl, rfl, rfl, fun _ _ => rfl⟩, h55, h52, [], ⟨h100, fun i hi => absurd hi (Nat.not_lt_zero _)⟩, Nat.le_refl _, hd, rfl⟩ (FU_gt (by omega))
  · rintro s j x hj ⟨he, g55, g52, st, hst, hl, hdd, hr⟩ go
    have hx := he.ev.ok h
    have i93 : inb (nI j) (mN 93) = true := inb_nI (by show _ < 1700; omega) (by decide)
    have n93 : (nI j).toNatClampNeg = j := nI_c (by omega)
    have e93 : mA x 93 j = c[j] := by
      rw [he.ev.arr, hcC j hj]
      simp [List.getD, hj]
    have e94 : mI x 94 = nI c.length := by rw [he.1 94 (by decide), hcE]
    have gon : ∀ x', mPl x x' → ∀ st', mStk st' x' → st'.length ≤ j + 1 → cDep (alOf 2) (c.drop (j + 1)) st'.length = some 1 → sRun (qP k w p f) (qB k w f) (c.drop (j + 1)) st' = sRun (qP k w p f) (qB k w f) c [] → Ok (s (nI j + 1) x') Q := by
      intro x' hex st' q1 q2 q3 q4
      rw [nI_1]
      exact go x' ⟨he.tr hex, (hex.1 55 (by decide)).trans g55, (hex.1 52 (by decide)).trans g52, st', q1, q2, q3, q4⟩
    show Ok (m_qTold_L7 (nI f) K s (nI j) x) Q
    unfold m_qTold_L7
    simp only [e94, ck_t i93, n93, e93, jn_s]
    rw [if_neg (nI_ge hj (by omega))]
    have ha52 : c[j] ≠ 52 := hno _ (List.getElem_mem hj)
    rw [List.drop_eq_getElem_cons hj] at hdd hr
    generalize c[j] = a at hdd hr ha52 ⊢
    generalize sRun (qP k w p f) (qB k w f) c [] = R at hr gon
    unfold cDep at hdd
    unfold sRun sStep at hr
    by_cases c1 : a < 1000
    · rw [if_pos c1] at hdd hr ⊢
      by_cases c2 : a < 40
      · have c60 : a < 60 := Int32.lt_trans c2 (by decide)
        rw [if_pos c60, if_pos c2]
        rw [if_pos c60, if_pos c2] at hdd hr
        by_cases c3 : a = 13
        · rw [if_pos c3] at hdd hr ⊢
          obtain ⟨x', g1, g2, g3⟩ := m_qPuts_v hst (by omega) 1
          rw [g1, bnv_s]
          exact gon x' g3 (1 :: st) g2 (by simpa using hl) hdd hr
        · rw [if_neg c3] at hdd hr ⊢
          by_cases c4 : a = 12
          · rw [if_pos c4] at hdd hr ⊢
            by_cases c5 : 1 ≤ st.length
            · rw [if_pos c5] at hdd
              cases st with
              | nil => exact absurd c5 (by decide)
              | cons t st =>
                have hst1 : mI x 100 = nI (st.length + 1) := hst.1
                have e1 : mI x 100 - 1 = nI st.length := by rw [hst1]; exact nI_pred _
                have hl : st.length + 1 ≤ j := hl
                have i9 : inb (nI st.length) (mN 99) = true := inb_nI (by show _ < 1700; omega) (by decide)
                have t9 : mB x 99 st.length = t := by
                  rw [hst.2 st.length (Nat.lt_succ_self _)]
                  show (t :: st).getD (st.length + 1 - 1 - st.length) 0 = t
                  rw [show st.length + 1 - 1 - st.length = 0 by omega]
                  rfl
                simp only [e1, ck_t i9, nm_s, nI_c (show st.length < 2 ^ 31 by omega), t9]
                refine gon _ (mPl.pile x _ _) ((1 - t) :: st) ⟨hst.1, fun q hq => ?_⟩ (by show st.length + 1 ≤ _; omega) hdd hr
                have hq : q < st.length + 1 := hq
                rw [mB_w]
                show _ = ((1 - t) :: st).getD (st.length + 1 - 1 - q) 0
                by_cases c6 : q = st.length
                · rw [if_pos c6, c6, show st.length + 1 - 1 - st.length = 0 by omega]
                  rfl
                · rw [if_neg c6, hst.2 q hq]
                  show (t :: st).getD (st.length + 1 - 1 - q) 0 = _
                  rw [show st.length + 1 - 1 - q = (st.length - 1 - q) + 1 by omega]
                  rfl
            · rw [if_neg c5] at hdd
              cases hdd
          · rw [if_neg c4] at hdd hr ⊢
            by_cases c7 : 1 ≤ a ∧ a ≤ 11
            · rw [if_pos c7] at hdd
              by_cases c5 : 2 ≤ st.length
              · rw [if_pos c5] at hdd
                match st, hst, hl, hdd, hr, c5 with
                | [], _, _, _, _, c5 => exact absurd c5 (by decide)
                | [_], _, _, _, _, c5 => exact absurd c5 (by simp)
                | t2 :: t1 :: st, hst, hl, hdd, hr, _ =>
                  have hl : st.length + 2 ≤ j := hl
                  obtain ⟨x', g1, g2, g3⟩ := m_qJoins_v hst (by omega) a
                  rw [g1, bnv_s]
                  exact gon x' g3 (sJoin a t1 t2 :: st) g2 (by show st.length + 1 ≤ _; omega) hdd hr
              · rw [if_neg c5] at hdd
                cases hdd
            · rw [if_neg c7] at hdd
              cases hdd
      · by_cases c6 : a < 60
        · rw [if_pos c6, if_neg c2]
          rw [if_pos c6, if_neg c2] at hdd hr
          by_cases ca : alOf 2 (a - 40).toNatClampNeg = true
          · rw [if_pos ca] at hdd
            have hlow : 40 ≤ a.toInt := by
              have := mt Int32.lt_iff_toInt_lt.mpr c2
              have e : (40 : Int32).toInt = 40 := by decide
              omega
            have hhi : a.toInt < 60 := by
              have := Int32.lt_iff_toInt_lt.mp c6
              have e : (60 : Int32).toInt = 60 := by decide
              omega
            obtain ⟨n, hn, rfl⟩ : ∃ n, n < 20 ∧ a = nI (40 + n) := by
              refine ⟨(a.toInt - 40).toNat, by omega, ?_⟩
              apply Int32.toInt_inj.mp
              rw [nI_toInt (by omega)]
              omega
            have n12 : n ≠ 12 := fun e => ha52 (by rw [e]; rfl)
            have e40 : nI (40 + n) - 40 = nI n := by
              rw [Nat.add_comm, ← nI_add]
              exact Int32.add_sub_cancel _ _
            rw [e40] at ca hr ⊢
            rw [nI_c (show n < 2 ^ 31 by omega)] at ca hr
            have hal : n < 5 ∨ (7 ≤ n ∧ n ≤ 12) := of_decide_eq_true (show decide (n < 5 ∨ (7 ≤ n ∧ n ≤ 12)) = true from ca)
            have hq2 : mI x 52 = 2 ↔ true = true := by
              rw [g52]
              exact ⟨fun _ => rfl, fun _ => rfl⟩
            rw [m_qPartOf_v hx hp f8 g55 hq2 (by omega) (fun _ => hf) (fun q => absurd q (by omega)), bnd_s, m_qClip_v, bnd_s]
            obtain ⟨x', g1, g2, g3⟩ := m_qPuts_v hst (by omega) (sClip (sPart k w true p f n))
            rw [g1, bnv_s]
            exact gon x' g3 (_ :: st) g2 (by simpa using hl) hdd hr
          · rw [if_neg ca] at hdd
            cases hdd
        · rw [if_neg c6]
          rw [if_neg c6] at hdd hr
          by_cases ca : alOf 2 12 = true ∧ a = 60
          · rw [if_pos ca] at hdd
            by_cases c5 : 1 ≤ st.length
            · rw [if_pos c5] at hdd
              cases st with
              | nil => exact absurd c5 (by decide)
              | cons t st =>
                have hst1 : mI x 100 = nI (st.length + 1) := hst.1
                have e1 : mI x 100 - 1 = nI st.length := by rw [hst1]; exact nI_pred _
                have hl : st.length + 1 ≤ j := hl
                have i9 : inb (nI st.length) (mN 99) = true := inb_nI (by show _ < 1700; omega) (by decide)
                have t9 : mB x 99 st.length = t := by
                  rw [hst.2 st.length (Nat.lt_succ_self _)]
                  show (t :: st).getD (st.length + 1 - 1 - st.length) 0 = t
                  rw [show st.length + 1 - 1 - st.length = 0 by omega]
                  rfl
                simp only [e1, ck_t i9, nm_s, nI_c (show st.length < 2 ^ 31 by omega), t9]
                rw [m_qOf_v hx f8, bnd_s, m_qClip_v, bnd_s]
                refine gon _ (mPl.pile x _ _) (sClip (sOf k w f t) :: st) ⟨hst.1, fun q hq => ?_⟩ (by show st.length + 1 ≤ _; omega) hdd hr
                have hq : q < st.length + 1 := hq
                rw [mB_w]
                show _ = (sClip (sOf k w f t) :: st).getD (st.length + 1 - 1 - q) 0
                by_cases c6 : q = st.length
                · rw [if_pos c6, c6, show st.length + 1 - 1 - st.length = 0 by omega]
                  rfl
                · rw [if_neg c6, hst.2 q hq]
                  show (t :: st).getD (st.length + 1 - 1 - q) 0 = _
                  rw [show st.length + 1 - 1 - q = (st.length - 1 - q) + 1 by omega]
                  rfl
            · rw [if_neg c5] at hdd
              cases hdd
          · rw [if_neg ca] at hdd
            cases hdd
    · rw [if_neg c1] at hdd hr ⊢
      by_cases c8 : a ≤ 10999
      · rw [if_pos c8] at hdd
        obtain ⟨x', g1, g2, g3⟩ := m_qPuts_v hst (by omega) (a - 1000).toInt64
        rw [g1, bnv_s]
        exact gon x' g3 (_ :: st) g2 (by simpa using hl) hdd hr
      · rw [if_neg c8] at hdd
        cases hdd
  · rintro s x ⟨he, g55, g52, st, hst, hl, hdd, hr⟩
    have e94 : mI x 94 = nI c.length := by rw [he.1 94 (by decide), hcE]
    show Ok (m_qTold_L7 (nI f) K s (nI c.length) x) Q
    unfold m_qTold_L7
    rw [e94, if_pos (nI_le (Nat.le_refl _) (by omega))]
    rw [List.drop_length] at hdd hr
    have hln : st.length = 1 := Option.some.inj hdd
    match st, hln, hst, hr with
    | [v], _, hst, hr =>
      refine hK x v he ?_ hr.symm
      rw [hst.2 0 (by simp)]
      rfl
theorem m_qTold_v {k : SK} {w : SW} {z : MS} (h : mOk k w z) {p f : Nat} {c : List Int32} (hp : p < kP k) (hf : f < kF k) (hb : c.length ≤ 1600) (hd : cDep (alOf 2) c 0 = some 1) (hno : no52 c) (hcE : mI z 94 = nI c.length) (hcC : ∀ j, j < c.length → mA z 93 j = c.getD j 0) (h55 : mI z 55 = nI p) (h52 : mI z 52 = nI 2) :
    ∃ v z', m_qTold (nI f) z = some (v, z') ∧ sRun (qP k w p f) (qB k w f) c [] = some [v] ∧ mPl z z' := by
  have e := mPl.int z 0
  have fin : Ok (m_qTold (nI f) z) (fun r => sRun (qP k w p f) (qB k w f) c [] = some [r.1] ∧ mPl z r.2) := by
    unfold m_qTold
    rw [nm_s, jn_s]
    refine m_qTold_loop (e.ev.ok h) hp hf hb hd hno (by rw [e.1 94 (by decide)]; exact hcE) (fun j hj => hcC j hj) (by rw [e.1 55 (by decide)]; exact h55) (by rw [e.1 52 (by decide)]; exact h52) (mI_eq _ _ _) (fun x v q1 q2 q3 => ?_)
    refine Ok.of ⟨?_, e.tr q1⟩
    show sRun (qP k w p f) (qB k w f) c [] = some [mB x 99 (Int32.toNatClampNeg 0)]
    rw [show Int32.toNatClampNeg 0 = 0 from by decide, q2]
    exact q3
  obtain ⟨⟨v, z'⟩, e1, e2, e3⟩ := fin
  exact ⟨v, z', e1, e2, e3⟩
