/-! PART 52: plain: the Model ahead: doctor, lost, master -/
set_option maxRecDepth 100000
theorem sTill_S (k : SK) (P : SW → Bool) (n : Nat) (v : SW) (j : Nat) : sTill k P (n + 1) v j = if P v = true then some j else if wY v < 999 then sTill k P n (sYear k v 0) (j + 1) else none := rfl
/-- thought years go till P holds -/
theorem m_till {β : Type} {k : SK} {w : SW} {z1 : MS} (P : SW → Bool) {F : (Int32 → MS → Option β) → (Int32 → MS → Option β) → Int32 → MS → Option β} {z0 : Int32 → MS → Option β} {K : Int32 → MS → Option β} {Q : β → Prop} {x0 : MS} (th : mT k z1 w x0) (hy : wY w ≤ 999)
    (hF : ∀ (K s : Int32 → MS → Option β) (j : Nat) (v : SW) (x : MS), j ≤ 40 → mT k z1 v x → F K s (nI j) x = if P v = true then K (nI j) x else if (40 : Int32) ≤ nI j then K (nI j) x else if (999 : Int32) ≤ nI (wY v) then K (nI j) x else bnv (m_yearGoes 0 x) fun y => s (nI j + 1) y)
    (hK : ∀ (j : Nat) (v : SW) (x : MS), j ≤ 40 → mT k z1 v x → sTill k P 40 w 0 = (if P v = true then some j else none) → Ok (K (nI j) x) Q) : Ok (fx (F K) z0 FU 0 x0) Q := by
  refine fx_okN (F := F K) (z := z0) (fun s j (a : SW × MS) => s (nI j) a.2) 40 (fun j a => mT k z1 a.1 a.2 ∧ wY a.1 ≤ 999 ∧ sTill k P (40 - j) a.1 j = sTill k P 40 w 0) Q ?_ ?_ FU 0 (w, x0) (Nat.zero_le _) ⟨th, hy, rfl⟩ (FU_gt (by decide))
  · rintro s j ⟨v, x⟩ hj ⟨hx, hyv, hs⟩ go
    have hx : mT k z1 v x := hx
    have hyv : wY v ≤ 999 := hyv
    have hs : sTill k P (40 - j) v j = sTill k P 40 w 0 := hs
    rw [show 40 - j = (40 - (j + 1)) + 1 by omega, sTill_S] at hs
    show Ok (F K s (nI j) x) Q
    rw [hF K s j v x (by omega) hx]
    by_cases c : P v = true
    · rw [if_pos c]
      rw [if_pos c] at hs
      exact hK j v x (by omega) hx (by rw [if_pos c, hs])
    · rw [if_neg c, if_neg (show ¬ (40 : Int32) ≤ nI j from nI_ge (b := 40) hj (by decide))]
      rw [if_neg c] at hs
      by_cases c2 : wY v < 999
      · rw [if_neg (show ¬ (999 : Int32) ≤ nI (wY v) from nI_ge (b := 999) c2 (by decide))]
        rw [if_pos c2] at hs
        refine Ok.bnv _ (hx.year (by omega)) (fun y hy' => ?_)
        rw [nI_1]
        exact go (sYear k v 0, y) ⟨hy', by show wY (sYear k v 0) ≤ 999; rw [sYear_Y]; omega, hs⟩
      · rw [if_pos (show (999 : Int32) ≤ nI (wY v) from nI_le (a := 999) (by omega) (by omega))]
        rw [if_neg c2] at hs
        exact hK j v x (by omega) hx (by rw [if_neg c, hs])
  · rintro s ⟨v, x⟩ ⟨hx, hyv, hs⟩
    have hx : mT k z1 v x := hx
    have hs : sTill k P (40 - 40) v 40 = sTill k P 40 w 0 := hs
    rw [Nat.sub_self] at hs
    have hs : (if P v = true then some 40 else none) = sTill k P 40 w 0 := hs
    show Ok (F K s (nI 40) x) Q
    rw [hF K s 40 v x (by omega) hx, if_pos (show (40 : Int32) ≤ nI 40 by decide), ite_self]
    exact hK 40 v x (by omega) hx hs.symm
def spDoctor (k : SK) (w : SW) (p : Nat) : Int32 := oM1 (sTill k (fun v => (wF v p).testBit 1) 40 w 0)
theorem m_person_in {k : SK} {w : SW} {z : MS} (h : mOk k w z) {p : Nat} (hp : p < kP k) : m_isPerson (nI p) z = some (true, z) := by
  obtain ⟨b, g1, g2⟩ := m_isPerson_v h (nI p)
  rw [g1, g2.mpr ⟨p, hp, rfl⟩]
theorem m_fact_in {k : SK} {w : SW} {z : MS} (h : mOk k w z) {p : Nat} (hp : p < kF k) : m_isFact (nI p) z = some (true, z) := by
  obtain ⟨b, g1, g2⟩ := m_isFact_v h (nI p)
  rw [g1, g2.mpr ⟨p, hp, rfl⟩]
/-- whether a number is a person, a fact -/
def sPn (n : Nat) (a : Int32) : Bool := decide (0 ≤ a.toInt ∧ a.toInt < n)
theorem sPn_nat {n : Nat} {a : Int32} (h : sPn n a = true) (hn : n ≤ 8) : ∃ p, p < n ∧ a = nI p := by
  have := of_decide_eq_true h
  refine ⟨a.toInt.toNat, by omega, ?_⟩
  apply Int32.toInt_inj.mp
  rw [nI_toInt (by omega)]
  omega
theorem sPn_of {n p : Nat} (h : p < n) (hn : n ≤ 8) : sPn n (nI p) = true := by
  unfold sPn
  rw [nI_toInt (by omega)]
  exact decide_eq_true (by omega)
theorem m_isPerson_s {k : SK} {w : SW} {z : MS} (h : mOk k w z) (a : Int32) : m_isPerson a z = some (sPn (kP k) a, z) := by
  obtain ⟨b, g1, g2⟩ := m_isPerson_v h a
  have : b = sPn (kP k) a := by
    cases e : sPn (kP k) a with
    | true => exact g2.mpr (sPn_nat e h.1.2.1)
    | false =>
      cases b with
      | false => rfl
      | true =>
        obtain ⟨p, hp, rfl⟩ := g2.mp rfl
        rw [sPn_of hp h.1.2.1] at e
        cases e
  rw [g1, this]
theorem m_isFact_s {k : SK} {w : SW} {z : MS} (h : mOk k w z) (a : Int32) : m_isFact a z = some (sPn (kF k) a, z) := by
  obtain ⟨b, g1, g2⟩ := m_isFact_v h a
  have : b = sPn (kF k) a := by
    cases e : sPn (kF k) a with
    | true => exact g2.mpr (sPn_nat e h.1.1)
    | false =>
      cases b with
      | false => rfl
      | true =>
        obtain ⟨p, hp, rfl⟩ := g2.mp rfl
        rw [sPn_of hp h.1.1] at e
        cases e
  rw [g1, this]
theorem m_doctor_v {k : SK} {w : SW} {z : MS} (h : mOk k w z) (hz : mI z 58 = bI false) (hy : wY w ≤ 999) (a : Int32) : Ok (m_doctor a z) (fun r => r.1 = (if sPn (kP k) a = true then spDoctor k w a.toNatClampNeg else -1) ∧ mBk z r.2) := by
  unfold m_doctor
  rw [m_isPerson_s h, bnd_s]
  cases c : sPn (kP k) a with
  | false => exact Ok.of ⟨rfl, mBk.rf z⟩
  | true =>
    have h8 := h.1.2.1
    obtain ⟨p, hp, rfl⟩ := sPn_nat c h8
    rw [if_neg (by decide), if_pos rfl, nI_c (by omega)]
    refine Ok.bnv _ (m_putsAside_v h) (fun z1 hz1 => ?_)
    obtain ⟨th, hput⟩ := hz1
    rw [jn_s]
    refine m_till (fun v => (wF v p).testBit 1) (F := m_doctor_L16 (nI p)) th.t hy (fun K s j v x hj hx => ?_) (fun j v x hj hx hs => ?_)
    · unfold m_doctor_L16
      rw [m_isDoctor_v hx.ok hp, bnd_s, show (Int32.toNatClampNeg 0) = 0 from by decide, hx.ok.y]
      cases (wF v p).testBit 1 <;> rfl
    · show Ok (bnd (m_isDoctor (nI p) x) fun r2 z4 => bnv (m_takesBack z4) fun z5 => if (bI r2) = 0 then some ((-1), z5) else some (nI j, z5)) _
      rw [m_isDoctor_v hx.ok hp, bnd_s]
      refine Ok.bnv _ (m_takesBack_v hz th hput hx) (fun y hy' => ?_)
      unfold spDoctor
      rw [hs]
      cases (wF v p).testBit 1 with
      | false => exact Ok.of ⟨rfl, hy'⟩
      | true => exact Ok.of ⟨rfl, hy'⟩
theorem cnt_le {f : Nat → Nat} : ∀ n, (∀ q, q < n → f q ≤ 1) → cnt f n ≤ n
  | 0, _ => Nat.le_refl _
  | n + 1, h => by
    rw [cnt_S]
    have := cnt_le n (fun q hq => h q (by omega))
    have := h n (by omega)
    omega
theorem sWrM_le (w : SW) (n f : Nat) : sWrM w n f ≤ n := cnt_le (f := fun p => if (wW w p).testBit f = true then 1 else 0) n (fun q _ => by split <;> omega)
def spLost (k : SK) (w : SW) (f : Nat) : Int32 := if kP k = 0 then -1 else oM1 (sTill k (fun v => decide (sWrM v (kP k) f = kP k)) 40 w 0)
theorem m_lost_v {k : SK} {w : SW} {z : MS} (h : mOk k w z) (hz : mI z 58 = bI false) (hy : wY w ≤ 999) (a : Int32) : Ok (m_lost a z) (fun r => r.1 = (if sPn (kF k) a = true then spLost k w a.toNatClampNeg else -1) ∧ mBk z r.2) := by
  unfold m_lost
  rw [m_isFact_s h, bnd_s]
  cases c : sPn (kF k) a with
  | false => exact Ok.of ⟨rfl, mBk.rf z⟩
  | true =>
    have h8 := h.1.2.1
    have hF8 := h.1.1
    obtain ⟨f, hf, rfl⟩ := sPn_nat c hF8
    rw [if_neg (by decide), if_pos rfl, nI_c (by omega), m_personMany_v h, bnd_s]
    unfold spLost
    by_cases c0 : kP k = 0
    · rw [if_pos (by rw [c0]; rfl), if_pos c0]
      exact Ok.of ⟨rfl, mBk.rf z⟩
    · rw [if_neg (nI_ne0 (by omega) (by omega)), if_neg c0]
      refine Ok.bnv _ (m_putsAside_v h) (fun z1 hz1 => ?_)
      obtain ⟨th, hput⟩ := hz1
      simp only [jn_s]
      refine m_till (fun v => decide (sWrM v (kP k) f = kP k)) (F := m_lost_L23 (nI f)) th.t hy (fun K s j v x hj hx => ?_) (fun j v x hj hx hs => ?_)
      · unfold m_lost_L23
        have hle := sWrM_le v (kP k) f
        rw [m_wrongMany_v hx.ok (by omega), bnd_s, m_personMany_v hx.ok, bnd_s, show (Int32.toNatClampNeg 0) = 0 from by decide, hx.ok.y]
        by_cases e : sWrM v (kP k) f = kP k
        · rw [if_pos (nI_le (by omega) (by omega)), if_pos (decide_eq_true e)]
        · rw [if_neg (nI_ge (by omega) (by omega)), if_neg (show ¬ decide (sWrM v (kP k) f = kP k) = true by simpa using e)]
      · show Ok (bnd (m_wrongMany (nI f) x) fun r3 z5 => bnd (m_personMany z5) fun r4 z6 => if r3 = r4 then (bnv (m_takesBack z6) fun z8 => if (bI true) = 0 then some ((-1), z8) else some (nI j, z8)) else (bnv (m_takesBack z6) fun z8 => if (bI false) = 0 then some ((-1), z8) else some (nI j, z8))) _
        have hle := sWrM_le v (kP k) f
        rw [m_wrongMany_v hx.ok (by omega), bnd_s, m_personMany_v hx.ok, bnd_s, hs]
        by_cases e : sWrM v (kP k) f = kP k
        · rw [if_pos (by rw [e]), if_pos (decide_eq_true e)]
          exact Ok.bnv _ (m_takesBack_v hz th hput hx) (fun y hy' => Ok.of ⟨rfl, hy'⟩)
        · rw [if_neg (fun q => e ((nI_eq (by omega) (by omega)).mp q)), if_neg (by simpa using e)]
          exact Ok.bnv _ (m_takesBack_v hz th hput hx) (fun y hy' => Ok.of ⟨rfl, hy'⟩)
