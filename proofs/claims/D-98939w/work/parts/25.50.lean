/-! PART 50: plain: a year of the Model, as a whole -/
set_option maxRecDepth 100000
theorem itN_S {σ : Type} (st : Nat → σ → σ) (n : Nat) (x : σ) : itN st (n + 1) 0 x = st n (itN st n 0 x) := by rw [itN_last, Nat.zero_add]
def cnt (f : Nat → Nat) (n : Nat) : Nat := itN (fun q s => s + f q) n 0 0
theorem cnt_S (f : Nat → Nat) (n : Nat) : cnt f (n + 1) = cnt f n + f n := itN_S _ n 0
theorem cnt_congr {f g : Nat → Nat} : ∀ n, (∀ q, q < n → f q = g q) → cnt f n = cnt g n
  | 0, _ => rfl
  | n + 1, h => by rw [cnt_S, cnt_S, cnt_congr n (fun q hq => h q (by omega)), h n (by omega)]
theorem cnt_one {f g : Nat → Nat} {p : Nat} : ∀ n, p < n → (∀ q, q < n → q ≠ p → f q = g q) → f p = g p + 1 → cnt f n = cnt g n + 1
  | 0, h, _, _ => absurd h (Nat.not_lt_zero _)
  | n + 1, h, h1, h2 => by
    rw [cnt_S, cnt_S]
    by_cases c : p = n
    · rw [← c, h2, cnt_congr p (fun q hq => h1 q (by omega) (by omega))]
      omega
    · rw [cnt_one n (by omega) (fun q hq hn => h1 q (by omega) hn) h2, h1 n (by omega) (fun e => c e.symm)]
      omega
theorem wF_bec (w : SW) (p b q : Nat) : wF (sBec w p b) q = if q = p then wF w p ||| 2 ^ b else wF w q := by
  by_cases g : q = p <;> simp [g, sBec, uF, wF, va_up]
theorem f_t : ∀ x, x < 4 → ∀ b, b < 2 → ∀ a, a < 2 → (x ||| 2 ^ b).testBit a = (x.testBit a || decide (a = b)) := by decide +kernel
theorem cPas_congr {k : SK} {w w' : SW} (h : ∀ q, q < kP k → (wF w' q).testBit 0 = (wF w q).testBit 0) : cPas k w' = cPas k w := cnt_congr (kP k) (fun q hq => by rw [h q hq])
theorem cPas_bec0 {k : SK} {w : SW} {p : Nat} (hw : wOk k w) (hp : p < kP k) (h : (wF w p).testBit 0 = false) : cPas k (sBec w p 0) = cPas k w + 1 := by
  refine cnt_one (kP k) hp (fun q hq hn => ?_) ?_
  · rw [wF_bec, if_neg hn]
  · rw [wF_bec, if_pos rfl, f_t _ (hw.2.2 p hp).2.2.2.2.2 0 (by decide) 0 (by decide), h]
    rfl
theorem cPas_bec1 {k : SK} {w : SW} {p : Nat} (hw : wOk k w) (hp : p < kP k) : cPas k (sBec w p 1) = cPas k w := by
  refine cPas_congr fun q hq => ?_
  rw [wF_bec]
  by_cases c : q = p
  · rw [if_pos c, f_t _ (hw.2.2 p hp).2.2.2.2.2 1 (by decide) 0 (by decide), c]
    simp
  · rw [if_neg c]
theorem wOk.bec {k : SK} {w : SW} (h : wOk k w) {p b : Nat} (hp : p < kP k) (hb : b < 2) : wOk k (sBec w p b) := by
  refine ⟨h.1, h.2.1, fun q hq => ?_⟩
  obtain ⟨b1, b2, b3, b4, b5, b6⟩ := h.2.2 q hq
  refine ⟨b1, b2, b3, b4, b5, ?_⟩
  rw [wF_bec]
  by_cases c : q = p
  · rw [if_pos c]
    exact (f_or _ (h.2.2 p hp).2.2.2.2.2 b hb).2
  · rw [if_neg c]
    exact b6
theorem wL_u (w : SW) (p v q : Nat) : wL' (uL w p v) q = if q = p then v else wL' w q := by
  by_cases g : q = p <;> simp [g, uL, wL', va_up]
theorem wOk.left {k : SK} {w : SW} (h : wOk k w) {p v : Nat} (hv : v ≤ 9) : wOk k (uL w p v) := by
  refine ⟨h.1, h.2.1, fun q hq => ?_⟩
  obtain ⟨b1, b2, b3, b4, b5, b6⟩ := h.2.2 q hq
  refine ⟨b1, b2, b3, b4, ?_, b6⟩
  rw [wL_u]
  by_cases c : q = p
  · rw [if_pos c]; exact hv
  · rw [if_neg c]; exact b5
/-- one sits for the exam -/
def sSit (k : SK) (w : SW) (p : Nat) : SW := if (wF w p).testBit 0 = true ∨ wL' w p = 0 ∨ sHo k w 2 p 0 = false then w else if nI (kSe k 0) ≤ sMk k w p then sTell (sBec w p 0) p 1 else uL w p (wL' w p - 1)
theorem m_sitsFor_v {th : Bool} {k : SK} {c : Int32} {z0 z : MS} {w : SW} (hY : mY th k c z0 w z) {p : Nat} (hp : p < kP k) : Ok (m_sitsFor (nI p) z) (mY th k c z0 (sSit k w p)) := by
  have h8 := hY.1.1.2.1
  have hl9 := (hY.1.2.1.2.2 p hp).2.2.2.2.1
  unfold m_sitsFor
  rw [m_hasPassed_v hY.1 hp, bnd_s]
  unfold sSit
  cases c1 : (wF w p).testBit 0 with
  | true =>
    rw [if_neg (by decide), if_pos (Or.inl rfl)]
    exact Ok.of hY
  | false =>
    rw [if_pos (by decide), m_leftOf_v hY.1 hp, bnd_s]
    by_cases c2 : wL' w p = 0
    · rw [if_pos (by rw [c2]; rfl), if_pos (Or.inr (Or.inl c2))]
      exact Ok.of hY
    · rw [if_neg (nI_ne0 (by omega) (by omega))]
      simp only [jn_s]
      have body : ∀ x, mY th k c z0 w x → Ok (bnd (m_marksOf (nI p) x) fun r3 z4 =>
        if (mA z4 46 (Int32.toNatClampNeg 3)) ≤ r3 then
          bnv (m_becomes (nI p) 1 z4) fun z5 =>
          nm (wI z5 59 ((mI z5 59) + 1)) fun z6 =>
          bnv (m_isKept (nI p) 1 z6) fun z7 =>
          some z7
        else
          ck (inb ((1 + (5 * nI p)) + 3) (mN 53)) <|
          ck (inb ((1 + (5 * nI p)) + 3) (mN 53)) <|
          nm (wA z4 53 (Int32.toNatClampNeg ((1 + (5 * nI p)) + 3)) ((mA z4 53 (Int32.toNatClampNeg ((1 + (5 * nI p)) + 3))) - 1)) fun z8 =>
          some z8) (mY th k c z0 (if nI (kSe k 0) ≤ sMk k w p then sTell (sBec w p 0) p 1 else uL w p (wL' w p - 1))) := by
        intro x hx
        have e46 : mA x 46 (Int32.toNatClampNeg 3) = nI (kSe k 0) := hx.1.2.2.1.2.2.2.2.1 0 (by decide)
        rw [m_marksOf_v hx.1 hp, bnd_s, e46]
        by_cases c3 : nI (kSe k 0) ≤ sMk k w p
        · rw [if_pos c3, if_pos c3]
          obtain ⟨y, g1, g2, g3⟩ := m_becomes_v hx.1 hp (b := 0) (by decide)
          have g1 : m_becomes (nI p) 1 x = some y := g1
          rw [g1, bnv_s, nm_s]
          have hy : mY th k c z0 (sBec w p 0) (wI y 59 (mI y 59 + 1)) := by
            have sk := g3.same.sk hx.1.2.2.1
            have w59 : ∀ a, a ≠ 59 → mI (wI y 59 (mI y 59 + 1)) a = mI x a := fun a ha => by
              rw [mI_w, if_neg ha]
              show y.1 a = x.1 a
              rw [g3.1]
            have hm59 : mI y 59 = mI x 59 := by
              show y.1 59 = x.1 59
              rw [g3.1]
            refine ⟨⟨hx.1.1, hx.1.2.1.bec hp (by decide), sk, g2⟩, ?_, by rw [w59 58 (by decide), hx.2.2.1], ?_, ?_⟩
            · refine hx.2.1.tr ⟨fun a _ _ h3 _ => w59 a h3, g3.2.1, fun a h1 _ _ _ => g3.2.2.1 a h1, fun a _ => ?_⟩
              show y.2.2.2 a = x.2.2.2 a
              rw [g3.2.2.2.1]
            · rw [mI_w, if_pos rfl, hm59, hx.2.2.2.1, cPas_bec0 hx.1.2.1 hp c1, ← nI_1, Int32.add_assoc]
            · have h5 := hx.2.2.2.2
              cases th with
              | true =>
                rw [if_pos rfl] at h5 ⊢
                exact fun i hi => (g3.2.2.2.2 i hi).trans (h5 i hi)
              | false =>
                rw [if_neg (by decide)] at h5 ⊢
                refine ⟨h5.1, (g3.2.2.2.2 41 (by decide)).trans h5.2.1, fun i hi => ?_⟩
                obtain ⟨a, b, d⟩ := h5.2.2 i hi
                exact ⟨(g3.2.2.2.2 _ (by omega)).trans a, (g3.2.2.2.2 _ (by omega)).trans b, (g3.2.2.2.2 _ (by omega)).trans d⟩
          exact Ok.bnv _ (m_isKept_v hy p 1) (fun s hs => Ok.of hs)
        · rw [if_neg c3, if_neg c3, ix0, show (3 : Int32) = nI 3 from rfl, ixk, ck_t (inb_nI (by show _ < 132; omega) (by decide)), ck_t (inb_nI (by show _ < 132; omega) (by decide)), nm_s, nI_c (by omega), (hx.1.2.2.2.2 p hp).2.2.2.1, nI_m1 (by omega)]
          refine Ok.of (hx.same (mNow.now x (by omega) _).same (hx.1.2.1.left (by omega)) ?_ rfl rfl)
          refine mSW_set (c := 3) hx.1.2.2.2 (by decide) rfl (fun q _ => by simp [uL, wM]) (fun q _ => by simp [uL, wR]) (fun q _ => by simp [uL, wW]) (fun q _ => ?_) (fun q _ => by simp [uL, wF])
          rw [wL_u]
          by_cases g : q = p <;> simp [g]
      rw [show (Int32.toNatClampNeg 5) = 3 + 2 from by decide]
      rcases hY.1.codes (i := 2) (by decide) with ⟨q1, q2⟩ | ⟨q1, -⟩
      · rw [if_pos q1, if_neg (by rw [sHo_none q2]; simp [c2])]
        exact body z hY
      · rw [if_neg q1]
        obtain ⟨y, g1, g2⟩ := m_holds_v hY.1 (i := 2) (f := 0) (by decide) q1 hp (by decide) (fun q => absurd q (by decide))
        have g1 : m_holds 2 (nI p) 0 z = some (sHo k w 2 p 0, y) := g1
        rw [g1, bnd_s]
        cases hh : sHo k w 2 p 0 with
        | false =>
          rw [if_pos (by decide), if_pos (Or.inr (Or.inr rfl))]
          exact Ok.of (hY.ev g2)
        | true =>
          rw [if_neg (by decide), if_neg (by simp [c2])]
          exact body y (hY.ev g2)
/-- the master of a master of one who passed -/
def sMM (w : SW) (n p : Nat) : Bool := (List.range n).any fun q => (wF w q).testBit 0 && decide (wM w q ≠ 0) && decide (wM w (wM w q - 1) = p + 1)
theorem sMM_iff (w : SW) (n p : Nat) : sMM w n p = true ↔ ∃ q, q < n ∧ (wF w q).testBit 0 = true ∧ wM w q ≠ 0 ∧ wM w (wM w q - 1) = p + 1 := by
  unfold sMM
  simp only [List.any_eq_true, List.mem_range, Bool.and_eq_true, decide_eq_true_eq]
  constructor
  · rintro ⟨q, h1, ⟨h2, h3⟩, h4⟩
    exact ⟨q, h1, h2, h3, h4⟩
  · rintro ⟨q, h1, h2, h3, h4⟩
    exact ⟨q, h1, ⟨h2, h3⟩, h4⟩
theorem m_isMastersMaster_v {k : SK} {w : SW} {z : MS} (h : mOk k w z) {p : Nat} (hp : p < kP k) : m_isMastersMaster (nI p) z = some (sMM w (kP k) p, z) := by
  have h8 := h.1.2.1
  have fin : Ok (m_isMastersMaster (nI p) z) (fun r => r = (sMM w (kP k) p, z)) := by
    unfold m_isMastersMaster
    refine fx_okN (F := m_isMastersMaster_L2 (nI p)) (z := fun _ _ => none) (fun s j x => s (nI j) x) (kP k) (fun j x => x = z ∧ ∀ q, q < j → ¬ ((wF w q).testBit 0 = true ∧ wM w q ≠ 0 ∧ wM w (wM w q - 1) = p + 1)) _ ?_ ?_ FU 0 z (Nat.zero_le _) ⟨rfl, fun q hq => absurd hq (Nat.not_lt_zero _)⟩ (FU_gt (by omega))
    · rintro s j x hj ⟨rfl, hn⟩ go
      have hm := (h.2.1.2.2 j hj).1
      have gon : ¬ ((wF w j).testBit 0 = true ∧ wM w j ≠ 0 ∧ wM w (wM w j - 1) = p + 1) → Ok (s (nI j + 1) x) (fun r => r = (sMM w (kP k) p, x)) := fun hc => by
        rw [nI_1]
        refine go x ⟨rfl, fun q hq => ?_⟩
        by_cases e : q = j
        · rw [e]; exact hc
        · exact hn q (by omega)
      show Ok (m_isMastersMaster_L2 (nI p) s (nI j) x) _
      unfold m_isMastersMaster_L2
      rw [m_personMany_v h, bnd_s, if_neg (nI_ge hj (by omega)), m_hasPassed_v h hj, bnd_s]
      simp only [jn_s]
      cases c1 : (wF w j).testBit 0 with
      | false =>
        rw [if_pos (by decide)]
        exact gon (by simp [c1])
      | true =>
        rw [if_neg (by decide), m_masterOf_v h hj, bnd_s]
        by_cases c2 : wM w j = 0
        · rw [if_pos (by rw [c2]; decide)]
          exact gon (by simp [c2])
        · rw [if_neg (m1_ne c2 (by omega)), m_masterOf_v h hj, bnd_s, nI_m1 (by omega), m_masterOf_v h (by omega), bnd_s]
          have hm2 := (h.2.1.2.2 (wM w j - 1) (by omega)).1
          have ep : nI p = nI (p + 1) - 1 := (nI_pred p).symm
          by_cases c3 : wM w (wM w j - 1) = p + 1
          · rw [if_pos (by rw [ep, c3])]
            refine Ok.of ?_
            rw [(sMM_iff w (kP k) p).mpr ⟨j, hj, c1, c2, c3⟩]
          · rw [if_neg (fun (q : nI (wM w (wM w j - 1)) - 1 = nI p) => c3 ((m1_inj (by omega) (by omega)).mp (by rw [q, ep])))]
            exact gon (by simp [c3])
    · rintro s x ⟨rfl, hn⟩
      show Ok (m_isMastersMaster_L2 (nI p) s (nI (kP k)) x) _
      unfold m_isMastersMaster_L2
      rw [m_personMany_v h, bnd_s, if_pos (nI_le (Nat.le_refl _) (by omega))]
      refine Ok.of ?_
      have : sMM w (kP k) p = false := by
        cases e : sMM w (kP k) p with
        | false => rfl
        | true =>
          obtain ⟨q, h1, h2⟩ := (sMM_iff w (kP k) p).mp e
          exact absurd h2 (hn q h1)
      rw [this]
  obtain ⟨r, e, rfl⟩ := fin
  exact e
def sDocS (k : SK) (p : Nat) (w : SW) : SW := if (wF w p).testBit 1 = true then w else if sMM w (kP k) p = true then sTell (sBec w p 1) p 2 else w
def sDoc (k : SK) (w : SW) : SW := itN (sDocS k) (kP k) 0 w
def sExaS (k : SK) (ill p : Nat) (w : SW) : SW := if ill.testBit p = true then w else sSit k w p
def sExa (k : SK) (ill : Nat) (w : SW) : SW := itN (sExaS k ill) (kP k) 0 w
/-- a year, some being ill -/
def sYear (k : SK) (w : SW) (ill : Nat) : SW := uY (sDoc k (sExa k ill (sTau k w ill))) (wY (sDoc k (sExa k ill (sTau k w ill))) + 1)
theorem sTau_fr (k : SK) (w : SW) (ill n : Nat) : wK (itN (sTauS k w ill) n 0 w) = wK w ∧ wF (itN (sTauS k w ill) n 0 w) = wF w ∧ wM (itN (sTauS k w ill) n 0 w) = wM w ∧ wY (itN (sTauS k w ill) n 0 w) = wY w ∧ wL' (itN (sTauS k w ill) n 0 w) = wL' w := by
  have := itN_inv (Inv := fun _ v => wK v = wK w ∧ wF v = wF w ∧ wM v = wM w ∧ wY v = wY w ∧ wL' v = wL' w) (m := n) (st := sTauS k w ill) (fun j v _ hv => by
    unfold sTauS
    by_cases c : sLes k w ill j = 0
    · rw [if_pos c]; exact hv
    · rw [if_neg c]; exact hv) n 0 w (by omega) ⟨rfl, rfl, rfl, rfl, rfl⟩
  exact this
theorem sSit_fr (k : SK) (w : SW) (p : Nat) : wY (sSit k w p) = wY w ∧ wM (sSit k w p) = wM w := by
  unfold sSit
  split
  · exact ⟨rfl, rfl⟩
  · split <;> exact ⟨rfl, rfl⟩
theorem sExa_fr (k : SK) (ill n : Nat) (w : SW) : wY (itN (sExaS k ill) n 0 w) = wY w ∧ wM (itN (sExaS k ill) n 0 w) = wM w := by
  have := itN_inv (Inv := fun _ v => wY v = wY w ∧ wM v = wM w) (m := n) (st := sExaS k ill) (fun j v _ hv => by
    unfold sExaS
    by_cases c : ill.testBit j = true
    · rw [if_pos c]; exact hv
    · rw [if_neg c]
      exact ⟨(sSit_fr k v j).1.trans hv.1, (sSit_fr k v j).2.trans hv.2⟩) n 0 w (by omega) ⟨rfl, rfl⟩
  exact this
theorem sDoc_fr (k : SK) (n : Nat) (w : SW) : wY (itN (sDocS k) n 0 w) = wY w ∧ wM (itN (sDocS k) n 0 w) = wM w := by
  have := itN_inv (Inv := fun _ v => wY v = wY w ∧ wM v = wM w) (m := n) (st := sDocS k) (fun j v _ hv => by
    unfold sDocS
    split
    · exact hv
    · split
      · exact hv
      · exact hv) n 0 w (by omega) ⟨rfl, rfl⟩
  exact this
theorem sYear_Y (k : SK) (w : SW) (ill : Nat) : wY (sYear k w ill) = wY w + 1 := by
  show wY (sDoc k (sExa k ill (sTau k w ill))) + 1 = _
  unfold sDoc sExa sTau
  rw [(sDoc_fr k _ _).1, (sExa_fr k _ _ _).1, (sTau_fr k w ill _).2.2.2.1]
theorem m_yearGoes_v {th : Bool} {k : SK} {c : Int32} {z0 z : MS} {w : SW} (hY : mY th k c z0 w z) {ill : Nat} (hi : ill < 256) (hy : wY w < 2000) : Ok (m_yearGoes (nI ill) z) (mY th k c z0 (sYear k w ill)) := by
  have h8 := hY.1.1.2.1
  unfold m_yearGoes
  obtain ⟨z1, g1, g2, g3⟩ := m_allTaught_v hY.1 hi
  rw [g1, bnv_s]
  have h1 : mY th k c z0 (sTau k w ill) z1 := hY.same g3 (sTau_ok hY.1.1 hY.1.2.1 ill _ (Nat.le_refl _)) g2 (sTau_fr k w ill _).1 (cPas_congr fun q _ => by unfold sTau; rw [(sTau_fr k w ill _).2.1])
  simp only [jn_s]
  refine fx_okN (F := m_yearGoes_L7 (nI ill) _) (z := fun _ _ => none) (fun s j x => s (nI j) x) (kP k) (fun j x => mY th k c z0 (itN (sExaS k ill) j 0 (sTau k w ill)) x) _ ?_ ?_ FU 0 z1 (Nat.zero_le _) h1 (FU_gt (by omega))
  · intro s j x hj hx go
    show Ok (m_yearGoes_L7 (nI ill) _ s (nI j) x) _
    unfold m_yearGoes_L7
    rw [m_personMany_v hx.1, bnd_s, if_neg (nI_ge hj (by omega)), jn_s, s_b _ hi j (by omega)]
    rw [itN_S] at go
    unfold sExaS at go
    by_cases c : ill.testBit j = true
    · rw [if_pos c, if_neg (by decide), nI_1]
      rw [if_pos c] at go
      exact go x hx
    · rw [if_neg c, if_pos (by decide)]
      rw [if_neg c] at go
      exact Ok.bnv _ (m_sitsFor_v hx hj) (fun y hy' => by rw [nI_1]; exact go y hy')
  · intro s x hx
    show Ok (m_yearGoes_L7 (nI ill) _ s (nI (kP k)) x) _
    unfold m_yearGoes_L7
    rw [m_personMany_v hx.1, bnd_s, if_pos (nI_le (Nat.le_refl _) (by omega))]
    refine fx_okN (F := m_yearGoes_L36 _) (z := fun _ _ => none) (fun s j x => s (nI j) x) (kP k) (fun j x => mY th k c z0 (itN (sDocS k) j 0 (sExa k ill (sTau k w ill))) x) _ ?_ ?_ FU 0 x (Nat.zero_le _) hx (FU_gt (by omega))
    · intro s j y hj hy go
      show Ok (m_yearGoes_L36 _ s (nI j) y) _
      unfold m_yearGoes_L36
      rw [m_personMany_v hy.1, bnd_s, if_neg (nI_ge hj (by omega)), m_isDoctor_v hy.1 hj, bnd_s, jn_s]
      rw [itN_S] at go
      generalize itN (sDocS k) j 0 (sExa k ill (sTau k w ill)) = v at hy go ⊢
      unfold sDocS at go
      cases c1 : (wF v j).testBit 1 with
      | true =>
        rw [if_pos c1] at go
        rw [if_neg (by decide), nI_1]
        exact go y hy
      | false =>
        rw [if_neg (by rw [c1]; decide)] at go
        rw [if_pos (by decide), m_isMastersMaster_v hy.1 hj, bnd_s]
        cases c2 : sMM v (kP k) j with
        | false =>
          rw [if_neg (by rw [c2]; decide)] at go
          rw [if_pos (by decide), nI_1]
          exact go y hy
        | true =>
          rw [if_pos c2] at go
          rw [if_neg (by decide)]
          obtain ⟨y', q1, q2, q3⟩ := m_becomes_v hy.1 hj (b := 1) (by decide)
          have q1 : m_becomes (nI j) 2 y = some y' := q1
          rw [q1, bnv_s]
          have hy' : mY th k c z0 (sBec v j 1) y' := hy.same q3.same (hy.1.2.1.bec hj (by decide)) q2 rfl (cPas_bec1 hy.1.2.1 hj)
          exact Ok.bnv _ (m_isKept_v hy' j 2) (fun y2 hy2 => by rw [nI_1]; exact go y2 hy2)
    · intro s y hy
      show Ok (m_yearGoes_L36 _ s (nI (kP k)) y) _
      unfold m_yearGoes_L36
      rw [m_personMany_v hy.1, bnd_s, if_pos (nI_le (Nat.le_refl _) (by omega))]
      show Ok (nm (wA y 53 (Int32.toNatClampNeg 0) (mA y 53 (Int32.toNatClampNeg 0) + 1)) fun z4 => some z4) _
      rw [nm_s, show (Int32.toNatClampNeg 0) = 0 from by decide, hy.1.y, nI_1]
      have hyy : wY (sDoc k (sExa k ill (sTau k w ill))) = wY w := by
        unfold sDoc sExa sTau
        rw [(sDoc_fr k _ _).1, (sExa_fr k _ _ _).1, (sTau_fr k w ill _).2.2.2.1]
      refine Ok.of ?_
      have hy : mY th k c z0 (sDoc k (sExa k ill (sTau k w ill))) y := hy
      refine hy.same (mNow.now y (by decide) _).same ?_ ?_ rfl rfl
      · exact ⟨hy.1.2.1.1, by show wY (sDoc k (sExa k ill (sTau k w ill))) + 1 ≤ 2000; omega, hy.1.2.1.2.2⟩
      · refine ⟨by rw [mA_w, if_pos rfl]; rfl, fun q hq => ?_⟩
        rw [mA_w, if_neg (by omega), mA_w, if_neg (by omega), mA_w, if_neg (by omega), mA_w, if_neg (by omega), mA_w, if_neg (by omega)]
        exact hy.1.2.2.2.2 q hq
/-- n years with nobody ill -/
def sYears (k : SK) (n : Nat) (w : SW) : SW := itN (fun _ v => sYear k v 0) n 0 w
theorem sYears_Y (k : SK) (n : Nat) (w : SW) : wY (sYears k n w) = wY w + n := by
  unfold sYears
  induction n with
  | zero => rfl
  | succ n ih =>
    rw [itN_S, sYear_Y, ih]
    omega
theorem m_yearsGo_v {th : Bool} {k : SK} {c : Int32} {z0 z : MS} {w : SW} (hY : mY th k c z0 w z) {n : Nat} (hy : wY w + n ≤ 2000) : Ok (m_yearsGo (nI n) z) (mY th k c z0 (sYears k n w)) := by
  unfold m_yearsGo
  refine fx_okN (F := m_yearsGo_L2 (nI n)) (z := fun _ _ => none) (fun s j x => s (nI j) x) n (fun j x => mY th k c z0 (sYears k j w) x) _ ?_ ?_ FU 0 z (Nat.zero_le _) hY (FU_gt (by omega))
  · intro s j x hj hx go
    show Ok (m_yearsGo_L2 (nI n) s (nI j) x) _
    unfold m_yearsGo_L2
    rw [if_neg (nI_ge hj (by omega))]
    have := sYears_Y k j w
    refine Ok.bnv _ (m_yearGoes_v hx (ill := 0) (by decide) (by omega)) (fun y hy' => ?_)
    rw [nI_1]
    refine go y ?_
    unfold sYears
    rw [itN_S]
    exact hy'
  · intro s x hx
    show Ok (m_yearsGo_L2 (nI n) s (nI n) x) _
    unfold m_yearsGo_L2
    rw [if_pos (nI_le (Nat.le_refl _) (by omega))]
    exact Ok.of hx
