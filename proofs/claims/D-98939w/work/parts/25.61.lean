/-! PART 61: plain: the Model: teach, tell, years, chance, undo -/
set_option maxRecDepth 100000
theorem sPush_ok {k : SK} {us : List SW} {w : SW} (hu : ∀ u, u ∈ us → wOk k u ∧ wY u ≤ 999) (hw : wOk k w ∧ wY w ≤ 999) : ∀ u, u ∈ sPush us w → wOk k u ∧ wY u ≤ 999 := by
  intro u h
  have h := List.mem_of_mem_take h
  rcases List.mem_cons.mp h with rfl | h
  · exact hw
  · exact hu u h
/-- the ring has been written: what is and what was are new -/
theorem mG.acts {g : SG} {z z' : MS} (h : mG g z) {w : SW} {us : List SW} (hy : wY w ≤ 999) (hu : ∀ u, u ∈ us → wOk (gK g) u ∧ wY u ≤ 999) (eI : ∀ a, a ≠ 52 → a ≠ 55 → a ≠ 59 → a ≠ 65 → a ≠ 66 → a ≠ 100 → mI z' a = mI z a) (eL : mL z' 67 = mL z 67) (eA : ∀ a, a ≠ 53 → a ≠ 54 → a ≠ 56 → a ≠ 57 → a ≠ 62 → a ≠ 63 → a ≠ 64 → mA z' a = mA z a) (eB : ∀ a, a ≠ 99 → mB z' a = mB z a) (hw : mOk (gK g) w z') (hr : mRow (wK w) z') (hs : mUnd (gK g) us z') : mG (uWU g w us) z' := by
  obtain ⟨⟨o1, o2, o3, o4⟩, h1, h2, h3, h4, h5, h6, h7, h8, h9, h10, h11⟩ := h
  refine ⟨⟨hy, hu, o3, o4⟩, hw, hr, by rw [eI 58 (by decide) (by decide) (by decide) (by decide) (by decide) (by decide)]; exact h3, fun kd i hk hi => by rw [eB 40 (by decide)]; exact h4 kd i hk hi, hs, h6.of (eI 60 (by decide) (by decide) (by decide) (by decide) (by decide) (by decide)) (eA 61 (by decide) (by decide) (by decide) (by decide) (by decide) (by decide) (by decide)), h7.of (eI 1 (by decide) (by decide) (by decide) (by decide) (by decide) (by decide)) (eA 0 (by decide) (by decide) (by decide) (by decide) (by decide) (by decide) (by decide)), by rw [eA 9 (by decide) (by decide) (by decide) (by decide) (by decide) (by decide) (by decide)]; exact h8, by rw [eI 7 (by decide) (by decide) (by decide) (by decide) (by decide) (by decide), eI 8 (by decide) (by decide) (by decide) (by decide) (by decide) (by decide)]; exact h9, by rw [eL]; exact h10, h11.of (eI 104 (by decide) (by decide) (by decide) (by decide) (by decide) (by decide)) (eA 103 (by decide) (by decide) (by decide) (by decide) (by decide) (by decide) (by decide))⟩
theorem mRg.ok {k : SK} {w : SW} {z z' : MS} (h : mRg z z') (g : mOk k w z) : mOk k w z' := by
  refine ⟨g.1, g.2.1, mSK_now g.2.2.1 (fun a ha => h.2.2.1 a (by rintro rfl; simp at ha)), ?_⟩
  unfold mSW
  rw [h.2.2.1 53 (by decide)]
  exact g.2.2.2
theorem mRg.row {l : List (Nat × Nat × Nat)} {z z' : MS} (h : mRg z z') (g : mRow l z) : mRow l z' := by
  unfold mRow
  rw [h.2.2.1 53 (by decide)]
  exact g
def spTeach (g : SG) (a b : Int32) : Bool × SG :=
  if sPn (kP (gK g)) a = true ∧ (b = -1 ∨ sPn (kP (gK g)) b = true ∧ sBy (wM (gW g)) 8 (b.toNatClampNeg + 1) a.toNatClampNeg = false) ∧ nI (wM (gW g) a.toNatClampNeg) - 1 ≠ b then (true, uWU g (uM (gW g) a.toNatClampNeg (if b = -1 then 0 else b.toNatClampNeg + 1)) (sPush (gU g) (gW g))) else (false, uRf g 2)
theorem m_teach_v {g : SG} {z : MS} (h : mG g z) (a b : Int32) : Ok (m_teach a b z) (fun r => r.1 = (spTeach g a b).1 ∧ mG (spTeach g a b).2 r.2) := by
  have h1 := h.2.1
  have h8 := h1.1.2.1
  have no : Ok (nm (wA z 9 (Int32.toNatClampNeg 2) ((mA z 9 (Int32.toNatClampNeg 2)) + 1)) fun z3 => some (false, z3)) (fun r => r.1 = false ∧ mG (uRf g 2) r.2) := by
    rw [nm_s, show (Int32.toNatClampNeg 2) = 2 from by decide]
    exact Ok.of ⟨rfl, h.refuse (by decide)⟩
  unfold m_teach spTeach
  rw [m_isPerson_s h1, bnd_s]
  simp only [jn_s]
  cases c : sPn (kP (gK g)) a with
  | false =>
    rw [if_pos (by decide), if_neg (by simp)]
    exact no
  | true =>
  obtain ⟨p, hp, rfl⟩ := sPn_nat c h8
  have hm := (h1.2.1.2.2 p hp).1
  rw [if_neg (by decide), nI_c (by omega)]
  have act : ∀ m, m ≤ kP (gK g) → nI m - 1 = b → (m = 0 ∨ sBy (wM (gW g)) 8 m p = false) → Ok (bnd (m_masterOf (nI p) z) fun r2 z5 => if r2 = b then nm (wA z5 9 (Int32.toNatClampNeg 2) ((mA z5 9 (Int32.toNatClampNeg 2)) + 1)) fun z3 => some (false, z3) else bnv (m_keeps z5) fun z6 => ck (inb (1 + (5 * nI p)) (mN 53)) <| nm (wA z6 53 (Int32.toNatClampNeg (1 + (5 * nI p))) b) fun z7 => some (true, z7)) (fun r => r.1 = (if nI (wM (gW g) p) - 1 ≠ b then (true, uWU g (uM (gW g) p m) (sPush (gU g) (gW g))) else (false, uRf g 2)).1 ∧ mG (if nI (wM (gW g) p) - 1 ≠ b then (true, uWU g (uM (gW g) p m) (sPush (gU g) (gW g))) else (false, uRf g 2)).2 r.2) := by
    intro m hm2 hb hby
    rw [m_masterOf_v h1 hp, bnd_s]
    by_cases ce : nI (wM (gW g) p) - 1 = b
    · rw [if_pos ce, if_neg (fun q => q ce)]
      exact no
    · rw [if_neg ce, if_pos ce]
      refine Ok.bnv _ (m_keeps_v h1 h.2.2.1 h.2.2.2.2.2.1) (fun y hy => ?_)
      obtain ⟨hu, hrg⟩ := hy
      rw [ix0, ck_t (inb_nI (by show _ < 132; omega) (by decide)), nm_s, nI_c (by omega)]
      refine Ok.of ⟨rfl, ?_⟩
      have wok := h1.2.1.master h1.1 hm2 hby (p := p)
      refine h.acts h.1.1 (sPush_ok h.1.2.1 ⟨h1.2.1, h.1.1⟩) (fun a _ _ _ h4 h5 _ => hrg.1 a h4 h5) (by show y.2.1 67 = z.2.1 67; rw [hrg.2.1]) (fun a q1 _ _ _ _ _ q7 => by rw [mA_wne _ q1, hrg.2.2.1 a q7]) (fun a _ => by show y.2.2.2 a = z.2.2.2 a; rw [hrg.2.2.2]) ⟨h1.1, wok, mSK_now (hrg.ok h1).2.2.1 (fun a ha => mA_wne _ (by rintro rfl; simp at ha) _ _), ?_⟩ ?_ (hu.of rfl rfl (mA_wne _ (by decide) _ _))
      · rw [← hb]
        exact mSW_master (hrg.ok h1).2.2.2
      · have := hrg.row h.2.2.1
        refine ⟨this.1, ?_, fun i hi => ?_⟩
        · rw [mA_w, if_neg (by omega)]; exact this.2.1
        · rw [mA_w, if_neg (by omega), mA_w, if_neg (by omega), mA_w, if_neg (by omega)]
          exact this.2.2 i hi
  by_cases cb : b = -1
  · rw [if_pos cb]
    have := act 0 (by omega) (by rw [cb]; decide) (Or.inl rfl)
    rw [if_pos cb]
    by_cases ce : nI (wM (gW g) p) - 1 ≠ b
    · rw [if_pos ce] at this
      rw [if_pos ⟨rfl, Or.inl cb, ce⟩]
      exact this
    · rw [if_neg ce] at this
      rw [if_neg (fun q => ce q.2.2)]
      exact this
  · rw [if_neg cb, m_isPerson_s h1, bnd_s]
    cases c2 : sPn (kP (gK g)) b with
    | false =>
      rw [if_pos (by decide), if_neg (by rintro ⟨-, q | q, -⟩; exact cb q; cases q.1)]
      exact no
    | true =>
    obtain ⟨m, hmk, rfl⟩ := sPn_nat c2 h8
    have hb := m_isTaughtBy_v h1 (a := m + 1) (p := p) (by omega) hp
    rw [nI_pred] at hb
    rw [if_neg (by decide), hb, bnd_s, nI_c (by omega)]
    cases c3 : sBy (wM (gW g)) 8 (m + 1) p with
    | true =>
      rw [if_neg (by decide), if_neg (by rintro ⟨-, q | q, -⟩; exact cb q; cases q.2)]
      exact no
    | false =>
      rw [if_pos (by decide), if_neg cb]
      have := act (m + 1) (by omega) (nI_pred m) (Or.inr c3)
      by_cases ce : nI (wM (gW g) p) - 1 ≠ nI m
      · rw [if_pos ce] at this
        rw [if_pos ⟨rfl, Or.inr ⟨rfl, rfl⟩, ce⟩]
        exact this
      · rw [if_neg ce] at this
        rw [if_neg (fun q => ce q.2.2)]
        exact this
def spTell (g : SG) (a b : Int32) : Bool × SG :=
  if sPn (kP (gK g)) a = true ∧ sPn (kF (gK g)) b = true ∧ sIs (gW g) a.toNatClampNeg b.toNatClampNeg ≠ 1 then (true, uWU g (sMake (gW g) a.toNatClampNeg b.toNatClampNeg 1) (sPush (gU g) (gW g))) else (false, uRf g 2)
theorem m_tell_v {g : SG} {z : MS} (h : mG g z) (a b : Int32) : Ok (m_tell a b z) (fun r => r.1 = (spTell g a b).1 ∧ mG (spTell g a b).2 r.2) := by
  have h1 := h.2.1
  have h8 := h1.1.2.1
  have hF := h1.1.1
  have no : Ok (nm (wA z 9 (Int32.toNatClampNeg 2) ((mA z 9 (Int32.toNatClampNeg 2)) + 1)) fun z3 => some (false, z3)) (fun r => r.1 = false ∧ mG (uRf g 2) r.2) := by
    rw [nm_s, show (Int32.toNatClampNeg 2) = 2 from by decide]
    exact Ok.of ⟨rfl, h.refuse (by decide)⟩
  unfold m_tell spTell
  rw [m_isPerson_s h1, bnd_s]
  simp only [jn_s]
  cases c : sPn (kP (gK g)) a with
  | false =>
    rw [if_pos (by decide), if_neg (by simp)]
    exact no
  | true =>
  obtain ⟨p, hp, rfl⟩ := sPn_nat c h8
  rw [if_neg (by decide), m_isFact_s h1, bnd_s, nI_c (by omega)]
  cases c2 : sPn (kF (gK g)) b with
  | false =>
    rw [if_pos (by decide), if_neg (by simp)]
    exact no
  | true =>
  obtain ⟨f, hf, rfl⟩ := sPn_nat c2 hF
  have l1 := sIs_lt (gW g) p f
  rw [if_neg (by decide), m_isOf_v h1 hp (by omega), bnd_s, nI_c (by omega)]
  by_cases c3 : sIs (gW g) p f = 1
  · rw [if_pos (by rw [c3]; rfl), if_neg (fun q => q.2.2 c3)]
    exact no
  · rw [if_neg (fun (q : nI (sIs (gW g) p f) = 1) => c3 ((nI_eq (b := 1) (by omega) (by decide)).mp q)), if_pos ⟨rfl, rfl, c3⟩]
    refine Ok.bnv _ (m_keeps_v h1 h.2.2.1 h.2.2.2.2.2.1) (fun y hy => ?_)
    obtain ⟨hu, hrg⟩ := hy
    obtain ⟨y2, g1, g2, g3⟩ := m_makes_v (hrg.ok h1) hp (f := f) (by omega) (v := 1) (Or.inl rfl)
    have g1 : m_makes (nI p) (nI f) 1 y = some y2 := g1
    rw [g1, bnv_s]
    have wok := wOk.make h1.1 h1.2.1 hp hf (v := 1) (Or.inl rfl)
    have hmi : ∀ a, mI y2 a = mI y a := fun a => by show y2.1 a = y.1 a; rw [g3.1]
    refine Ok.of ⟨rfl, h.acts h.1.1 (sPush_ok h.1.2.1 ⟨h1.2.1, h.1.1⟩) (fun a _ _ _ h4 h5 _ => by rw [hmi, hrg.1 a h4 h5]) (by show y2.2.1 67 = z.2.1 67; rw [g3.2.1, hrg.2.1]) (fun a q1 _ _ _ _ _ q7 => by rw [g3.2.2.1 a q1, hrg.2.2.1 a q7]) (fun a _ => by show y2.2.2.2 a = z.2.2.2 a; rw [g3.2.2.2.1, hrg.2.2.2]) (g3.same.mok (hrg.ok h1) wok g2) ?_ (hu.of (hmi 65) (hmi 66) (g3.2.2.1 64 (by decide)))⟩
    have := hrg.row h.2.2.1
    refine ⟨this.1, ?_, fun i hi => ?_⟩
    · rw [g3.2.2.2.2 41 (by decide)]; exact this.2.1
    · rw [g3.2.2.2.2 _ (by omega), g3.2.2.2.2 _ (by omega), g3.2.2.2.2 _ (by omega)]
      exact this.2.2 i hi
/-- kept years from a state on -/
theorem mY.start {g : SG} {z y : MS} (h : mG g z) (hrg : mRg z y) : mY false (gK g) (mI y 59 - nI (cPas (gK g) (gW g))) y (gW g) y := by
  refine ⟨hrg.ok h.2.1, mF.rf y, ?_, (Int32.sub_add_cancel _ _).symm, ?_⟩
  · rw [hrg.1 58 (by decide) (by decide)]
    exact h.2.2.2.1
  · rw [if_neg (by decide)]
    exact hrg.row h.2.2.1
theorem mY.end {g : SG} {z y x : MS} {c : Int32} {w : SW} {us : List SW} (h : mG g z) (hrg : mRg z y) (hY : mY false (gK g) c y w x) (hy : wY w ≤ 999) (hu : mUnd (gK g) us y) (hus : ∀ u, u ∈ us → wOk (gK g) u ∧ wY u ≤ 999) : mG (uWU g w us) x := by
  obtain ⟨q1, q2, q3, q4, q5⟩ := hY
  rw [if_neg (by decide)] at q5
  exact h.acts hy hus (fun a h1 h2 h3 h4 h5 h6 => by rw [q2.1 a h1 h2 h3 h6, hrg.1 a h4 h5]) (by show x.2.1 67 = z.2.1 67; rw [q2.2.1, hrg.2.1]) (fun a h1 h2 h3 h4 h5 h6 h7 => by rw [q2.2.2.1 a h1 h3 h4 h5, hrg.2.2.1 a h7]) (fun a ha => by rw [q2.2.2.2 a ha]; show y.2.2.2 a = z.2.2.2 a; rw [hrg.2.2.2]) q1 q5 (hu.of (q2.1 65 (by decide) (by decide) (by decide) (by decide)) (q2.1 66 (by decide) (by decide) (by decide) (by decide)) (q2.2.2.1 64 (by decide) (by decide) (by decide) (by decide)))
def spYears (g : SG) (a : Int32) : Int32 × SG :=
  if sAh (gW g) a 1 100 = true then (nI (cPas (gK g) (sYears (gK g) a.toNatClampNeg (gW g))) - nI (cPas (gK g) (gW g)), uWU g (sYears (gK g) a.toNatClampNeg (gW g)) (sPush (gU g) (gW g))) else (-1, uRf g 3)
theorem m_years_v {g : SG} {z : MS} (h : mG g z) (a : Int32) : Ok (m_years a z) (fun r => r.1 = (spYears g a).1 ∧ mG (spYears g a).2 r.2) := by
  have h1 := h.2.1
  unfold m_years spYears
  rw [m_isAhead_v h1 a 1 100 (by decide) (by decide), bnd_s, show (1 : Int32).toInt = 1 from by decide, show (100 : Int32).toInt = 100 from by decide]
  cases c : sAh (gW g) a 1 100 with
  | false =>
    rw [if_pos (by decide), if_neg (by decide), nm_s, show (Int32.toNatClampNeg 3) = 3 from by decide]
    exact Ok.of ⟨rfl, h.refuse (by decide)⟩
  | true =>
  obtain ⟨n, rfl, -, h100, h99⟩ := sAh_nat c (by decide) (by decide)
  rw [if_neg (by decide), if_pos rfl, nI_c (by omega)]
  refine Ok.bnv _ (m_keeps_v h1 h.2.2.1 h.2.2.2.2.2.1) (fun y hy => ?_)
  obtain ⟨hu, hrg⟩ := hy
  rw [nm_s]
  have hY := mY.start h hrg
  have hY0 : mY false (gK g) (0 - nI (cPas (gK g) (gW g))) y (gW g) (wI y 59 0) := by
    obtain ⟨q1, q2, q3, q4, q5⟩ := hY
    exact ⟨q1, ⟨fun a _ _ h3 _ => by rw [mI_w, if_neg h3], rfl, fun _ _ _ _ _ => rfl, fun _ _ => rfl⟩, q3, by rw [mI_w, if_pos rfl, Int32.sub_add_cancel], q5⟩
  refine Ok.bnv _ (m_yearsGo_v hY0 (n := n) (by omega)) (fun x hx => ?_)
  refine Ok.of ⟨?_, mY.end h hrg hx (by rw [sYears_Y]; omega) hu (sPush_ok h.1.2.1 ⟨h1.2.1, h.1.1⟩)⟩
  show mI x 59 = _
  rw [hx.2.2.2.1, Int32.zero_sub, Int32.add_comm, ← Int32.sub_eq_add_neg]
/-- the draws of a year: who is ill -/
def sDraw (s : Int64) : Int64 := (1103515245 * s + 12345) - (1103515245 * s + 12345) / 2147483648 * 2147483648
def sDr (s : Int64) : Int32 := Int64.toInt32 ((s / 64) - (s / 64) / 100 * 100)
def sIllS (k : SK) (p : Nat) (a : Nat × Int64) : Nat × Int64 := (if nI (kSe k 2) ≤ sDr (sDraw a.2) then a.1 else a.1 ||| 2 ^ p, sDraw a.2)
def sIll (k : SK) (s : Int64) (n : Nat) : Nat × Int64 := itN (sIllS k) n 0 (0, s)
theorem sIll_lt (k : SK) (s : Int64) : ∀ n, n ≤ 8 → (sIll k s n).1 < 256
  | 0, _ => by show 0 < 256; decide
  | n + 1, h => by
    have h1 := sIll_lt k s n (by omega)
    have e : sIll k s (n + 1) = sIllS k n (sIll k s n) := itN_S _ _ _
    rw [e]
    show (if nI (kSe k 2) ≤ sDr (sDraw (sIll k s n).2) then (sIll k s n).1 else (sIll k s n).1 ||| 2 ^ n) < 256
    split
    · exact h1
    · exact s_orlt _ h1 n (by omega)
def sChaS (k : SK) (_ : Nat) (a : Nat × SW × Int64) : Nat × SW × Int64 := (a.1 + pop (sIll k a.2.2 (kP k)).1, sYear k a.2.1 (sIll k a.2.2 (kP k)).1, (sIll k a.2.2 (kP k)).2)
def sCha (k : SK) (n : Nat) (w : SW) (s : Int64) : Nat × SW × Int64 := itN (sChaS k) n 0 (0, w, s)
theorem sCha_Y (k : SK) (w : SW) (s : Int64) : ∀ n, wY (sCha k n w s).2.1 = wY w + n ∧ (kP k ≤ 8 → (sCha k n w s).1 ≤ 8 * n)
  | 0 => ⟨rfl, fun _ => Nat.le_refl _⟩
  | n + 1 => by
    obtain ⟨h1, h2⟩ := sCha_Y k w s n
    have e : sCha k (n + 1) w s = sChaS k n (sCha k n w s) := itN_S _ _ _
    rw [e]
    refine ⟨?_, fun h8 => ?_⟩
    · show wY (sYear k _ _) = _
      rw [sYear_Y, h1]
      omega
    · have := pop_le _ (sIll_lt k (sCha k n w s).2.2 (kP k) h8)
      have := h2 h8
      show (sCha k n w s).1 + pop (sIll k (sCha k n w s).2.2 (kP k)).1 ≤ _
      omega
def spChance (g : SG) (a : Int32) : Int32 × SG :=
  if sAh (gW g) a 1 100 = true then (nI (sCha (gK g) a.toNatClampNeg (gW g) (gS g)).1, uS (uWU g (sCha (gK g) a.toNatClampNeg (gW g) (gS g)).2.1 (sPush (gU g) (gW g))) (sCha (gK g) a.toNatClampNeg (gW g) (gS g)).2.2) else (-1, uRf g 3)
theorem mL_w (z : MS) (k : Nat) (v : Int64) : mL (wL z k v) k = v := by
  show va_up z.2.1 k v k = v
  simp [va_up]
/-- a new seed, in years from z0 on: z0 gets it too -/
theorem mY.seed {th : Bool} {k : SK} {c : Int32} {z0 z : MS} {w : SW} (h : mY th k c z0 w z) (v : Int64) : mY th k c (wL z0 67 v) w (wL z 67 v) := by
  obtain ⟨q1, q2, q3, q4, q5⟩ := h
  refine ⟨q1, ⟨q2.1, ?_, q2.2.2.1, q2.2.2.2⟩, q3, q4, q5⟩
  show va_up z.2.1 67 v = va_up z0.2.1 67 v
  rw [q2.2.1]
theorem m_drawOf_v (z : MS) : m_drawOf 100 z = some (sDr (sDraw (mL z 67)), wL z 67 (sDraw (mL z 67))) := by
  unfold m_drawOf
  rw [nm_s, ck_t (by decide), mL_w]
  rfl
theorem wL_wL (y : MS) (a b : Int64) : wL (wL y 67 a) 67 b = wL y 67 b := by
  unfold wL
  congr 2
  funext q
  by_cases cq : q = 67
  · rw [cq, va_up_self, va_up_self]
  · show va_up (va_up y.2.1 67 a) 67 b q = va_up y.2.1 67 b q
    rw [va_up_ne _ _ cq, va_up_ne _ _ cq, va_up_ne _ _ cq]
theorem wL_own (y : MS) : wL y 67 (mL y 67) = y := by
  have e2 : va_up y.2.1 67 (mL y 67) = y.2.1 := by
    funext q
    by_cases cq : q = 67
    · rw [cq, va_up_self]; rfl
    · rw [va_up_ne _ _ cq]
  unfold wL
  rw [e2]
theorem sIll_S (k : SK) (s : Int64) (n : Nat) : sIll k s (n + 1) = sIllS k n (sIll k s n) := itN_S _ _ _
theorem sIll_0 (k : SK) (s : Int64) : sIll k s 0 = (0, s) := rfl
theorem m_chance_s {k : SK} {w : SW} {x : MS} {K : Int32 → MS → Option (Int32 × MS)} {s : Int32 → Int32 → MS → Option (Int32 × MS)} {i : Nat} (hx : mOk k w x) (hi : i < kP k) (a : Int32) : m_chance_L42 K s a (nI i) x = if nI (kSe k 2) ≤ sDr (sDraw (mL x 67)) then s a (nI (i + 1)) (wL x 67 (sDraw (mL x 67))) else s (a ||| (1 <<< (nI i &&& 31))) (nI (i + 1)) (wL x 67 (sDraw (mL x 67))) := by
  have h8 := hx.1.2.1
  have e46 : ∀ v, mA (wL x 67 v) 46 (Int32.toNatClampNeg 5) = nI (kSe k 2) := fun v => hx.2.2.1.2.2.2.2.1 2 (by decide)
  unfold m_chance_L42
  rw [m_personMany_v hx, bnd_s, if_neg (nI_ge hi (by omega)), m_drawOf_v, bnd_s]
  generalize sDraw (mL x 67) = v
  rw [jn_s, e46, nI_1]
theorem m_chance_e {k : SK} {w : SW} {x : MS} {K : Int32 → MS → Option (Int32 × MS)} {s : Int32 → Int32 → MS → Option (Int32 × MS)} (hx : mOk k w x) (a : Int32) : m_chance_L42 K s a (nI (kP k)) x = K a x := by
  have h8 := hx.1.2.1
  unfold m_chance_L42
  rw [m_personMany_v hx, bnd_s, if_pos (nI_le (Nat.le_refl _) (by omega))]
/-- the draws of one year -/
theorem m_chance_in {k : SK} {c0 : Int32} {y x : MS} {s0 : Int64} {w : SW} {Q : Int32 × MS → Prop} {K : Int32 → MS → Option (Int32 × MS)} (h8 : kP k ≤ 8) (hsd : mL x 67 = s0) (hx : mY false k c0 (wL y 67 s0) w x)
    (hK : ∀ x2, mL x2 67 = (sIll k s0 (kP k)).2 → mY false k c0 (wL y 67 (sIll k s0 (kP k)).2) w x2 → Ok (K (nI (sIll k s0 (kP k)).1) x2) Q) : Ok (fx (m_chance_L42 K) (fun _ _ _ => none) FU 0 0 x) Q := by
  refine fx_okN (F := m_chance_L42 K) (z := fun _ _ _ => none) (fun s i (b : Nat × MS) => s (nI b.1) (nI i) b.2) (kP k) (fun i b => b.1 = (sIll k s0 i).1 ∧ mL b.2 67 = (sIll k s0 i).2 ∧ mY false k c0 (wL y 67 (sIll k s0 i).2) w b.2) Q ?_ ?_ FU 0 (0, x) (Nat.zero_le _) (by rw [sIll_0]; exact ⟨rfl, hsd, hx⟩) (FU_gt (by omega))
  · rintro s2 i ⟨ill, x2⟩ hi ⟨hill, hsd2, hx2⟩ go2
    have hill : ill = (sIll k s0 i).1 := hill
    have hsd2 : mL x2 67 = (sIll k s0 i).2 := hsd2
    have hx2 : mY false k c0 (wL y 67 (sIll k s0 i).2) w x2 := hx2
    have hlt := sIll_lt k s0 i (by omega)
    rw [sIll_S] at go2
    rw [← hill] at hlt
    generalize sIll k s0 i = t at hill hsd2 hx2 go2
    show Ok (m_chance_L42 K s2 (nI ill) (nI i) x2) Q
    rw [m_chance_s hx2.1 hi, hsd2]
    unfold sIllS at go2
    generalize sDraw t.2 = v at go2 ⊢
    have hx3 := hx2.seed v
    rw [wL_wL] at hx3
    generalize sDr v = d at go2 ⊢
    by_cases cd : nI (kSe k 2) ≤ d
    · rw [if_pos cd] at go2
      rw [if_pos cd]
      exact go2 (ill, wL x2 67 v) ⟨hill, mL_w _ _ _, hx3⟩
    · rw [if_neg cd] at go2
      rw [if_neg cd, s_or ill hlt i (by omega)]
      exact go2 (ill ||| 2 ^ i, wL x2 67 v) ⟨by rw [hill], mL_w _ _ _, hx3⟩
  · rintro s2 ⟨ill, x2⟩ ⟨hill, hsd2, hx2⟩
    have hill : ill = (sIll k s0 (kP k)).1 := hill
    have hsd2 : mL x2 67 = (sIll k s0 (kP k)).2 := hsd2
    have hx2 : mY false k c0 (wL y 67 (sIll k s0 (kP k)).2) w x2 := hx2
    show Ok (m_chance_L42 K s2 (nI ill) (nI (kP k)) x2) Q
    rw [m_chance_e hx2.1, hill]
    exact hK x2 hsd2 hx2
theorem sCha_S (k : SK) (w : SW) (s : Int64) (n : Nat) : sCha k (n + 1) w s = sChaS k n (sCha k n w s) := itN_S _ _ _
theorem sCha_0 (k : SK) (w : SW) (s : Int64) : sCha k 0 w s = (0, w, s) := rfl
/-- the years with draws -/
theorem m_chance_out {k : SK} {c0 : Int32} {y : MS} {s0 : Int64} {w : SW} {n : Nat} (h8 : kP k ≤ 8) (hn : wY w + n ≤ 999) (hs0 : mL y 67 = s0) (hY : mY false k c0 y w y) : Ok (fx (m_chance_L31 (nI n)) (fun _ _ _ => none) FU 0 0 y) (fun r => r.1 = nI (sCha k n w s0).1 ∧ mL r.2 67 = (sCha k n w s0).2.2 ∧ mY false k c0 (wL y 67 (sCha k n w s0).2.2) (sCha k n w s0).2.1 r.2) := by
  refine fx_okN (F := m_chance_L31 (nI n)) (z := fun _ _ _ => none) (fun s j (b : Nat × MS) => s (nI b.1) (nI j) b.2) n (fun j b => b.1 = (sCha k j w s0).1 ∧ mL b.2 67 = (sCha k j w s0).2.2 ∧ mY false k c0 (wL y 67 (sCha k j w s0).2.2) (sCha k j w s0).2.1 b.2) _ ?_ ?_ FU 0 (0, y) (Nat.zero_le _) ?_ (FU_gt (by omega))
  · rintro s j ⟨b, x⟩ hj ⟨hb, hsd, hx⟩ go
    have hb : b = (sCha k j w s0).1 := hb
    have hsd : mL x 67 = (sCha k j w s0).2.2 := hsd
    have hyr := (sCha_Y k w s0 j).1
    rw [sCha_S] at go
    generalize sCha k j w s0 = t at hb hsd hx go hyr
    have hx : mY false k c0 (wL y 67 t.2.2) t.2.1 x := hx
    show Ok (m_chance_L31 (nI n) s (nI b) (nI j) x) _
    unfold m_chance_L31
    rw [if_neg (nI_ge hj (by omega)), jn_s]
    refine m_chance_in h8 hsd hx (fun x2 hsd2 hx2 => ?_)
    have hlt := sIll_lt k t.2.2 (kP k) h8
    unfold sChaS at go
    generalize sIll k t.2.2 (kP k) = i at hsd2 hx2 hlt go
    show Ok (bnd (m_bits (nI i.1) x2) fun r2 z5 => bnv (m_yearGoes (nI i.1) z5) fun z6 => s (nI b + r2) (nI j + 1) z6) _
    rw [m_bits_v hlt, bnd_s]
    refine Ok.bnv _ (m_yearGoes_v hx2 hlt (by omega)) (fun x3 hx3 => ?_)
    rw [nI_add, nI_1]
    refine go (b + pop i.1, x3) ⟨by rw [hb], ?_, hx3⟩
    show x3.2.1 67 = i.2
    rw [hx3.2.1.2.1]
    exact mL_w _ _ _
  · rintro s ⟨b, x⟩ ⟨hb, hsd, hx⟩
    have hb : b = (sCha k n w s0).1 := hb
    show Ok (m_chance_L31 (nI n) s (nI b) (nI n) x) _
    unfold m_chance_L31
    rw [if_pos (nI_le (Nat.le_refl _) (by omega))]
    exact Ok.of ⟨by rw [hb], hsd, hx⟩
  · rw [sCha_0]
    refine ⟨rfl, hs0, ?_⟩
    show mY false k c0 (wL y 67 s0) w y
    rw [← hs0, wL_own]
    exact hY
/-- a new seed -/
theorem mG.seed {g : SG} {z : MS} (h : mG g z) (v : Int64) : mG (uS g v) (wL z 67 v) := by
  obtain ⟨h0, h1, h2, h3, h4, h5, h6, h7, h8, h9, h10, h11⟩ := h
  exact ⟨h0, h1, h2, h3, h4, h5, h6, h7, h8, h9, mL_w z 67 v, h11⟩
theorem m_chance_v {g : SG} {z : MS} (h : mG g z) (a : Int32) : Ok (m_chance a z) (fun r => r.1 = (spChance g a).1 ∧ mG (spChance g a).2 r.2) := by
  have h1 := h.2.1
  have h8 := h1.1.2.1
  unfold m_chance spChance
  rw [m_isAhead_v h1 a 1 100 (by decide) (by decide), bnd_s, show (1 : Int32).toInt = 1 from by decide, show (100 : Int32).toInt = 100 from by decide]
  cases c : sAh (gW g) a 1 100 with
  | false =>
    rw [if_pos (by decide), if_neg (by decide), nm_s, show (Int32.toNatClampNeg 3) = 3 from by decide]
    exact Ok.of ⟨rfl, h.refuse (by decide)⟩
  | true =>
  obtain ⟨n, rfl, -, h100, h99⟩ := sAh_nat c (by decide) (by decide)
  rw [if_neg (by decide), if_pos rfl, nI_c (by omega)]
  refine Ok.bnv _ (m_keeps_v h1 h.2.2.1 h.2.2.2.2.2.1) (fun y hy => ?_)
  obtain ⟨hu, hrg⟩ := hy
  have hY := mY.start h hrg
  have hs0 : mL y 67 = gS g := by
    show y.2.1 67 = _
    rw [hrg.2.1]
    exact h.2.2.2.2.2.2.2.2.2.2.1
  have hyr := (sCha_Y (gK g) (gW g) (gS g) n).1
  refine (m_chance_out h8 h99 hs0 hY).mono (fun r hr => ?_)
  obtain ⟨r1, r2, r3⟩ := hr
  generalize sCha (gK g) n (gW g) (gS g) = t at r1 r2 r3 hyr ⊢
  refine ⟨r1, ?_⟩
  have hus := sPush_ok h.1.2.1 (w := gW g) (k := gK g) (us := gU g) ⟨h1.2.1, h.1.1⟩
  have hx' := r3.seed (gS g)
  rw [wL_wL, ← hs0, wL_own, hs0] at hx'
  have fin := (mY.end h hrg hx' (by omega) hu hus).seed t.2.2
  rw [wL_wL, ← r2, wL_own, r2] at fin
  exact fin
def spUndo (g : SG) : Bool × SG := if gU g = [] then (false, uRf g 4) else (true, uWU g ((gU g).getD 0 default) ((gU g).drop 1))
theorem m_undo_g {g : SG} {z : MS} (h : mG g z) : Ok (m_undo z) (fun r => r.1 = (spUndo g).1 ∧ mG (spUndo g).2 r.2) := by
  have h1 := h.2.1
  refine (m_undo_v h1.1.2.1 h.2.2.2.2.2.1).mono (fun r hr => ?_)
  unfold spUndo
  by_cases c : gU g = []
  · rw [if_pos c] at hr ⊢
    exact ⟨hr.1, by rw [hr.2]; exact h.refuse (by decide)⟩
  · rw [if_neg c] at hr ⊢
    obtain ⟨r1, r2, r3, r4, r5, r6, r7⟩ := hr
    have hmem : (gU g).getD 0 default ∈ gU g := by
      cases hg : gU g with
      | nil => exact absurd hg c
      | cons u us => exact List.mem_cons_self
    obtain ⟨w1, w2⟩ := h.1.2.1 _ hmem
    obtain ⟨s1, s2⟩ := (bSt_iff (gK g) _ r.2).mp r2
    exact ⟨r1, h.acts w2 (fun u hu => h.1.2.1 u (List.mem_of_mem_drop hu)) (fun a _ _ _ q4 q5 _ => r4 a q4 q5) (by show r.2.2.1 67 = z.2.1 67; rw [r5]) (fun a q1 _ _ _ _ _ _ => r6 a q1) (fun a _ => by show r.2.2.2.2 a = z.2.2.2 a; rw [r7]) ⟨h1.1, w1, mSK_now h1.2.2.1 (fun a ha => r6 a (by rintro rfl; simp at ha)), s1⟩ s2 r3⟩
