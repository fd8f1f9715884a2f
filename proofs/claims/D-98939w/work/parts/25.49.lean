/-! PART 49: plain: a year of the Model: rows, who passes, who is a doctor -/
set_option maxRecDepth 100000
/-- z' is z but for what a year changes, rows apart -/
def mF (z z' : MS) : Prop := (∀ a, a ≠ 52 → a ≠ 55 → a ≠ 59 → a ≠ 100 → mI z' a = mI z a) ∧ z'.2.1 = z.2.1 ∧ (∀ a, a ≠ 53 → a ≠ 56 → a ≠ 57 → a ≠ 62 → mA z' a = mA z a) ∧ (∀ a, a ≠ 99 → mB z' a = mB z a)
theorem mF.rf (z : MS) : mF z z := ⟨fun _ _ _ _ _ => rfl, rfl, fun _ _ _ _ _ => rfl, fun _ _ => rfl⟩
theorem mF.tr {a b c : MS} (h : mF a b) (g : mF b c) : mF a c := ⟨fun x h1 h2 h3 h4 => (g.1 x h1 h2 h3 h4).trans (h.1 x h1 h2 h3 h4), g.2.1.trans h.2.1, fun x h1 h2 h3 h4 => (g.2.2.1 x h1 h2 h3 h4).trans (h.2.2.1 x h1 h2 h3 h4), fun x h1 => (g.2.2.2 x h1).trans (h.2.2.2 x h1)⟩
theorem mSame.f {z z' : MS} (h : mSame z z') : mF z z' := ⟨fun a h1 h2 _ h4 => h.1 a h1 h2 h4, h.2.1, fun a h1 h2 h3 _ => h.2.2.1 a h1 h2 h3, h.2.2.2.1⟩
theorem mF.sk {k : SK} {z z' : MS} (h : mF z z') (g : mSK k z) : mSK k z' := mSK_now g (fun a ha => h.2.2.1 a (by rintro rfl; simp at ha) (by rintro rfl; simp at ha) (by rintro rfl; simp at ha) (by rintro rfl; simp at ha))
/-- the rows kept -/
def mRow (l : List (Nat × Nat × Nat)) (z : MS) : Prop := l.length ≤ 30 ∧ mA z 53 41 = nI l.length ∧ ∀ i, i < l.length → mA z 53 (42 + 3 * i) = nI (l.getD i (0, 0, 0)).1 ∧ mA z 53 (42 + 3 * i + 1) = nI (l.getD i (0, 0, 0)).2.1 ∧ mA z 53 (42 + 3 * i + 2) = nI (l.getD i (0, 0, 0)).2.2
/-- how many have passed -/
def cPas (k : SK) (w : SW) : Nat := itN (fun p s => s + if (wF w p).testBit 0 = true then 1 else 0) (kP k) 0 0
/-- in years from z0 on: th, whether they are thought; c what the count of those who pass starts from -/
def mY (th : Bool) (k : SK) (c : Int32) (z0 : MS) (w : SW) (z : MS) : Prop := mOk k w z ∧ mF z0 z ∧ mI z 58 = bI th ∧ mI z 59 = c + nI (cPas k w) ∧ (if th = true then ∀ i, 41 ≤ i → mA z 53 i = mA z0 53 i else mRow (wK w) z)
theorem mY.same {th : Bool} {k : SK} {c : Int32} {z0 z z' : MS} {w w' : SW} (h : mY th k c z0 w z) (s : mSame z z') (hw : wOk k w') (hs : mSW k w' z') (hK : wK w' = wK w) (hc : cPas k w' = cPas k w) : mY th k c z0 w' z' := by
  obtain ⟨h1, h2, h3, h4, h5⟩ := h
  refine ⟨s.mok h1 hw hs, h2.tr s.f, by rw [s.1 58 (by decide) (by decide) (by decide), h3], by rw [s.1 59 (by decide) (by decide) (by decide), h4, hc], ?_⟩
  cases th with
  | true =>
    rw [if_pos rfl] at h5 ⊢
    exact fun i hi => (s.2.2.2.2 i hi).trans (h5 i hi)
  | false =>
    rw [if_neg (by decide)] at h5 ⊢
    rw [hK]
    refine ⟨h5.1, (s.2.2.2.2 41 (by decide)).trans h5.2.1, fun i hi => ?_⟩
    obtain ⟨a, b, d⟩ := h5.2.2 i hi
    exact ⟨(s.2.2.2.2 _ (by omega)).trans a, (s.2.2.2.2 _ (by omega)).trans b, (s.2.2.2.2 _ (by omega)).trans d⟩
theorem mY.ev {th : Bool} {k : SK} {c : Int32} {z0 z z' : MS} {w : SW} (h : mY th k c z0 w z) (s : mEv z z') : mY th k c z0 w z' := h.same s.same h.1.2.1 (s.sw h.1.2.2.2) rfl rfl
def sTell (w : SW) (p v : Nat) : SW := (w.1, w.2.1, w.2.2.1, w.2.2.2.1, w.2.2.2.2.1, w.2.2.2.2.2.1, (if (wK w).length = 30 then (wK w).drop 1 else wK w) ++ [(wY w, p, v)])
theorem sTell_K (w : SW) (p v : Nat) : wK (sTell w p v) = (if (wK w).length = 30 then (wK w).drop 1 else wK w) ++ [(wY w, p, v)] := rfl
theorem mOk.y {k : SK} {w : SW} {z : MS} (h : mOk k w z) : mA z 53 0 = nI (wY w) := h.2.2.2.1
/-- the last three writes of a row -/
theorem m_row_put {k : SK} {w : SW} {z : MS} {th : Bool} {c : Int32} {z0 x : MS} {l : List (Nat × Nat × Nat)} {n p v : Nat} (hY : mY th k c z0 w z) (hth : th = false) (e1 : x.1 = z.1) (e2 : x.2.1 = z.2.1) (e3 : ∀ a, a ≠ 53 → mA x a = mA z a) (e4 : x.2.2.2 = z.2.2.2) (e5 : ∀ i, i < 41 → mA x 53 i = mA z 53 i) (hn : n = l.length) (hl : n < 30) (h41 : mA x 53 41 = nI (n + 1)) (hr : ∀ i, i < n → mA x 53 (42 + 3 * i) = nI (l.getD i (0, 0, 0)).1 ∧ mA x 53 (42 + 3 * i + 1) = nI (l.getD i (0, 0, 0)).2.1 ∧ mA x 53 (42 + 3 * i + 2) = nI (l.getD i (0, 0, 0)).2.2) (hK : (if (wK w).length = 30 then (wK w).drop 1 else wK w) = l) : mY th k c z0 (sTell w p v) (wA (wA (wA x 53 (42 + 3 * n) (nI (wY w))) 53 (42 + 3 * n + 1) (nI p)) 53 (42 + 3 * n + 2) (nI v)) := by
  subst hth
  obtain ⟨h1, h2, h3, h4, h5⟩ := hY
  have low : ∀ i, i < 42 + 3 * n → mA (wA (wA (wA x 53 (42 + 3 * n) (nI (wY w))) 53 (42 + 3 * n + 1) (nI p)) 53 (42 + 3 * n + 2) (nI v)) 53 i = mA x 53 i := fun i hi => by
    rw [mA_w, if_neg (by omega), mA_w, if_neg (by omega), mA_w, if_neg (by omega)]
  have g3 : ∀ a, a ≠ 53 → mA (wA (wA (wA x 53 (42 + 3 * n) (nI (wY w))) 53 (42 + 3 * n + 1) (nI p)) 53 (42 + 3 * n + 2) (nI v)) a = mA z a := fun a ha => by
    rw [mA_wne _ ha, mA_wne _ ha, mA_wne _ ha, e3 a ha]
  have gI : ∀ a, mI (wA (wA (wA x 53 (42 + 3 * n) (nI (wY w))) 53 (42 + 3 * n + 1) (nI p)) 53 (42 + 3 * n + 2) (nI v)) a = mI z a := fun a => by
    show x.1 a = z.1 a
    rw [e1]
  have gB : ∀ a, mB (wA (wA (wA x 53 (42 + 3 * n) (nI (wY w))) 53 (42 + 3 * n + 1) (nI p)) 53 (42 + 3 * n + 2) (nI v)) a = mB z a := fun a => by
    show x.2.2.2 a = z.2.2.2 a
    rw [e4]
  have f1 : mF z (wA (wA (wA x 53 (42 + 3 * n) (nI (wY w))) 53 (42 + 3 * n + 1) (nI p)) 53 (42 + 3 * n + 2) (nI v)) := ⟨fun a _ _ _ _ => gI a, e2, fun a ha _ _ _ => g3 a ha, fun a _ => gB a⟩
  have h8 := h1.1.2.1
  refine ⟨⟨h1.1, h1.2.1, f1.sk h1.2.2.1, ?_, fun q hq => ?_⟩, h2.tr f1, by rw [gI, h3], by rw [gI, h4]; rfl, ?_⟩
  · rw [low 0 (by omega), e5 0 (by omega)]
    exact h1.2.2.2.1
  · rw [low _ (by omega), low _ (by omega), low _ (by omega), low _ (by omega), low _ (by omega), e5 _ (by omega), e5 _ (by omega), e5 _ (by omega), e5 _ (by omega), e5 _ (by omega)]
    exact h1.2.2.2.2 q hq
  · rw [if_neg (by decide), sTell_K, hK]
    refine ⟨by simp; omega, by rw [low 41 (by omega), h41]; simp [hn], fun i hi => ?_⟩
    have hi : i < n + 1 := by simpa [hn] using hi
    by_cases c : i = n
    · subst c
      have : (l ++ [(wY w, p, v)]).getD i (0, 0, 0) = (wY w, p, v) := by
        rw [hn]
        simp
      rw [this]
      refine ⟨?_, ?_, ?_⟩
      · rw [mA_w, if_neg (by omega), mA_w, if_neg (by omega), mA_w, if_pos rfl]
      · rw [mA_w, if_neg (by omega), mA_w, if_pos rfl]
      · rw [mA_w, if_pos rfl]
    · have : (l ++ [(wY w, p, v)]).getD i (0, 0, 0) = l.getD i (0, 0, 0) := by
        simp [List.getD, List.getElem?_append_left (show i < l.length by omega)]
      rw [this, low _ (by omega), low _ (by omega), low _ (by omega)]
      exact hr i (by omega)
theorem m_isKept_v {th : Bool} {k : SK} {c : Int32} {z0 z : MS} {w : SW} (hY : mY th k c z0 w z) (p v : Nat) : Ok (m_isKept (nI p) (nI v) z) (mY th k c z0 (sTell w p v)) := by
  unfold m_isKept
  cases th with
  | true =>
    rw [if_neg (by rw [hY.2.2.1]; decide)]
    exact Ok.of hY
  | false =>
    rw [if_pos (by rw [hY.2.2.1]; rfl)]
    have hR : mRow (wK w) z := by
      have := hY.2.2.2.2
      rwa [if_neg (by decide)] at this
    have q41 : (Int32.toNatClampNeg 41) = 41 := by decide
    have q0 : (Int32.toNatClampNeg 0) = 0 := by decide
    have ix : ∀ n, n < 31 → 0 < n → ((42 : Int32) + 3 * nI n) - 3 = nI (42 + 3 * (n - 1)) := by decide +kernel
    -- the end
    have fin : ∀ (x : MS) (l : List (Nat × Nat × Nat)) (n : Nat), x.1 = z.1 → x.2.1 = z.2.1 → (∀ a, a ≠ 53 → mA x a = mA z a) → x.2.2.2 = z.2.2.2 → (∀ i, i < 41 → mA x 53 i = mA z 53 i) → n = l.length → n < 30 → mA x 53 41 = nI (n + 1) → (∀ i, i < n → mA x 53 (42 + 3 * i) = nI (l.getD i (0, 0, 0)).1 ∧ mA x 53 (42 + 3 * i + 1) = nI (l.getD i (0, 0, 0)).2.1 ∧ mA x 53 (42 + 3 * i + 2) = nI (l.getD i (0, 0, 0)).2.2) → (if (wK w).length = 30 then (wK w).drop 1 else wK w) = l → Ok (ck (inb ((42 + (3 * (mA x 53 41))) - 3) (mN 53)) <|
      ck (inb (((42 + (3 * (mA x 53 41))) - 3) + 1) (mN 53)) <|
      ck (inb (((42 + (3 * (mA x 53 41))) - 3) + 2) (mN 53)) <|
      some (wA (wA (wA x 53 (Int32.toNatClampNeg ((42 + (3 * (mA x 53 41))) - 3)) (mA x 53 0)) 53 (Int32.toNatClampNeg (((42 + (3 * (mA x 53 41))) - 3) + 1)) (nI p)) 53 (Int32.toNatClampNeg (((42 + (3 * (mA x 53 41))) - 3) + 2)) (nI v))) (mY false k c z0 (sTell w p v)) := by
      intro x l n e1 e2 e3 e4 e5 hn hl h41 hr hK
      rw [h41, ix (n + 1) (by omega) (by omega), show n + 1 - 1 = n by omega, show (1 : Int32) = nI 1 from rfl, show (2 : Int32) = nI 2 from rfl, nI_add, nI_add, ck_t (inb_nI (by show _ < 132; omega) (by decide)), ck_t (inb_nI (by show _ < 132; omega) (by decide)), ck_t (inb_nI (by show _ < 132; omega) (by decide)), nI_c (by omega), nI_c (by omega), nI_c (by omega), e5 0 (by decide), hY.1.y]
      exact Ok.of (m_row_put hY rfl e1 e2 e3 e4 e5 hn hl h41 hr hK)
    simp only [jn_s, nm_s, q41, q0]
    by_cases c30 : (wK w).length = 30
    · rw [if_pos (by rw [hR.2.1, c30]; rfl)]
      refine fx_okN (F := m_isKept_L23 _) (z := fun _ _ => none) (fun s j y => s (nI (42 + j)) y) 87 (fun j y => y.1 = z.1 ∧ y.2.1 = z.2.1 ∧ (∀ a, a ≠ 53 → mA y a = mA z a) ∧ y.2.2.2 = z.2.2.2 ∧ ∀ i, mA y 53 i = if 42 ≤ i ∧ i < 42 + j then mA z 53 (i + 3) else mA z 53 i) _ ?_ ?_ FU 0 z (Nat.zero_le _) ⟨rfl, rfl, fun _ _ => rfl, rfl, fun i => by rw [if_neg (by omega)]⟩ (FU_gt (by omega))
      · rintro s j y hj ⟨e1, e2, e3, e4, e5⟩ go
        show Ok (m_isKept_L23 _ s (nI (42 + j)) y) _
        unfold m_isKept_L23
        rw [if_neg (show ¬ (129 : Int32) ≤ nI (42 + j) from nI_ge (b := 129) (by omega) (by decide)), show (3 : Int32) = nI 3 from rfl, nI_add, ck_t (inb_nI (by show _ < 132; omega) (by decide)), ck_t (inb_nI (by show _ < 132; omega) (by decide)), nm_s, nI_c (by omega), nI_c (by omega), nI_1]
        refine go _ ⟨e1, e2, fun a ha => by rw [mA_wne _ ha, e3 a ha], e4, fun i => ?_⟩
        rw [mA_w, e5, e5]
        by_cases c1 : i = 42 + j
        · rw [if_pos c1, if_neg (by omega), if_pos (by omega), c1]
        · rw [if_neg c1]
          by_cases c2 : 42 ≤ i ∧ i < 42 + j
          · rw [if_pos c2, if_pos (by omega)]
          · rw [if_neg c2, if_neg (by omega)]
      · rintro s y ⟨e1, e2, e3, e4, e5⟩
        show Ok (m_isKept_L23 _ s (nI (42 + 87)) y) _
        unfold m_isKept_L23
        rw [if_pos (by decide)]
        refine fin y ((wK w).drop 1) 29 e1 e2 e3 e4 (fun i hi => by rw [e5, if_neg (by omega)]) (by simp [c30]) (by decide) (by rw [e5, if_neg (by omega), hR.2.1, c30]) (fun i hi => ?_) (by rw [if_pos c30])
        have hg : ((wK w).drop 1).getD i (0, 0, 0) = (wK w).getD (i + 1) (0, 0, 0) := by
          simp [List.getD, Nat.add_comm]
        rw [hg, e5, e5, e5, if_pos (by omega), if_pos (by omega), if_pos (by omega)]
        have := hR.2.2 (i + 1) (by omega)
        rw [show 42 + 3 * (i + 1) = 42 + 3 * i + 3 by omega] at this
        rw [show 42 + 3 * i + 1 + 3 = 42 + 3 * i + 3 + 1 by omega, show 42 + 3 * i + 2 + 3 = 42 + 3 * i + 3 + 2 by omega]
        exact this
    · have hlt : (wK w).length < 30 := by have := hR.1; omega
      rw [if_neg (fun (q : mA z 53 41 = 30) => c30 ((nI_eq (b := 30) (by omega) (by decide)).mp (by rw [← hR.2.1]; exact q)))]
      refine fin (wA z 53 41 (mA z 53 41 + 1)) (wK w) (wK w).length rfl rfl (fun a ha => mA_wne _ ha _ _) rfl (fun i hi => by rw [mA_w, if_neg (by omega)]) rfl hlt (by rw [mA_w, if_pos rfl, hR.2.1, nI_1]) (fun i hi => ?_) (by rw [if_neg c30])
      rw [mA_w, if_neg (by omega), mA_w, if_neg (by omega), mA_w, if_neg (by omega)]
      exact hR.2.2 i hi
