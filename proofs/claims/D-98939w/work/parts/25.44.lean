/-! PART 44: plain: parts of questions and tests -/
set_option maxRecDepth 100000
/-- part i of person p and fact f; q: in a question -/
def sPart (k : SK) (w : SW) (q : Bool) (p f i : Nat) : Int64 :=
  if i = 0 then (nI (kCa k p)).toInt64 else if i = 1 then (nI (if q = true then sRiM w (kP k) f else pop (wR w p))).toInt64 else if i = 2 then (nI (if q = true then sWrM w (kP k) f else pop (wW w p))).toInt64 else if i = 3 then (nI (wY w)).toInt64 else if i = 4 then (nI (kWo k f)).toInt64
  else if i = 5 then (nI (pop (sPup w (kP k) (wM w p)))).toInt64 else if i = 6 then (nI (kCa k (wM w p - 1))).toInt64 else if i = 7 then (nI (wL' w p)).toInt64 else if i = 8 then (sMk k w p).toInt64 else if i = 9 then (nI f).toInt64 else if i = 10 then (nI (if (wR w p).testBit f = true then 1 else 0)).toInt64 else (nI (if (wW w p).testBit f = true then 1 else 0)).toInt64
theorem sPup_lt (w : SW) (n m : Nat) (hn : n ≤ 8) : sPup w n m < 256 := by
  unfold sPup
  have := itN_inv (σ := Nat) (st := fun p s => if wM w p = m then s ||| 2 ^ p else s) (Inv := fun _ s => s < 256) (m := n) (fun j a hj ha => by
    by_cases c : wM w j = m
    · simp only [if_pos c]
      exact s_orlt a ha j (by omega)
    · simp only [if_neg c]
      exact ha) n 0 0 (by omega) (by decide)
  exact this
theorem m_qPartOf_v {k : SK} {w : SW} {z : MS} (h : mOk k w z) {q : Bool} {p f i : Nat} (hp : p < kP k) (hf : f < 8) (h55 : mI z 55 = nI p) (h52 : mI z 52 = 2 ↔ q = true) (hi : i < 12) (h4 : i = 4 → f < kF k) (h6 : i = 6 → 0 < wM w p) : m_qPartOf (nI i) (nI f) z = some (sPart k w q p f i, z) := by
  have h8 := h.1.2.1
  have hm := (h.2.1.2.2 p hp).1
  have o8 : ∀ n : Nat, (8 : Int32) + nI n = nI (8 + n) := fun n => nI_add 8 n
  unfold m_qPartOf
  rw [h55]
  rcases (show i = 0 ∨ i = 1 ∨ i = 2 ∨ i = 3 ∨ i = 4 ∨ i = 5 ∨ i = 6 ∨ i = 7 ∨ i = 8 ∨ i = 9 ∨ i = 10 ∨ i = 11 by omega) with rfl | rfl | rfl | rfl | rfl | rfl | rfl | rfl | rfl | rfl | rfl | rfl
  · rw [if_pos (show nI 0 = 0 from rfl)]
    rw [o8, ck_t (inb_nI (by show _ < 16; omega) (by decide)), nI_c (by omega), h.2.2.1.2.2.2.1 p hp]
    rfl
  · rw [if_neg (show ¬ nI 1 = 0 by decide), if_pos (show nI 1 = 1 from rfl)]
    by_cases c : q = true
    · rw [if_pos (h52.mpr c), m_rightMany_v h hf, bnd_s]
      show _ = some ((nI (if q = true then sRiM w (kP k) f else pop (wR w p))).toInt64, z)
      rw [if_pos c]
    · rw [if_neg (fun e => c (h52.mp e)), m_rightOf_v h hp, bnd_s, m_bits_v (h.r8 hp), bnd_s]
      show _ = some ((nI (if q = true then sRiM w (kP k) f else pop (wR w p))).toInt64, z)
      rw [if_neg c]
  · rw [if_neg (show ¬ nI 2 = 0 by decide), if_neg (show ¬ nI 2 = 1 by decide), if_pos (show nI 2 = 2 from rfl)]
    by_cases c : q = true
    · rw [if_pos (h52.mpr c), m_wrongMany_v h hf, bnd_s]
      show _ = some ((nI (if q = true then sWrM w (kP k) f else pop (wW w p))).toInt64, z)
      rw [if_pos c]
    · rw [if_neg (fun e => c (h52.mp e)), m_wrongOf_v h hp, bnd_s, m_bits_v (h.w8 hp), bnd_s]
      show _ = some ((nI (if q = true then sWrM w (kP k) f else pop (wW w p))).toInt64, z)
      rw [if_neg c]
  · rw [if_neg (show ¬ nI 3 = 0 by decide), if_neg (show ¬ nI 3 = 1 by decide), if_neg (show ¬ nI 3 = 2 by decide), if_pos (show nI 3 = 3 from rfl)]
    rw [show (Int32.toNatClampNeg 0) = 0 from by decide, h.2.2.2.1]
    rfl
  · rw [if_neg (show ¬ nI 4 = 0 by decide), if_neg (show ¬ nI 4 = 1 by decide), if_neg (show ¬ nI 4 = 2 by decide), if_neg (show ¬ nI 4 = 3 by decide), if_pos (show nI 4 = 4 from rfl)]
    have hk := h.1.1
    rw [o8, ck_t (inb_nI (by show _ < 16; omega) (by decide)), nI_c (by omega), h.2.2.1.2.2.1 f (h4 rfl)]
    rfl
  · rw [if_neg (show ¬ nI 5 = 0 by decide), if_neg (show ¬ nI 5 = 1 by decide), if_neg (show ¬ nI 5 = 2 by decide), if_neg (show ¬ nI 5 = 3 by decide), if_neg (show ¬ nI 5 = 4 by decide), if_pos (show nI 5 = 5 from rfl)]
    rw [m_masterOf_v h hp, bnd_s, m_pupilsOf_v h (by omega), bnd_s, m_bits_v (sPup_lt w _ _ h8), bnd_s]
    rfl
  · rw [if_neg (show ¬ nI 6 = 0 by decide), if_neg (show ¬ nI 6 = 1 by decide), if_neg (show ¬ nI 6 = 2 by decide), if_neg (show ¬ nI 6 = 3 by decide), if_neg (show ¬ nI 6 = 4 by decide), if_neg (show ¬ nI 6 = 5 by decide), if_pos (show nI 6 = 6 from rfl)]
    have h6 := h6 rfl
    rw [m_masterOf_v h hp, bnd_s]
    have e : nI (wM w p) - 1 = nI (wM w p - 1) := by
      have := nI_pred (wM w p - 1)
      rwa [show wM w p - 1 + 1 = wM w p by omega] at this
    rw [e, o8, ck_t (inb_nI (by show _ < 16; omega) (by decide)), nI_c (by omega), h.2.2.1.2.2.2.1 (wM w p - 1) (by omega)]
    rfl
  · rw [if_neg (show ¬ nI 7 = 0 by decide), if_neg (show ¬ nI 7 = 1 by decide), if_neg (show ¬ nI 7 = 2 by decide), if_neg (show ¬ nI 7 = 3 by decide), if_neg (show ¬ nI 7 = 4 by decide), if_neg (show ¬ nI 7 = 5 by decide), if_neg (show ¬ nI 7 = 6 by decide), if_pos (show nI 7 = 7 from rfl)]
    rw [m_leftOf_v h hp, bnd_s]
    rfl
  · rw [if_neg (show ¬ nI 8 = 0 by decide), if_neg (show ¬ nI 8 = 1 by decide), if_neg (show ¬ nI 8 = 2 by decide), if_neg (show ¬ nI 8 = 3 by decide), if_neg (show ¬ nI 8 = 4 by decide), if_neg (show ¬ nI 8 = 5 by decide), if_neg (show ¬ nI 8 = 6 by decide), if_neg (show ¬ nI 8 = 7 by decide), if_pos (show nI 8 = 8 from rfl)]
    rw [m_marksOf_v h hp, bnd_s]
    rfl
  · rw [if_neg (show ¬ nI 9 = 0 by decide), if_neg (show ¬ nI 9 = 1 by decide), if_neg (show ¬ nI 9 = 2 by decide), if_neg (show ¬ nI 9 = 3 by decide), if_neg (show ¬ nI 9 = 4 by decide), if_neg (show ¬ nI 9 = 5 by decide), if_neg (show ¬ nI 9 = 6 by decide), if_neg (show ¬ nI 9 = 7 by decide), if_neg (show ¬ nI 9 = 8 by decide), if_pos (show nI 9 = 9 from rfl)]
    rfl
  · rw [if_neg (show ¬ nI 10 = 0 by decide), if_neg (show ¬ nI 10 = 1 by decide), if_neg (show ¬ nI 10 = 2 by decide), if_neg (show ¬ nI 10 = 3 by decide), if_neg (show ¬ nI 10 = 4 by decide), if_neg (show ¬ nI 10 = 5 by decide), if_neg (show ¬ nI 10 = 6 by decide), if_neg (show ¬ nI 10 = 7 by decide), if_neg (show ¬ nI 10 = 8 by decide), if_neg (show ¬ nI 10 = 9 by decide), if_pos (show nI 10 = 10 from rfl)]
    rw [m_rightOf_v h hp, bnd_s, s_b _ (h.r8 hp) f hf]
    rfl
  · rw [if_neg (show ¬ nI 11 = 0 by decide), if_neg (show ¬ nI 11 = 1 by decide), if_neg (show ¬ nI 11 = 2 by decide), if_neg (show ¬ nI 11 = 3 by decide), if_neg (show ¬ nI 11 = 4 by decide), if_neg (show ¬ nI 11 = 5 by decide), if_neg (show ¬ nI 11 = 6 by decide), if_neg (show ¬ nI 11 = 7 by decide), if_neg (show ¬ nI 11 = 8 by decide), if_neg (show ¬ nI 11 = 9 by decide), if_neg (show ¬ nI 11 = 10 by decide)]
    rw [m_wrongOf_v h hp, bnd_s, s_b _ (h.w8 hp) f hf]
    rfl
