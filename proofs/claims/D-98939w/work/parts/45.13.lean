/-! PART 13: plain: the Model's reader -/
set_option maxRecDepth 100000
theorem wI_wI (z : MS) (k : Nat) (u v : Int32) : wI (wI z k u) k v = wI z k v := by
  show (va_up (va_up z.1 k u) k v, z.2) = (va_up z.1 k v, z.2)
  have : va_up (va_up z.1 k u) k v = va_up z.1 k v := by
    funext j
    by_cases h : j = k <;> simp [va_up, h]
  rw [this]
theorem wI_self (z : MS) (k : Nat) : wI z k (mI z k) = z := by
  show (va_up z.1 k (z.1 k), z.2) = z
  have : va_up z.1 k (z.1 k) = z.1 := by
    funext j
    by_cases h : j = k <;> simp [va_up, h]
  rw [this]
theorem mI_eq (z : MS) (k : Nat) (v : Int32) : mI (wI z k v) k = v := by rw [mI_w, if_pos rfl]
theorem mI_ne (z : MS) {k j : Nat} (h : j ≠ k) (v : Int32) : mI (wI z k v) j = mI z j := by rw [mI_w, if_neg h]
/-- the text lies on the tape -/
def mTx (n : Nat) (b : Nat → Nat) (z : MS) : Prop := n ≤ 1600 ∧ (∀ i, i < n → b i < 256 ∧ mA z 0 i = nI (b i)) ∧ mI z 3 = nI n
/-- .. and is read up to a -/
def mAt (n : Nat) (b : Nat → Nat) (a : Nat) (z : MS) : Prop := mTx n b z ∧ mI z 2 = nI a ∧ a ≤ n ∧ (∀ a', a ≤ a' → a' ≤ n → (mI z 4 = nI a' ↔ a' = a ∧ pv b a = true)) ∧ mI z 6 = -1
def rI (n : Nat) (b : Nat → Nat) (j : Nat) : Int32 := if j < n then nI (b j) else -1
section RD
variable {n : Nat} {b : Nat → Nat}
theorem look_L {α : Type} (k : MS → Option (Int32 × MS)) (dm : MS → Option (Int32 × MS)) : ∀ (m a : Nat) (z : MS), mTx n b z → mI z 2 = nI a → a ≤ n → n - a < m → fx (m_look_L0 k) dm m z = k (wI z 2 (nI (sSk n b a)))
  | 0, a, z, _, _, _, h => absurd h (Nat.not_lt_zero _)
  | m + 1, a, z, ht, h2, ha, hm => by
    have hn := ht.1
    have IH := look_L (α := α) k dm m
    rw [fx_s]
    generalize fx (m_look_L0 k) dm m = S at IH ⊢
    unfold m_look_L0
    rw [ht.2.2, h2]
    by_cases c : a < n
    · obtain ⟨hb, hA⟩ := ht.2.1 a c
      rw [if_neg (nI_ge c (by omega)), ck_t (inb_nI (by show _ < 1600; omega) (by decide)), jn_s, nI_c (show a < 2 ^ 31 by omega), hA]
      have e10 : (nI (b a) = (10 : Int32)) ↔ b a = 10 := nI_eq (b := 10) (by omega) (by decide)
      have e32 : (nI (b a) = (32 : Int32)) ↔ b a = 32 := nI_eq (b := 32) (by omega) (by decide)
      have go : isB (b a) = true → nm (wI z 2 (mI z 2 + 1)) (fun z4 => S z4) = k (wI z 2 (nI (sSk n b a))) := by
        intro hB
        rw [nm_s, h2, nI_1, IH (a + 1) (wI z 2 (nI (a + 1))) ⟨ht.1, ht.2.1, by rw [mI_ne z (by decide)]; exact ht.2.2⟩ (mI_eq _ _ _) c (by omega), wI_wI, sSk_bl c hB]
      by_cases q1 : b a = 10
      · rw [if_pos (e10.mpr q1)]
        exact go (decide_eq_true (Or.inr q1))
      · rw [if_neg (fun q => q1 (e10.mp q)), ck_t (inb_nI (by show _ < 1600; omega) (by decide))]
        by_cases q2 : b a = 32
        · rw [if_pos (e32.mpr q2)]
          exact go (decide_eq_true (Or.inl q2))
        · rw [if_neg (fun q => q2 (e32.mp q)), sSk_fix (fun _ => decide_eq_false (fun q => q.elim q2 q1)), ← h2, wI_self]
    · rw [if_pos (nI_le (by omega) (by omega)), sSk_fix (fun q => absurd q c), ← h2, wI_self]
theorem mTx.int {z : MS} (h : mTx n b z) {k : Nat} (hk : k ≠ 3) (v : Int32) : mTx n b (wI z k v) := ⟨h.1, h.2.1, by rw [mI_ne z (Ne.symm hk)]; exact h.2.2⟩
theorem m_look_v {a : Nat} {z : MS} (h : mAt n b a z) : m_look z = some (rI n b (sSk n b a), wI z 2 (nI (sSk n b a))) := by
  obtain ⟨ht, h2, ha, -⟩ := h
  have hn := ht.1
  have hj := sSk_le b ha
  unfold m_look
  rw [jn_s, look_L (α := Unit) _ _ FU a z ht h2 ha (FU_gt (by omega)), mI_eq, mI_ne z (by decide), ht.2.2]
  unfold rI
  by_cases c : sSk n b a < n
  · rw [if_neg (nI_ge c (by omega)), if_pos c, ck_t (inb_nI (by show _ < 1600; omega) (by decide)), nI_c (show sSk n b a < 2 ^ 31 by omega)]
    show some (mA z 0 (sSk n b a), _) = _
    rw [(ht.2.1 _ c).2]
  · rw [if_pos (nI_le (by omega) (by omega)), if_neg c]
theorem pv_sk {a : Nat} (h : a < sSk n b a) : pv b (sSk n b a) = false := by
  have h1 := sWhF_in isB b (n - a) a (sSk n b a - 1) (by omega) (by show _ < sSk n b a; omega)
  unfold pv
  have h2 := of_decide_eq_true h1
  have h3 : isL (b (sSk n b a - 1)) = false := decide_eq_false (by omega)
  have h4 : isD (b (sSk n b a - 1)) = false := decide_eq_false (by omega)
  rw [h3, h4]
  simp
theorem mAt.sk {a : Nat} {z : MS} (h : mAt n b a z) : mAt n b (sSk n b a) (wI z 2 (nI (sSk n b a))) := by
  obtain ⟨ht, h2, ha, h4, h6⟩ := h
  have h1 := sSk_ge n b a
  refine ⟨ht.int (by decide) _, mI_eq _ _ _, sSk_le b ha, fun a' g1 g2 => ?_, by rw [mI_ne z (by decide)]; exact h6⟩
  rw [mI_ne z (by decide), h4 a' (by omega) g2]
  by_cases c : a = sSk n b a
  · rw [← c]
  · rw [pv_sk (by omega)]
    constructor
    · rintro ⟨e, -⟩; exact absurd e (by omega)
    · rintro ⟨-, e⟩; cases e
theorem mAt.end {a : Nat} {z : MS} (h : mAt n b a z) : (mI z 2 = mI z 4) ↔ pv b a = true := by
  have := h.2.2.2.1 a (Nat.le_refl _) h.2.2.1
  rw [h.2.1]
  constructor
  · intro q; exact (this.mp q.symm).2
  · intro q; exact (this.mpr ⟨rfl, q⟩).symm
theorem m_isLetter_n {v : Nat} (hv : v < 1000) (z : MS) : m_isLetter (nI v) z = some (isL v, z) := by
  unfold m_isLetter isL
  rw [jn_s]
  have e1 : (nI v < (97 : Int32)) ↔ v < 97 := nI_ltI (b := 97) (by omega) (by decide)
  have e2 : ((122 : Int32) < nI v) ↔ 122 < v := nI_ltI (a := 122) (by decide) (by omega)
  by_cases c1 : v < 97
  · rw [if_pos (e1.mpr c1), decide_eq_false (by omega)]
  · rw [if_neg (fun q => c1 (e1.mp q))]
    by_cases c2 : 122 < v
    · rw [if_pos (e2.mpr c2), decide_eq_false (by omega)]
    · rw [if_neg (fun q => c2 (e2.mp q)), decide_eq_true (by omega)]
theorem m_isDigit_n {v : Nat} (hv : v < 1000) (z : MS) : m_isDigit (nI v) z = some (isD v, z) := by
  unfold m_isDigit isD
  rw [jn_s]
  have e1 : (nI v < (48 : Int32)) ↔ v < 48 := nI_ltI (b := 48) (by omega) (by decide)
  have e2 : ((57 : Int32) < nI v) ↔ 57 < v := nI_ltI (a := 57) (by decide) (by omega)
  by_cases c1 : v < 48
  · rw [if_pos (e1.mpr c1), decide_eq_false (by omega)]
  · rw [if_neg (fun q => c1 (e1.mp q))]
    by_cases c2 : 57 < v
    · rw [if_pos (e2.mpr c2), decide_eq_false (by omega)]
    · rw [if_neg (fun q => c2 (e2.mp q)), decide_eq_true (by omega)]
theorem m_isLetter_r {z : MS} (ht : mTx n b z) (j : Nat) (y : MS) : m_isLetter (rI n b j) y = some (isL (rB n b j), y) := by
  unfold rI rB
  by_cases c : j < n
  · rw [if_pos c, if_pos c]
    exact m_isLetter_n (by have := (ht.2.1 j c).1; omega) y
  · rw [if_neg c, if_neg c]
    unfold m_isLetter
    rw [jn_s, if_pos (by decide)]
    rfl
theorem m_isDigit_r {z : MS} (ht : mTx n b z) (j : Nat) (y : MS) : m_isDigit (rI n b j) y = some (isD (rB n b j), y) := by
  unfold rI rB
  by_cases c : j < n
  · rw [if_pos c, if_pos c]
    exact m_isDigit_n (by have := (ht.2.1 j c).1; omega) y
  · rw [if_neg c, if_neg c]
    unfold m_isDigit
    rw [jn_s, if_pos (by decide)]
    rfl
theorem rI_eq {z : MS} (ht : mTx n b z) (j : Nat) {s : Nat} (hs : s < 256) : (rI n b j = nI s) ↔ rB n b j = s := by
  unfold rI rB
  by_cases c : j < n
  · rw [if_pos c, if_pos c]
    exact nI_eq (by have := (ht.2.1 j c).1; omega) (by omega)
  · rw [if_neg c, if_neg c]
    constructor
    · intro q
      have : ∀ s, s < 256 → ¬ (-1 : Int32) = nI s := by decide +kernel
      exact absurd q (this s hs)
    · intro q; omega
theorem rI_m1 {z : MS} (ht : mTx n b z) (j : Nat) : (rI n b j = -1) ↔ n ≤ j := by
  unfold rI
  by_cases c : j < n
  · rw [if_pos c]
    constructor
    · intro q
      have : ∀ s, s < 256 → ¬ nI s = (-1 : Int32) := by decide +kernel
      exact absurd q (this _ (ht.2.1 j c).1)
    · intro q; omega
  · rw [if_neg c]
    exact ⟨fun _ => by omega, fun _ => rfl⟩
/-- the word W lies at j -/
def hB (n : Nat) (b : Nat → Nat) (j : Nat) (W : List Nat) : Bool := match rWordJ n b j with
  | .inr (v, _) => decide (v.1 = W)
  | .inl _ => false
theorem here_L35 (k : Int32 → MS → Option (Bool × MS)) (dm : Int32 → MS → Option (Bool × MS)) {z : MS} (ht : mTx n b z) : ∀ (m i : Nat), i ≤ n → n - i < m → fx (m_isHere_L35 k) dm m (nI i) z = k (nI (sWe n b i)) z
  | 0, i, _, h => absurd h (Nat.not_lt_zero _)
  | m + 1, i, hi, hm => by
    have hn := ht.1
    have IH := here_L35 k dm ht m
    rw [fx_s]
    generalize fx (m_isHere_L35 k) dm m = S at IH ⊢
    unfold m_isHere_L35
    rw [ht.2.2]
    by_cases c : i < n
    · obtain ⟨hb, hA⟩ := ht.2.1 i c
      rw [if_neg (nI_ge c (by omega)), ck_t (inb_nI (by show _ < 1600; omega) (by decide)), nI_c (show i < 2 ^ 31 by omega), hA, m_isLetter_n (by omega), bnd_s]
      have e : sWe n b i = if isL (b i) = true then sWe n b (i + 1) else i := by
        unfold sWe
        rw [show n - i = (n - (i + 1)) + 1 by omega]
        rfl
      rw [e]
      cases q : isL (b i) with
      | false => rw [if_pos (by decide), if_neg (by decide)]
      | true => rw [if_neg (by decide), if_pos rfl, nI_1, IH (i + 1) c (by omega)]
    · rw [if_pos (nI_le (by omega) (by omega))]
      have e : sWe n b i = i := by
        unfold sWe
        rw [show n - i = 0 by omega]
        rfl
      rw [e]
theorem here_L76 {w : Nat} {W : List Nat} (hW : mW w = W.map nI) (hN : mN w = W.length) (h256 : ∀ x, x ∈ W → x < 256) {z : MS} (ht : mTx n b z) {j : Nat} (h2 : mI z 2 = nI j) (hj : j + W.length ≤ n) (dm : Int32 → MS → Option (Bool × MS)) : ∀ (m k : Nat), k ≤ W.length → W.length - k < m → fx (m_isHere_L76 w) dm m (nI k) z = some (decide (seg b (j + k) (W.length - k) = W.drop k), z)
  | 0, k, _, h => absurd h (Nat.not_lt_zero _)
  | m + 1, k, hk, hm => by
    have hn := ht.1
    have IH := here_L76 hW hN h256 ht h2 hj dm m
    rw [fx_s]
    generalize fx (m_isHere_L76 w) dm m = S at IH ⊢
    unfold m_isHere_L76
    rw [hN]
    by_cases c : k < W.length
    · obtain ⟨hb, hA⟩ := ht.2.1 (j + k) (by omega)
      rw [if_neg (nI_ge c (by omega)), h2, nI_add, ck_t (inb_nI (by show _ < 1600; omega) (by decide)), ck_t (inb_nI c (by omega)), nI_c (show j + k < 2 ^ 31 by omega), nI_c (show k < 2 ^ 31 by omega), hA, hW]
      have e1 : (W.map nI).getD k 0 = nI (W[k]'c) := by
        simp [List.getD, c]
      have hx := h256 _ (List.getElem_mem c)
      have e2 : seg b (j + k) (W.length - k) = b (j + k) :: seg b (j + (k + 1)) (W.length - (k + 1)) := by
        rw [show W.length - k = (W.length - (k + 1)) + 1 by omega]
        rfl
      rw [e1, e2, List.drop_eq_getElem_cons c]
      have e3 : (nI (b (j + k)) = nI (W[k]'c)) ↔ b (j + k) = W[k]'c := nI_eq (by omega) (by omega)
      by_cases d : b (j + k) = W[k]'c
      · rw [if_pos (e3.mpr d), nI_1, IH (k + 1) c (by omega)]
        congr 2
        exact decide_eq_decide.mpr ⟨fun q => by rw [q, d], fun q => (List.cons.inj q).2⟩
      · rw [if_neg (fun q => d (e3.mp q)), decide_eq_false (fun q => d (List.cons.inj q).1)]
    · rw [if_pos (nI_le (by omega) (by omega)), show k = W.length by omega, Nat.sub_self, List.drop_length]
      rfl
theorem m_isHere_v {w : Nat} {W : List Nat} (hW : mW w = W.map nI) (hN : mN w = W.length) (h256 : ∀ x, x ∈ W → x < 256) {a : Nat} {z : MS} (h : mAt n b a z) (h5 : mI z 5 = 0) :
    m_isHere w z = some (hB n b (sSk n b a) W, wI z 2 (nI (sSk n b a))) := by
  have hs := h.sk
  have ht := h.1
  have hn := ht.1
  unfold m_isHere hB rWordJ
  rw [if_pos h5, m_look_v h, bnd_s, m_isLetter_r ht, bnd_s]
  generalize wI z 2 (nI (sSk n b a)) = z1 at hs
  generalize sSk n b a = j at hs
  cases c1 : isL (rB n b j) with
  | false =>
    rw [if_pos (by decide), if_neg (by simp)]
  | true =>
  rw [if_neg (by decide)]
  by_cases c2 : pv b j = true
  · rw [if_pos (hs.end.mpr c2), if_neg (by simp [c2])]
  · have c3 : pv b j = false := by cases q : pv b j <;> simp_all
    rw [if_neg (fun q => c2 (hs.end.mp q)), if_pos ⟨rfl, c3⟩, jn_s, hs.2.1, here_L35 _ _ hs.1 FU j hs.2.2.1 (FU_gt (by omega))]
    obtain ⟨g1, g2⟩ := isL_lt c1
    obtain ⟨g3, g4⟩ := sWe_gt g1 g2
    dsimp only
    rw [hs.2.1, nI_sub (by omega), hN]
    have e1 : (nI (sWe n b j - j) = nI W.length) ↔ sWe n b j - j = W.length := by
      constructor
      · intro q
        by_cases lw : W.length < 2 ^ 31
        · exact (nI_eq (by omega) lw).mp q
        · exfalso
          exact lw (by
            have : mN w = W.length := hN
            have : ∀ k, mN k < 2 ^ 31 := by
              intro k
              unfold mN
              split <;> decide
            have := this w
            omega)
      · intro q; rw [q]
    by_cases d : sWe n b j - j = W.length
    · rw [if_pos (e1.mpr d), show (0 : Int32) = nI 0 from rfl, here_L76 hW hN h256 hs.1 hs.2.1 (by omega) _ FU 0 (Nat.zero_le _) (FU_gt (by omega)), d]
      rfl
    · rw [if_neg (fun q => d (e1.mp q)), decide_eq_false (fun q => d (by rw [← q, seg_len]))]
/-- .. read up to e, where a word or number ends -/
def mEd (z : MS) (e : Nat) : MS := wI (wI z 2 (nI e)) 4 (nI e)
def mFlt (z : MS) (k p : Nat) : MS := wI (wI z 5 (nI k)) 6 (nI p)
theorem mAt.ed {a e : Nat} {z : MS} (h : mAt n b a z) (he : e ≤ n) (hp : pv b e = true) : mAt n b e (mEd z e) := by
  have hn := h.1.1
  refine ⟨(h.1.int (by decide) _).int (by decide) _, ?_, he, fun a' g1 g2 => ?_, by unfold mEd; rw [mI_ne _ (by decide), mI_ne _ (by decide)]; exact h.2.2.2.2⟩
  · unfold mEd
    rw [mI_ne _ (by decide), mI_eq]
  · unfold mEd
    rw [mI_eq, nI_eq (by omega) (by omega)]
    exact ⟨fun q => ⟨q.symm, hp⟩, fun q => q.1.symm⟩
theorem pv_we {j : Nat} (h : j < sWe n b j) : pv b (sWe n b j) = true := by
  have h1 := sWhF_in isL b (n - j) j (sWe n b j - 1) (by omega) (by show _ < sWe n b j; omega)
  unfold pv
  rw [h1, decide_eq_true (by omega)]
  rfl
theorem pv_de {j : Nat} (h : j < sDe n b j) : pv b (sDe n b j) = true := by
  have h1 := sWhF_in isD b (n - j) j (sDe n b j - 1) (by omega) (by show _ < sDe n b j; omega)
  unfold pv
  rw [h1, decide_eq_true (by omega)]
  simp
theorem hB_t {j : Nat} {W : List Nat} (h : hB n b j W = true) : ∃ v, rWordJ n b j = .inr (v, sWe n b j) ∧ v.1 = W ∧ v.2 = j ∧ sWe n b j = j + W.length ∧ j < sWe n b j ∧ sWe n b j ≤ n := by
  unfold hB at h
  cases q : rWordJ n b j with
  | inl g => rw [q] at h; cases h
  | inr p =>
    obtain ⟨v, e⟩ := p
    rw [q] at h
    obtain ⟨-, -, -, q1, q2, q3, q4⟩ := rWordJ_r q
    have hv : v.1 = W := of_decide_eq_true h
    rw [q2] at q3 q4 q ⊢
    refine ⟨v, rfl, hv, by rw [q1], ?_, q3, q4⟩
    have := congrArg List.length hv
    rw [q1] at this
    rw [← this]
    show _ = j + (seg b j (sWe n b j - j)).length
    rw [seg_len]
    omega
theorem m_takes_v {w : Nat} {W : List Nat} (hW : mW w = W.map nI) (hN : mN w = W.length) (h256 : ∀ x, x ∈ W → x < 256) {a : Nat} {z : MS} (h : mAt n b a z) (h5 : mI z 5 = 0) :
    m_takes w z = some (hB n b (sSk n b a) W, if hB n b (sSk n b a) W = true then mEd z (sWe n b (sSk n b a)) else wI z 2 (nI (sSk n b a))) := by
  unfold m_takes
  rw [m_isHere_v hW hN h256 h h5, bnd_s]
  cases c : hB n b (sSk n b a) W with
  | false => rw [if_pos (by decide), if_neg (by decide)]
  | true =>
    obtain ⟨v, -, -, -, q, -⟩ := hB_t c
    rw [if_neg (by decide), nm_s, nm_s, if_pos rfl, mI_eq, hN, nI_add, ← q, wI_wI, mI_eq]
    rfl
theorem m_fail_v {z : MS} (h5 : mI z 5 = 0) (k p : Nat) : m_fail (nI k) (nI p) z = some (mFlt z k p) := by
  unfold m_fail
  rw [if_pos h5, nm_s, nm_s]
  rfl
theorem m_asks_v {w : Nat} {W : List Nat} (hW : mW w = W.map nI) (hN : mN w = W.length) (h256 : ∀ x, x ∈ W → x < 256) {a : Nat} {z : MS} (h : mAt n b a z) (h5 : mI z 5 = 0) :
    m_asks w z = some (if hB n b (sSk n b a) W = true then mEd z (sWe n b (sSk n b a)) else mFlt (wI z 2 (nI (sSk n b a))) 1 (sSk n b a)) := by
  unfold m_asks
  rw [if_pos h5, m_takes_v hW hN h256 h h5, bnd_s]
  cases c : hB n b (sSk n b a) W with
  | false => rw [if_pos (by decide), if_neg (by decide), if_neg (by decide), mI_eq, show (1 : Int32) = nI 1 from rfl, m_fail_v (by rw [mI_ne _ (by decide)]; exact h5), bnv_s]
  | true => rw [if_neg (by decide), if_pos rfl, if_pos rfl]
theorem m_takesSign_v {a : Nat} {z : MS} (h : mAt n b a z) (h5 : mI z 5 = 0) {s : Nat} (hs : s < 256) :
    m_takesSign (nI s) z = some (decide (rB n b (sSk n b a) = s), if rB n b (sSk n b a) = s then wI z 2 (nI (sSk n b a + 1)) else wI z 2 (nI (sSk n b a))) := by
  unfold m_takesSign
  rw [if_pos h5, m_look_v h, bnd_s]
  by_cases c : rB n b (sSk n b a) = s
  · rw [if_pos ((rI_eq h.1 _ hs).mpr c), if_pos c, nm_s, mI_eq, nI_1, wI_wI, decide_eq_true c]
  · rw [if_neg (fun q => c ((rI_eq h.1 _ hs).mp q)), if_neg c, decide_eq_false c]
theorem m_asksSign_v {a : Nat} {z : MS} (h : mAt n b a z) (h5 : mI z 5 = 0) {s : Nat} (hs : s < 256) :
    m_asksSign (nI s) z = some (if rB n b (sSk n b a) = s then wI z 2 (nI (sSk n b a + 1)) else mFlt (wI z 2 (nI (sSk n b a))) 1 (sSk n b a)) := by
  unfold m_asksSign
  rw [if_pos h5, m_takesSign_v h h5 hs, bnd_s]
  by_cases c : rB n b (sSk n b a) = s
  · rw [if_pos c, if_pos c, decide_eq_true c, if_neg (by decide)]
  · rw [if_neg c, if_neg c, decide_eq_false c, if_pos (by decide), mI_eq, show (1 : Int32) = nI 1 from rfl, m_fail_v (by rw [mI_ne _ (by decide)]; exact h5), bnv_s]
/-- behind a sign at j -/
theorem mAt.sg {a : Nat} {z : MS} (h : mAt n b a z) {j : Nat} (hj : j < n) (haj : a ≤ j) (hs : isL (b j) = false ∧ isD (b j) = false) : mAt n b (j + 1) (wI z 2 (nI (j + 1))) := by
  obtain ⟨ht, h2, ha, h4, h6⟩ := h
  refine ⟨ht.int (by decide) _, mI_eq _ _ _, hj, fun a' g1 g2 => ?_, by rw [mI_ne z (by decide)]; exact h6⟩
  rw [mI_ne z (by decide), h4 a' (by omega) g2]
  have : pv b (j + 1) = false := by
    unfold pv
    rw [Nat.add_sub_cancel, hs.1, hs.2]
    simp
  rw [this]
  constructor
  · rintro ⟨e, -⟩; exact absurd e (by omega)
  · rintro ⟨-, e⟩; cases e
/-- only where it is read and the fault are changed -/
def mRd (z z' : MS) : Prop := (∀ a, a ≠ 2 → a ≠ 4 → a ≠ 5 → a ≠ 6 → mI z' a = mI z a) ∧ z'.2 = z.2
theorem mRd.rf (z : MS) : mRd z z := ⟨fun _ _ _ _ _ => rfl, rfl⟩
theorem mRd.tr {z1 z2 z3 : MS} (h : mRd z1 z2) (g : mRd z2 z3) : mRd z1 z3 := ⟨fun a h1 h2 h3 h4 => (g.1 a h1 h2 h3 h4).trans (h.1 a h1 h2 h3 h4), g.2.trans h.2⟩
theorem mRd.int (z : MS) {k : Nat} (hk : k = 2 ∨ k = 4 ∨ k = 5 ∨ k = 6) (v : Int32) : mRd z (wI z k v) := ⟨fun a h1 h2 h3 h4 => mI_ne z (by omega) v, rfl⟩
theorem mRd.ed (z : MS) (e : Nat) : mRd z (mEd z e) := (mRd.int z (by decide) _).tr (mRd.int _ (by decide) _)
theorem mRd.flt (z : MS) (k p : Nat) : mRd z (mFlt z k p) := (mRd.int z (by decide) _).tr (mRd.int _ (by decide) _)
theorem mFlt_5 (z : MS) (k p : Nat) : mI (mFlt z k p) 5 = nI k ∧ mI (mFlt z k p) 6 = nI p := by
  unfold mFlt
  exact ⟨by rw [mI_ne _ (by decide), mI_eq], mI_eq _ _ _⟩
theorem numV_lt : ∀ (m i v : Nat), (∀ k, k < m → isD (b (i + k)) = true) → numV b m i v < (v + 1) * 10 ^ m
  | 0, i, v, _ => by show v < (v + 1) * 1; omega
  | m + 1, i, v, h => by
    have h0 := of_decide_eq_true (h 0 (Nat.succ_pos _))
    rw [Nat.add_zero] at h0
    have ih := numV_lt m (i + 1) (10 * v + b i - 48) (fun k hk => by
      have := h (k + 1) (by omega)
      rw [show i + (k + 1) = i + 1 + k by omega] at this
      exact this)
    show numV b m (i + 1) (10 * v + b i - 48) < (v + 1) * 10 ^ (m + 1)
    have h2 : (10 * v + b i - 48 + 1) * 10 ^ m ≤ ((v + 1) * 10) * 10 ^ m := Nat.mul_le_mul_right _ (by omega)
    rw [Nat.pow_succ, Nat.mul_comm (10 ^ m) 10, ← Nat.mul_assoc]
    omega
theorem num_L {z : MS} (ht : mTx n b z) {j : Nat} (h2 : mI z 2 = nI j) (hj : j ≤ n) (k129 : Int32 → MS → Option (Int32 × MS)) (k85 : MS → Option (Int32 × MS)) (dm : Int32 → MS → Option (Int32 × MS)) : ∀ (m i v : Nat), j ≤ i → i ≤ j + 4 → i ≤ n → n - i < m →
    fx (m_number_L49 z k129 k85) dm m (nI v) (wI z 2 (nI i)) = if 4 < sDe n b i - j then k85 (wI z 2 (nI (j + 4))) else k129 (nI (numV b (sDe n b i - i) i v)) (wI z 2 (nI (sDe n b i)))
  | 0, i, v, _, _, _, h => absurd h (Nat.not_lt_zero _)
  | m + 1, i, v, hji, hi4, hin, hm => by
    have hn := ht.1
    have IH := num_L ht h2 hj k129 k85 dm m
    rw [fx_s]
    generalize fx (m_number_L49 z k129 k85) dm m = S at IH ⊢
    unfold m_number_L49
    rw [mI_ne z (by decide), ht.2.2, mI_eq]
    by_cases c : i < n
    · obtain ⟨hb, hA⟩ := ht.2.1 i c
      rw [if_neg (nI_ge c (by omega)), ck_t (inb_nI (by show _ < 1600; omega) (by decide)), nI_c (show i < 2 ^ 31 by omega)]
      show bnd (m_isDigit (mA z 0 i) _) _ = _
      rw [hA, m_isDigit_n (by omega), bnd_s]
      have e : sDe n b i = if isD (b i) = true then sDe n b (i + 1) else i := by
        unfold sDe
        rw [show n - i = (n - (i + 1)) + 1 by omega]
        rfl
      cases q : isD (b i) with
      | false =>
        rw [q, if_neg (by decide)] at e
        rw [if_pos (by decide), e, Nat.sub_self, if_neg (by omega)]
        rfl
      | true =>
        rw [q, if_pos rfl] at e
        have e1 := sDe_gt c q
        rw [if_neg (by decide), mI_eq, h2, nI_sub hji]
        have e4 : (nI (i - j) = (4 : Int32)) ↔ i - j = 4 := nI_eq (b := 4) (by omega) (by decide)
        by_cases c4 : i - j = 4
        · rw [if_pos (e4.mpr c4), if_pos (by omega), show j + 4 = i by omega]
        · rw [if_neg (fun q => c4 (e4.mp q)), ck_t (inb_nI (by show _ < 1600; omega) (by decide)), nm_s, wI_wI, nI_1]
          have hd := of_decide_eq_true q
          have ev : (10 : Int32) * nI v + mA (wI z 2 (nI i)) 0 (Int32.toNatClampNeg (nI i)) - 48 = nI (10 * v + b i - 48) := by
            rw [nI_c (show i < 2 ^ 31 by omega)]
            show (10 : Int32) * nI v + mA z 0 i - 48 = _
            rw [hA, show (10 : Int32) = nI 10 from rfl, nI_mul, nI_add, show (48 : Int32) = nI 48 from rfl, nI_sub (by omega)]
          rw [ev, IH (i + 1) (10 * v + b i - 48) (by omega) (by omega) c (by omega), ← e]
          rw [show numV b (sDe n b i - i) i v = numV b (sDe n b i - (i + 1)) (i + 1) (10 * v + b i - 48) by
            rw [show sDe n b i - i = (sDe n b i - (i + 1)) + 1 by omega]
            rfl]
    · have e : sDe n b i = i := by
        unfold sDe
        rw [show n - i = 0 by omega]
        rfl
      rw [if_pos (nI_le (by omega) (by omega)), e, Nat.sub_self, if_neg (by omega)]
      rfl
theorem m_number_v {a : Nat} {z : MS} (h : mAt n b a z) (h5 : mI z 5 = 0) {lo hi : Nat} (hlo : lo < 10000) (hhi : hi < 10000) :
    match rNumJ n b lo hi (sSk n b a) with
    | .inr (v, e) => m_number (nI lo) (nI hi) z = some (nI v, mEd z e)
    | .inl g => ∃ r z', m_number (nI lo) (nI hi) z = some (r, z') ∧ (mI z' 5 = nI g.1 ∧ mI z' 6 = nI g.2 ∧ 0 < g.1 ∧ g.1 < 10) ∧ mRd z z' := by
  have hs := h.sk
  have ht := h.1
  have hn := ht.1
  have s5 : mI (wI z 2 (nI (sSk n b a))) 5 = 0 := by rw [mI_ne _ (by decide)]; exact h5
  unfold m_number rNumJ
  rw [if_pos h5, m_look_v h, bnd_s, m_isDigit_r ht, bnd_s]
  have rd := mRd.int z (k := 2) (by decide) (nI (sSk n b a))
  have wz : ∀ v, wI (wI z 2 (nI (sSk n b a))) 2 v = wI z 2 v := fun v => wI_wI _ _ _ _
  generalize wI z 2 (nI (sSk n b a)) = z1 at hs s5 rd wz
  generalize sSk n b a = j at hs
  have f1 : ∀ (p : Nat), mI z1 2 = nI p → ∃ r z', (bnv (m_fail 1 (mI z1 2) z1) fun z4 => some ((0 : Int32), z4)) = some (r, z') ∧ (mI z' 5 = nI 1 ∧ mI z' 6 = nI p ∧ 0 < 1 ∧ 1 < 10) ∧ mRd z z' := by
    intro p hp
    rw [hp, show (1 : Int32) = nI 1 from rfl, m_fail_v s5, bnv_s]
    exact ⟨_, _, rfl, ⟨(mFlt_5 _ _ _).1, (mFlt_5 _ _ _).2, by decide, by decide⟩, rd.tr (mRd.flt _ _ _)⟩
  simp only [jn_s]
  cases c1 : isD (rB n b j) with
  | false =>
    rw [if_neg (by simp), if_pos (by decide)]
    exact f1 j hs.2.1
  | true =>
  rw [if_neg (show ¬ bI true = 0 by decide)]
  by_cases c2 : pv b j = true
  · rw [if_neg (by simp [c2]), if_pos (hs.end.mpr c2)]
    exact f1 j hs.2.1
  · have c3 : pv b j = false := by cases q : pv b j <;> simp_all
    rw [if_pos ⟨rfl, c3⟩, if_neg (fun q => c2 (hs.end.mp q))]
    obtain ⟨g1, g2⟩ := isD_lt c1
    obtain ⟨g3, g4⟩ := sDe_gt g1 g2
    have L := num_L hs.1 hs.2.1 hs.2.2.1 (fun (x1 : Int32) (z5 : MS) =>
          nm (wI z5 4 (mI z5 2)) fun z6 =>
          bnd (m_isIn (Int32.toInt64 x1) (Int32.toInt64 (nI lo)) (Int32.toInt64 (nI hi)) z6) fun r3 z7 =>
          if (bI r3) = 0 then
            bnv (m_fail 2 (mI z1 2) z7) fun z8 =>
            some (x1, z8)
          else
            some (x1, z7)) (fun (z9 : MS) =>
          bnv (m_fail 1 (mI z9 2) z9) fun z10 =>
          some (0, z10)) (fun _ _ => none) FU j 0 (Nat.le_refl _) (by omega) hs.2.2.1 (FU_gt (by omega))
    rw [show wI z1 2 (nI j) = z1 by rw [← hs.2.1, wI_self]] at L
    rw [show (0 : Int32) = nI 0 from rfl] at *
    rw [L]
    by_cases c4 : 4 < sDe n b j - j
    · rw [if_pos c4, if_pos c4, mI_eq, show (1 : Int32) = nI 1 from rfl, m_fail_v (by rw [mI_ne _ (by decide)]; exact s5), bnv_s]
      exact ⟨_, _, rfl, ⟨(mFlt_5 _ _ _).1, (mFlt_5 _ _ _).2, Nat.succ_pos 0, by show 1 < 10; decide⟩, (rd.tr (mRd.int _ (by decide) _)).tr (mRd.flt _ _ _)⟩
    · rw [if_neg c4, if_neg c4]
      have hv := numV_lt (b := b) (sDe n b j - j) j 0 (fun k hk => sWhF_in isD b (n - j) j (j + k) (by omega) (by show _ < sDe n b j; omega))
      have hv2 : numV b (sDe n b j - j) j 0 < 10000 := by
        have : 10 ^ (sDe n b j - j) ≤ 10 ^ 4 := Nat.pow_le_pow_right (by decide) (by omega)
        omega
      generalize numV b (sDe n b j - j) j 0 = v at hv2
      have es : sIn (nI v) (lo : Int) (hi : Int) = decide (lo ≤ v ∧ v ≤ hi) := by
        unfold sIn
        rw [nI_toInt (by omega)]
        exact decide_eq_decide.mpr (by omega)
      rw [nm_s, mI_eq, m_isIn_i, Int32.toInt_toInt64, Int32.toInt_toInt64, nI_toInt (by omega), nI_toInt (by omega), es, bnd_s, wz]
      by_cases c5 : lo ≤ v ∧ v ≤ hi
      · rw [decide_eq_true c5, if_pos c5]
        simp only [if_neg (show ¬ bI true = nI 0 by decide)]
        rfl
      · rw [decide_eq_false c5, if_neg c5]
        simp only [if_pos (show bI false = nI 0 by decide)]
        rw [hs.2.1, show (2 : Int32) = nI 2 from rfl, m_fail_v (by rw [mI_ne _ (by decide), mI_ne _ (by decide)]; exact h5), bnv_s]
        exact ⟨_, _, rfl, ⟨(mFlt_5 _ _ _).1, (mFlt_5 _ _ _).2, Nat.succ_pos 1, by show 2 < 10; decide⟩, (mRd.ed z _).tr (mRd.flt _ _ _)⟩
end RD
