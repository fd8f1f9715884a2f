/-! PART 24: plain: the school that is being told: names -/
set_option maxRecDepth 100000
abbrev ST : Type := SK × (Nat → Nat → List Nat) × (Nat → Nat) × (Nat → Nat) × (Nat → Nat)
def tK (s : ST) : SK := s.1
def tNm (s : ST) : Nat → Nat → List Nat := s.2.1
def tM (s : ST) : Nat → Nat := s.2.2.1
def tR (s : ST) : Nat → Nat := s.2.2.2.1
def tW (s : ST) : Nat → Nat := s.2.2.2.2
/-- the names told so far lie in the Model -/
def mNs (k : SK) (nm : Nat → Nat → List Nat) (z : MS) : Prop := mA z 39 0 = nI (kF k) ∧ mA z 39 1 = nI (kP k) ∧ kF k ≤ 8 ∧ kP k ≤ 8 ∧ (∀ kd i, kd < 2 → i < kN k kd → nmOk (nm kd i) ∧ mB z 40 (8 * kd + i) = lN (nmV (nm kd i)))
def fnd (f : Nat → List Nat) (l : List Nat) : Nat → Nat → Option Nat
  | 0, _ => none
  | m + 1, k => if f k = l then some k else fnd f l m (k + 1)
def fndV (f : Nat → Int64) (v : Int64) : Nat → Nat → Option Nat
  | 0, _ => none
  | m + 1, k => if f k = v then some k else fndV f v m (k + 1)
theorem nmR_inj : ∀ (l m : List Nat), (∀ d, d ∈ l → 1 ≤ d ∧ d ≤ 26) → (∀ d, d ∈ m → 1 ≤ d ∧ d ≤ 26) → nmR l = nmR m → l = m
  | [], [], _, _, _ => rfl
  | [], d :: m, _, h, e => by
    have := h d List.mem_cons_self
    have e : 0 = 27 * nmR m + d := e
    omega
  | d :: l, [], h, _, e => by
    have := h d List.mem_cons_self
    have e : 27 * nmR l + d = 0 := e
    omega
  | d :: l, d' :: m, h, h', e => by
    have h1 := h d List.mem_cons_self
    have h2 := h' d' List.mem_cons_self
    have e : 27 * nmR l + d = 27 * nmR m + d' := e
    have e1 : nmR l = nmR m := by omega
    have e2 : d = d' := by omega
    rw [e2, nmR_inj l m (fun x hx => h x (List.mem_cons_of_mem _ hx)) (fun x hx => h' x (List.mem_cons_of_mem _ hx)) e1]
theorem nmV_inj {l m : List Nat} (hl : nmOk l) (hm : nmOk m) (h : lN (nmV l) = lN (nmV m)) : l = m := by
  have b1 : nmV l < 2 ^ 31 := nmR_31 (fun d hd => (hl.2.2 d (List.mem_reverse.mp hd)).2) (by rw [List.length_reverse]; exact hl.2.1)
  have b2 : nmV m < 2 ^ 31 := nmR_31 (fun d hd => (hm.2.2 d (List.mem_reverse.mp hd)).2) (by rw [List.length_reverse]; exact hm.2.1)
  have e : nmV l = nmV m := by
    have h1 := (lN_le b1 b2).mp (by rw [h]; exact Int64.le_refl _)
    have h2 := (lN_le b2 b1).mp (by rw [h]; exact Int64.le_refl _)
    omega
  have := nmR_inj l.reverse m.reverse (fun d hd => hl.2.2 d (List.mem_reverse.mp hd)) (fun d hd => hm.2.2 d (List.mem_reverse.mp hd)) e
  have := congrArg List.reverse this
  rw [List.reverse_reverse, List.reverse_reverse] at this
  exact this
theorem kN_le {k : SK} (h1 : kF k ≤ 8) (h2 : kP k ≤ 8) (kd : Nat) : kN k kd ≤ 8 := by unfold kN; split <;> assumption
theorem mNs.cnt {k : SK} {nm : Nat → Nat → List Nat} {z : MS} (h : mNs k nm z) {kd : Nat} (hk : kd < 2) : mA z 39 kd = nI (kN k kd) := by
  unfold kN
  rcases (show kd = 0 ∨ kd = 1 by omega) with rfl | rfl
  · rw [if_pos rfl]; exact h.1
  · rw [if_neg (by decide)]; exact h.2.1
theorem nameOf_L {k : SK} {nm : Nat → Nat → List Nat} {z : MS} (h : mNs k nm z) {kd : Nat} (hk : kd < 2) (v : Int64) (dm : Int32 → MS → Option (Int32 × MS)) : ∀ (m i : Nat), i ≤ kN k kd → kN k kd - i < m →
    fx (m_nameOf_L3 (nI kd) v) dm m (nI i) z = some (oM1 (fndV (fun i => mB z 40 (8 * kd + i)) v (kN k kd - i) i), z)
  | 0, i, _, h => absurd h (Nat.not_lt_zero _)
  | m + 1, i, hi, hm => by
    have h8 := kN_le h.2.2.1 h.2.2.2.1 kd
    have IH := nameOf_L h hk v dm m
    rw [fx_s]
    generalize fx (m_nameOf_L3 (nI kd) v) dm m = S at IH ⊢
    unfold m_nameOf_L3
    rw [ck_t (inb_nI (by show _ < 4; omega) (by decide)), nI_c (show kd < 2 ^ 31 by omega), h.cnt hk]
    by_cases c : i < kN k kd
    · have ix : (8 : Int32) * nI kd + nI i = nI (8 * kd + i) := by rw [show (8 : Int32) = nI 8 from rfl, nI_mul, nI_add]
      rw [if_neg (nI_ge c (by omega)), ix, ck_t (inb_nI (by show _ < 32; omega) (by decide)), nI_c (show 8 * kd + i < 2 ^ 31 by omega), show kN k kd - i = (kN k kd - (i + 1)) + 1 by omega]
      show (if mB z 40 (8 * kd + i) = v then _ else _) = some (oM1 (if mB z 40 (8 * kd + i) = v then some i else fndV (fun i => mB z 40 (8 * kd + i)) v (kN k kd - (i + 1)) (i + 1)), z)
      by_cases c2 : mB z 40 (8 * kd + i) = v
      · rw [if_pos c2, if_pos c2]
        rfl
      · rw [if_neg c2, if_neg c2, nI_1, IH (i + 1) c (by omega)]
    · rw [if_pos (nI_le (by omega) (by omega)), show kN k kd - i = 0 by omega]
      rfl
theorem m_nameOf_v {k : SK} {nm : Nat → Nat → List Nat} {z : MS} (h : mNs k nm z) {kd : Nat} (hk : kd < 2) (v : Int64) : m_nameOf (nI kd) v z = some (oM1 (fndV (fun i => mB z 40 (8 * kd + i)) v (kN k kd) 0), z) := by
  unfold m_nameOf
  exact nameOf_L h hk v _ FU 0 (Nat.zero_le _) (FU_gt (by have := kN_le h.2.2.1 h.2.2.2.1 kd; omega))
theorem fndV_fnd {k : SK} {nm : Nat → Nat → List Nat} {z : MS} (h : mNs k nm z) {kd : Nat} (hk : kd < 2) {l : List Nat} (hl : nmOk l) : ∀ (m i : Nat), i + m ≤ kN k kd → fndV (fun i => mB z 40 (8 * kd + i)) (lN (nmV l)) m i = fnd (nm kd) l m i
  | 0, i, _ => rfl
  | m + 1, i, hi => by
    obtain ⟨q1, q2⟩ := h.2.2.2.2 kd i hk (by omega)
    show (if mB z 40 (8 * kd + i) = lN (nmV l) then some i else fndV (fun i => mB z 40 (8 * kd + i)) (lN (nmV l)) m (i + 1)) = (if nm kd i = l then some i else fnd (nm kd) l m (i + 1))
    rw [q2, fndV_fnd h hk hl m (i + 1) (by omega)]
    by_cases c : nm kd i = l
    · rw [if_pos c, if_pos (by rw [c])]
    · rw [if_neg c, if_neg (fun g => c (nmV_inj q1 hl g))]
theorem fnd_lt (f : Nat → List Nat) (l : List Nat) : ∀ (m i j : Nat), fnd f l m i = some j → i ≤ j ∧ j < i + m ∧ f j = l
  | 0, i, j, h => by cases h
  | m + 1, i, j, h => by
    have h : (if f i = l then some i else fnd f l m (i + 1)) = some j := h
    by_cases c : f i = l
    · rw [if_pos c] at h
      cases h
      exact ⟨Nat.le_refl _, by omega, c⟩
    · rw [if_neg c] at h
      have := fnd_lt f l m (i + 1) j h
      exact ⟨by omega, by omega, this.2.2⟩
section RN
variable {n : Nat} {b : Nat → Nat}
theorem seg_mem (b : Nat → Nat) : ∀ (m j : Nat) (x : Nat), x ∈ seg b j m → ∃ i, j ≤ i ∧ i < j + m ∧ b i = x
  | 0, j, x, h => absurd h (by show ¬ x ∈ []; simp)
  | m + 1, j, x, h => by
    rcases List.mem_cons.mp (show x ∈ b j :: seg b (j + 1) m from h) with h | h
    · exact ⟨j, Nat.le_refl _, by omega, h.symm⟩
    · obtain ⟨i, h1, h2, h3⟩ := seg_mem b m (j + 1) x h
      exact ⟨i, by omega, by omega, h3⟩
theorem rNameJ_r {j : Nat} {v : List Nat × Nat} {e : Nat} (h : rNameJ n b j = .inr (v, e)) : nmOk v.1 ∧ v.2 = j ∧ j < e ∧ e ≤ n ∧ e = sWe n b j := by
  obtain ⟨w, e1, q1, q2⟩ := sbd_inr h
  obtain ⟨w1, w2, w3, w4, w5, w6, w7⟩ := rWordJ_r q1
  have q2 : (if w.1 ∈ ownW then (.inl (1, j) : RS (List Nat × Nat)) else if 6 < w.1.length then .inl (1, j + 6) else .inr ((w.1.map (· - 96), j), e1)) = .inr (v, e) := q2
  by_cases c1 : w.1 ∈ ownW
  · rw [if_pos c1] at q2; cases q2
  · rw [if_neg c1] at q2
    by_cases c2 : 6 < w.1.length
    · rw [if_pos c2] at q2; cases q2
    · rw [if_neg c2] at q2
      cases q2
      have el : w.1.length = sWe n b j - j := by rw [w4]; exact seg_len b _ _
      refine ⟨⟨by rw [List.length_map]; omega, by rw [List.length_map]; omega, fun d hd => ?_⟩, rfl, w6, w7, w5⟩
      obtain ⟨x, hx, rfl⟩ := List.mem_map.mp hd
      rw [w4] at hx
      obtain ⟨i, i1, i2, i3⟩ := seg_mem b _ _ x hx
      have := of_decide_eq_true (sWhF_in isL b (n - j) j i i1 (by show _ < sWe n b j; omega))
      omega
theorem mNs.rn {k : SK} {nm : Nat → Nat → List Nat} {z z' : MS} (h : mNs k nm z) (hr : mRn z z') : mNs k nm z' := by
  have e1 : ∀ a, mA z' a = mA z a := fun a => by unfold mA; rw [hr.2]
  have e2 : ∀ a, mB z' a = mB z a := fun a => by unfold mB; rw [hr.2]
  unfold mNs
  rw [e1, e2]
  exact h
theorem m_name_f {z : MS} (h : ¬ mI z 5 = 0) : m_name z = some (0, z) := by
  unfold m_name
  rw [if_neg h]
theorem fx_FUk {α : Type} (F : α → α) (z : α) {k : Nat} (hk : k < 1000) : fx F z (FU - k) = F (fx F z (FU - (k + 1))) := by
  have h : FU - k = (FU - (k + 1)) + 1 := by
    have := FU_gt (show 1000 < 1000000 by decide)
    omega
  rw [h, fx_s]
def rNewJ (n : Nat) (b : Nat → Nat) (k : SK) (nm : Nat → Nat → List Nat) (j : Nat) : RS (List Nat × Nat) := sbd (rNameJ n b j) fun v e => if fnd (nm 0) v.1 (kF k) 0 = none ∧ fnd (nm 1) v.1 (kP k) 0 = none then .inr (v, e) else .inl (3, v.2)
theorem oM1_m1 {o : Option Nat} (h : ∀ j, o = some j → j < 2000) : (oM1 o = -1) ↔ o = none := by
  cases o with
  | none => exact ⟨fun _ => rfl, fun _ => rfl⟩
  | some j =>
    constructor
    · intro g; exact absurd g (nI_nm1 (h j rfl))
    · intro g; cases g
theorem m_newName_f {z : MS} (h : ¬ mI z 5 = 0) : m_newName z = some (0, z) := by
  unfold m_newName
  rw [m_name_f h, bnd_s, show FU = FU - 0 from rfl, fx_FUk _ _ (by decide), fx_FUk _ _ (by decide), fx_FUk _ _ (by decide)]
  generalize fx (m_newName_L7 0) (fun _ _ => none) (FU - (0 + 1 + 1 + 1)) = S
  unfold m_newName_L7
  simp only [jn_s]
  rw [if_neg (by decide), if_neg h, if_neg (by decide), if_neg h, if_pos (by decide)]
theorem m_newName_v {k : SK} {nm : Nat → Nat → List Nat} {a : Nat} {z : MS} (h : mAt n b a z) (h5 : mI z 5 = 0) (hN : mNs k nm z) :
    ∃ r z', m_newName z = some (r, z') ∧ mRn z z' ∧ match rNewJ n b k nm (sSk n b a) with
      | .inl g => flt g z'
      | .inr (v, e) => r = lN (nmV v.1) ∧ mAt n b e z' ∧ mI z' 5 = 0 := by
  obtain ⟨r, z1, e1, rn, M⟩ := m_name_v h h5
  unfold m_newName rNewJ
  rw [e1, bnd_s, show FU = FU - 0 from rfl, fx_FUk _ _ (by decide), fx_FUk _ _ (by decide), fx_FUk _ _ (by decide)]
  generalize fx (m_newName_L7 r) (fun _ _ => none) (FU - (0 + 1 + 1 + 1)) = S
  unfold m_newName_L7
  simp only [jn_s]
  rw [if_neg (by decide)]
  have N1 := hN.rn rn
  cases qn : rNameJ n b (sSk n b a) with
  | inl g =>
    rw [qn] at M
    have M : flt g z1 := M
    rw [if_neg M.ne, if_neg (by decide), if_neg M.ne, if_pos (by decide)]
    exact ⟨r, z1, rfl, rn, M⟩
  | inr p =>
    obtain ⟨v, e⟩ := p
    rw [qn] at M
    obtain ⟨m1, m2, m3, m4⟩ := M
    have hv := (rNameJ_r qn).1
    have o0 := m_nameOf_v N1 (kd := 0) (by decide) r
    have o1 := m_nameOf_v N1 (kd := 1) (by decide) r
    rw [m1, fndV_fnd N1 (by decide) hv _ 0 (by omega)] at o0 o1
    have k0 : kN k 0 = kF k := rfl
    have k1 : kN k 1 = kP k := rfl
    rw [k0] at o0
    rw [k1] at o1
    have b0 := oM1_m1 (o := fnd (nm 0) v.1 (kF k) 0) (fun j hj => by have := (fnd_lt _ _ _ _ _ hj).2.1; have := hN.2.2.1; omega)
    have b1 := oM1_m1 (o := fnd (nm 1) v.1 (kP k) 0) (fun j hj => by have := (fnd_lt _ _ _ _ _ hj).2.1; have := hN.2.2.2.1; omega)
    rw [if_pos m3, m1, show m_nameOf 0 (lN (nmV v.1)) z1 = _ from o0, bnd_s, sbd_r]
    have bad : ∀ (t : MS), t = mFlt z1 3 v.2 → ¬ (fnd (nm 0) v.1 (kF k) 0 = none ∧ fnd (nm 1) v.1 (kP k) 0 = none) → ∃ r z', some (lN (nmV v.1), t) = some (r, z') ∧ mRn z z' ∧ match (if fnd (nm 0) v.1 (kF k) 0 = none ∧ fnd (nm 1) v.1 (kP k) 0 = none then (.inr (v, e) : RS (List Nat × Nat)) else .inl (3, v.2)) with
        | .inl g => flt g z'
        | .inr (v, e) => r = lN (nmV v.1) ∧ mAt n b e z' ∧ mI z' 5 = 0 := by
      rintro t rfl hb
      rw [if_neg hb]
      exact ⟨_, _, rfl, rn.tr (mRd.flt _ _ _).rn, flt_of _ (by decide) _⟩
    by_cases c0 : fnd (nm 0) v.1 (kF k) 0 = none
    · rw [if_pos (b0.mpr c0), if_neg (by decide), if_pos m3, show (0 : Int32) + 1 = nI 1 from rfl, o1, bnd_s]
      by_cases c1 : fnd (nm 1) v.1 (kP k) 0 = none
      · rw [if_pos (b1.mpr c1), if_pos (by decide), if_pos ⟨c0, c1⟩]
        exact ⟨_, _, rfl, rn, rfl, m2, m3⟩
      · rw [if_neg (fun g => c1 (b1.mp g)), m4, show (3 : Int32) = nI 3 from rfl, m_fail_v m3, bnv_s, if_pos (by decide)]
        exact bad _ rfl (fun g => c1 g.2)
    · rw [if_neg (fun g => c0 (b0.mp g)), m4, show (3 : Int32) = nI 3 from rfl, m_fail_v m3, bnv_s, if_neg (by decide), if_neg (flt_of z1 (k := 3) (by decide) v.2).ne, if_pos (by decide)]
      exact bad _ rfl (fun g => c0 g.1)
def rOneJ (n : Nat) (b : Nat → Nat) (k : SK) (nm : Nat → Nat → List Nat) (kd j : Nat) : RS (Nat × Nat) := sbd (rNameJ n b j) fun v e => match fnd (nm kd) v.1 (kN k kd) 0 with
  | some i => .inr ((i, v.2), e)
  | none => .inl (3, v.2)
theorem m_oneOf_f {k : SK} {nm : Nat → Nat → List Nat} {z : MS} (h : ¬ mI z 5 = 0) (hN : mNs k nm z) {kd : Nat} (hk : kd < 2) : m_oneOf (nI kd) z = some (0, z) := by
  unfold m_oneOf
  rw [m_name_f h, bnd_s, m_nameOf_v hN hk, bnd_s, jn_s, if_neg h]
  show (if mI z 5 = 0 then _ else _) = _
  rw [if_neg h]
theorem m_oneOf_v {k : SK} {nm : Nat → Nat → List Nat} {a : Nat} {z : MS} (h : mAt n b a z) (h5 : mI z 5 = 0) (hN : mNs k nm z) {kd : Nat} (hk : kd < 2) :
    ∃ r z', m_oneOf (nI kd) z = some (r, z') ∧ mRn z z' ∧ match rOneJ n b k nm kd (sSk n b a) with
      | .inl g => flt g z' ∧ r = 0
      | .inr (v, e) => r = nI v.1 ∧ mAt n b e z' ∧ mI z' 5 = 0 ∧ mI z' 38 = nI v.2 := by
  obtain ⟨r, z1, e1, rn, M⟩ := m_name_v h h5
  have N1 := hN.rn rn
  unfold m_oneOf rOneJ
  rw [e1, bnd_s, m_nameOf_v N1 hk, bnd_s, jn_s]
  cases qn : rNameJ n b (sSk n b a) with
  | inl g =>
    rw [qn] at M
    have M : flt g z1 := M
    rw [if_neg M.ne]
    show ∃ r z', (if mI z1 5 = 0 then _ else _) = _ ∧ _
    rw [if_neg M.ne]
    exact ⟨0, z1, rfl, rn, M, rfl⟩
  | inr p =>
    obtain ⟨v, e⟩ := p
    rw [qn] at M
    obtain ⟨m1, m2, m3, m4⟩ := M
    have hv := (rNameJ_r qn).1
    have b0 := oM1_m1 (o := fnd (nm kd) v.1 (kN k kd) 0) (fun j hj => by have := (fnd_lt _ _ _ _ _ hj).2.1; have := kN_le hN.2.2.1 hN.2.2.2.1 kd; omega)
    rw [m1, fndV_fnd N1 hk hv _ 0 (by omega), if_pos m3, sbd_r]
    cases qf : fnd (nm kd) v.1 (kN k kd) 0 with
    | none =>
      rw [if_pos (show oM1 none = -1 from rfl), m4, show (3 : Int32) = nI 3 from rfl, m_fail_v m3, bnv_s]
      show ∃ r z', (if mI (mFlt z1 3 v.2) 5 = 0 then _ else _) = _ ∧ _
      rw [if_neg (flt_of z1 (k := 3) (by decide) v.2).ne]
      exact ⟨_, _, rfl, rn.tr (mRd.flt _ _ _).rn, flt_of _ (by decide) _, rfl⟩
    | some i =>
      rw [qf] at b0
      rw [if_neg (fun g => by have := b0.mp g; cases this)]
      show ∃ r z', (if mI z1 5 = 0 then some (nI i, z1) else _) = _ ∧ _
      rw [if_pos m3]
      exact ⟨_, _, rfl, rn, rfl, m2, m3, m4⟩
end RN
