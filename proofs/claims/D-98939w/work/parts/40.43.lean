/-! PART 43: plain: the component: readers of the school and of a State -/
set_option maxRecDepth 100000
noncomputable def bc (a : Int32) : Int32 := ((fJ16_bitCount a (0, 0, fun _ => none)).map Prod.fst).getD 0
theorem bc_eq (a : Int32) (h : PH) : fJ16_bitCount a h = some (bc a, h) := rfl
theorem bc_v : ∀ s, s < 256 → bc (nI s) = nI (pop s) := by decide +kernel
theorem bitCount_v {s : Nat} (hs : s < 256) (h : PH) : fJ16_bitCount (nI s) h = some (nI (pop s), h) := by rw [bc_eq, bc_v s hs]
theorem has_v {s k : Nat} (hs : s < 256) (hk : k < 8) (h : PH) : fX0_has (nI s) (nI k) h = some (s.testBit k, h) := by
  unfold fX0_has
  cases e : s.testBit k with
  | true => rw [if_pos ((s_has s hs k hk).mpr e)]
  | false => rw [if_neg (fun q => by rw [(s_has s hs k hk).mp q] at e; cases e)]
/-- the school that stands -/
def cSc (B : Nat) (k : SK) (nm : Nat → Nat → List Nat) (c : CZ) (h0 : PH) : Prop := kOk k ∧ ∃ sa, cQ c 0 0 = some sa ∧ scP (outB B) B k nm h0 sa
theorem cSc.of {B : Nat} {k : SK} {nm : Nat → Nat → List Nat} {c c' : CZ} {h0 : PH} (h : cSc B k nm c h0) (e : cQ c' 0 0 = cQ c 0 0) : cSc B k nm c' h0 := by
  unfold cSc
  rw [e]
  exact h
theorem sc_mk {B : Nat} {k : SK} {nm : Nat → Nat → List Nat} {h0 : PH} {sa : Nat} (g : scP (outB B) B k nm h0 sa) (c : CZ) : scP (outB B) B k nm (mk B c h0) sa := g.of (fun a ha => ⟨ha, mk_out ha c h0⟩)
section SC
variable {B : Nat} {k : SK} {nm : Nat → Nat → List Nat} {c : CZ} {h0 : PH}
theorem cSc.F0 (h : cSc B k nm c h0) : ∃ sa, pF (mk B c h0) B 0 0 = some (.ref sa) ∧ scP (outB B) B k nm (mk B c h0) sa := by
  obtain ⟨-, sa, h1, h2⟩ := h
  refine ⟨sa, ?_, sc_mk h2 c⟩
  rw [x0_F0, h1]
  rfl
theorem x_facts (h : cSc B k nm c h0) : fX0_facts B (mk B c h0) = some (nI (kF k), mk B c h0) := by
  obtain ⟨sa, f0, -, b, st, fl, pl, tq, fo, po, g1, g2, g3, -⟩ := h.F0
  unfold fX0_facts
  rw [f0, vA_s, pF_of (k := 4) g1 rfl, vA_s, l_cls g2, ckc_s, l_size g2, bnd_s]
theorem x_people (h : cSc B k nm c h0) : fX0_people B (mk B c h0) = some (nI (kP k), mk B c h0) := by
  obtain ⟨sa, f0, -, b, st, fl, pl, tq, fo, po, g1, g2, g3, -⟩ := h.F0
  unfold fX0_people
  rw [f0, vA_s, pF_of (k := 5) g1 rfl, vA_s, l_cls g3, ckc_s, l_size g3, bnd_s]
theorem x_worthOf (h : cSc B k nm c h0) {f : Nat} (hf : f < kF k) : fX0_worthOf B (nI f) (mk B c h0) = some (nI (kWo k f), mk B c h0) := by
  obtain ⟨sa, f0, -, b, st, fl, pl, tq, fo, po, g1, g2, g3, g4, -⟩ := h.F0
  obtain ⟨-, b', n, e, -⟩ := g4 f hf
  unfold fX0_worthOf
  rw [f0, vA_s, pF_of (k := 4) g1 rfl, vA_s, l_cls g2, ckc_s, l_get g2 hf, bnd_s, qS_s, pCls_of e]
  unfold ck2 pF2
  rw [if_pos (Or.inl rfl), pF_of (k := 1) e rfl]
  rfl
theorem x_calmOf (h : cSc B k nm c h0) {p : Nat} (hp : p < kP k) : fX0_calmOf B (nI p) (mk B c h0) = some (nI (kCa k p), mk B c h0) := by
  obtain ⟨sa, f0, -, b, st, fl, pl, tq, fo, po, g1, g2, g3, g4, g5, -⟩ := h.F0
  obtain ⟨-, b', n, m, r, w, e, -⟩ := g5 p hp
  unfold fX0_calmOf
  rw [f0, vA_s, pF_of (k := 5) g1 rfl, vA_s, l_cls g3, ckc_s, l_get g3 hp, bnd_s, qS_s, pCls_of e]
  unfold ck2 pF2
  have e7 : pF (mk B c h0) (po p) 7 1 = none := by
    unfold pF
    rw [e]
    rfl
  rw [if_pos (Or.inr rfl), e7, pF_of (k := 1) e rfl]
  rfl
theorem x_isFact (h : cSc B k nm c h0) (a : Int32) : fX0_isFact B a (mk B c h0) = some (sPn (kF k) a, mk B c h0) := by
  have h8 := h.1.1
  unfold fX0_isFact sPn
  rw [jn_s]
  by_cases c0 : a < 0
  · have := Int32.lt_iff_toInt_lt.mp c0
    have e0 : (0 : Int32).toInt = 0 := by decide
    rw [if_pos c0, decide_eq_false (by omega)]
  · obtain ⟨j, hj, rfl⟩ := nI_of c0
    rw [if_neg c0, x0_cls, ckc_s, x_facts h, bnd_s, nI_toInt hj]
    by_cases c1 : kF k ≤ j
    · rw [if_pos (nI_le c1 hj), decide_eq_false (by omega)]
    · rw [if_neg (nI_ge (by omega) (by omega)), decide_eq_true (by omega)]
theorem x_isPerson (h : cSc B k nm c h0) (a : Int32) : fX0_isPerson B a (mk B c h0) = some (sPn (kP k) a, mk B c h0) := by
  have h8 := h.1.2.1
  unfold fX0_isPerson sPn
  rw [jn_s]
  by_cases c0 : a < 0
  · have := Int32.lt_iff_toInt_lt.mp c0
    have e0 : (0 : Int32).toInt = 0 := by decide
    rw [if_pos c0, decide_eq_false (by omega)]
  · obtain ⟨j, hj, rfl⟩ := nI_of c0
    rw [if_neg c0, x0_cls, ckc_s, x_people h, bnd_s, nI_toInt hj]
    by_cases c1 : kP k ≤ j
    · rw [if_pos (nI_le c1 hj), decide_eq_false (by omega)]
    · rw [if_neg (nI_ge (by omega) (by omega)), decide_eq_true (by omega)]
end SC
/-- a State at place s holds what is (rows apart) -/
def cSt (k : SK) (w : SW) (s : Nat) (c : CZ) : Prop := cI c s 0 = nI (wY w) ∧ cI c s 1 = nI (sWho w (kP k) 0) ∧ cI c s 2 = nI (sWho w (kP k) 1) ∧ ∀ p, p < kP k → cI c (s + 1) p = nI (wM w p) - 1 ∧ cI c (s + 2) p = nI (wR w p) ∧ cI c (s + 3) p = nI (wW w p) ∧ cI c (s + 4) p = nI (wL' w p)
/-- .. and the rows -/
def cRw (B : Nat) (l : List (Nat × Nat × Nat)) (s : Nat) (c : CZ) : Prop := l.length ≤ 30 ∧ cI c s 3 = nI l.length ∧ ∃ π : Nat → Nat, (∀ i, i < 30 → π i < 30) ∧ (∀ i j, i < 30 → j < 30 → π i = π j → i = j) ∧ (∀ i, i < 30 → cQ c (s + 5) i = some (B + (s + 6 + π i))) ∧ ∀ i, i < l.length → cI c (s + 6 + π i) 0 = nI (l.getD i (0, 0, 0)).1 ∧ cI c (s + 6 + π i) 1 = nI (l.getD i (0, 0, 0)).2.1 ∧ cI c (s + 6 + π i) 2 = nI (l.getD i (0, 0, 0)).2.2
theorem sWho_S (w : SW) (n b : Nat) : sWho w (n + 1) b = if (wF w n).testBit b = true then sWho w n b ||| 2 ^ n else sWho w n b := itN_S _ _ _
theorem sWho_bit (w : SW) (b : Nat) : ∀ n, n ≤ 8 → ∀ p, p < 8 → (sWho w n b).testBit p = (decide (p < n) && (wF w p).testBit b)
  | 0, _, p, _ => by show (0 : Nat).testBit p = _; simp
  | n + 1, hn, p, hp => by
    have ih := sWho_bit w b n (by omega) p hp
    have lt := sWho_lt w n b (by omega)
    rw [sWho_S]
    by_cases c : (wF w n).testBit b = true
    · rw [if_pos c, s_ort _ lt n (by omega) p hp, ih]
      by_cases e : n = p
      · subst e
        rw [c]
        simp
      · rw [decide_eq_false e, Bool.or_false]
        congr 1
        by_cases q : p < n
        · rw [decide_eq_true q, decide_eq_true (by omega)]
        · rw [decide_eq_false q, decide_eq_false (by omega)]
    · rw [if_neg c, ih]
      by_cases e : p = n
      · subst e
        have : (wF w p).testBit b = false := by simpa using c
        rw [this, Bool.and_false, Bool.and_false]
      · congr 1
        by_cases q : p < n
        · rw [decide_eq_true q, decide_eq_true (by omega)]
        · rw [decide_eq_false q, decide_eq_false (by omega)]
theorem set_ext : ∀ a, a < 256 → ∀ b, b < 256 → (∀ j, j < 8 → a.testBit j = b.testBit j) → a = b := by
  intro a ha b hb h
  apply Nat.eq_of_testBit_eq
  intro i
  by_cases hi : i < 8
  · exact h i hi
  · have t : ∀ x, x < 256 → x.testBit i = false := fun x hx => Nat.testBit_lt_two_pow (Nat.lt_of_lt_of_le hx (by
      have := Nat.pow_le_pow_right (n := 2) (by decide) (show 8 ≤ i by omega)
      simpa using this))
    rw [t a ha, t b hb]
section ST
variable {B : Nat} {k : SK} {nm : Nat → Nat → List Nat} {c : CZ} {h0 : PH} {w : SW} {s : Nat}
theorem wOk.r8 {p : Nat} (hk : kOk k) (h : wOk k w) (hp : p < kP k) : wR w p < 256 := Nat.lt_of_lt_of_le (h.2.2 p hp).2.1 (two8 hk.1)
theorem wOk.w8 {p : Nat} (hk : kOk k) (h : wOk k w) (hp : p < kP k) : wW w p < 256 := Nat.lt_of_lt_of_le (h.2.2 p hp).2.2.1 (two8 hk.1)
theorem st_m (hs : isS s) (ht : cSt k w s c) {p : Nat} (hp : p < kP k) (h8 : kP k ≤ 8) : pLd (mk B c h0) (B + s + 1) 0 (nI p) = some (nI (wM w p) - 1) := by
  rw [Nat.add_assoc, (st_k1 hs).ld c h0 (inb_nI (show p < 8 by omega) (by decide)), nI_c (by omega), (ht.2.2.2 p hp).1]
theorem st_r (hs : isS s) (ht : cSt k w s c) {p : Nat} (hp : p < kP k) (h8 : kP k ≤ 8) : pLd (mk B c h0) (B + s + 2) 0 (nI p) = some (nI (wR w p)) := by
  rw [Nat.add_assoc, (st_k2 hs).ld c h0 (inb_nI (show p < 8 by omega) (by decide)), nI_c (by omega), (ht.2.2.2 p hp).2.1]
theorem st_w (hs : isS s) (ht : cSt k w s c) {p : Nat} (hp : p < kP k) (h8 : kP k ≤ 8) : pLd (mk B c h0) (B + s + 3) 0 (nI p) = some (nI (wW w p)) := by
  rw [Nat.add_assoc, (st_k3 hs).ld c h0 (inb_nI (show p < 8 by omega) (by decide)), nI_c (by omega), (ht.2.2.2 p hp).2.2.1]
theorem st_l (hs : isS s) (ht : cSt k w s c) {p : Nat} (hp : p < kP k) (h8 : kP k ≤ 8) : pLd (mk B c h0) (B + s + 4) 0 (nI p) = some (nI (wL' w p)) := by
  rw [Nat.add_assoc, (st_k4 hs).ld c h0 (inb_nI (show p < 8 by omega) (by decide)), nI_c (by omega), (ht.2.2.2 p hp).2.2.2]
theorem x_pupils (hx : cSc B k nm c h0) (hs : isS s) (hw : wOk k w) (ht : cSt k w s c) {m : Nat} (hm : m ≤ 8) : fX5_pupils (B + s) (nI m - 1) (mk B c h0) = some (nI (sPup w (kP k) m), mk B c h0) := by
  have h8 := hx.1.2.1
  unfold fX5_pupils
  refine fx_gen (F := fX5_pupils_L4 (B + s) (nI m - 1)) (z := fun _ _ _ => none) (fun g j a => g (nI a) (nI j) (mk B c h0)) (kP k) (fun p s => if wM w p = m then s ||| 2 ^ p else s) (fun _ a => a < 256) (fun a => some (nI a, mk B c h0)) ?_ ?_ ?_ FU 0 0 (Nat.zero_le _) (by decide) (FU_gt (by omega))
  · intro g j a hj ha
    have hwm := (hw.2.2 j hj).1
    show fX5_pupils_L4 (B + s) (nI m - 1) g (nI a) (nI j) (mk B c h0) = _
    unfold fX5_pupils_L4
    rw [st_F11 hs, vA_s, x0_cls, ckc_s, x_people hx, bnd_s, if_neg (nI_ge hj (by omega)), st_F4 hs, vA_s, st_m hs ht hj h8, ob_s]
    simp only [jn_s, nI_1]
    by_cases e : wM w j = m
    · rw [if_pos ((m1_inj (by omega) (by omega)).mpr e), s_or a ha j (by omega), if_pos e]
    · rw [if_neg (fun q => e ((m1_inj (by omega) (by omega)).mp q)), if_neg e, Int32.or_zero]
  · intro j a hj ha
    by_cases e : wM w j = m
    · rw [if_pos e]
      exact s_orlt a ha j (by omega)
    · rw [if_neg e]
      exact ha
  · intro g a ha
    show fX5_pupils_L4 (B + s) (nI m - 1) g (nI a) (nI (kP k)) (mk B c h0) = _
    unfold fX5_pupils_L4
    rw [st_F11 hs, vA_s, x0_cls, ckc_s, x_people hx, bnd_s, if_pos (nI_le (Nat.le_refl _) (by omega))]
theorem x_isBy (hk : kOk k) (hs : isS s) (hM : ∀ q, q < kP k → wM w q ≤ kP k) (ht : ∀ q, q < kP k → cI c (s + 1) q = nI (wM w q) - 1) {a p : Nat} (ha : a ≤ kP k) (hp : p < kP k) : fX5_isBy (B + s) (nI a - 1) (nI p) (mk B c h0) = some (sBy (wM w) 8 a p, mk B c h0) := by
  have h8 := hk.2.1
  have ep : nI p = nI (p + 1) - 1 := (nI_pred p).symm
  have dec : ∀ a, a ≤ kP k → (if nI a - 1 = nI p then some (true, mk B c h0) else some (false, mk B c h0)) = some (decide (a = p + 1), mk B c h0) := fun a ha => by
    by_cases e : a = p + 1
    · rw [if_pos (by rw [e, ep]), decide_eq_true e]
    · rw [if_neg (fun q => e ((m1_inj (by omega) (by omega)).mp (by rw [q, ep]))), decide_eq_false e]
  have fin : Ok (fX5_isBy (B + s) (nI a - 1) (nI p) (mk B c h0)) (fun r => r = (sBy (wM w) 8 a p, mk B c h0)) := by
    unfold fX5_isBy
    rw [jn_s]
    refine fx_okN (F := fX5_isBy_L5 (B + s) (nI p) _) (z := fun _ _ _ => none) (fun g j (b : Nat) => g (nI b - 1) (nI j) (mk B c h0)) 8 (fun j b => b ≤ kP k ∧ sBy (wM w) (8 - j) b p = sBy (wM w) 8 a p) _ ?_ ?_ FU 0 a (Nat.zero_le _) ⟨ha, rfl⟩ (FU_gt (by decide))
    · rintro g j b hj ⟨hb, he⟩ go
      show Ok (fX5_isBy_L5 (B + s) (nI p) _ g (nI b - 1) (nI j) (mk B c h0)) _
      unfold fX5_isBy_L5
      rw [if_neg (show ¬ (8 : Int32) ≤ nI j from nI_ge (b := 8) hj (by decide))]
      rw [show 8 - j = (8 - (j + 1)) + 1 by omega] at he
      have he : (if b = 0 then false else if b = p + 1 then true else sBy (wM w) (8 - (j + 1)) (wM w (b - 1)) p) = _ := he
      by_cases c0 : b = 0
      · rw [if_pos c0] at he
        rw [if_pos (by rw [c0]; decide), ← he]
        show Ok (if nI b - 1 = nI p then some (true, mk B c h0) else some (false, mk B c h0)) _
        rw [dec b hb, c0, decide_eq_false (by omega)]
        exact Ok.of rfl
      · rw [if_neg c0] at he
        rw [if_neg (m1_ne c0 (by omega))]
        by_cases c1 : b = p + 1
        · rw [if_pos c1] at he
          rw [if_pos (by rw [c1, ep]), ← he]
          show Ok (if nI b - 1 = nI p then some (true, mk B c h0) else some (false, mk B c h0)) _
          rw [dec b hb, decide_eq_true c1]
          exact Ok.of rfl
        · rw [if_neg c1] at he
          have e1 : pLd (mk B c h0) (B + s + 1) 0 (nI (b - 1)) = some (nI (wM w (b - 1)) - 1) := by
            rw [Nat.add_assoc, (st_k1 hs).ld c h0 (inb_nI (show b - 1 < 8 by omega) (by decide)), nI_c (by omega), ht _ (by omega)]
          rw [if_neg (fun q => c1 ((m1_inj (by omega) (by omega)).mp (by rw [q, ep]))), st_F4 hs, vA_s, nI_m1 (by omega), e1, ob_s, nI_1]
          exact go (wM w (b - 1)) ⟨hM _ (by omega), he⟩
    · rintro g b ⟨hb, he⟩
      show Ok (fX5_isBy_L5 (B + s) (nI p) _ g (nI b - 1) (nI 8) (mk B c h0)) _
      unfold fX5_isBy_L5
      rw [if_pos (by decide)]
      show Ok (if nI b - 1 = nI p then some (true, mk B c h0) else some (false, mk B c h0)) _
      have he : decide (b = p + 1) = _ := he
      rw [dec b hb, he]
      exact Ok.of rfl
  obtain ⟨r, e, rfl⟩ := fin
  exact e
theorem x_marks (hx : cSc B k nm c h0) (hs : isS s) (hw : wOk k w) (ht : cSt k w s c) {p : Nat} (hp : p < kP k) : fX5_marks (B + s) (nI p) (mk B c h0) = some (sMk k w p, mk B c h0) := by
  have h8 := hx.1.2.1
  have hF := hx.1.1
  have r8 := hw.r8 hx.1 hp
  have w8 := hw.w8 hx.1 hp
  unfold fX5_marks
  refine fx_gen (F := fX5_marks_L4 (B + s) (nI p)) (z := fun _ _ _ => none) (fun g j (a : Int32) => g a (nI j) (mk B c h0)) (kF k) (fun f s => s + if (wR w p).testBit f = true then nI (kWo k f) else if (wW w p).testBit f = true then - nI (kWo k f) else 0) (fun _ _ => True) (fun a => some (a, mk B c h0)) ?_ (fun _ _ _ _ => trivial) ?_ FU 0 0 (Nat.zero_le _) trivial (FU_gt (by omega))
  · intro g j a hj _
    show fX5_marks_L4 (B + s) (nI p) g a (nI j) (mk B c h0) = _
    unfold fX5_marks_L4
    rw [st_F11 hs, vA_s, x0_cls, ckc_s, x_facts hx, bnd_s, if_neg (nI_ge hj (by omega)), st_F5 hs, vA_s, st_r hs ht hp h8, ob_s, has_v r8 (by omega), bnd_s]
    simp only [jn_s]
    cases c1 : (wR w p).testBit j with
    | true => rw [if_neg (by decide), st_F11 hs, vA_s, x0_cls, ckc_s, x_worthOf hx hj, bnd_s, nI_1, if_pos rfl]
    | false =>
      rw [if_pos (by decide), st_F6 hs, vA_s, st_w hs ht hp h8, ob_s, has_v w8 (by omega), bnd_s, if_neg (show ¬ false = true by decide)]
      cases c2 : (wW w p).testBit j with
      | true => rw [if_neg (by decide), st_F11 hs, vA_s, x0_cls, ckc_s, x_worthOf hx hj, bnd_s, nI_1, if_pos rfl]
      | false => rw [if_pos (by decide), nI_1, if_neg (show ¬ false = true by decide)]
  · intro g a _
    show fX5_marks_L4 (B + s) (nI p) g a (nI (kF k)) (mk B c h0) = _
    unfold fX5_marks_L4
    rw [st_F11 hs, vA_s, x0_cls, ckc_s, x_facts hx, bnd_s, if_pos (nI_le (Nat.le_refl _) (by omega))]
theorem x_stands (hk : kOk k) (hs : isS s) (hw : wOk k w) (ht : cSt k w s c) {p f : Nat} (hp : p < kP k) (hf : f < 8) : fX5_stands (B + s) (nI p) (nI f) (mk B c h0) = some (nI (sIs w p f), mk B c h0) := by
  have h8 := hk.2.1
  unfold fX5_stands sIs
  rw [st_F5 hs, vA_s, st_r hs ht hp h8, ob_s, has_v (hw.r8 hk hp) hf, bnd_s]
  cases c1 : (wR w p).testBit f with
  | true => rw [if_neg (by decide), if_pos rfl]; rfl
  | false =>
    rw [if_pos (by decide), st_F6 hs, vA_s, st_w hs ht hp h8, ob_s, has_v (hw.w8 hk hp) hf, bnd_s, if_neg (show ¬ false = true by decide)]
    cases c2 : (wW w p).testBit f with
    | true => rw [if_neg (by decide), if_pos rfl]; rfl
    | false => rw [if_pos (by decide), if_neg (by decide)]; rfl
theorem x_beliefs (hx : cSc B k nm c h0) (hs : isS s) (hw : wOk k w) (ht : cSt k w s c) (r : Bool) : fX5_beliefs (B + s) r (mk B c h0) = some (nI (sBel w (kP k) r), mk B c h0) := by
  have h8 := hx.1.2.1
  unfold fX5_beliefs
  refine fx_gen (F := fX5_beliefs_L4 (B + s) r) (z := fun _ _ _ => none) (fun g j a => g (nI a) (nI j) (mk B c h0)) (kP k) (fun p s => s + pop (if r = true then wR w p else wW w p)) (fun _ _ => True) (fun a => some (nI a, mk B c h0)) ?_ (fun _ _ _ _ => trivial) ?_ FU 0 0 (Nat.zero_le _) trivial (FU_gt (by omega))
  · intro g j a hj _
    show fX5_beliefs_L4 (B + s) r g (nI a) (nI j) (mk B c h0) = _
    unfold fX5_beliefs_L4
    rw [st_F11 hs, vA_s, x0_cls, ckc_s, x_people hx, bnd_s, if_neg (nI_ge hj (by omega))]
    simp only [jn_s]
    cases r with
    | false => rw [if_pos (by decide), st_F6 hs, vA_s, st_w hs ht hj h8, ob_s, bitCount_v (hw.w8 hx.1 hj), bnd_s, nI_add, nI_1, if_neg (by decide)]
    | true => rw [if_neg (by decide), st_F5 hs, vA_s, st_r hs ht hj h8, ob_s, bitCount_v (hw.r8 hx.1 hj), bnd_s, nI_add, nI_1, if_pos rfl]
  · intro g a _
    show fX5_beliefs_L4 (B + s) r g (nI a) (nI (kP k)) (mk B c h0) = _
    unfold fX5_beliefs_L4
    rw [st_F11 hs, vA_s, x0_cls, ckc_s, x_people hx, bnd_s, if_pos (nI_le (Nat.le_refl _) (by omega))]
end ST
