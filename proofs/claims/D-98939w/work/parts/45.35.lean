/-! PART 35: plain: the Model answers a question -/
set_option maxRecDepth 100000
theorem mL_g (z : MS) (k : Nat) (v : Int64) (j : Nat) : mL (wL z k v) j = if j = k then v else mL z j := by
  show va_up z.2.1 k v j = _
  by_cases h : j = k <;> simp [va_up, h, mL]
/-- one fact's value taken into the answer -/
def sTk (kd : Nat) (v : Int64) (f : Nat) (a : Int64 × Bool) : Int64 × Bool :=
  (if kd = 0 then (if v = 1 ∧ a.1 = -1 then (nI f).toInt64 else a.1) else if kd = 1 then (if v = 1 then (nI f).toInt64 else a.1) else if kd = 2 then (if v = 1 then a.1 + 1 else a.1) else if kd = 3 then a.1 + v
    else if kd = 4 then (if a.2 = true ∨ ¬ v ≤ a.1 then v else a.1) else (if a.2 = true ∨ ¬ a.1 ≤ v then v else a.1), false)
/-- only the answer is changed -/
def mAn (z z' : MS) : Prop := (∀ a, a ≠ 102 → mI z' a = mI z a) ∧ (∀ a, a ≠ 101 → mL z' a = mL z a) ∧ z'.2.2 = z.2.2
theorem mAn.rf (z : MS) : mAn z z := ⟨fun _ _ => rfl, fun _ _ => rfl, rfl⟩
theorem mAn.i (z : MS) (v : Int32) : mAn z (wI z 102 v) := ⟨fun a h => mI_ne z h v, fun _ _ => rfl, rfl⟩
theorem mAn.l (z : MS) (v : Int64) (u : Int32) : mAn z (wI (wL z 101 v) 102 u) := ⟨fun a h => by rw [mI_ne _ h]; rfl, fun a h => by show mL (wL z 101 v) a = _; rw [mL_g, if_neg h], rfl⟩
theorem m_qTakes_v {kd f : Nat} (hk : kd < 6) (v : Int64) {a : Int64 × Bool} {z : MS} (h1 : mL z 101 = a.1) (h2 : mI z 102 = bI a.2) : ∃ z', m_qTakes (nI kd) v (nI f) z = some z' ∧ mL z' 101 = (sTk kd v f a).1 ∧ mI z' 102 = bI (sTk kd v f a).2 ∧ mAn z z' := by
  obtain ⟨L, b⟩ := a
  have h1 : mL z 101 = L := h1
  have h2 : mI z 102 = bI b := h2
  have bt : ¬ bI true = 0 := by decide
  have bf : bI false = 0 := by decide
  have same : ∃ z', some (wI z 102 (bI false)) = some z' ∧ mL z' 101 = L ∧ mI z' 102 = bI false ∧ mAn z z' := ⟨_, rfl, h1, mI_eq _ _ _, mAn.i z _⟩
  have put : ∀ x : Int64, ∃ z', some (wI (wL z 101 x) 102 (bI false)) = some z' ∧ mL z' 101 = x ∧ mI z' 102 = bI false ∧ mAn z z' := fun x => ⟨_, rfl, by show mL (wL z 101 x) 101 = x; rw [mL_g, if_pos rfl], mI_eq _ _ _, mAn.l z x _⟩
  have mL2 : ∀ x : Int64, mL (wL z 101 x) 101 = x := fun x => by rw [mL_g, if_pos rfl]
  unfold m_qTakes
  rcases (show kd = 0 ∨ kd = 1 ∨ kd = 2 ∨ kd = 3 ∨ kd = 4 ∨ kd = 5 by omega) with rfl | rfl | rfl | rfl | rfl | rfl
  · simp only [jn_s, nm_s, eq_false (show ¬ (3 : Int32) ≤ nI 0 by decide), eq_true (show nI 0 = (0 : Int32) from rfl), eq_false (show ¬ nI 0 = (1 : Int32) by decide), eq_false (show ¬ nI 0 = (2 : Int32) by decide), eq_false (show ¬ nI 0 = (3 : Int32) by decide), eq_true (show nI 0 ≤ (3 : Int32) by decide), if_true, if_false, if_neg bt, if_pos bf]
    show ∃ z', _ ∧ mL z' 101 = (if v = 1 ∧ L = -1 then (nI f).toInt64 else L) ∧ mI z' 102 = bI false ∧ _
    by_cases c : v = 1
    · rw [if_pos c, h1]
      by_cases c2 : L = -1
      · rw [if_pos c2, if_pos ⟨c, c2⟩]; exact put _
      · rw [if_neg c2, if_neg (fun g => c2 g.2)]; exact same
    · rw [if_neg c, if_neg (fun g => c g.1)]; exact same
  · simp only [jn_s, nm_s, eq_false (show ¬ (3 : Int32) ≤ nI 1 by decide), eq_false (show ¬ nI 1 = (0 : Int32) by decide), eq_true (show nI 1 = (1 : Int32) from rfl), eq_false (show ¬ nI 1 = (2 : Int32) by decide), eq_false (show ¬ nI 1 = (3 : Int32) by decide), eq_true (show nI 1 ≤ (3 : Int32) by decide), if_true, if_false, if_neg bt, if_pos bf]
    show ∃ z', _ ∧ mL z' 101 = (if v = 1 then (nI f).toInt64 else L) ∧ mI z' 102 = bI false ∧ _
    by_cases c : v = 1
    · rw [if_pos c, if_pos c]; exact put _
    · rw [if_neg c, if_neg c]; exact same
  · simp only [jn_s, nm_s, eq_false (show ¬ (3 : Int32) ≤ nI 2 by decide), eq_false (show ¬ nI 2 = (0 : Int32) by decide), eq_false (show ¬ nI 2 = (1 : Int32) by decide), eq_true (show nI 2 = (2 : Int32) from rfl), eq_false (show ¬ nI 2 = (3 : Int32) by decide), eq_true (show nI 2 ≤ (3 : Int32) by decide), if_true, if_false, if_neg bt, if_pos bf]
    show ∃ z', _ ∧ mL z' 101 = (if v = 1 then L + 1 else L) ∧ mI z' 102 = bI false ∧ _
    by_cases c : v = 1
    · rw [if_pos c, if_pos c, h1]; exact put _
    · rw [if_neg c, if_neg c]; exact same
  · simp only [jn_s, nm_s, eq_true (show (3 : Int32) ≤ nI 3 by decide), eq_false (show ¬ nI 3 = (0 : Int32) by decide), eq_false (show ¬ nI 3 = (1 : Int32) by decide), eq_false (show ¬ nI 3 = (2 : Int32) by decide), eq_true (show nI 3 = (3 : Int32) from rfl), eq_true (show nI 3 ≤ (3 : Int32) by decide), if_true, if_false, if_neg bt, if_pos bf]
    show ∃ z', _ ∧ mL z' 101 = L + v ∧ mI z' 102 = bI false ∧ _
    rw [h1]
    exact put _
  · simp only [jn_s, nm_s, eq_true (show (3 : Int32) ≤ nI 4 by decide), eq_false (show ¬ nI 4 = (0 : Int32) by decide), eq_false (show ¬ nI 4 = (1 : Int32) by decide), eq_false (show ¬ nI 4 = (2 : Int32) by decide), eq_false (show ¬ nI 4 = (3 : Int32) by decide), eq_false (show ¬ nI 4 ≤ (3 : Int32) by decide), eq_true (show nI 4 = (4 : Int32) from rfl), if_true, if_false, if_neg bt, if_pos bf]
    show ∃ z', _ ∧ mL z' 101 = (if b = true ∨ ¬ v ≤ L then v else L) ∧ mI z' 102 = bI false ∧ _
    rw [h2, h1]
    cases b with
    | true => rw [if_neg bt, if_pos (Or.inl rfl)]; exact put _
    | false =>
      rw [if_pos bf]
      by_cases c : v ≤ L
      · rw [if_pos c, if_neg (fun g => g.elim (fun g => by cases g) (fun g => g c))]; exact same
      · rw [if_neg c, if_pos (Or.inr c)]; exact put _
  · simp only [jn_s, nm_s, eq_true (show (3 : Int32) ≤ nI 5 by decide), eq_false (show ¬ nI 5 = (0 : Int32) by decide), eq_false (show ¬ nI 5 = (1 : Int32) by decide), eq_false (show ¬ nI 5 = (2 : Int32) by decide), eq_false (show ¬ nI 5 = (3 : Int32) by decide), eq_false (show ¬ nI 5 ≤ (3 : Int32) by decide), eq_false (show ¬ nI 5 = (4 : Int32) by decide), if_true, if_false, if_neg bt, if_pos bf]
    show ∃ z', _ ∧ mL z' 101 = (if b = true ∨ ¬ L ≤ v then v else L) ∧ mI z' 102 = bI false ∧ _
    rw [h2, h1]
    cases b with
    | true => rw [if_neg bt, if_pos (Or.inl rfl)]; exact put _
    | false =>
      rw [if_pos bf]
      by_cases c : L ≤ v
      · rw [if_pos c, if_neg (fun g => g.elim (fun g => by cases g) (fun g => g c))]; exact same
      · rw [if_neg c, if_pos (Or.inr c)]; exact put _
/-- the value of a question for fact f -/
def sQv (k : SK) (w : SW) (p f : Nat) (c : List Int32) : Int64 := match sRun (qP k w p f) (qB k w f) c [] with
  | some [v] => v
  | _ => 0
def sAsk (k : SK) (w : SW) (p kd : Nat) (c : List Int32) (n : Nat) : Int64 × Bool := itN (fun f a => sTk kd (sQv k w p f c) f a) n 0 (if 2 ≤ kd then 0 else -1, true)
def askW : List (List Nat) := [[102, 105, 114, 115, 116], [108, 97, 115, 116], [111, 102, 116, 101, 110], [116, 111, 116, 97, 108], [109, 111, 115, 116], [108, 101, 97, 115, 116]]
def rQst (n : Nat) (b : Nat → Nat) : RS (Nat × List Int32) := sbd (rWordJ n b (sSk n b 0)) fun v e => match fndW askW v.1 0 with
  | none => .inl (1, sSk n b 0)
  | some kd => sbd (if 3 ≤ kd then rSum n b 2 6 e else rTest n b 2 6 e) fun c e1 => if n ≤ sSk n b e1 then .inr ((kd, c), sSk n b e1) else .inl (1, sSk n b e1)
def spAsk (g : SG) (a : Int32) : Int64 × SG := if sPn (kP (gK g)) a = true then (match rQst (gT g) (gB g) with
  | .inl f => (-1000000000000000, uFt (uT g 0 (gB g)) (nI f.1, nI f.2))
  | .inr (q, _) => ((sAsk (gK g) (gW g) a.toNatClampNeg q.1 q.2 (kF (gK g))).1, uFt (uT g 0 (gB g)) (0, -1))) else (-1000000000000000, uT g 0 (gB g))
section RV
variable {n : Nat} {b : Nat → Nat}
/-- what kind of question -/
def rKd (n : Nat) (b : Nat → Nat) (j : Nat) : RS Nat := sbd (rWordJ n b j) fun v e => match fndW askW v.1 0 with
  | none => .inl (1, j)
  | some kd => .inr (kd, e)
theorem m_qKind_v {a : Nat} {z : MS} (h : mAt n b a z) (h5 : mI z 5 = 0) :
    ∃ r z', m_qKind z = some (r, z') ∧ mRd z z' ∧ match rKd n b (sSk n b a) with
      | .inl g => flt g z'
      | .inr (kd, e) => kd < 6 ∧ r = nI kd ∧ mAt n b e z' ∧ mI z' 5 = 0 := by
  have hs := h.sk
  have hj := sSk_id n b a
  have g5 : mI (wI z 2 (nI (sSk n b a))) 5 = 0 := by rw [mI_ne _ (by decide)]; exact h5
  have t68 := m_takes_v (w := 68) (W := [102, 105, 114, 115, 116]) rfl rfl (by decide) h h5
  unfold m_qKind
  rw [t68, bnd_s]
  have ed : ∀ e, mEd (wI z 2 (nI (sSk n b a))) e = mEd z e := fun e => by unfold mEd; rw [wI_wI]
  have rd := mRd.int z (k := 2) (by decide) (nI (sSk n b a))
  have zz : wI (wI z 2 (nI (sSk n b a))) 2 (nI (sSk n b a)) = wI z 2 (nI (sSk n b a)) := wI_wI _ _ _ _
  have hit : ∀ (W : List Nat) (kd : Nat), hB n b (sSk n b a) W = true → fndW askW W 0 = some kd → kd < 6 → rKd n b (sSk n b a) = .inr (kd, sWe n b (sSk n b a)) ∧ mAt n b (sWe n b (sSk n b a)) (mEd z (sWe n b (sSk n b a))) ∧ mI (mEd z (sWe n b (sSk n b a))) 5 = 0 := by
    intro W kd hW hf hk
    obtain ⟨v, v1, v2, -, -, v3, v4⟩ := hB_t hW
    refine ⟨?_, h.ed v4 (pv_we v3), by unfold mEd; rw [mI_ne _ (by decide), mI_ne _ (by decide)]; exact h5⟩
    unfold rKd
    rw [v1, sbd_r, v2, hf]
  generalize wI z 2 (nI (sSk n b a)) = z1 at hs g5 ed rd zz
  generalize sSk n b a = j at hs hj hit zz
  have tk : ∀ {w : Nat} {W : List Nat}, mW w = W.map nI → mN w = W.length → (∀ x, x ∈ W → x < 256) → m_takes w z1 = some (hB n b j W, if hB n b j W = true then mEd z (sWe n b j) else z1) := by
    intro w W q1 q2 q3
    have := m_takes_v q1 q2 q3 hs g5
    rw [hj, zz, ed] at this
    exact this
  have t69 := tk (w := 69) (W := [108, 97, 115, 116]) rfl rfl (by decide)
  have t70 := tk (w := 70) (W := [111, 102, 116, 101, 110]) rfl rfl (by decide)
  have t71 := tk (w := 71) (W := [116, 111, 116, 97, 108]) rfl rfl (by decide)
  have t72 := tk (w := 72) (W := [109, 111, 115, 116]) rfl rfl (by decide)
  simp only [jn_s]
  have done : ∀ (W : List Nat) (kd : Nat), hB n b j W = true → fndW askW W 0 = some kd → kd < 5 → ∃ r z', (if nI kd = 5 then bnv (m_asks 73 (mEd z (sWe n b j))) fun z3 => some (nI kd, z3) else some (nI kd, mEd z (sWe n b j))) = some (r, z') ∧ mRd z z' ∧ match rKd n b j with
      | .inl g => flt g z'
      | .inr (kd, e) => kd < 6 ∧ r = nI kd ∧ mAt n b e z' ∧ mI z' 5 = 0 := by
    intro W kd q1 q2 q3
    obtain ⟨w1, w2, w3⟩ := hit W kd q1 q2 (by omega)
    rw [if_neg (fun g => by have := (nI_eq (b := 5) (by omega) (by decide)).mp g; omega), w1]
    exact ⟨_, _, rfl, mRd.ed z _, by omega, rfl, w2, w3⟩
  cases c68 : hB n b j [102, 105, 114, 115, 116] with
  | true =>
    rw [if_neg (show ¬ bI true = 0 by decide), if_pos rfl]
    exact done _ 0 c68 (by decide) (by decide)
  | false =>
  rw [if_pos (show bI false = 0 by decide), if_neg (show ¬ (false = true) by decide), t69, bnd_s]
  cases c69 : hB n b j [108, 97, 115, 116] with
  | true =>
    rw [if_neg (show ¬ bI true = 0 by decide), if_pos rfl]
    exact done _ 1 c69 (by decide) (by decide)
  | false =>
  rw [if_pos (show bI false = 0 by decide), if_neg (show ¬ (false = true) by decide), t70, bnd_s]
  cases c70 : hB n b j [111, 102, 116, 101, 110] with
  | true =>
    rw [if_neg (show ¬ bI true = 0 by decide), if_pos rfl]
    exact done _ 2 c70 (by decide) (by decide)
  | false =>
  rw [if_pos (show bI false = 0 by decide), if_neg (show ¬ (false = true) by decide), t71, bnd_s]
  cases c71 : hB n b j [116, 111, 116, 97, 108] with
  | true =>
    rw [if_neg (show ¬ bI true = 0 by decide), if_pos rfl]
    exact done _ 3 c71 (by decide) (by decide)
  | false =>
  rw [if_pos (show bI false = 0 by decide), if_neg (show ¬ (false = true) by decide), t72, bnd_s]
  cases c72 : hB n b j [109, 111, 115, 116] with
  | true =>
    rw [if_neg (show ¬ bI true = 0 by decide), if_pos rfl]
    exact done _ 4 c72 (by decide) (by decide)
  | false =>
  have a73 := m_asks_v (w := 73) (W := [108, 101, 97, 115, 116]) rfl rfl (by decide) hs g5
  rw [hj, zz, ed] at a73
  rw [if_pos (show bI false = 0 by decide), if_neg (show ¬ (false = true) by decide), if_pos trivial, a73, bnv_s]
  cases c73 : hB n b j [108, 101, 97, 115, 116] with
  | true =>
    obtain ⟨w1, w2, w3⟩ := hit _ 5 c73 (by decide) (by decide)
    rw [if_pos rfl, w1]
    exact ⟨_, _, rfl, mRd.ed z _, by decide, rfl, w2, w3⟩
  | false =>
    rw [if_neg (show ¬ (false = true) by decide)]
    refine ⟨_, _, rfl, rd.tr (mRd.flt _ _ _), ?_⟩
    have e : rKd n b j = .inl (1, j) := by
      unfold rKd
      cases qw : rWordJ n b j with
      | inl g => rw [sbd_l, (rWordJ_l qw).1]
      | inr p =>
        obtain ⟨v, e⟩ := p
        rw [sbd_r]
        have ff : ∀ W : List Nat, hB n b j W = false → ¬ W = v.1 := by
          intro W hW e
          rw [hB_f qw, decide_eq_true e.symm] at hW
          cases hW
        unfold askW
        simp only [fndW, if_neg (ff _ c68), if_neg (ff _ c69), if_neg (ff _ c70), if_neg (ff _ c71), if_neg (ff _ c72), if_neg (ff _ c73)]
    rw [e]
    exact flt_of _ (by decide) _
end RV
