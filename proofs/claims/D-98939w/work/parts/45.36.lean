/-! PART 36: plain: the Model's ask -/
set_option maxRecDepth 100000
theorem sRun_val {k : SK} {w : SW} {p f : Nat} {c : List Int32} {v : Int64} (h : sRun (qP k w p f) (qB k w f) c [] = some [v]) : sQv k w p f c = v := by
  unfold sQv
  rw [h]
/-- what the loop over the facts answers -/
theorem m_ask_loop {k : SK} {w : SW} {z : MS} (h : mOk k w z) {p kd : Nat} {c : List Int32} (hp : p < kP k) (hk : kd < 6) (hb : c.length ≤ 1600) (hd : cDep (alOf 2) c 0 = some 1) (hno : no52 c) (hcE : mI z 94 = nI c.length) (hcC : ∀ j, j < c.length → mA z 93 j = c.getD j 0) (h55 : mI z 55 = nI p) (h52 : mI z 52 = nI 2) (h101 : mL z 101 = if 2 ≤ kd then 0 else -1) (h102 : mI z 102 = bI true) :
    ∃ z', fx (m_ask_L189 (nI kd) fun (z22 : MS) => some ((mL z22 101), z22)) (fun _ _ => none) FU 0 z = some ((sAsk k w p kd c (kF k)).1, z') ∧ (∀ a, a ≠ 100 → a ≠ 102 → mI z' a = mI z a) ∧ (∀ a, a ≠ 101 → mL z' a = mL z a) ∧ (∀ a, mA z' a = mA z a) ∧ ∀ a, a ≠ 99 → mB z' a = mB z a := by
  have h8 := h.1.1
  have fin : Ok (fx (m_ask_L189 (nI kd) fun (z22 : MS) => some ((mL z22 101), z22)) (fun _ _ => none) FU 0 z) (fun r => r.1 = (sAsk k w p kd c (kF k)).1 ∧ (∀ a, a ≠ 100 → a ≠ 102 → mI r.2 a = mI z a) ∧ (∀ a, a ≠ 101 → mL r.2 a = mL z a) ∧ (∀ a, mA r.2 a = mA z a) ∧ ∀ a, a ≠ 99 → mB r.2 a = mB z a) := by
    refine fx_okN (F := m_ask_L189 (nI kd) _) (z := fun _ _ => none) (fun s j (x : MS) => s (nI j) x) (kF k) (fun j x => mL x 101 = (sAsk k w p kd c j).1 ∧ mI x 102 = bI (sAsk k w p kd c j).2 ∧ (∀ a, a ≠ 100 → a ≠ 102 → mI x a = mI z a) ∧ (∀ a, a ≠ 101 → mL x a = mL z a) ∧ (∀ a, mA x a = mA z a) ∧ ∀ a, a ≠ 99 → mB x a = mB z a) _ ?_ ?_ FU 0 z (Nat.zero_le _) ⟨h101, h102, fun _ _ _ => rfl, fun _ _ => rfl, fun _ => rfl, fun _ _ => rfl⟩ (FU_gt (by omega))
    · rintro s j x hj ⟨g1, g2, g3, g4, g5, g6⟩ go
      have hx : mOk k w x := by
        refine ⟨h.1, h.2.1, ?_, ?_⟩
        · unfold mSK
          rw [g5, g5, g5, g5, g5, g5, g5]
          exact h.2.2.1
        · unfold mSW
          rw [g5]
          exact h.2.2.2
      show Ok (m_ask_L189 (nI kd) _ s (nI j) x) _
      unfold m_ask_L189
      rw [m_factMany_v hx, bnd_s, if_neg (nI_ge hj (by omega))]
      obtain ⟨v, x1, e1, e2, e3⟩ := m_qTold_v hx hp hj hb hd hno (by rw [g3 94 (by decide) (by decide)]; exact hcE) (fun i hi => by rw [g5]; exact hcC i hi) (by rw [g3 55 (by decide) (by decide)]; exact h55) (by rw [g3 52 (by decide) (by decide)]; exact h52)
      rw [e1, bnd_s]
      obtain ⟨x2, f1, f2, f3, f4⟩ := m_qTakes_v (f := j) hk v (a := sAsk k w p kd c j) (z := x1) (by show x1.2.1 101 = _; rw [e3.2.1]; exact g1) (by rw [e3.1 102 (by decide)]; exact g2)
      rw [f1, bnv_s, nI_1]
      have es : sAsk k w p kd c (j + 1) = sTk kd v j (sAsk k w p kd c j) := by
        unfold sAsk
        rw [itN_last, Nat.zero_add, sRun_val e2]
      refine go x2 ⟨by rw [es]; exact f2, by rw [es]; exact f3, fun a h1 h2 => ?_, fun a h1 => ?_, fun a => ?_, fun a h1 => ?_⟩
      · rw [f4.1 a h2, e3.1 a h1, g3 a h1 h2]
      · rw [f4.2.1 a h1]
        show x1.2.1 a = _
        rw [e3.2.1]
        exact g4 a h1
      · show x2.2.2.1 a = _
        rw [f4.2.2, e3.2.2.1]
        exact g5 a
      · show x2.2.2.2 a = _
        rw [f4.2.2]
        exact (e3.2.2.2 a h1).trans (g6 a h1)
    · rintro s x ⟨g1, g2, g3, g4, g5, g6⟩
      have hx : mOk k w x := by
        refine ⟨h.1, h.2.1, ?_, ?_⟩
        · unfold mSK
          rw [g5, g5, g5, g5, g5, g5, g5]
          exact h.2.2.1
        · unfold mSW
          rw [g5]
          exact h.2.2.2
      show Ok (m_ask_L189 (nI kd) _ s (nI (kF k)) x) _
      unfold m_ask_L189
      rw [m_factMany_v hx, bnd_s, if_pos (nI_le (Nat.le_refl _) (by omega))]
      exact Ok.of ⟨g1, g3, g4, g5, g6⟩
  obtain ⟨⟨v, z'⟩, e1, rfl, e3⟩ := fin
  exact ⟨z', e1, e3⟩
/-- all but the reader's and the question's own -/
def mQs (z z' : MS) : Prop := (∀ a, a ≠ 1 → a ≠ 2 → a ≠ 3 → a ≠ 4 → a ≠ 5 → a ≠ 6 → a ≠ 7 → a ≠ 8 → a ≠ 52 → a ≠ 55 → a ≠ 94 → a ≠ 96 → a ≠ 97 → a ≠ 98 → a ≠ 100 → a ≠ 102 → mI z' a = mI z a) ∧ (∀ a, a ≠ 101 → mL z' a = mL z a) ∧ (∀ a, a ≠ 93 → a ≠ 95 → mA z' a = mA z a) ∧ ∀ a, a ≠ 99 → mB z' a = mB z a
theorem mG.asked {g : SG} {z zf : MS} (h : mG g z) (hq : mQs z zf) (h1 : mI zf 1 = 0) {ft : Int32 × Int32} (hf : mI zf 7 = ft.1 ∧ mI zf 8 = ft.2) : mG (uFt (uT g 0 (gB g)) ft) zf := by
  refine h.told (R := gR g) (ft := ft) (fun a ha => hq.1 a (by omega) (by omega) (by omega) (by omega) (by omega) (by omega) (by omega) (by omega) (by omega) (by omega) (by omega) (by omega) (by omega) (by omega) (by omega) (by omega)) h1 (fun a i ha _ => ?_) (fun i _ => ?_) ?_ (fun i hi => ?_) hf
  · have n : a ≠ 93 ∧ a ≠ 95 := by
      refine ⟨?_, ?_⟩ <;> (rintro rfl; exact absurd ha (by show ¬ (false = true); decide))
    rw [hq.2.2.1 a n.1 n.2]
  · rw [hq.2.2.2 40 (by decide)]
  · exact hq.2.1 67 (by decide)
  · rw [hq.2.2.1 9 (by decide) (by decide)]
    exact h.2.2.2.2.2.2.2.2.1 i hi
noncomputable def qJ (a1 r2 : Int32) : MS → Option (Int64 × MS) := fun z15 =>
        nm (wI z15 7 (mI z15 5)) fun z16 =>
        nm (wI z16 8 (mI z16 6)) fun z17 =>
        if (mI z17 5) = 0 then
          jn (fun (x1 : Int64) (z18 : MS) =>
            nm (wL z18 101 x1) fun z19 =>
            nm (wI z19 102 (bI true)) fun z20 =>
            nm (wI z20 55 a1) fun z21 =>
            jn (fun (z22 : MS) =>
              some ((mL z22 101), z22)) fun k214 =>
            fx (m_ask_L189 r2 k214) (fun _ _ => none) FU 0 z21) fun j174 =>
          if 2 ≤ r2 then
            j174 0 z17
          else
            j174 ((-1)) z17
        else
          some (((-1000000000000000)), z17)
noncomputable def qJ1 (a1 r2 : Int32) : MS → Option (Int64 × MS) := fun z14 =>
      if (mI z14 5) = 0 then
        bnd (m_look z14) fun r5 z27 =>
        if r5 = (-1) then
          qJ a1 r2 z27
        else
          bnv (m_fail 1 (mI z27 2) z27) fun z28 =>
          qJ a1 r2 z28
      else
        qJ a1 r2 z14
noncomputable def qJ9 (a1 r2 : Int32) : MS → Option (Int64 × MS) := fun z29 =>
      if (mI z29 5) = 0 then
        bnv (m_qSums z29) fun z30 =>
        qJ1 a1 r2 z30
      else
        qJ1 a1 r2 z29
theorem m_ask_v {g : SG} {z : MS} (h : mG g z) (a : Int32) : Ok (m_ask a z) (fun r => r.1 = (spAsk g a).1 ∧ mG (spAsk g a).2 r.2) := by
  have hT := h.1.2.2.2.1
  have hB := h.1.2.2.2.2.1
  have hO := h.2.1
  have h8 := hO.1.2.1
  obtain ⟨t1, t2⟩ := h.2.2.2.2.2.2.2.1
  unfold m_ask spAsk
  rw [m_isPerson_s hO, bnd_s]
  cases ca : sPn (kP (gK g)) a with
  | false =>
    rw [if_pos (by decide), if_neg (by decide), nm_s]
    refine Ok.of ⟨rfl, ?_⟩
    have W := h.asked (zf := wI z 1 0) ⟨fun a h1 _ _ _ _ _ _ _ _ _ _ _ _ _ _ _ => mI_ne z h1 _, fun _ _ => rfl, fun _ _ _ => rfl, fun _ _ => rfl⟩ (mI_eq _ _ _) (ft := gFt g) ⟨by rw [mI_ne _ (by decide)]; exact h.2.2.2.2.2.2.2.2.2.1.1, by rw [mI_ne _ (by decide)]; exact h.2.2.2.2.2.2.2.2.2.1.2⟩
    exact W
  | true =>
  obtain ⟨p, hp, rfl⟩ := sPn_nat ca h8
  rw [if_neg (by decide), if_pos rfl, nI_c (show p < 2 ^ 31 by omega)]
  show Ok (bnd (m_qKind (wI (wI (wI (wI (wI (wI (wI (wI (wI (wI (wI z 3 (mI z 1)) 1 0) 2 0) 4 (-1)) 5 0) 6 (-1)) 52 2) 94 0) 96 0) 97 0) 98 0)) fun r2 z13 =>
    if (mI z13 5) = 0 then
      if 3 ≤ r2 then
        qJ9 (nI p) r2 z13
      else
        bnv (m_qTest z13) fun z31 =>
        qJ1 (nI p) r2 z31
    else
      qJ9 (nI p) r2 z13) _
  rw [t1]
  have H : ∃ z12, wI (wI (wI (wI (wI (wI (wI (wI (wI (wI (wI z 3 (nI (gT g))) 1 0) 2 0) 4 (-1)) 5 0) 6 (-1)) 52 2) 94 0) 96 0) 97 0) 98 0 = z12 ∧ (mI z12 3 = nI (gT g) ∧ mI z12 1 = 0 ∧ mI z12 2 = 0 ∧ mI z12 4 = -1 ∧ mI z12 5 = 0 ∧ mI z12 6 = -1 ∧ mI z12 52 = 2 ∧ mI z12 94 = 0 ∧ mI z12 96 = 0 ∧ mI z12 97 = 0 ∧ mI z12 98 = 0) ∧ (∀ a, a ≠ 3 → a ≠ 1 → a ≠ 2 → a ≠ 4 → a ≠ 5 → a ≠ 6 → a ≠ 52 → a ≠ 94 → a ≠ 96 → a ≠ 97 → a ≠ 98 → mI z12 a = mI z a) ∧ z12.2 = z.2 := by
    refine ⟨_, rfl, ⟨?_, ?_, ?_, ?_, ?_, ?_, ?_, ?_, ?_, ?_, ?_⟩, ?_, rfl⟩
    · simp [mI_w]
    · simp [mI_w]
    · simp [mI_w]
    · simp [mI_w]
    · simp [mI_w]
    · simp [mI_w]
    · simp [mI_w]
    · simp [mI_w]
    · simp [mI_w]
    · simp [mI_w]
    · simp [mI_w]
    · intro a h1 h2 h3 h4 h5 h6 h7 h8 h9 h10 h11
      simp [mI_w, h1, h2, h3, h4, h5, h6, h7, h8, h9, h10, h11]
  obtain ⟨z12, E12, ⟨i3, i1, i2, i4, i5, i6, i52, i94, i96, i97, i98⟩, I12, R12⟩ := H
  rw [E12]
  clear E12
  have A12 : ∀ a, mA z12 a = mA z a := fun a => by unfold mA; rw [R12]
  have B12 : ∀ a, mB z12 a = mB z a := fun a => by unfold mB; rw [R12]
  have L12 : ∀ a, mL z12 a = mL z a := fun a => by unfold mL; rw [R12]
  have mAt0 : mAt (gT g) (gB g) 0 z12 := by
    refine ⟨⟨hT, fun i hi => ⟨hB i hi, by rw [A12]; exact t2 i hi⟩, i3⟩, i2, Nat.zero_le _, fun a' _ ha' => ?_, i6⟩
    rw [i4]
    constructor
    · intro e
      exact absurd e.symm (nI_nm1 (by omega))
    · rintro ⟨-, e⟩
      exact absurd e (by unfold pv; simp)
  -- what is kept from z12 on
  have keep : ∀ zf, mQf z12 zf → mQs z (wI (wI zf 7 (mI zf 5)) 8 (mI (wI zf 7 (mI zf 5)) 6)) := by
    intro zf hf
    refine ⟨fun a h1 h2 h3 h4 h5 h6 h7 h8 h9 h10 h11 h12 h13 h14 h15 h16 => ?_, fun a _ => ?_, fun a h1 h2 => ?_, fun a _ => ?_⟩
    · rw [mI_ne _ h8, mI_ne _ h7, hf.1 a h2 h4 h5 h6 h11 h12 h13 h14, I12 a h3 h1 h2 h4 h5 h6 h9 h11 h12 h13 h14]
    · show zf.2.1 a = _
      rw [hf.2.1]
      exact L12 a
    · show mA zf a = _
      rw [hf.2.2.1 a h1 h2]
      exact A12 a
    · show zf.2.2.2 a = _
      rw [hf.2.2.2]
      exact B12 a
  -- a fault's answer
  have bad : ∀ (r : Int32) (ft : Nat × Nat) (zf : MS), mQf z12 zf → flt ft zf → Ok (qJ (nI p) r zf) (fun r => r.1 = (-1000000000000000 : Int64) ∧ mG (uFt (uT g 0 (gB g)) (nI ft.1, nI ft.2)) r.2) := by
    intro r ft zf hf hft
    have e5 : mI (wI (wI zf 7 (mI zf 5)) 8 (mI (wI zf 7 (mI zf 5)) 6)) 5 = mI zf 5 := by rw [mI_ne _ (by decide), mI_ne _ (by decide)]
    unfold qJ
    rw [nm_s, nm_s, e5, if_neg hft.ne]
    refine Ok.of ⟨rfl, h.asked (keep zf hf) ?_ ⟨?_, ?_⟩⟩
    · rw [mI_ne _ (by decide), mI_ne _ (by decide), hf.1 1 (by decide) (by decide) (by decide) (by decide) (by decide) (by decide) (by decide) (by decide)]; exact i1
    · rw [mI_ne _ (by decide), mI_eq]; exact hft.1
    · rw [mI_eq, mI_ne _ (by decide)]; exact hft.2.1
  have bad1 : ∀ (r : Int32) (ft : Nat × Nat) (zf : MS), mQf z12 zf → flt ft zf → Ok (qJ1 (nI p) r zf) (fun r => r.1 = (-1000000000000000 : Int64) ∧ mG (uFt (uT g 0 (gB g)) (nI ft.1, nI ft.2)) r.2) := by
    intro r ft zf hf hft
    unfold qJ1
    rw [if_neg hft.ne]
    exact bad r ft zf hf hft
  -- the answer
  have good : ∀ (kd j d : Nat) (c : List Int32) (z13 zf : MS), kd < 6 → mQf z12 z13 → mQ (gT g) (gB g) 2 z13 j [] c d 0 zf → c.length ≤ 1600 → cDep (alOf 2) c 0 = some 1 → no52 c → Ok (qJ (nI p) (nI kd) zf) (fun r => r.1 = (sAsk (gK g) (gW g) p kd c (kF (gK g))).1 ∧ mG (uFt (uT g 0 (gB g)) (0, -1)) r.2) := by
    intro kd j d c z13 zf hk f13 hq hc hd hno
    have ff := f13.tr hq.2.2.2.2
    have q6 : mI zf 6 = -1 := hq.1.2.2.2.2
    have q5 := hq.2.1
    have e5 : mI (wI (wI zf 7 (mI zf 5)) 8 (mI (wI zf 7 (mI zf 5)) 6)) 5 = 0 := by rw [mI_ne _ (by decide), mI_ne _ (by decide)]; exact q5
    have K := keep zf ff
    unfold qJ
    rw [nm_s, nm_s, if_pos e5, jn_s]
    have i7 : mI (wI (wI zf 7 (mI zf 5)) 8 (mI (wI zf 7 (mI zf 5)) 6)) 7 = 0 ∧ mI (wI (wI zf 7 (mI zf 5)) 8 (mI (wI zf 7 (mI zf 5)) 6)) 8 = -1 := ⟨by rw [mI_ne _ (by decide), mI_eq]; exact q5, by rw [mI_eq, mI_ne _ (by decide)]; exact q6⟩
    have ii : ∀ a, a ≠ 7 → a ≠ 8 → mI (wI (wI zf 7 (mI zf 5)) 8 (mI (wI zf 7 (mI zf 5)) 6)) a = mI zf a := fun a h1 h2 => by rw [mI_ne _ h2, mI_ne _ h1]
    have aa : ∀ a, mA (wI (wI zf 7 (mI zf 5)) 8 (mI (wI zf 7 (mI zf 5)) 6)) a = mA zf a := fun _ => rfl
    generalize wI (wI zf 7 (mI zf 5)) 8 (mI (wI zf 7 (mI zf 5)) 6) = z17 at e5 K i7 ii aa
    have go : ∀ x : Int64, x = (if 2 ≤ kd then 0 else -1) → Ok (nm (wL z17 101 x) fun z19 =>
            nm (wI z19 102 (bI true)) fun z20 =>
            nm (wI z20 55 (nI p)) fun z21 =>
            jn (fun (z22 : MS) =>
              some ((mL z22 101), z22)) fun k214 =>
            fx (m_ask_L189 (nI kd) k214) (fun _ _ => none) FU 0 z21) (fun r => r.1 = (sAsk (gK g) (gW g) p kd c (kF (gK g))).1 ∧ mG (uFt (uT g 0 (gB g)) (0, -1)) r.2) := by
      intro x hx
      rw [nm_s, nm_s, nm_s, jn_s]
      have ji : ∀ a, a ≠ 102 → a ≠ 55 → mI (wI (wI (wL z17 101 x) 102 (bI true)) 55 (nI p)) a = mI z17 a := fun a h1 h2 => by rw [mI_ne _ h2, mI_ne _ h1]; rfl
      have ja : ∀ a, a ≠ 93 → a ≠ 95 → mA (wI (wI (wL z17 101 x) 102 (bI true)) 55 (nI p)) a = mA z a := fun a h1 h2 => K.2.2.1 a h1 h2
      have ok21 : mOk (gK g) (gW g) (wI (wI (wL z17 101 x) 102 (bI true)) 55 (nI p)) := by
        refine ⟨hO.1, hO.2.1, ?_, ?_⟩
        · unfold mSK
          rw [ja 39 (by decide) (by decide), ja 41 (by decide) (by decide), ja 42 (by decide) (by decide), ja 46 (by decide) (by decide), ja 47 (by decide) (by decide), ja 48 (by decide) (by decide), ja 49 (by decide) (by decide)]
          exact hO.2.2.1
        · unfold mSW
          rw [ja 53 (by decide) (by decide)]
          exact hO.2.2.2
      obtain ⟨z', y1, y2, y3, y4, y5⟩ := m_ask_loop ok21 hp hk hc hd hno (by rw [ji 94 (by decide) (by decide), ii 94 (by decide) (by decide)]; exact hq.2.2.2.1.1) (fun j hj => (show mA zf 93 j = _ from hq.2.2.2.1.2.1 j hj) ▸ (by show mA z17 93 j = mA zf 93 j; rw [aa])) (mI_eq _ _ _) (by rw [ji 52 (by decide) (by decide), ii 52 (by decide) (by decide)]; exact hq.2.2.1) (by show mL (wL z17 101 x) 101 = _; rw [mL_g, if_pos rfl]; exact hx) (by rw [mI_ne _ (by decide), mI_eq])
      refine ⟨_, y1, rfl, h.asked ⟨fun a h1 h2 h3 h4 h5 h6 h7 h8 h9 h10 h11 h12 h13 h14 h15 h16 => ?_, fun a h1 => ?_, fun a h1 h2 => ?_, fun a h1 => ?_⟩ ?_ ⟨?_, ?_⟩⟩
      · rw [y2 a h15 h16, ji a h16 h10]
        exact K.1 a h1 h2 h3 h4 h5 h6 h7 h8 h9 h10 h11 h12 h13 h14 h15 h16
      · rw [y3 a h1]
        show mL (wL z17 101 x) a = _
        rw [mL_g, if_neg h1]
        exact K.2.1 a h1
      · rw [y4 a]
        exact ja a h1 h2
      · rw [y5 a h1]
        exact K.2.2.2 a h1
      · rw [y2 1 (by decide) (by decide), ji 1 (by decide) (by decide), ii 1 (by decide) (by decide), ff.1 1 (by decide) (by decide) (by decide) (by decide) (by decide) (by decide) (by decide) (by decide)]
        exact i1
      · rw [y2 7 (by decide) (by decide), ji 7 (by decide) (by decide)]; exact i7.1
      · rw [y2 8 (by decide) (by decide), ji 8 (by decide) (by decide)]; exact i7.2
    have e2 : ((2 : Int32) ≤ nI kd) ↔ 2 ≤ kd := nI_leI (a := 2) (by decide) (by omega)
    by_cases c2 : 2 ≤ kd
    · rw [if_pos (e2.mpr c2)]
      exact go 0 (by rw [if_pos c2])
    · rw [if_neg (fun g => c2 (e2.mp g))]
      exact go (-1) (by rw [if_neg c2])
  obtain ⟨r2, z13, e13, d13, M13⟩ := m_qKind_v mAt0 i5
  rw [e13, bnd_s]
  have f13 := d13.qf
  have rq : rQst (gT g) (gB g) = sbd (rKd (gT g) (gB g) (sSk (gT g) (gB g) 0)) fun kd e => sbd (if 3 ≤ kd then rSum (gT g) (gB g) 2 6 e else rTest (gT g) (gB g) 2 6 e) fun c e1 => if gT g ≤ sSk (gT g) (gB g) e1 then .inr ((kd, c), sSk (gT g) (gB g) e1) else .inl (1, sSk (gT g) (gB g) e1) := by
    unfold rQst rKd
    cases qw : rWordJ (gT g) (gB g) (sSk (gT g) (gB g) 0) with
    | inl g => rfl
    | inr p =>
      obtain ⟨v, e⟩ := p
      rw [sbd_r, sbd_r]
      cases fndW askW v.1 0 with
      | none => rfl
      | some kd => rfl
  rw [rq]
  -- behind the question: nothing more may come
  have tl : ∀ (kd e d : Nat) (c : List Int32) (zf : MS), kd < 6 → mQ (gT g) (gB g) 2 z13 e [] c d 0 zf → c.length ≤ 1600 → cDep (alOf 2) c 0 = some 1 → no52 c → Ok (qJ1 (nI p) (nI kd) zf) (fun r => r.1 = (match (if gT g ≤ sSk (gT g) (gB g) e then .inr ((kd, c), sSk (gT g) (gB g) e) else .inl (1, sSk (gT g) (gB g) e) : RS (Nat × List Int32)) with
      | .inl f => ((-1000000000000000 : Int64), uFt (uT g 0 (gB g)) (nI f.1, nI f.2))
      | .inr (q, _) => ((sAsk (gK g) (gW g) p q.1 q.2 (kF (gK g))).1, uFt (uT g 0 (gB g)) (0, -1))).1 ∧ mG (match (if gT g ≤ sSk (gT g) (gB g) e then .inr ((kd, c), sSk (gT g) (gB g) e) else .inl (1, sSk (gT g) (gB g) e) : RS (Nat × List Int32)) with
      | .inl f => ((-1000000000000000 : Int64), uFt (uT g 0 (gB g)) (nI f.1, nI f.2))
      | .inr (q, _) => ((sAsk (gK g) (gW g) p q.1 q.2 (kF (gK g))).1, uFt (uT g 0 (gB g)) (0, -1))).2 r.2) := by
    intro kd e d c zf hk hq hc hd hno
    unfold qJ1
    rw [if_pos hq.2.1, m_look_v hq.1, bnd_s]
    have hs := hq.sk
    by_cases ce : gT g ≤ sSk (gT g) (gB g) e
    · rw [if_pos ((rI_m1 hq.1.1 _).mpr ce)]
      simp only [if_pos ce]
      exact good kd _ d c z13 _ hk f13 hs hc hd hno
    · rw [if_neg (fun q => ce ((rI_m1 hq.1.1 _).mp q))]
      simp only [if_neg ce]
      rw [mI_eq, show (1 : Int32) = nI 1 from rfl, m_fail_v hs.2.1, bnv_s]
      exact bad (nI kd) (1, sSk (gT g) (gB g) e) _ ((f13.tr hs.2.2.2.2).tr (mRd.flt _ _ _).qf) (flt_of _ (by decide) _)
  cases qk : rKd (gT g) (gB g) (sSk (gT g) (gB g) 0) with
  | inl ft =>
    rw [qk] at M13
    have M13 : flt ft z13 := M13
    rw [if_neg M13.ne, sbd_l]
    unfold qJ9
    rw [if_neg M13.ne]
    exact bad1 r2 ft z13 f13 M13
  | inr pp =>
    obtain ⟨kd, e⟩ := pp
    rw [qk] at M13
    obtain ⟨hk, rfl, m1, m2⟩ := M13
    rw [if_pos m2, sbd_r]
    have Q : mQ (gT g) (gB g) 2 z13 e [] [] 0 0 z13 := by
      refine ⟨m1, m2, ?_, ⟨?_, fun j hj => absurd hj (Nat.not_lt_zero _), ?_, fun j hj => absurd hj (Nat.not_lt_zero _), ?_, ?_, by decide, by decide⟩, mQf.rf _⟩
      · rw [d13.1 52 (by decide) (by decide) (by decide) (by decide)]; exact i52
      · rw [d13.1 94 (by decide) (by decide) (by decide) (by decide)]; exact i94
      · rw [d13.1 96 (by decide) (by decide) (by decide) (by decide)]; exact i96
      · rw [d13.1 97 (by decide) (by decide) (by decide) (by decide)]; exact i97
      · rw [d13.1 98 (by decide) (by decide) (by decide) (by decide)]; exact i98
    have e3 : ((3 : Int32) ≤ nI kd) ↔ 3 ≤ kd := nI_leI (a := 3) (by decide) (by omega)
    by_cases c3 : 3 ≤ kd
    · rw [if_pos (e3.mpr c3), if_pos c3]
      unfold qJ9
      rw [if_pos m2]
      have S := m_qSums_v (by decide) (fun x τ e => by cases e) Q (by show 0 + 0 ≤ e; omega)
      cases qs : rSum (gT g) (gB g) 2 (6 - 0) e with
      | inl ft =>
        rw [qs] at S
        obtain ⟨z30, s1, s2⟩ := S
        rw [s1, bnv_s, sbd_l]
        exact bad1 (nI kd) ft z30 (f13.tr s2.2.2.2.2) ⟨s2.1, s2.2.1, s2.2.2.1⟩
      | inr pp =>
        obtain ⟨c, e1⟩ := pp
        rw [qs] at S
        obtain ⟨z30, s1, s2, s3, s4⟩ := S
        rw [List.nil_append] at s2 s3
        have he := s2.1.2.2.1
        rw [s1, bnv_s, sbd_r]
        exact tl kd e1 0 c z30 hk s2 (by omega) (rSum_cd1 qs) (rSum_no _ _ _ _ _ _ _ qs)
    · rw [if_neg (fun q => c3 (e3.mp q)), if_neg c3]
      have S := m_qTest_v (by decide) Q
      cases qs : rTest (gT g) (gB g) 2 6 e with
      | inl ft =>
        rw [qs] at S
        obtain ⟨z30, s1, s2⟩ := S
        rw [s1, bnv_s, sbd_l]
        rcases s2 with s2 | ⟨u1, u2, u3, u4, C', d', u5, u6⟩
        · exact bad1 (nI kd) ft z30 (f13.tr s2.2.2.2.2) ⟨s2.1, s2.2.1, s2.2.2.1⟩
        · unfold qJ1
          have hlt := isL_lt u2
          rw [if_pos u5.2.1, m_look_j u5.1 u4, bnd_s, if_neg (fun q => by have := (rI_m1 u5.1.1 _).mp q; omega), u5.1.2.1, show (1 : Int32) = nI 1 from rfl, m_fail_v u5.2.1, bnv_s]
          have F := flt_of z30 (k := 1) (by decide) ft.2
          have W := bad (nI kd) (1, ft.2) (mFlt z30 1 ft.2) ((f13.tr u5.2.2.2.2).tr (mRd.flt _ _ _).qf) F
          rw [show ft = (1, ft.2) from by rw [← u1]]
          exact W
      | inr pp =>
        obtain ⟨c, e1⟩ := pp
        rw [qs] at S
        obtain ⟨z30, s1, s2, s3, s4⟩ := S
        have he := s2.1.2.2.1
        rw [s1, bnv_s, sbd_r]
        exact tl kd e1 0 c z30 hk s2 (by omega) (rTest_cd qs) (rTest_no _ _ _ _ _ _ _ qs)
