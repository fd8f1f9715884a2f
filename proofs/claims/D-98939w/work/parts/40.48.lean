/-! PART 48: plain: the component: examines, passes, years -/
set_option maxRecDepth 100000
/-- the State at s holds all that is -/
def cAll (B : Nat) (k : SK) (w : SW) (s : Nat) (c : CZ) : Prop := wOk k w ∧ cSt k w s c ∧ cRw B (wK w) s c
theorem sSit_ok {k : SK} {w : SW} (h : wOk k w) {p : Nat} (hp : p < kP k) : wOk k (sSit k w p) := by
  unfold sSit
  split
  · exact h
  · split
    · exact (h.bec hp (b := 0) (by decide))
    · have := (h.2.2 p hp).2.2.2.2.1
      exact h.left (by omega)
theorem sExa_ok {k : SK} {w : SW} (h : wOk k w) (ill : Nat) (n : Nat) (hn : n ≤ kP k) : wOk k (itN (sExaS k ill) n 0 w) := by
  refine itN_inv (Inv := fun _ v => wOk k v) (m := kP k) (fun j v hj hv => ?_) n 0 w (by omega) h
  unfold sExaS
  split
  · exact hv
  · exact sSit_ok hv hj
theorem sDoc_ok {k : SK} {w : SW} (h : wOk k w) (n : Nat) (hn : n ≤ kP k) : wOk k (itN (sDocS k) n 0 w) := by
  refine itN_inv (Inv := fun _ v => wOk k v) (m := kP k) (fun j v hj hv => ?_) n 0 w (by omega) h
  unfold sDocS
  split
  · exact hv
  · split
    · exact (hv.bec hj (b := 1) (by decide))
    · exact hv
theorem sYear_ok {k : SK} {w : SW} (hk : kOk k) (h : wOk k w) (ill : Nat) (hy : wY w < 2000) : wOk k (sYear k w ill) := by
  have h1 : wOk k (sDoc k (sExa k ill (sTau k w ill))) := sDoc_ok (sExa_ok (sTau_ok hk h ill _ (Nat.le_refl _)) ill _ (Nat.le_refl _)) _ (Nat.le_refl _)
  have hyy : wY (sDoc k (sExa k ill (sTau k w ill))) = wY w := by
    unfold sDoc sExa sTau
    rw [(sDoc_fr k _ _).1, (sExa_fr k _ _ _).1, (sTau_fr k w ill _).2.2.2.1]
  exact ⟨h1.1, by show wY (sDoc k (sExa k ill (sTau k w ill))) + 1 ≤ 2000; omega, h1.2.2⟩
section EX
variable {D : PD} {B : Nat} {k : SK} {nm : Nat → Nat → List Nat} {c : CZ} {h0 : PH} {w : SW} {s : Nat}
theorem cAll.mo {c c' : CZ} (h : cAll B k w s c) (g : cMo c c') : cAll B k w s c' := ⟨h.1, g.st h.2.1, g.rw' h.2.2⟩
theorem cRw.i {l : List (Nat × Nat × Nat)} {c : CZ} (h : cRw B l s c) {o i : Nat} (ho : o < s ∨ (o = s ∧ i ≠ 3) ∨ (s < o ∧ o < s + 6) ∨ s + 36 ≤ o) (v : Int32) : cRw B l s (xI c o i v) := by
  obtain ⟨g1, g2, π, g3, g4, g5, g6⟩ := h
  refine ⟨g1, by rw [cI_x, if_neg (by omega)]; exact g2, π, g3, g4, fun j hj => by rw [cQ_xI]; exact g5 j hj, fun j hj => ?_⟩
  have p30 := g3 j (by omega)
  rw [cI_x, if_neg (by omega), cI_x, if_neg (by omega), cI_x, if_neg (by omega)]
  exact g6 j hj
theorem x_examines (hD : ∃ q, dS D 7 = va_rf q) (hx : cSc B k nm c h0) (hs : isS s) (ha : cAll B k w s c) {ill : Nat} (hi : ill < 256) : ∃ c', fX5_examines D (B + s) (nI ill) (mk B c h0) = some (mk B c' h0) ∧ cFr s c c' ∧ cAll B k (sExa k ill w) s c' := by
  have h8 := hx.1.2.1
  have fin : Ok (fX5_examines D (B + s) (nI ill) (mk B c h0)) (fun r => ∃ c', r = mk B c' h0 ∧ cFr s c c' ∧ cAll B k (sExa k ill w) s c') := by
    unfold fX5_examines
    refine fx_okN (F := fX5_examines_L2 D (B + s) (nI ill)) (z := fun _ _ => none) (fun g j (b : CZ) => g (nI j) (mk B b h0)) (kP k) (fun j b => cFr s c b ∧ cAll B k (itN (sExaS k ill) j 0 w) s b) _ ?_ ?_ FU 0 c (Nat.zero_le _) ⟨cFr.rf s c, ha⟩ (FU_gt (by omega))
    · rintro g j b hj ⟨hb, ab⟩ go
      have xb := hb.sc hs hx
      rw [itN_S] at go
      generalize itN (sExaS k ill) j 0 w = v at ab go
      obtain ⟨hw, tb, rb⟩ := ab
      have wl := sWho_lt v (kP k) 0 h8
      have lj := (hw.2.2 j hj).2.2.2.2.1
      have in8 : inb (nI j) 8 = true := inb_nI (by omega) (by decide)
      have nc : (nI j).toNatClampNeg = j := nI_c (by omega)
      have skip : ∀ b', cMo b b' → sExaS k ill j v = v → Ok (g (nI j + 1) (mk B b' h0)) (fun r => ∃ c', r = mk B c' h0 ∧ cFr s c c' ∧ cAll B k (sExa k ill w) s c') := fun b' h1 h2 => by
        rw [h2] at go
        rw [nI_1]
        exact go b' ⟨hb.tr h1.fr, hw, h1.st tb, h1.rw' rb⟩
      show Ok (fX5_examines_L2 D (B + s) (nI ill) g (nI j) (mk B b h0)) _
      unfold fX5_examines_L2
      have hbit : (sWho v (kP k) 0 ||| ill).testBit j = ((wF v j).testBit 0 || ill.testBit j) := by
        rw [Nat.testBit_or, sWho_bit v 0 (kP k) h8 j (by omega), decide_eq_true hj, Bool.true_and]
      rw [st_F11 hs, vA_s, x0_cls, ckc_s, x_people xb, bnd_s, if_neg (nI_ge hj (by omega)), st_F1 hs, vI_s, tb.2.1, nI_or, has_v (or_256 wl hi) (by omega), bnd_s, hbit]
      simp only [jn_s]
      cases vi : ill.testBit j with
      | true =>
        rw [Bool.or_true, if_neg (by decide)]
        refine skip b (cMo.rf b) ?_
        unfold sExaS
        rw [if_pos vi]
      | false =>
      have hE : sExaS k ill j v = sSit k v j := by unfold sExaS; rw [if_neg (by rw [vi]; decide)]
      rw [hE] at go skip
      rw [Bool.or_false]
      unfold sSit at go skip
      cases vp : (wF v j).testBit 0 with
      | true =>
        rw [if_neg (by decide)]
        exact skip b (cMo.rf b) (by rw [if_pos (Or.inl vp)])
      | false =>
      rw [if_pos (by decide), st_F7 hs, vA_s, st_l hs tb hj h8, ob_s]
      by_cases cl : wL' v j = 0
      · rw [if_pos (by rw [cl]; rfl)]
        exact skip b (cMo.rf b) (by rw [if_pos (Or.inr (Or.inl cl))])
      rw [if_neg (nI_ne0 (by omega) (by omega))]
      obtain ⟨sa, q, f0, f1, hq⟩ := sc_test xb (i := 2) (by decide)
      -- he sits
      have sit : ∀ b', cMo b b' → sHo k v 2 j 0 = true → Ok (ckc (pCls (mk B b' h0) (B + s)) 5 <|
          bnd (fX5_marks (B + s) (nI j) (mk B b' h0)) fun r3 h6 =>
          vA (pF h6 (B + s) 5 11) fun p5 =>
          vA (pF h6 p5 0 0) fun p6 =>
          vI (pF h6 p6 1 1) fun v3 =>
          if r3 < v3 then
            vA (pF h6 (B + s) 5 7) fun p7 =>
            ob (pLd h6 p7 0 (nI j)) fun v4 =>
            bnv (pSt h6 p7 0 (nI j) (v4 - 1)) fun h7 =>
            g (nI j + 1) h7
          else
            vI (pF h6 (B + s) 5 1) fun v5 =>
            bnv (pPut h6 (B + s) 5 1 (.int (v5 ||| ((1 : Int32) <<< (nI j &&& 31))))) fun h8 =>
            ckc (pCls h8 (B + s)) 5 <|
            bnv (fX5_tells (B + s) (nI j) 1 h8) fun h9 =>
            g (nI j + 1) h9) (fun r => ∃ c', r = mk B c' h0 ∧ cFr s c c' ∧ cAll B k (sExa k ill w) s c') := by
        intro b' hm hh
        have tb' := hm.st tb
        have rb' := hm.rw' rb
        have xb' := hm.sc xb
        rw [if_neg (by rw [vp, hh]; simp [cl])] at go
        obtain ⟨sa', f0', g0, b0, st, fl, pl, tq, fo, po, g1, -⟩ := xb'.F0
        rw [st_cls hs, ckc_s, x_marks xb' hs hw tb' hj, bnd_s, st_F11 hs, vA_s, f0', vA_s, pF_of (k := 1) g1 rfl, vI_s]
        by_cases cm : sMk k v j < nI (kSe k 0)
        · have cm' : ¬ nI (kSe k 0) ≤ sMk k v j := Int32.not_le.mpr cm
          rw [if_neg cm'] at go
          rw [if_pos cm, st_F7 hs, vA_s, st_l hs tb' hj h8, ob_s, Nat.add_assoc B s 4, (st_k4 hs).st b' h0 in8, bnv_s, nc, nI_m1 (by omega), nI_1]
          refine go _ ⟨(hb.tr hm.fr).tr (cFr.x b' (by omega) _ _), hw.left (by omega), ⟨?_, ?_, ?_, fun p hp => ⟨?_, ?_, ?_, ?_⟩⟩, rb'.i (by omega) _⟩
          · rw [cI_x, if_neg (by omega)]; exact tb'.1
          · rw [cI_x, if_neg (by omega)]; exact tb'.2.1
          · rw [cI_x, if_neg (by omega)]; exact tb'.2.2.1
          · rw [cI_x, if_neg (by omega)]; exact (tb'.2.2.2 p hp).1
          · rw [cI_x, if_neg (by omega)]; exact (tb'.2.2.2 p hp).2.1
          · rw [cI_x, if_neg (by omega)]; exact (tb'.2.2.2 p hp).2.2.1
          · rw [cI_x, wL_u]
            by_cases e : p = j
            · rw [if_pos ⟨rfl, e⟩, if_pos e]
            · rw [if_neg (fun q => e q.2), if_neg e]; exact (tb'.2.2.2 p hp).2.2.2
        · have cm' : nI (kSe k 0) ≤ sMk k v j := Int32.not_lt.mp cm
          rw [if_pos cm'] at go
          rw [if_neg cm, st_F1 hs, vI_s, tb'.2.1, s_or _ wl j (by omega), st_p1 hs, bnv_s, st_cls hs, ckc_s]
          have hf4 : ∀ q, q < kP k → wF v q < 4 := fun q hq => (hw.2.2 q hq).2.2.2.2.2
          have e0 := sWho_bec (w := v) (b := 0) (b' := 0) h8 hj hf4 (by decide) (by decide)
          have e1 := sWho_bec (w := v) (b := 0) (b' := 1) h8 hj hf4 (by decide) (by decide)
          rw [if_pos rfl] at e0
          rw [if_neg (by decide)] at e1
          generalize hz : xI b' s 1 (nI (sWho v (kP k) 0 ||| 2 ^ j)) = e
          have te : cSt k (sBec v j 0) s e := by
            rw [← hz]
            refine ⟨?_, ?_, ?_, fun p hp => ⟨?_, ?_, ?_, ?_⟩⟩
            · rw [cI_x, if_neg (by omega)]; exact tb'.1
            · rw [cI_x, if_pos ⟨rfl, rfl⟩, e0]
            · rw [cI_x, if_neg (by omega), e1]; exact tb'.2.2.1
            · rw [cI_x, if_neg (by omega)]; exact (tb'.2.2.2 p hp).1
            · rw [cI_x, if_neg (by omega)]; exact (tb'.2.2.2 p hp).2.1
            · rw [cI_x, if_neg (by omega)]; exact (tb'.2.2.2 p hp).2.2.1
            · rw [cI_x, if_neg (by omega)]; exact (tb'.2.2.2 p hp).2.2.2
          have re : cRw B (wK (sBec v j 0)) s e := by rw [← hz]; exact rb'.i (by omega) _
          have fe : cFr s c e := (hb.tr hm.fr).tr (by rw [← hz]; exact cFr.x b' (by omega) _ _)
          obtain ⟨e', q1, q2, q3⟩ := x_tells (h0 := h0) hs j 1 re te.1
          have q1 : fX5_tells (B + s) (nI j) 1 (mk B e h0) = some (mk B e' h0) := q1
          rw [q1, bnv_s, nI_1]
          exact go e' ⟨fe.tr q2.fr, hw.bec hj (b := 0) (by decide), q2.st te, q3⟩
      rw [st_F11 hs, vA_s, f0, vA_s, f1, vQ_s]
      rcases hq with ⟨rfl, q2⟩ | ⟨code, t, rfl, q2, q3⟩
      · rw [qC_n]
        exact sit b (cMo.rf b) (sHo_none q2)
      · obtain ⟨b', e1, e2⟩ := x_holds_n hD xb hs hw tb hj q2 q3
        rw [qC_s, vA_s, f0, vA_s, f1, vQ_s, qS_s, st_cls hs, ckc_s, e1, bnd_s]
        cases hh : sHo k v 2 j 0 with
        | false =>
          rw [if_pos (by decide)]
          exact skip b' e2 (by rw [if_pos (Or.inr (Or.inr hh))])
        | true =>
          rw [if_neg (by decide)]
          exact sit b' e2 hh
    · rintro g b ⟨hb, ab⟩
      have xb := hb.sc hs hx
      show Ok (fX5_examines_L2 D (B + s) (nI ill) g (nI (kP k)) (mk B b h0)) _
      unfold fX5_examines_L2
      rw [st_F11 hs, vA_s, x0_cls, ckc_s, x_people xb, bnd_s, if_pos (nI_le (Nat.le_refl _) (by omega))]
      exact Ok.of ⟨b, rfl, hb, ab⟩
  obtain ⟨r, e, c', rfl, q1, q2⟩ := fin
  exact ⟨c', e, q1, q2⟩
end EX
/-- masters of masters of those who passed -/
def sSetS (w : SW) (q a : Nat) : Nat := if (wF w q).testBit 0 = true ∧ wM w q ≠ 0 ∧ wM w (wM w q - 1) ≠ 0 then a ||| 2 ^ (wM w (wM w q - 1) - 1) else a
def sSet (w : SW) (n : Nat) : Nat := itN (sSetS w) n 0 0
theorem sSet_S (w : SW) (n : Nat) : sSet w (n + 1) = sSetS w n (sSet w n) := itN_S _ _ _
theorem sSet_lt {k : SK} {w : SW} (hk : kOk k) (h : wOk k w) : ∀ n, n ≤ kP k → sSet w n < 256
  | 0, _ => by show 0 < 256; decide
  | n + 1, hn => by
    have h8 := hk.2.1
    have ih := sSet_lt hk h n (by omega)
    have m1 := (h.2.2 n (by omega)).1
    rw [sSet_S]
    unfold sSetS
    split
    next c =>
      have m2 := (h.2.2 (wM w n - 1) (by omega)).1
      exact s_orlt _ ih _ (by omega)
    next => exact ih
theorem sSet_bit {k : SK} {w : SW} (hk : kOk k) (h : wOk k w) {p : Nat} (hp : p < 8) : ∀ n, n ≤ kP k → (sSet w n).testBit p = sMM w n p
  | 0, _ => by show (0 : Nat).testBit p = _; simp [sMM]
  | n + 1, hn => by
    have h8 := hk.2.1
    have ih := sSet_bit hk h hp n (by omega)
    have lt := sSet_lt hk h n (by omega)
    have m1 := (h.2.2 n (by omega)).1
    have e : sMM w (n + 1) p = (sMM w n p || ((wF w n).testBit 0 && decide (wM w n ≠ 0) && decide (wM w (wM w n - 1) = p + 1))) := by
      unfold sMM
      rw [List.range_succ, List.any_append]
      simp
    rw [sSet_S, e]
    unfold sSetS
    split
    next c =>
      have m2 := (h.2.2 (wM w n - 1) (by omega)).1
      rw [s_ort _ lt _ (by omega) p hp, ih, c.1, decide_eq_true c.2.1]
      congr 1
      show _ = decide (wM w (wM w n - 1) = p + 1)
      by_cases q : wM w (wM w n - 1) = p + 1
      · rw [decide_eq_true q, decide_eq_true (by omega)]
      · rw [decide_eq_false q, decide_eq_false (by have := c.2.2; omega)]
    next c =>
      rw [ih]
      have : ((wF w n).testBit 0 && decide (wM w n ≠ 0) && decide (wM w (wM w n - 1) = p + 1)) = false := by
        cases a1 : (wF w n).testBit 0 with
        | false => rfl
        | true =>
          by_cases a2 : wM w n = 0
          · rw [decide_eq_false (show ¬ wM w n ≠ 0 from fun q => q a2)]; rfl
          · have : ¬ wM w (wM w n - 1) = p + 1 := fun q => c ⟨a1, a2, by omega⟩
            rw [decide_eq_false this, Bool.and_false]
      rw [this, Bool.or_false]
theorem and_not (x y : Nat) (hx : x < 256) : nI x &&& (nI y ^^^ (-1)) = nI (x &&& (255 ^^^ y)) := by
  apply Int32.toBitVec_inj.mp
  show BitVec.ofNat 32 x &&& (BitVec.ofNat 32 y ^^^ BitVec.allOnes 32) = BitVec.ofNat 32 (x &&& (255 ^^^ y))
  apply BitVec.eq_of_getLsbD_eq
  intro i hi
  have t8 : ¬ i < 8 → x.testBit i = false := fun h => Nat.testBit_lt_two_pow (Nat.lt_of_lt_of_le hx (by
    have := Nat.pow_le_pow_right (n := 2) (by decide) (show 8 ≤ i by omega)
    simpa using this))
  have t255 : i < 8 → (255 : Nat).testBit i = true := fun h => by
    have : ∀ j, j < 8 → (255 : Nat).testBit j = true := by decide
    exact this i h
  simp only [BitVec.getLsbD_and, BitVec.getLsbD_xor, BitVec.getLsbD_ofNat, BitVec.getLsbD_allOnes, hi, decide_true, Bool.true_and, Nat.testBit_and, Nat.testBit_xor]
  by_cases h : i < 8
  · rw [t255 h]
    cases y.testBit i <;> rfl
  · rw [t8 h, Bool.false_and, Bool.false_and]
theorem xor255_bit {y j : Nat} (hj : j < 8) : (255 ^^^ y).testBit j = !y.testBit j := by
  have t255 : (255 : Nat).testBit j = true := by
    have : ∀ j, j < 8 → (255 : Nat).testBit j = true := by decide
    exact this j hj
  rw [Nat.testBit_xor, t255]
  cases y.testBit j <;> rfl
theorem pop_cnt : ∀ s, s < 256 → pop s = cnt (fun i => if s.testBit i = true then 1 else 0) 8 := by decide +kernel
theorem cnt_add {f g h : Nat → Nat} : ∀ n, (∀ q, q < n → f q + g q = h q) → cnt f n + cnt g n = cnt h n
  | 0, _ => rfl
  | n + 1, e => by
    rw [cnt_S, cnt_S, cnt_S]
    have := cnt_add (f := f) (g := g) (h := h) n (fun q hq => e q (by omega))
    have := e n (by omega)
    omega
theorem cnt_zero {f : Nat → Nat} (m : Nat) : ∀ n, (∀ q, m ≤ q → q < n → f q = 0) → m ≤ n → cnt f n = cnt f m
  | 0, _, hm => by rw [show m = 0 by omega]
  | n + 1, h, hm => by
    by_cases e : m = n + 1
    · rw [e]
    · rw [cnt_S, h n (by omega) (by omega), cnt_zero m n (fun q h1 h2 => h q h1 (by omega)) (by omega), Nat.add_zero]
theorem cPas_pop {k : SK} (hk : kOk k) (w : SW) : cPas k w = pop (sWho w (kP k) 0) := by
  have h8 := hk.2.1
  rw [pop_cnt _ (sWho_lt w (kP k) 0 h8), cnt_zero (kP k) 8 (fun q h1 h2 => ?_) h8]
  · refine cnt_congr (kP k) (fun q hq => ?_)
    rw [sWho_bit w 0 (kP k) h8 q (by omega), decide_eq_true hq, Bool.true_and]
  · rw [sWho_bit w 0 (kP k) h8 q h2, decide_eq_false (by omega), Bool.false_and]
    rfl
/-- who has passed stays so -/
theorem sYear_pas {k : SK} {w : SW} (hk : kOk k) (h : wOk k w) (ill : Nat) {p : Nat} (hp : p < kP k) (h1 : (wF w p).testBit 0 = true) : (wF (sYear k w ill) p).testBit 0 = true := by
  show (wF (sDoc k (sExa k ill (sTau k w ill))) p).testBit 0 = true
  have a1 : wOk k (sTau k w ill) ∧ (wF (sTau k w ill) p).testBit 0 = true := ⟨sTau_ok hk h ill _ (Nat.le_refl _), by unfold sTau; rw [(sTau_fr k w ill _).2.1]; exact h1⟩
  have a2 := itN_inv (Inv := fun _ v => wOk k v ∧ (wF v p).testBit 0 = true) (m := kP k) (st := sExaS k ill) (fun j v hj hv => by
    unfold sExaS
    split
    · exact hv
    · refine ⟨sSit_ok hv.1 hj, ?_⟩
      unfold sSit
      split
      · exact hv.2
      · split
        · show (wF (sBec v j 0) p).testBit 0 = true
          rw [wF_bec]
          split
          next e => rw [f_t _ (hv.1.2.2 j hj).2.2.2.2.2 0 (by decide) 0 (by decide), decide_eq_true rfl, Bool.or_true]
          next => exact hv.2
        · exact hv.2) (kP k) 0 _ (by omega) a1
  have a3 := itN_inv (Inv := fun _ v => wOk k v ∧ (wF v p).testBit 0 = true) (m := kP k) (st := sDocS k) (fun j v hj hv => by
    unfold sDocS
    split
    · exact hv
    · split
      · refine ⟨hv.1.bec hj (b := 1) (by decide), ?_⟩
        show (wF (sBec v j 1) p).testBit 0 = true
        rw [wF_bec]
        split
        next e => rw [f_t _ (hv.1.2.2 j hj).2.2.2.2.2 1 (by decide) 0 (by decide), ← e, hv.2]; rfl
        next => exact hv.2
      · exact hv) (kP k) 0 _ (by omega) a2
  exact a3.2
