/-! PART 65: plain: the component acts: feed, end -/
set_option maxRecDepth 100000
theorem sb_key : ∀ b, b < 256 → vp_nar .byte ((Int8.ofBitVec (BitVec.ofNat 8 b)).toInt32) = sb b := by decide +kernel
theorem sb_of (x : Int32) : vp_nar .byte ((Int32.toInt8 x).toInt32) = sb (x.toBitVec.toNat &&& 255) := by
  have e : Int32.toInt8 x = Int8.ofBitVec (BitVec.ofNat 8 (x.toBitVec.toNat &&& 255)) := by
    apply Int8.toBitVec_inj.mp
    show x.toBitVec.signExtend 8 = BitVec.ofNat 8 (x.toBitVec.toNat &&& 255)
    rw [BitVec.signExtend_eq_setWidth_of_le _ (by decide)]
    apply BitVec.eq_of_toNat_eq
    rw [BitVec.toNat_setWidth, BitVec.toNat_ofNat, show (255 : Nat) = 2 ^ 8 - 1 from rfl, Nat.and_two_pow_sub_one_eq_mod, Nat.mod_mod]
  rw [e]
  exact sb_key _ (b255 _)
section FE
variable {D : PD} {B : Nat} {g : SG} {c c' : CZ} {h0 : PH}
/-- the tape is another -/
theorem cG.tape {n : Nat} {b : Nat → Nat} (h : cG B g c h0) (hn : n ≤ 1600) (hb : ∀ i, i < n → b i < 256) (eI : ∀ o i, ¬ (o = 0 ∧ i = 2) → o ≠ 6 → cI c' o i = cI c o i) (eL : c'.2 = c.2) (e2 : cI c' 0 2 = nI n) (e6 : ∀ i, i < n → cI c' 6 i = sb (b i)) : cG B (uT g n b) c' h0 := by
  obtain ⟨k1, k2, k3, k4, k5⟩ := h.core (c' := c') (fun o i q => eI o i (by omega) (by omega)) (eI 0 16 (by decide) (by decide)) (by rw [eL])
  obtain ⟨⟨o1, o2, o3, o4, o5, o6⟩, h1, h2, h3, h4, h5, h6, h7, h8, h9, h10, h11⟩ := h
  refine ⟨⟨o1, o2, o3, hn, hb, o6⟩, k1, k2, k3, k4, ⟨h5.1, by rw [eI _ _ (by decide) (by decide)]; exact h5.2.1, fun i hi => by rw [eI _ _ (by omega) (by decide), eI _ _ (by omega) (by decide)]; exact h5.2.2 i hi⟩, ⟨e2, e6⟩, fun j hj => by rw [eI _ _ (by omega) (by decide)]; exact h7 j hj, ⟨by rw [eI _ _ (by decide) (by decide)]; exact h8.1, by rw [eI _ _ (by decide) (by decide)]; exact h8.2⟩, ?_, ⟨by rw [eI _ _ (by decide) (by decide)]; exact h10.1, fun i hi => by rw [eI _ _ (by omega) (by decide)]; exact h10.2 i hi⟩, k5⟩
  show c'.2.1 0 17 = _
  rw [eL]
  exact h9
/-- one number goes on the tape -/
theorem x_put (h : cG B g c h0) (hn : gT g + 4 ≤ 1600) (a : Int32) : ∃ c', fX0_put B a (mk B c h0) = some (mk B c' h0) ∧ cG B (uT g (gT g + 4) (fun i => if i < gT g then gB g i else bOf a (i - gT g))) c' h0 := by
  have ht := h.2.2.2.2.2.2.1
  have o5 := h.1.2.2.2.2.1
  have fin : Ok (fX0_put B a (mk B c h0)) (fun r => ∃ c', r = mk B c' h0 ∧ cG B (uT g (gT g + 4) (fun i => if i < gT g then gB g i else bOf a (i - gT g))) c' h0) := by
    unfold fX0_put
    refine fx_okN (F := fX0_put_L3 B a) (z := fun _ _ => none) (fun s j (y : CZ) => s (nI (8 * (4 - j)) - 8) (mk B y h0)) 4 (fun j y => (∀ o i, ¬ (o = 0 ∧ i = 2) → o ≠ 6 → cI y o i = cI c o i) ∧ y.2 = c.2 ∧ cI y 0 2 = nI (gT g + j) ∧ ∀ i, i < gT g + j → cI y 6 i = sb (if i < gT g then gB g i else bOf a (i - gT g))) _ ?_ ?_ FU 0 c (Nat.zero_le _) ⟨fun _ _ _ _ => rfl, rfl, ht.1, fun i hi => by rw [if_pos (show i < gT g from hi)]; exact ht.2 i hi⟩ (FU_gt (by decide))
    · rintro s j y hj ⟨e1, e2, e3, e4⟩ go
      have x1 : nI (8 * (4 - j)) - 8 = nI (8 * (3 - j)) := by
        have : ∀ j, j < 4 → nI (8 * (4 - j)) - 8 = nI (8 * (3 - j)) := by decide +kernel
        exact this j hj
      have x2 : nI (8 * (3 - j)) &&& 31 = nI (8 * (3 - j)) := by
        have : ∀ j, j < 4 → nI (8 * (3 - j)) &&& 31 = nI (8 * (3 - j)) := by decide +kernel
        exact this j hj
      have x3 : nI (8 * (3 - j)) + (-8) = nI (8 * (4 - (j + 1))) - 8 := by
        have : ∀ j, j < 4 → nI (8 * (3 - j)) + (-8) = nI (8 * (4 - (j + 1))) - 8 := by decide +kernel
        exact this j hj
      have x4 : ¬ nI (8 * (3 - j)) < 0 := by
        have : ∀ j, j < 4 → ¬ nI (8 * (3 - j)) < 0 := by decide +kernel
        exact this j hj
      show Ok (fX0_put_L3 B a s (nI (8 * (4 - j)) - 8) (mk B y h0)) _
      unfold fX0_put_L3
      rw [x1, if_neg x4, x0_F1, vA_s, x0_F2, vI_s, e3, nI_1, x0_pI _ _ 2 (by decide), bnv_s, k_tape.st _ h0 (inb_nI (by omega) (by decide)), bnv_s, nI_c (by omega), x2, x3, sb_of]
      refine go _ ⟨fun o i n1 n2 => ?_, e2, ?_, fun i hi => ?_⟩
      · rw [cI_x, if_neg (fun x => n2 x.1), cI_x, if_neg n1]; exact e1 o i n1 n2
      · rw [cI_x, if_neg (by omega), cI_x, if_pos ⟨rfl, rfl⟩]; rfl
      · rw [cI_x]
        by_cases ei : i = gT g + j
        · rw [if_pos ⟨rfl, ei⟩, if_neg (by omega), ei, show gT g + j - gT g = j by omega]
          rfl
        · rw [if_neg (fun x => ei x.2), cI_x, if_neg (by omega)]
          exact e4 i (by omega)
    · rintro s y ⟨e1, e2, e3, e4⟩
      show Ok (fX0_put_L3 B a s (nI (8 * (4 - 4)) - 8) (mk B y h0)) _
      unfold fX0_put_L3
      rw [if_pos (by decide)]
      refine Ok.of ⟨y, rfl, h.tape hn (fun i hi => ?_) e1 e2 e3 e4⟩
      show (if i < gT g then gB g i else bOf a (i - gT g)) < 256
      split
      next hq => exact o5 i hq
      next => exact bOf_lt _ _
  obtain ⟨r, e, c', rfl, q⟩ := fin
  exact ⟨c', e, q⟩
theorem cG.same {g g' : SG} (h : cG B g c h0) (e : g = g') : cG B g' c h0 := e ▸ h
theorem cG.retape {n : Nat} {b b' : Nat → Nat} (h : cG B (uT g n b) c h0) (e : ∀ i, i < n → b' i = b i) : cG B (uT g n b') c h0 := by
  obtain ⟨⟨o1, o2, o3, o4, o5, o6⟩, h1, h2, h3, h4, h5, h6, h7, h8⟩ := h
  refine ⟨⟨o1, o2, o3, o4, fun i hi => ?_, o6⟩, h1, h2, h3, h4, h5, ⟨h6.1, fun i hi => ?_⟩, h7, h8⟩
  · show b' i < 256
    rw [e i hi]
    exact o5 i hi
  · show cI c 6 i = sb (b' i)
    rw [e i hi]
    exact h6.2 i hi
theorem x_feed (h : cG B g c h0) (a1 a2 a3 a4 a5 : Int32) : ∃ c', fX0_feed B a1 a2 a3 a4 a5 (mk B c h0) = some ((spFeed g a1 a2 a3 a4 a5).1, mk B c' h0) ∧ cG B (spFeed g a1 a2 a3 a4 a5).2 c' h0 := by
  have ht := h.2.2.2.2.2.2.1
  have o4 := h.1.2.2.2.1
  unfold fX0_feed spFeed
  rw [x0_F2, vI_s, ht.1, show nI (gT g) + 20 = nI (gT g + 20) from nI_add _ 20]
  by_cases c1 : gT g + 20 ≤ 1600
  · obtain ⟨y1, p1, g1⟩ := x_put h (by omega) a1
    obtain ⟨y2, p2, g2⟩ := x_put g1 (by show gT g + 4 + 4 ≤ 1600; omega) a2
    obtain ⟨y3, p3, g3⟩ := x_put g2 (by show gT g + 4 + 4 + 4 ≤ 1600; omega) a3
    obtain ⟨y4, p4, g4⟩ := x_put g3 (by show gT g + 4 + 4 + 4 + 4 ≤ 1600; omega) a4
    obtain ⟨y5, p5, g5⟩ := x_put g4 (by show gT g + 4 + 4 + 4 + 4 + 4 ≤ 1600; omega) a5
    rw [if_pos (show nI (gT g + 20) ≤ (1600 : Int32) from nI_le (b := 1600) c1 (by decide)), if_pos c1, x0_cls, ckc_s, p1, bnv_s, x0_cls, ckc_s, p2, bnv_s, x0_cls, ckc_s, p3, bnv_s, x0_cls, ckc_s, p4, bnv_s, x0_cls, ckc_s, p5, bnv_s, x0_F2, vI_s, g5.2.2.2.2.2.2.1.1]
    have g5 : cG B (uT g (gT g + 20) _) y5 h0 := g5
    refine ⟨y5, rfl, g5.retape (fun i hi => Eq.symm ?_)⟩
    show (if i < gT g + 4 + 4 + 4 + 4 then (if i < gT g + 4 + 4 + 4 then (if i < gT g + 4 + 4 then (if i < gT g + 4 then (if i < gT g then gB g i else bOf a1 (i - gT g)) else bOf a2 (i - (gT g + 4))) else bOf a3 (i - (gT g + 4 + 4))) else bOf a4 (i - (gT g + 4 + 4 + 4))) else bOf a5 (i - (gT g + 4 + 4 + 4 + 4))) = if i < gT g then gB g i else bFd a1 a2 a3 a4 a5 (i - gT g)
    unfold bFd
    by_cases q0 : i < gT g
    · rw [if_pos (by omega), if_pos (by omega), if_pos (by omega), if_pos (by omega), if_pos q0, if_pos q0]
    rw [if_neg q0, if_neg q0]
    by_cases q1 : i < gT g + 4
    · rw [if_pos (by omega), if_pos (by omega), if_pos (by omega), if_pos (by omega), if_pos (by omega), show (i - gT g) % 4 = i - gT g by omega]
    rw [if_neg q1]
    by_cases q2 : i < gT g + 4 + 4
    · rw [if_pos (by omega), if_pos (by omega), if_pos (by omega), if_neg (by omega), if_pos (by omega), show (i - gT g) % 4 = i - (gT g + 4) by omega]
    rw [if_neg q2]
    by_cases q3 : i < gT g + 4 + 4 + 4
    · rw [if_pos (by omega), if_pos (by omega), if_neg (by omega), if_neg (by omega), if_pos (by omega), show (i - gT g) % 4 = i - (gT g + 4 + 4) by omega]
    rw [if_neg q3]
    by_cases q4 : i < gT g + 4 + 4 + 4 + 4
    · rw [if_pos (by omega), if_neg (by omega), if_neg (by omega), if_neg (by omega), if_pos (by omega), show (i - gT g) % 4 = i - (gT g + 4 + 4 + 4) by omega]
    rw [if_neg q4, if_neg (by omega), if_neg (by omega), if_neg (by omega), if_neg (by omega), show (i - gT g) % 4 = i - (gT g + 4 + 4 + 4 + 4) by omega]
  · obtain ⟨c', q1, q2⟩ := x_refuses h (i := 0) (by decide)
    have q1 : fX0_refuses B 0 (mk B c h0) = _ := q1
    rw [if_neg (show ¬ nI (gT g + 20) ≤ (1600 : Int32) from nI_ge (a := 1600) (by omega) (by omega)), if_neg c1, x0_cls, ckc_s, q1, bnd_s]
    exact ⟨c', rfl, q2⟩
theorem x_end (h : cG B g c h0) (a : Int32) : ∃ c', fX0_end B a (mk B c h0) = some ((spEnd g a).1, mk B c' h0) ∧ cG B (spEnd g a).2 c' h0 := by
  have ht := h.2.2.2.2.2.2.1
  have o4 := h.1.2.2.2.1
  have o5 := h.1.2.2.2.2.1
  obtain ⟨cn, n1, n2⟩ := x_refuses h (i := 0) (by decide)
  have n1 : fX0_refuses B 0 (mk B c h0) = some (-1, mk B cn h0) := n1
  unfold fX0_end spEnd
  simp only [jn_s, x0_cls, ckc_s, n1, bnd_s]
  by_cases c0 : a < 0
  · have q := Int32.lt_iff_toInt_lt.mp c0
    have e0 : (0 : Int32).toInt = 0 := by decide
    rw [if_pos c0, if_pos (show (-1 : Int32) < 0 by decide), if_neg (by omega)]
    exact ⟨cn, rfl, n2⟩
  · obtain ⟨j, hj, rfl⟩ := nI_of c0
    rw [if_neg c0, nI_toInt hj, x0_F2, vI_s, ht.1]
    by_cases c1 : j ≤ gT g
    · rw [if_pos (nI_le c1 (by omega)), if_pos ⟨by omega, by omega⟩, x0_pI _ _ 2 (by decide), bnv_s, nI_c hj]
      refine ⟨_, rfl, h.tape (by omega) (fun i hi => o5 i (by omega)) (fun o i n1 n2 => by rw [cI_x, if_neg n1]) rfl (by rw [cI_x, if_pos ⟨rfl, rfl⟩]) (fun i hi => by rw [cI_x, if_neg (by omega)]; exact ht.2 i (by omega))⟩
    · rw [if_neg (nI_ge (by omega) hj), if_pos (show (-1 : Int32) < 0 by decide), if_neg (by omega)]
      exact ⟨cn, rfl, n2⟩
end FE
