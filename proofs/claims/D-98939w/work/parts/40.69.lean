/-! PART 69: plain: the component acts: one person taken on -/
set_option maxRecDepth 100000
theorem flg1 : ∀ b, b < 256 → (nI b &&& 1 ≤ 0 ↔ ¬ b.testBit 0 = true) := by decide +kernel
theorem flg2 : ∀ b, b < 256 → (nI b &&& 2 ≤ 0 ↔ ¬ b.testBit 1 = true) := by decide +kernel
section PO
variable {D : PD} {B : Nat} {k : SK} {nm : Nat → Nat → List Nat} {c c' : CZ} {h0 : PH}
theorem or_lt_iff {x y n : Nat} : x ||| y < 2 ^ n ↔ x < 2 ^ n ∧ y < 2 ^ n := ⟨fun h => ⟨Nat.lt_of_le_of_lt Nat.left_le_or h, Nat.lt_of_le_of_lt Nat.right_le_or h⟩, fun h => Nat.or_lt_two_pow h.1 h.2⟩
theorem x_personOn {n p u1 u2 : Nat} {b : Nat → Nat} (hx : cSc B k nm c h0) (hn : n ≤ 1600) (ht : ∀ i, i < n → cI c 6 i = sb (b i)) (hb : ∀ i, i < n → b i < 256) (hp : p < kP k) (hpn : 2 + 5 * p + 4 < n) (l1 : u1 < 256) (l2 : u2 < 256) (e1 : cI c 51 1 = nI u1) (e2 : cI c 51 2 = nI u2) :
    ∃ c', fX0_personOn B (nI p) (nI (2 + 5 * p)) (mk B c h0) = some (decide (onP k b p), mk B c' h0) ∧ (∀ o i, ¬ (o = 51 ∧ (i = 1 ∨ i = 2)) → ¬ (52 ≤ o ∧ o ≤ 55 ∧ i = p) → cI c' o i = cI c o i) ∧ c'.2 = c.2 ∧ cI c' 51 1 = nI (if (b (2 + 5 * p + 4)).testBit 0 = true then u1 ||| 2 ^ p else u1) ∧ cI c' 51 2 = nI (if (b (2 + 5 * p + 4)).testBit 1 = true then u2 ||| 2 ^ p else u2) ∧ cI c' 52 p = nI (b (2 + 5 * p)) - 1 ∧ cI c' 53 p = nI (b (2 + 5 * p + 1)) ∧ cI c' 54 p = nI (b (2 + 5 * p + 2)) ∧ cI c' 55 p = nI (b (2 + 5 * p + 3)) := by
  have hk := hx.1
  have h8 := hk.2.1
  have hF8 := hk.1
  have pF8 := two8 hF8
  have by_ : ∀ (y : CZ), (∀ i, cI y 6 i = cI c 6 i) → ∀ d, d < 5 → fX0_byteAt B (nI (2 + 5 * p + d)) (mk B y h0) = some (nI (b (2 + 5 * p + d)), mk B y h0) := fun y hy d hd => x_byteAt (n := n) (fun i hi => by rw [hy i]; exact ht i hi) (show 2 + 5 * p + d < n by omega) hn (hb _ (by omega))
  have in8 : inb (nI p) 8 = true := inb_nI (by omega) (by decide)
  have nc : (nI p).toNatClampNeg = p := nI_c (by omega)
  have a1 : nI (2 + 5 * p) + 1 = nI (2 + 5 * p + 1) := nI_1 _
  have a2 : nI (2 + 5 * p) + 2 = nI (2 + 5 * p + 2) := nI_add _ 2
  have a3 : nI (2 + 5 * p) + 3 = nI (2 + 5 * p + 3) := nI_add _ 3
  have a4 : nI (2 + 5 * p) + 4 = nI (2 + 5 * p + 4) := nI_add _ 4
  have b0 := hb (2 + 5 * p) (by omega)
  have b1 := hb (2 + 5 * p + 1) (by omega)
  have b2 := hb (2 + 5 * p + 2) (by omega)
  have b3 := hb (2 + 5 * p + 3) (by omega)
  have b4 := hb (2 + 5 * p + 4) (by omega)
  have y1 : ∀ i, cI (xI c (51 + 1) p (nI (b (2 + 5 * p)) - 1)) 6 i = cI c 6 i := fun i => by rw [cI_x, if_neg (by omega)]
  generalize hc1 : xI c (51 + 1) p (nI (b (2 + 5 * p)) - 1) = c1 at y1
  have y2 : ∀ i, cI (xI c1 (51 + 2) p (nI (b (2 + 5 * p + 1)))) 6 i = cI c 6 i := fun i => by rw [cI_x, if_neg (by omega), y1]
  generalize hc2 : xI c1 (51 + 2) p (nI (b (2 + 5 * p + 1))) = c2 at y2
  have y3 : ∀ i, cI (xI c2 (51 + 3) p (nI (b (2 + 5 * p + 2)))) 6 i = cI c 6 i := fun i => by rw [cI_x, if_neg (by omega), y2]
  generalize hc3 : xI c2 (51 + 3) p (nI (b (2 + 5 * p + 2))) = c3 at y3
  have y4 : ∀ i, cI (xI c3 (51 + 4) p (nI (b (2 + 5 * p + 3)))) 6 i = cI c 6 i := fun i => by rw [cI_x, if_neg (by omega), y3]
  have z4 : ∀ o i, ¬ (52 ≤ o ∧ o ≤ 55 ∧ i = p) → cI (xI c3 (51 + 4) p (nI (b (2 + 5 * p + 3)))) o i = cI c o i := fun o i q => by rw [cI_x, if_neg (by omega), ← hc3, cI_x, if_neg (by omega), ← hc2, cI_x, if_neg (by omega), ← hc1, cI_x, if_neg (by omega)]
  have w52 : cI (xI c3 (51 + 4) p (nI (b (2 + 5 * p + 3)))) 52 p = nI (b (2 + 5 * p)) - 1 := by rw [cI_x, if_neg (by omega), ← hc3, cI_x, if_neg (by omega), ← hc2, cI_x, if_neg (by omega), ← hc1, cI_x, if_pos ⟨rfl, rfl⟩]
  have w53 : cI (xI c3 (51 + 4) p (nI (b (2 + 5 * p + 3)))) 53 p = nI (b (2 + 5 * p + 1)) := by rw [cI_x, if_neg (by omega), ← hc3, cI_x, if_neg (by omega), ← hc2, cI_x, if_pos ⟨rfl, rfl⟩]
  have w54 : cI (xI c3 (51 + 4) p (nI (b (2 + 5 * p + 3)))) 54 p = nI (b (2 + 5 * p + 2)) := by rw [cI_x, if_neg (by omega), ← hc3, cI_x, if_pos ⟨rfl, rfl⟩]
  have w55 : cI (xI c3 (51 + 4) p (nI (b (2 + 5 * p + 3)))) 55 p = nI (b (2 + 5 * p + 3)) := by rw [cI_x, if_pos ⟨rfl, rfl⟩]
  have q4 : (xI c3 (51 + 4) p (nI (b (2 + 5 * p + 3)))).2 = c.2 := by rw [← hc3, ← hc2, ← hc1]; rfl
  generalize hc4 : xI c3 (51 + 4) p (nI (b (2 + 5 * p + 3))) = c4 at y4 z4 w52 w53 w54 w55 q4
  -- the end
  have fin : ∀ w1 w2 : Int32, ∃ c', (ckc (pCls (mk B (xI (xI c4 51 1 w1) 51 2 w2) h0) B) 0 <| bnd (fX0_byteAt B (nI (2 + 5 * p)) (mk B (xI (xI c4 51 1 w1) 51 2 w2) h0)) fun r7 h15 =>
      ckc (pCls h15 B) 0 <|
      bnd (fX0_people B h15) fun r8 h16 =>
      if r8 < r7 then
        (if (bI false) = 0 then some (false, h16) else
          ckc (pCls h16 B) 0 <|
          bnd (fX0_byteAt B (nI (2 + 5 * p) + 3) h16) fun r9 h19 =>
          if (9 : Int32) < r9 then some (false, h19) else
            ckc (pCls h19 B) 0 <|
            bnd (fX0_byteAt B (nI (2 + 5 * p) + 4) h19) fun r10 h20 =>
            if (3 : Int32) < r10 then some (false, h20) else some (true, h20))
      else
        ckc (pCls h16 B) 0 <|
        bnd (fX0_byteAt B (nI (2 + 5 * p) + 1) h16) fun r11 h22 =>
        ckc (pCls h22 B) 0 <|
        bnd (fX0_byteAt B (nI (2 + 5 * p) + 2) h22) fun r12 h23 =>
        ckc (pCls h23 B) 0 <|
        bnd (fX0_facts B h23) fun r13 h24 =>
        if ((1 : Int32) <<< (r13 &&& 31)) ≤ (r11 ||| r12) then
          (if (bI false) = 0 then some (false, h24) else
            ckc (pCls h24 B) 0 <|
            bnd (fX0_byteAt B (nI (2 + 5 * p) + 3) h24) fun r9 h19 =>
            if (9 : Int32) < r9 then some (false, h19) else
              ckc (pCls h19 B) 0 <|
              bnd (fX0_byteAt B (nI (2 + 5 * p) + 4) h19) fun r10 h20 =>
              if (3 : Int32) < r10 then some (false, h20) else some (true, h20))
        else
          ckc (pCls h24 B) 0 <|
          bnd (fX0_byteAt B (nI (2 + 5 * p) + 1) h24) fun r14 h25 =>
          ckc (pCls h25 B) 0 <|
          bnd (fX0_byteAt B (nI (2 + 5 * p) + 2) h25) fun r15 h26 =>
          if (r14 &&& r15) = 0 then
            (if (bI true) = 0 then some (false, h26) else
              ckc (pCls h26 B) 0 <|
              bnd (fX0_byteAt B (nI (2 + 5 * p) + 3) h26) fun r9 h19 =>
              if (9 : Int32) < r9 then some (false, h19) else
                ckc (pCls h19 B) 0 <|
                bnd (fX0_byteAt B (nI (2 + 5 * p) + 4) h19) fun r10 h20 =>
                if (3 : Int32) < r10 then some (false, h20) else some (true, h20))
          else
            (if (bI false) = 0 then some (false, h26) else
              ckc (pCls h26 B) 0 <|
              bnd (fX0_byteAt B (nI (2 + 5 * p) + 3) h26) fun r9 h19 =>
              if (9 : Int32) < r9 then some (false, h19) else
                ckc (pCls h19 B) 0 <|
                bnd (fX0_byteAt B (nI (2 + 5 * p) + 4) h19) fun r10 h20 =>
                if (3 : Int32) < r10 then some (false, h20) else some (true, h20))) = some (decide (onP k b p), mk B c' h0) ∧ c' = xI (xI c4 51 1 w1) 51 2 w2 := by
    intro w1 w2
    have ty : ∀ i, cI (xI (xI c4 51 1 w1) 51 2 w2) 6 i = cI c 6 i := fun i => by rw [cI_x, if_neg (by omega), cI_x, if_neg (by omega), y4]
    have xy : cSc B k nm (xI (xI c4 51 1 w1) 51 2 w2) h0 := hx.q (by show c4.2.2 0 = _; rw [q4])
    generalize xI (xI c4 51 1 w1) 51 2 w2 = y at ty xy
    have r0 : fX0_byteAt B (nI (2 + 5 * p)) (mk B y h0) = _ := by_ y ty 0 (by decide)
    have r1 := by_ y ty 1 (by decide)
    have r2 := by_ y ty 2 (by decide)
    have r3 := by_ y ty 3 (by decide)
    have r4 := by_ y ty 4 (by decide)
    refine ⟨y, ?_, rfl⟩
    simp only [x0_cls, ckc_s, r0, bnd_s, x_people xy, a1, r1, a2, r2, x_facts xy, a3, r3, a4, r4, Nat.add_zero]
    rw [shl_nI _ (by omega), nI_or, nI_and]
    have hfa : bI false = 0 := by decide
    have htr : ¬ bI true = 0 := by decide
    simp only [if_pos hfa, if_neg htr]
    by_cases k0 : kP k < b (2 + 5 * p)
    · rw [if_pos (nI_lt k0 (by omega)), decide_eq_false (fun q => by have := q.1; omega)]
    rw [if_neg (nI_nlt (by omega) (by omega))]
    have lor : b (2 + 5 * p + 1) ||| b (2 + 5 * p + 2) < 256 := or_256 b1 b2
    by_cases k1 : b (2 + 5 * p + 1) ||| b (2 + 5 * p + 2) < 2 ^ kF k
    · have k12 := or_lt_iff.mp k1
      rw [if_neg (nI_ge k1 (by omega))]
      have land : b (2 + 5 * p + 1) &&& b (2 + 5 * p + 2) < 256 := and_256 b1
      by_cases k3 : b (2 + 5 * p + 1) &&& b (2 + 5 * p + 2) = 0
      · rw [if_pos (by rw [k3]; rfl)]
        by_cases k4 : b (2 + 5 * p + 3) ≤ 9
        · rw [if_neg (show ¬ (9 : Int32) < nI (b (2 + 5 * p + 3)) from nI_nlt (a := 9) k4 (by decide))]
          by_cases k5 : b (2 + 5 * p + 4) < 4
          · rw [if_neg (show ¬ (3 : Int32) < nI (b (2 + 5 * p + 4)) from nI_nlt (a := 3) (by omega) (by decide)), decide_eq_true ⟨by omega, k12.1, k12.2, k3, k4, k5⟩]
          · rw [if_pos (show (3 : Int32) < nI (b (2 + 5 * p + 4)) from nI_lt (a := 3) (by omega) (by omega)), decide_eq_false (fun q => k5 q.2.2.2.2.2)]
        · rw [if_pos (show (9 : Int32) < nI (b (2 + 5 * p + 3)) from nI_lt (a := 9) (by omega) (by omega)), decide_eq_false (fun q => k4 q.2.2.2.2.1)]
      · rw [if_neg (nI_ne0 (by omega) (by omega)), decide_eq_false (fun q => k3 q.2.2.2.1)]
    · rw [if_pos (nI_le (by omega) (by omega)), decide_eq_false (fun q => k1 (or_lt_iff.mpr ⟨q.2.1, q.2.2.1⟩))]
  have f1 : ∀ w1 w2 : Int32, (∀ o i, ¬ (o = 51 ∧ (i = 1 ∨ i = 2)) → ¬ (52 ≤ o ∧ o ≤ 55 ∧ i = p) → cI (xI (xI c4 51 1 w1) 51 2 w2) o i = cI c o i) ∧ (xI (xI c4 51 1 w1) 51 2 w2).2 = c.2 ∧ cI (xI (xI c4 51 1 w1) 51 2 w2) 51 1 = w1 ∧ cI (xI (xI c4 51 1 w1) 51 2 w2) 51 2 = w2 ∧ cI (xI (xI c4 51 1 w1) 51 2 w2) 52 p = nI (b (2 + 5 * p)) - 1 ∧ cI (xI (xI c4 51 1 w1) 51 2 w2) 53 p = nI (b (2 + 5 * p + 1)) ∧ cI (xI (xI c4 51 1 w1) 51 2 w2) 54 p = nI (b (2 + 5 * p + 2)) ∧ cI (xI (xI c4 51 1 w1) 51 2 w2) 55 p = nI (b (2 + 5 * p + 3)) := fun w1 w2 => by
    refine ⟨fun o i n1 n2 => ?_, q4, ?_, ?_, ?_, ?_, ?_, ?_⟩
    · rw [cI_x, if_neg (by omega), cI_x, if_neg (by omega)]; exact z4 o i n2
    · rw [cI_x, if_neg (by omega), cI_x, if_pos ⟨rfl, rfl⟩]
    · rw [cI_x, if_pos ⟨rfl, rfl⟩]
    · rw [cI_x, if_neg (by omega), cI_x, if_neg (by omega)]; exact w52
    · rw [cI_x, if_neg (by omega), cI_x, if_neg (by omega)]; exact w53
    · rw [cI_x, if_neg (by omega), cI_x, if_neg (by omega)]; exact w54
    · rw [cI_x, if_neg (by omega), cI_x, if_neg (by omega)]; exact w55
  have g0 : fX0_byteAt B (nI (2 + 5 * p)) (mk B c h0) = some (nI (b (2 + 5 * p)), mk B c h0) := by_ c (fun _ => rfl) 0 (by decide)
  have g1 := by_ c1 y1 1 (by decide)
  have g2 := by_ c2 y2 2 (by decide)
  have g3 := by_ c3 y3 3 (by decide)
  have g4 := by_ c4 y4 4 (by decide)
  have g5 : ∀ w1, fX0_byteAt B (nI (2 + 5 * p + 4)) (mk B (xI c4 51 1 w1) h0) = some (nI (b (2 + 5 * p + 4)), mk B (xI c4 51 1 w1) h0) := fun w1 => by_ _ (fun i => by rw [cI_x, if_neg (by omega), y4]) 4 (by decide)
  have d1 : cI c4 51 1 = nI u1 := by rw [z4 51 1 (by omega)]; exact e1
  have d2 : ∀ w1, cI (xI c4 51 1 w1) 51 2 = nI u2 := fun w1 => by rw [cI_x, if_neg (by omega), z4 51 2 (by omega)]; exact e2
  unfold fX0_personOn
  rw [x0_F10, vA_s, st_F4 is51, vA_s, x0_cls, ckc_s, g0, bnd_s, Nat.add_assoc B 51 1, (st_k1 is51).st c h0 in8, bnv_s, nc, hc1, x0_F10, vA_s, st_F5 is51, vA_s, x0_cls, ckc_s, a1, g1, bnd_s, Nat.add_assoc B 51 2, (st_k2 is51).st c1 h0 in8, bnv_s, nc, hc2, x0_F10, vA_s, st_F6 is51, vA_s, x0_cls, ckc_s, a2, g2, bnd_s, Nat.add_assoc B 51 3, (st_k3 is51).st c2 h0 in8, bnv_s, nc, hc3, x0_F10, vA_s, st_F7 is51, vA_s, x0_cls, ckc_s, a3, g3, bnd_s, Nat.add_assoc B 51 4, (st_k4 is51).st c3 h0 in8, bnv_s, nc, hc4, x0_F10, vA_s, st_F1 is51, vI_s, d1, x0_cls, ckc_s, a4, g4, bnd_s]
  simp only [jn_s]
  have done : ∀ (w1 w2 : Int32) (m1 m2 : Nat), w1 = nI m1 → w2 = nI m2 → ∀ (X : Option (Bool × PH)), (∀ c', c' = xI (xI c4 51 1 w1) 51 2 w2 → X = some (decide (onP k b p), mk B c' h0)) → ∃ c', X = some (decide (onP k b p), mk B c' h0) ∧ (∀ o i, ¬ (o = 51 ∧ (i = 1 ∨ i = 2)) → ¬ (52 ≤ o ∧ o ≤ 55 ∧ i = p) → cI c' o i = cI c o i) ∧ c'.2 = c.2 ∧ cI c' 51 1 = nI m1 ∧ cI c' 51 2 = nI m2 ∧ cI c' 52 p = nI (b (2 + 5 * p)) - 1 ∧ cI c' 53 p = nI (b (2 + 5 * p + 1)) ∧ cI c' 54 p = nI (b (2 + 5 * p + 2)) ∧ cI c' 55 p = nI (b (2 + 5 * p + 3)) := fun w1 w2 m1 m2 h1 h2 X hX => by
    have := f1 w1 w2
    rw [h1, h2] at this
    rw [h1, h2] at hX
    exact ⟨_, hX _ rfl, this⟩
  have z0 : ∀ u, nI u ||| 0 = nI u := fun u => Int32.or_zero
  by_cases t0 : (b (2 + 5 * p + 4)).testBit 0 = true
  · rw [if_neg (fun q => (flg1 _ b4).mp q t0), if_pos t0, s_or _ l1 p (by omega), st_p1 is51, bnv_s, x0_F10, vA_s, st_F2 is51, vI_s, d2, x0_cls, ckc_s, g5, bnd_s]
    by_cases t1 : (b (2 + 5 * p + 4)).testBit 1 = true
    · rw [if_neg (fun q => (flg2 _ b4).mp q t1), if_pos t1, s_or _ l2 p (by omega), st_p2 is51, bnv_s]
      refine done _ _ _ _ rfl rfl _ (fun c' hc' => ?_)
      obtain ⟨c'', q1, q2⟩ := fin (nI (u1 ||| 2 ^ p)) (nI (u2 ||| 2 ^ p))
      rw [a1, a2, a3, a4] at q1
      subst q2
      rw [hc']
      exact q1
    · rw [if_pos ((flg2 _ b4).mpr t1), if_neg t1, z0, st_p2 is51, bnv_s]
      refine done _ _ _ _ rfl rfl _ (fun c' hc' => ?_)
      obtain ⟨c'', q1, q2⟩ := fin (nI (u1 ||| 2 ^ p)) (nI u2)
      rw [a1, a2, a3, a4] at q1
      subst q2
      rw [hc']
      exact q1
  · rw [if_pos ((flg1 _ b4).mpr t0), if_neg t0, z0, st_p1 is51, bnv_s, x0_F10, vA_s, st_F2 is51, vI_s, d2, x0_cls, ckc_s, g5, bnd_s]
    by_cases t1 : (b (2 + 5 * p + 4)).testBit 1 = true
    · rw [if_neg (fun q => (flg2 _ b4).mp q t1), if_pos t1, s_or _ l2 p (by omega), st_p2 is51, bnv_s]
      refine done _ _ _ _ rfl rfl _ (fun c' hc' => ?_)
      obtain ⟨c'', q1, q2⟩ := fin (nI u1) (nI (u2 ||| 2 ^ p))
      rw [a1, a2, a3, a4] at q1
      subst q2
      rw [hc']
      exact q1
    · rw [if_pos ((flg2 _ b4).mpr t1), if_neg t1, z0, st_p2 is51, bnv_s]
      refine done _ _ _ _ rfl rfl _ (fun c' hc' => ?_)
      obtain ⟨c'', q1, q2⟩ := fin (nI u1) (nI u2)
      rw [a1, a2, a3, a4] at q1
      subst q2
      rw [hc']
      exact q1
end PO
