/-! PART 59: plain: the component ahead: part -/
set_option maxRecDepth 100000
section PT
variable {D : PD} {B : Nat} {g : SG} {c : CZ} {h0 : PH}
theorem x_areParted (h : cG B g c h0) {good bad set : Nat} (hg : good < 256) (hb : bad < 256) : fX0_areParted B (nI good) (nI bad) (nI set) (mk B c h0) = some (sPar (gK g) (gW g) good bad set, mk B c h0) := by
  have h1 := h.2.1
  have h8 := h1.1.2.1
  have now := h.2.2.1
  have hw := now.1
  have fin : Ok (fX0_areParted B (nI good) (nI bad) (nI set) (mk B c h0)) (fun r => r = (sPar (gK g) (gW g) good bad set, mk B c h0)) := by
    unfold fX0_areParted
    refine fx_okN (F := fX0_areParted_L3 B (nI good) (nI bad) (nI set)) (z := fun _ _ => none) (fun s j (_ : Unit) => s (nI j) (mk B c h0)) (kP (gK g)) (fun j _ => ∀ a, a < j → ∀ b, b < kP (gK g) → sParC (gW g) good bad set a b) _ ?_ ?_ FU 0 () (Nat.zero_le _) (fun a ha => absurd ha (Nat.not_lt_zero _)) (FU_gt (by omega))
    · rintro s j - hj hn go
      show Ok (fX0_areParted_L3 B (nI good) (nI bad) (nI set) s (nI j) (mk B c h0)) _
      unfold fX0_areParted_L3
      rw [x0_cls, ckc_s, x_people h1, bnd_s, if_neg (nI_ge hj (by omega)), jn_s]
      refine fx_okN (F := fX0_areParted_L15 B (nI good) (nI bad) (nI set) (nI j) _) (z := fun _ _ => none) (fun s i (_ : Unit) => s (nI i) (mk B c h0)) (kP (gK g)) (fun i _ => ∀ b, b < i → sParC (gW g) good bad set j b) _ ?_ ?_ FU 0 () (Nat.zero_le _) (fun a ha => absurd ha (Nat.not_lt_zero _)) (FU_gt (by omega))
      · rintro s2 i - hi hn2 go2
        have gon : sParC (gW g) good bad set j i → Ok (s2 (nI i + 1) (mk B c h0)) (fun r => r = (sPar (gK g) (gW g) good bad set, mk B c h0)) := fun hc => by
          rw [nI_1]
          refine go2 () (fun b hb' => ?_)
          by_cases e : b = i
          · rw [e]; exact hc
          · exact hn2 b (by omega)
        show Ok (fX0_areParted_L15 B (nI good) (nI bad) (nI set) (nI j) _ s2 (nI i) (mk B c h0)) _
        unfold fX0_areParted_L15
        rw [x0_cls, ckc_s, x_people h1, bnd_s, if_neg (nI_ge hi (by omega)), has_v hg (by omega), bnd_s]
        simp only [jn_s]
        cases c1 : good.testBit j with
        | true =>
          rw [if_neg (by decide), has_v hb (by omega), bnd_s]
          cases c2 : bad.testBit i with
          | true =>
            have r1 := hw.r8 h1.1 hj
            have r2 := hw.r8 h1.1 hi
            have p1 := pop_le _ (and_256 (b := set) r1)
            have p2 := pop_le _ (and_256 (b := set) r2)
            rw [if_neg (by decide), x0_F9, vA_s, st_F5 is14, vA_s, st_r is14 now.2.1 hj h8, ob_s, nI_and, bitCount_v (and_256 r1), bnd_s, x0_F9, vA_s, st_F5 is14, vA_s, st_r is14 now.2.1 hi h8, ob_s, nI_and, bitCount_v (and_256 r2), bnd_s]
            by_cases c3 : pop (wR (gW g) i &&& set) < pop (wR (gW g) j &&& set)
            · rw [if_pos (nI_lt c3 (by omega))]
              exact gon (fun _ _ => c3)
            · rw [if_neg (nI_nlt (by omega) (by omega))]
              refine Ok.of ?_
              rw [sPar_no hj hi (fun q => c3 (q c1 c2))]
          | false =>
            rw [if_pos (by decide)]
            exact gon (fun _ q => by rw [c2] at q; cases q)
        | false =>
          rw [if_pos (by decide)]
          exact gon (fun q => by rw [c1] at q; cases q)
      · rintro s2 - hn2
        show Ok (fX0_areParted_L15 B (nI good) (nI bad) (nI set) (nI j) _ s2 (nI (kP (gK g))) (mk B c h0)) _
        unfold fX0_areParted_L15
        rw [x0_cls, ckc_s, x_people h1, bnd_s, if_pos (nI_le (Nat.le_refl _) (by omega)), nI_1]
        refine go () (fun a ha b hb' => ?_)
        by_cases e : a = j
        · rw [e]; exact hn2 b hb'
        · exact hn a (by omega) b hb'
    · rintro s - hn
      show Ok (fX0_areParted_L3 B (nI good) (nI bad) (nI set) s (nI (kP (gK g))) (mk B c h0)) _
      unfold fX0_areParted_L3
      rw [x0_cls, ckc_s, x_people h1, bnd_s, if_pos (nI_le (Nat.le_refl _) (by omega)), (sPar_iff (gK g) (gW g) good bad set).mpr hn]
      exact Ok.of rfl
  obtain ⟨r, e, rfl⟩ := fin
  exact e
theorem x_part (h : cG B g c h0) (a b : Int32) : fX0_part B a b (mk B c h0) = some (spPart (gK g) (gW g) a b, mk B c h0) := by
  have h1 := h.2.1
  have h8 := h1.1.2.1
  have hF8 := h1.1.1
  have p8 := two8 h8
  have pF := two8 hF8
  have p0 : 0 < 2 ^ kP (gK g) := Nat.two_pow_pos _
  have f0 : 0 < 2 ^ kF (gK g) := Nat.two_pow_pos _
  have pcast : ((2 ^ kP (gK g) : Nat) : Int) = (2 : Int) ^ kP (gK g) := by simp
  have all : fX0_allPeople B (mk B c h0) = some (nI (2 ^ kP (gK g) - 1), mk B c h0) := by
    unfold fX0_allPeople
    rw [x0_cls, ckc_s, x_people h1, bnd_s, shl_nI _ (by omega), nI_m1 p0]
  have e0 : (0 : Int32).toInt = 0 := by decide
  have fin : Ok (fX0_part B a b (mk B c h0)) (fun r => r = (spPart (gK g) (gW g) a b, mk B c h0)) := by
    unfold fX0_part
    by_cases a0 : a < 0
    · have := Int32.lt_iff_toInt_lt.mp a0
      rw [if_pos a0]
      refine Ok.of ?_
      unfold spPart sIn
      rw [if_neg]
      rintro ⟨q, -⟩
      have := of_decide_eq_true q
      omega
    rw [if_neg a0]
    by_cases b0 : b < 0
    · have := Int32.lt_iff_toInt_lt.mp b0
      rw [if_pos b0]
      refine Ok.of ?_
      unfold spPart sIn
      rw [if_neg]
      rintro ⟨-, q, -⟩
      have := of_decide_eq_true q
      omega
    have na := mt Int32.lt_iff_toInt_lt.mpr a0
    have nb := mt Int32.lt_iff_toInt_lt.mpr b0
    obtain ⟨x, rfl, -, hx⟩ := sIn_nat (a := a) (lo := 0) (hi := 2 ^ 31 - 1) (by unfold sIn; exact decide_eq_true ⟨by omega, by have := a.toInt_lt; omega⟩) (by decide) (by decide)
    obtain ⟨y, rfl, -, hy⟩ := sIn_nat (a := b) (lo := 0) (hi := 2 ^ 31 - 1) (by unfold sIn; exact decide_eq_true ⟨by omega, by have := b.toInt_lt; omega⟩) (by decide) (by decide)
    have hx : x < 2 ^ 31 := by omega
    have hy : y < 2 ^ 31 := by omega
    have hxy : x ||| y < 2 ^ 31 := Nat.or_lt_two_pow hx hy
    have ix : sIn (nI x) 0 ((2 : Int) ^ kP (gK g) - 1) = decide (x < 2 ^ kP (gK g)) := by
      unfold sIn
      rw [nI_toInt hx, ← pcast]
      by_cases q : x < 2 ^ kP (gK g)
      · rw [decide_eq_true q, decide_eq_true (by omega)]
      · rw [decide_eq_false q, decide_eq_false (by omega)]
    have iy : sIn (nI y) 0 ((2 : Int) ^ kP (gK g) - 1) = decide (y < 2 ^ kP (gK g)) := by
      unfold sIn
      rw [nI_toInt hy, ← pcast]
      by_cases q : y < 2 ^ kP (gK g)
      · rw [decide_eq_true q, decide_eq_true (by omega)]
      · rw [decide_eq_false q, decide_eq_false (by omega)]
    rw [if_neg b0, x0_cls, ckc_s, all, bnd_s, nI_or]
    unfold spPart
    rw [ix, iy]
    by_cases cx : x < 2 ^ kP (gK g) ∧ y < 2 ^ kP (gK g)
    · have lt : x ||| y < 2 ^ kP (gK g) := Nat.or_lt_two_pow cx.1 cx.2
      rw [if_neg (nI_nlt (show x ||| y ≤ 2 ^ kP (gK g) - 1 by omega) (by omega)), decide_eq_true cx.1, decide_eq_true cx.2]
      by_cases c3 : nI x &&& nI y = 0
      · rw [if_pos c3, if_pos ⟨rfl, rfl, c3⟩, nI_c hx, nI_c hy]
        refine fx_okN (F := fX0_part_L31 B (nI x) (nI y)) (z := fun _ _ _ => none) (fun s j (b : Nat) => s (nI b - 1) (nI j) (mk B c h0)) (2 ^ kF (gK g)) (fun j b => b = sPrt (gK g) (gW g) x y j) _ ?_ ?_ FU 0 0 (Nat.zero_le _) rfl (FU_gt (by omega))
        · rintro s j a hj ha go
          have hin := sPrt_in (gK g) (gW g) x y j
          rw [← ha] at hin
          have hS : sPrt (gK g) (gW g) x y (j + 1) = sPrtS (gK g) (gW g) x y j a := by rw [ha]; exact itN_S _ _ _
          unfold sPrtS at hS
          show Ok (fX0_part_L31 B (nI x) (nI y) s (nI a - 1) (nI j) (mk B c h0)) _
          unfold fX0_part_L31
          rw [x0_cls, ckc_s, x_facts h1, bnd_s, shl_nI _ (by omega), if_neg (nI_ge hj (by omega))]
          simp only [jn_s]
          have keep : ¬ ((a = 0 ∨ pop j < pop (a - 1)) ∧ sPar (gK g) (gW g) x y j = true) → Ok (s (nI a - 1) (nI j + 1) (mk B c h0)) (fun r => r = (nI (sPrt (gK g) (gW g) x y (2 ^ kF (gK g))) - 1, mk B c h0)) := fun hc => by
            rw [if_neg hc] at hS
            rw [nI_1]
            exact go a hS.symm
          have try1 : (a = 0 ∨ pop j < pop (a - 1)) → Ok (ckc (pCls (mk B c h0) B) 0 (bnd (fX0_areParted B (nI x) (nI y) (nI j) (mk B c h0)) fun r3 h6 => if (bI r3) = 0 then s (nI a - 1) (nI j + 1) h6 else s (nI j) (nI j + 1) h6)) (fun r => r = (nI (sPrt (gK g) (gW g) x y (2 ^ kF (gK g))) - 1, mk B c h0)) := fun hc => by
            rw [x0_cls, ckc_s, x_areParted h (by omega) (by omega), bnd_s]
            cases cp : sPar (gK g) (gW g) x y j with
            | false =>
              rw [if_pos (by decide)]
              exact keep (fun q => by rw [cp] at q; cases q.2)
            | true =>
              rw [if_neg (by decide), nI_1]
              rw [if_pos ⟨hc, cp⟩] at hS
              have := go (j + 1) hS.symm
              have this : Ok (s (nI (j + 1) - 1) (nI (j + 1)) (mk B c h0)) _ := this
              rw [nI_pred] at this
              exact this
          by_cases c0 : a = 0
          · rw [if_pos (by rw [c0]; decide)]
            exact try1 (Or.inl c0)
          · have q1 := pop_le j (by omega)
            have q2 := pop_le (a - 1) (by omega)
            rw [if_neg (m1_ne c0 (by omega)), bitCount_v (by omega), bnd_s, nI_m1 (by omega), bitCount_v (by omega), bnd_s, ← nI_m1 (show 0 < a by omega)]
            by_cases cl : pop (a - 1) ≤ pop j
            · rw [if_pos (nI_le cl (by omega))]
              exact keep (by rintro ⟨q | q, -⟩; exact c0 q; omega)
            · rw [if_neg (nI_ge (by omega) (by omega))]
              exact try1 (Or.inr (by omega))
        · rintro s a ha
          show Ok (fX0_part_L31 B (nI x) (nI y) s (nI a - 1) (nI (2 ^ kF (gK g))) (mk B c h0)) _
          unfold fX0_part_L31
          rw [x0_cls, ckc_s, x_facts h1, bnd_s, shl_nI _ (by omega), if_pos (nI_le (Nat.le_refl _) (by omega)), ha]
          exact Ok.of rfl
      · rw [if_neg c3, if_neg (fun q => c3 q.2.2)]
        exact Ok.of rfl
    · have big : 2 ^ kP (gK g) - 1 < x ||| y := by
        have o1 : x ≤ x ||| y := Nat.left_le_or
        have o2 : y ≤ x ||| y := Nat.right_le_or
        by_cases q : x < 2 ^ kP (gK g)
        · have : ¬ y < 2 ^ kP (gK g) := fun z => cx ⟨q, z⟩
          omega
        · omega
      rw [if_pos (nI_lt big hxy), if_neg (fun q => cx ⟨of_decide_eq_true q.1, of_decide_eq_true q.2.1⟩)]
      exact Ok.of rfl
  obtain ⟨r, e, rfl⟩ := fin
  exact e
end PT
