/-! PART 20: plain: a chain's first part; signs taken -/
set_option maxRecDepth 100000
section SM
variable {B N n : Nat} {b : Nat → Nat} {D : PD} {cap : Nat × Nat}
theorem ch_first {c : CZ} {h0 h : PH} {lo p al ar ln sb ba lm k s x : Nat} {ads sg : Nat → Nat} {c2 : List Int32} (hS : dS D 4 = .int 1) (hw : hW B h) (hlo : B + 841 ≤ lo) (hg : hGr h0 h) (w : chW lo h0 p al ar ln sb ba lm ads sg 0) (hs : s = 42 ∨ s = 43 ∨ s = 45 ∨ s = 47) (hx : vT (iv h0.1 h.1) B k h x c2) (r1 : h.1 + 2 ≤ cap.1) (r2 : h.2.1 + 80 ≤ cap.2) :
    ∃ h' ar' ba' ln' lm', fX14_add D cap p (nI s) x (mk B c h) = some (mk B c h') ∧ chS B N lo h' p al ar' ln' sb ba' lm' k 1 c2 ∧ hW B h' ∧ (h.1 ≤ h'.1 ∧ h'.1 ≤ h.1 + 2) ∧ (h.2.1 ≤ h'.2.1 ∧ h'.2.1 + 14 + 3 * ln + 4 * lm ≤ h.2.1 + 3 * ln' + 4 * lm' + 15) ∧ ∀ a, a < lo → h'.2.2 a = h.2.2 a := by
  have w' := w
  obtain ⟨⟨p1, p2⟩, p3, gl, gs, ⟨e1, e2, e3, e4⟩, e5, e6, e7, e8⟩ := w'
  have gl0 := gl
  have gs0 := gs
  obtain ⟨⟨la1, la2⟩, ⟨la3, la4, la5⟩, -⟩ := gl0
  obtain ⟨⟨sa1, sa2⟩, ⟨sa3, sa4, sa5⟩, -⟩ := gs0
  have wh : chW lo h p al ar ln sb ba lm ads sg 0 := ⟨⟨p1, by have := hg.1; omega⟩, by rw [hg.2.2 p p2]; exact p3, gl.of hg.1 (hg.2.2 al la2) (hg.2.2 ar la4), gs.of hg.1 (hg.2.2 sb sa2) (hg.2.2 ba sa4), ⟨e1, e2, e3, e4⟩, e5, e6, e7, e8⟩
  obtain ⟨⟨x1, x2⟩, x3⟩ := vT_el hx
  have cl : ∀ a, B + 841 ≤ a → pCls (mk B c h) a = pCls h a := fun a ha => by unfold pCls; rw [mk_out (Or.inr (Or.inr ha))]
  obtain ⟨h', ar', ba', ln', lm', y1, y2, y3, y4, y5, ⟨y6, y7⟩, y8⟩ := x_chAdd (B := B) (D := D) (cap := cap) (c := c) hS hw hlo wh (by omega) (show s < 128 by omega) ⟨Or.inr (Or.inr (by omega)), x2, by omega, by omega, by omega, by omega, by rw [cl x (by omega)]; exact x3⟩ (fun i hi => absurd hi (Nat.not_lt_zero _)) r1 (by omega)
  refine ⟨h', ar', ba', ln', lm', y1, ⟨va_up ads 0 x, va_up sg 0 s, va_up (fun _ => []) 0 c2, y2, by omega, fun i hi => ?_, ?_⟩, y3, y4, by omega, fun a ha => y8 a (by omega) (by omega) (by omega) (by omega) (by omega)⟩
  · have ci : i = 0 := by omega
    rw [ci, va_up_self, va_up_self, va_up_self]
    refine ⟨hx.of (fun a ha => ?_), hs⟩
    have ha : h0.1 ≤ a ∧ a < h.1 := ha
    refine ⟨⟨⟨by omega, by omega⟩, by omega, by omega, ?_, by omega, ?_⟩, y8 a ha.2 (by omega) (by omega) (by omega) (by omega)⟩
    · rcases y6 with q | q <;> omega
    · rcases y7 with q | q <;> omega
  · show c2 = va_up (fun _ => []) 0 c2 0
    rw [va_up_self]
theorem y_takes {c : CZ} {h : PH} {j s : Nat} (ha : cAs n b j c) (hs : s < 256) : ∃ c', fX2_takes (B + 7) (nI s) (mk B c h) = some (decide (rB n b (sSk n b j) = s), mk B c' h) ∧ cRd c c' ∧ cI c' 7 4 = cI c 7 4 ∧ (rB n b (sSk n b j) = s → cAs n b (sSk n b j + 1) c') ∧ (rB n b (sSk n b j) ≠ s → cAs n b j c') := by
  obtain ⟨a, ha, ea⟩ := ha
  have T := x_takes (B := B) (h := h) ha hs
  rw [ea] at T
  refine ⟨_, T, cRd.at c (by decide) _, cI_xI_ne _ (by omega) _, fun q => ?_, fun q => ?_⟩
  · rw [if_pos q]
    obtain ⟨b1, -⟩ := rB_lt q hs
    exact (ha.to b1).as
  · rw [if_neg q]
    exact ⟨sSk n b j, ha.to (by rw [← ea]; exact sSk_le b ha.2.2), sSk_id n b j⟩
theorem chS_b {B N lo : Nat} {h : PH} {p al ar ln sb ba lm k m : Nat} {cs : List Int32} (g : chS B N lo h p al ar ln sb ba lm k m cs) : ln ≤ 2 * m + 4 ∧ lm ≤ 2 * m + 16 ∧ (lo ≤ p ∧ p < h.1) := by
  obtain ⟨ads, sg, cc, ⟨p1, -, ⟨-, -, -, -, -, -, -, -, l5, -⟩, ⟨-, -, -, -, -, -, -, -, m5, -⟩, -⟩, -⟩ := g
  exact ⟨l5, m5, p1⟩
/-- the loop of a product -/
theorem prod_L {rS rB' : Nat → PH → Option ((Nat ⊕ Nat) × PH)} {S : Nat → RS (List Int32)} {d : Nat} {m5 : Int32} {x y k lo p al sb : Nat} (hS : dS D 4 = .int 1) (hlo : B + 841 ≤ lo) (hN : N ≤ lo) (hn : n ≤ 1600) (hp : rPg n b S) (A : vSp D cap B N n b (fX2_atom D cap rS rB') S d m5 x y k) (dm : Bool → PH → Option ((Nat ⊕ Nat) × PH)) :
    ∀ (f : Nat) (c : CZ) (h : PH) (j m ar ln ba lm : Nat) (cs : List Int32) (M : Nat), f < M → rdS D B N h → cAs n b j c → j ≤ n → n < f + j → cI c 7 4 = nI d → cI c 7 5 = m5 → chS B N lo h p al ar ln sb ba lm k m cs → 2 * m ≤ j + 1 → h.1 + 40 * (n - j) + 40 ≤ cap.1 → h.2.1 + 14 * m + 400 * (n - j) + 20100 ≤ cap.2 + 3 * ln + 4 * lm →
      ∃ c' h', cRd c c' ∧ (∀ a, a < lo → h'.2.2 a = h.2.2 a) ∧ h.1 ≤ h'.1 ∧ h.2.1 ≤ h'.2.1 ∧ hW B h' ∧ match rChain n b S opM f cs j with
        | .inl g => fx (fX2_product_L20 D cap (B + 7) rS rB' p) dm M true (mk B c h) = some (.inr (B + 8), mk B c' h') ∧ cFt c' g ∧ h'.1 ≤ h.1 + 40 * (n - j) + 40 ∧ h'.2.1 + 3 * ln + 4 * lm ≤ h.2.1 + 14 * m + 400 * (n - j) + 600
        | .inr (cs', e) => fx (fX2_product_L20 D cap (B + 7) rS rB' p) dm M true (mk B c h) = some (.inl p, mk B c' h') ∧ cI c' 7 4 = nI d ∧ cAs n b e c' ∧ (∃ m' ar' ln' ba' lm', chS B N lo h' p al ar' ln' sb ba' lm' k m' cs' ∧ 2 * m' ≤ e + 1 ∧ h'.2.1 + 14 * m' + 3 * ln + 4 * lm + 400 * (n - e) ≤ h.2.1 + 14 * m + 3 * ln' + 4 * lm' + 400 * (n - j)) ∧ h'.1 + 40 * (n - e) ≤ h.1 + 40 * (n - j)
  | 0, c, h, j, m, ar, ln, ba, lm, cs, M, _, _, _, hj, hf, _, _, _, _, _, _ => absurd hf (by omega)
  | f + 1, c, h, j, m, ar, ln, ba, lm, cs, M, hM, hd, ha, hj, hf, h4, h5, g, hm, r1, r2 => by
    obtain ⟨M, rfl⟩ : ∃ M', M = M' + 1 + 1 := ⟨M - 2, by omega⟩
    obtain ⟨gb1, gb2, gb3, gb4⟩ := chS_b g
    have hjs := sSk_ge n b j
    have hjn := sSk_le b hj
    have IH := fun c1 h1 j1 m1 ar1 ln1 ba1 lm1 cs1 q1 q2 q3 q4 q5 q6 q7 q8 q9 q10 => prod_L (p := p) (al := al) (sb := sb) hS hlo hN hn hp A dm f c1 h1 j1 m1 ar1 ln1 ba1 lm1 cs1 (M + 1) (by omega) q1 q2 q3 q4 q5 q6 q7 q8 q9 q10
    have IHf : ∀ y, fx (fX2_product_L20 D cap (B + 7) rS rB' p) dm (M + 1) false y = some (.inl p, y) := by
      intro y
      rw [fx_s]
      unfold fX2_product_L20
      rw [if_pos (by decide)]
    rw [fx_s]
    generalize fx (fX2_product_L20 D cap (B + 7) rS rB' p) dm (M + 1) = T at IH IHf ⊢
    have er : rChain n b S opM (f + 1) cs j = match opM (rB n b (sSk n b j)) with
      | none => .inr (cs, sSk n b j)
      | some o => sbd (S (sSk n b j + 1)) fun c2 e => rChain n b S opM f (cs ++ c2 ++ [o]) e := rfl
    -- behind a sign: one more part
    have stp : ∀ (s : Nat) (c2 : CZ), (s = 42 ∨ s = 47) → sSk n b j < n → cRd c c2 → cI c2 7 4 = cI c 7 4 → cAs n b (sSk n b j + 1) c2 →
        ∃ c' h', cRd c c' ∧ (∀ a, a < lo → h'.2.2 a = h.2.2 a) ∧ h.1 ≤ h'.1 ∧ h.2.1 ≤ h'.2.1 ∧ hW B h' ∧ match (sbd (S (sSk n b j + 1)) fun c2 e => rChain n b S opM f (cs ++ c2 ++ [opC s]) e) with
          | .inl g => (bnx (fX2_atom D cap rS rB' (B + 7) (mk B c2 h)) fun p4 h10 => ckc (pCls h10 p) 14 <| bnv (fX14_add D cap p (nI s) p4 h10) fun h11 => T true h11) = some (.inr (B + 8), mk B c' h') ∧ cFt c' g ∧ h'.1 ≤ h.1 + 40 * (n - j) + 40 ∧ h'.2.1 + 3 * ln + 4 * lm ≤ h.2.1 + 14 * m + 400 * (n - j) + 600
          | .inr (cs', e) => (bnx (fX2_atom D cap rS rB' (B + 7) (mk B c2 h)) fun p4 h10 => ckc (pCls h10 p) 14 <| bnv (fX14_add D cap p (nI s) p4 h10) fun h11 => T true h11) = some (.inl p, mk B c' h') ∧ cI c' 7 4 = nI d ∧ cAs n b e c' ∧ (∃ m' ar' ln' ba' lm', chS B N lo h' p al ar' ln' sb ba' lm' k m' cs' ∧ 2 * m' ≤ e + 1 ∧ h'.2.1 + 14 * m' + 3 * ln + 4 * lm + 400 * (n - e) ≤ h.2.1 + 14 * m + 3 * ln' + 4 * lm' + 400 * (n - j)) ∧ h'.1 + 40 * (n - e) ≤ h.1 + 40 * (n - j) := by
      intro s c2 hs hlt rd e4 a2
      have m52 : cI c2 7 5 = m5 := by rw [rd.1 7 5 (by omega) (by decide)]; exact h5
      obtain ⟨c3, h3, v1, v2, v3, v4⟩ := A c2 h (sSk n b j + 1) hd a2 (by omega) (by rw [e4]; exact h4) m52 (by omega) (by omega)
      cases qa : S (sSk n b j + 1) with
      | inl gg =>
        rw [qa] at v4
        obtain ⟨u1, u2, u3, u4⟩ := v4
        rw [u1, bnx_r, sbd_l]
        exact ⟨c3, h3, rd.tr v1, fun a ha => v2.2.2 a (by omega), v2.1, v2.2.1, v3, rfl, u2, by omega, by omega⟩
      | inr pp =>
        obtain ⟨cp, e2⟩ := pp
        rw [qa] at v4
        obtain ⟨px, u1, u2, u3, u4, u5, u6⟩ := v4
        obtain ⟨k1, k2⟩ := hp _ _ _ qa
        have k3 := sSk_ge n b (sSk n b j + 1)
        have hp14 : pCls (mk B c3 h3) p = some 14 := by
          obtain ⟨ads, sg, cc, ⟨⟨p1, p2⟩, p3, -⟩, -⟩ := g
          exact pCls_of (b := true) (by rw [mk_out (Or.inr (Or.inr (by omega))), v2.2.2 p p2]; exact p3)
        obtain ⟨h4', ar', ba', ln', lm', w1, w2, w3, w4, w5, w6⟩ := ch_add (N := N) (c := c3) (D := D) (cap := cap) hS v3 hlo v2 g (by omega) (show s = 42 ∨ s = 43 ∨ s = 45 ∨ s = 47 by omega) u4 (by omega) (by omega)
        rw [u1, bnx_l, hp14, ckc_s, w1, bnv_s, sbd_r]
        have hd4 : rdS D B N h4' := ⟨w3, by have := hd.2.1; have := v2.1; omega, hd.2.2.1, hd.2.2.2.gr (fun a ha _ => by rw [w6 a (by omega)]; exact v2.2.2 a (by have := hd.2.1; omega))⟩
        obtain ⟨wb1, wb2, -⟩ := chS_b w2
        obtain ⟨c5, h5', z1, z2, z3, z4, z5, z6⟩ := IH c3 h4' e2 (m + 1) ar' ln' ba' lm' (cs ++ cp ++ [opC s]) hd4 u3 k2 (by omega) u2 (by rw [v1.1 7 5 (by omega) (by decide)]; exact m52) w2 (by omega) (by omega) (by omega)
        refine ⟨c5, h5', (rd.tr v1).tr z1, fun a ha => by rw [z2 a ha, w6 a ha, v2.2.2 a (by omega)], by have := v2.1; omega, by have := v2.2.1; omega, z5, ?_⟩
        cases qr : rChain n b S opM f (cs ++ cp ++ [opC s]) e2 with
        | inl gg =>
          rw [qr] at z6
          obtain ⟨t1, t2, t3, t4⟩ := z6
          exact ⟨t1, t2, by omega, by omega⟩
        | inr pp =>
          obtain ⟨cs', e⟩ := pp
          rw [qr] at z6
          obtain ⟨t1, t2, t3, ⟨m', ar2, ln2, ba2, lm2, t4, t5, t6⟩, t7⟩ := z6
          exact ⟨t1, t2, t3, ⟨m', ar2, ln2, ba2, lm2, t4, t5, by omega⟩, by omega⟩
    obtain ⟨c1, t1, t2, t3, t4, t5⟩ := y_takes (B := B) (h := h) ha (s := 42) (by decide)
    unfold fX2_product_L20
    rw [if_neg (show ¬ bI true = 0 by decide), r_cls, ckc_s, show (42 : Int32) = nI 42 from rfl, t1, bnd_s, er]
    by_cases k42 : rB n b (sSk n b j) = 42
    · rw [decide_eq_true k42, if_neg (show ¬ bI true = 0 by decide), r_cls, ckc_s, show opM (rB n b (sSk n b j)) = some (opC 42) from by rw [k42]; rfl]
      exact stp 42 c1 (Or.inl rfl) (rB_lt k42 (by decide)).1 t2 t3 (t4 k42)
    · obtain ⟨c2, s1, s2, s3, s4, s5⟩ := y_takes (B := B) (h := h) (t5 k42) (s := 47) (by decide)
      rw [decide_eq_false k42, if_pos (show bI false = 0 by decide), r_cls, ckc_s, show (47 : Int32) = nI 47 from rfl, s1, bnd_s]
      by_cases k47 : rB n b (sSk n b j) = 47
      · rw [decide_eq_true k47, if_neg (show ¬ bI true = 0 by decide), r_cls, ckc_s, show opM (rB n b (sSk n b j)) = some (opC 47) from by rw [k47]; rfl]
        exact stp 47 c2 (Or.inr rfl) (rB_lt k47 (by decide)).1 (t2.tr s2) (s3.trans t3) (s4 k47)
      · have e0 : opM (rB n b (sSk n b j)) = none := by unfold opM; rw [if_neg k42, if_neg k47]
        rw [decide_eq_false k47, if_pos (show bI false = 0 by decide), IHf, e0]
        refine ⟨c2, h, t2.tr s2, fun _ _ => rfl, Nat.le_refl _, Nat.le_refl _, hd.1, rfl, by rw [s3, t3]; exact h4, ?_, ⟨m, ar, ln, ba, lm, g, by omega, by omega⟩, by omega⟩
        obtain ⟨a, q1, q2⟩ := s5 k47
        exact ⟨a, q1, by rw [q2, sSk_id]⟩
/-- the loop of a sum -/
theorem sum_L {rS rB' : Nat → PH → Option ((Nat ⊕ Nat) × PH)} {S : Nat → RS (List Int32)} {d : Nat} {m5 : Int32} {x y k lo p al sb : Nat} (hS : dS D 4 = .int 1) (hlo : B + 841 ≤ lo) (hN : N ≤ lo) (hn : n ≤ 1600) (hp : rPg n b S) (A : vSp D cap B N n b (fX2_product D cap rS rB') S d m5 x y k) (dm : Bool → PH → Option ((Nat ⊕ Nat) × PH)) :
    ∀ (f : Nat) (c : CZ) (h : PH) (j m ar ln ba lm : Nat) (cs : List Int32) (M : Nat), f < M → rdS D B N h → cAs n b j c → j ≤ n → n < f + j → cI c 7 4 = nI d → cI c 7 5 = m5 → chS B N lo h p al ar ln sb ba lm k m cs → 2 * m ≤ j + 1 → h.1 + 40 * (n - j) + 40 ≤ cap.1 → h.2.1 + 14 * m + 400 * (n - j) + 20100 ≤ cap.2 + 3 * ln + 4 * lm →
      ∃ c' h', cRd c c' ∧ (∀ a, a < lo → h'.2.2 a = h.2.2 a) ∧ h.1 ≤ h'.1 ∧ h.2.1 ≤ h'.2.1 ∧ hW B h' ∧ match rChain n b S opA f cs j with
        | .inl g => fx (fX2_sum_L20 D cap (B + 7) rS rB' p) dm M true (mk B c h) = some (.inr (B + 8), mk B c' h') ∧ cFt c' g ∧ h'.1 ≤ h.1 + 40 * (n - j) + 40 ∧ h'.2.1 + 3 * ln + 4 * lm ≤ h.2.1 + 14 * m + 400 * (n - j) + 600
        | .inr (cs', e) => fx (fX2_sum_L20 D cap (B + 7) rS rB' p) dm M true (mk B c h) = some (.inl p, mk B c' h') ∧ cI c' 7 4 = nI d ∧ cAs n b e c' ∧ (∃ m' ar' ln' ba' lm', chS B N lo h' p al ar' ln' sb ba' lm' k m' cs' ∧ 2 * m' ≤ e + 1 ∧ h'.2.1 + 14 * m' + 3 * ln + 4 * lm + 400 * (n - e) ≤ h.2.1 + 14 * m + 3 * ln' + 4 * lm' + 400 * (n - j)) ∧ h'.1 + 40 * (n - e) ≤ h.1 + 40 * (n - j)
  | 0, c, h, j, m, ar, ln, ba, lm, cs, M, _, _, _, hj, hf, _, _, _, _, _, _ => absurd hf (by omega)
  | f + 1, c, h, j, m, ar, ln, ba, lm, cs, M, hM, hd, ha, hj, hf, h4, h5, g, hm, r1, r2 => by
    obtain ⟨M, rfl⟩ : ∃ M', M = M' + 1 + 1 := ⟨M - 2, by omega⟩
    obtain ⟨gb1, gb2, gb3, gb4⟩ := chS_b g
    have hjs := sSk_ge n b j
    have hjn := sSk_le b hj
    have IH := fun c1 h1 j1 m1 ar1 ln1 ba1 lm1 cs1 q1 q2 q3 q4 q5 q6 q7 q8 q9 q10 => sum_L (p := p) (al := al) (sb := sb) hS hlo hN hn hp A dm f c1 h1 j1 m1 ar1 ln1 ba1 lm1 cs1 (M + 1) (by omega) q1 q2 q3 q4 q5 q6 q7 q8 q9 q10
    have IHf : ∀ y, fx (fX2_sum_L20 D cap (B + 7) rS rB' p) dm (M + 1) false y = some (.inl p, y) := by
      intro y
      rw [fx_s]
      unfold fX2_sum_L20
      rw [if_pos (by decide)]
    rw [fx_s]
    generalize fx (fX2_sum_L20 D cap (B + 7) rS rB' p) dm (M + 1) = T at IH IHf ⊢
    have er : rChain n b S opA (f + 1) cs j = match opA (rB n b (sSk n b j)) with
      | none => .inr (cs, sSk n b j)
      | some o => sbd (S (sSk n b j + 1)) fun c2 e => rChain n b S opA f (cs ++ c2 ++ [o]) e := rfl
    -- behind a sign: one more part
    have stp : ∀ (s : Nat) (c2 : CZ), (s = 43 ∨ s = 45) → sSk n b j < n → cRd c c2 → cI c2 7 4 = cI c 7 4 → cAs n b (sSk n b j + 1) c2 →
        ∃ c' h', cRd c c' ∧ (∀ a, a < lo → h'.2.2 a = h.2.2 a) ∧ h.1 ≤ h'.1 ∧ h.2.1 ≤ h'.2.1 ∧ hW B h' ∧ match (sbd (S (sSk n b j + 1)) fun c2 e => rChain n b S opA f (cs ++ c2 ++ [opC s]) e) with
          | .inl g => (bnx (fX2_product D cap rS rB' (B + 7) (mk B c2 h)) fun p4 h10 => ckc (pCls h10 p) 14 <| bnv (fX14_add D cap p (nI s) p4 h10) fun h11 => T true h11) = some (.inr (B + 8), mk B c' h') ∧ cFt c' g ∧ h'.1 ≤ h.1 + 40 * (n - j) + 40 ∧ h'.2.1 + 3 * ln + 4 * lm ≤ h.2.1 + 14 * m + 400 * (n - j) + 600
          | .inr (cs', e) => (bnx (fX2_product D cap rS rB' (B + 7) (mk B c2 h)) fun p4 h10 => ckc (pCls h10 p) 14 <| bnv (fX14_add D cap p (nI s) p4 h10) fun h11 => T true h11) = some (.inl p, mk B c' h') ∧ cI c' 7 4 = nI d ∧ cAs n b e c' ∧ (∃ m' ar' ln' ba' lm', chS B N lo h' p al ar' ln' sb ba' lm' k m' cs' ∧ 2 * m' ≤ e + 1 ∧ h'.2.1 + 14 * m' + 3 * ln + 4 * lm + 400 * (n - e) ≤ h.2.1 + 14 * m + 3 * ln' + 4 * lm' + 400 * (n - j)) ∧ h'.1 + 40 * (n - e) ≤ h.1 + 40 * (n - j) := by
      intro s c2 hs hlt rd e4 a2
      have m52 : cI c2 7 5 = m5 := by rw [rd.1 7 5 (by omega) (by decide)]; exact h5
      obtain ⟨c3, h3, v1, v2, v3, v4⟩ := A c2 h (sSk n b j + 1) hd a2 (by omega) (by rw [e4]; exact h4) m52 (by omega) (by omega)
      cases qa : S (sSk n b j + 1) with
      | inl gg =>
        rw [qa] at v4
        obtain ⟨u1, u2, u3, u4⟩ := v4
        rw [u1, bnx_r, sbd_l]
        exact ⟨c3, h3, rd.tr v1, fun a ha => v2.2.2 a (by omega), v2.1, v2.2.1, v3, rfl, u2, by omega, by omega⟩
      | inr pp =>
        obtain ⟨cp, e2⟩ := pp
        rw [qa] at v4
        obtain ⟨px, u1, u2, u3, u4, u5, u6⟩ := v4
        obtain ⟨k1, k2⟩ := hp _ _ _ qa
        have k3 := sSk_ge n b (sSk n b j + 1)
        have hp14 : pCls (mk B c3 h3) p = some 14 := by
          obtain ⟨ads, sg, cc, ⟨⟨p1, p2⟩, p3, -⟩, -⟩ := g
          exact pCls_of (b := true) (by rw [mk_out (Or.inr (Or.inr (by omega))), v2.2.2 p p2]; exact p3)
        obtain ⟨h4', ar', ba', ln', lm', w1, w2, w3, w4, w5, w6⟩ := ch_add (N := N) (c := c3) (D := D) (cap := cap) hS v3 hlo v2 g (by omega) (show s = 42 ∨ s = 43 ∨ s = 45 ∨ s = 47 by omega) u4 (by omega) (by omega)
        rw [u1, bnx_l, hp14, ckc_s, w1, bnv_s, sbd_r]
        have hd4 : rdS D B N h4' := ⟨w3, by have := hd.2.1; have := v2.1; omega, hd.2.2.1, hd.2.2.2.gr (fun a ha _ => by rw [w6 a (by omega)]; exact v2.2.2 a (by have := hd.2.1; omega))⟩
        obtain ⟨wb1, wb2, -⟩ := chS_b w2
        obtain ⟨c5, h5', z1, z2, z3, z4, z5, z6⟩ := IH c3 h4' e2 (m + 1) ar' ln' ba' lm' (cs ++ cp ++ [opC s]) hd4 u3 k2 (by omega) u2 (by rw [v1.1 7 5 (by omega) (by decide)]; exact m52) w2 (by omega) (by omega) (by omega)
        refine ⟨c5, h5', (rd.tr v1).tr z1, fun a ha => by rw [z2 a ha, w6 a ha, v2.2.2 a (by omega)], by have := v2.1; omega, by have := v2.2.1; omega, z5, ?_⟩
        cases qr : rChain n b S opA f (cs ++ cp ++ [opC s]) e2 with
        | inl gg =>
          rw [qr] at z6
          obtain ⟨t1, t2, t3, t4⟩ := z6
          exact ⟨t1, t2, by omega, by omega⟩
        | inr pp =>
          obtain ⟨cs', e⟩ := pp
          rw [qr] at z6
          obtain ⟨t1, t2, t3, ⟨m', ar2, ln2, ba2, lm2, t4, t5, t6⟩, t7⟩ := z6
          exact ⟨t1, t2, t3, ⟨m', ar2, ln2, ba2, lm2, t4, t5, by omega⟩, by omega⟩
    obtain ⟨c1, t1, t2, t3, t4, t5⟩ := y_takes (B := B) (h := h) ha (s := 43) (by decide)
    unfold fX2_sum_L20
    rw [if_neg (show ¬ bI true = 0 by decide), r_cls, ckc_s, show (43 : Int32) = nI 43 from rfl, t1, bnd_s, er]
    by_cases k43 : rB n b (sSk n b j) = 43
    · rw [decide_eq_true k43, if_neg (show ¬ bI true = 0 by decide), r_cls, ckc_s, show opA (rB n b (sSk n b j)) = some (opC 43) from by rw [k43]; rfl]
      exact stp 43 c1 (Or.inl rfl) (rB_lt k43 (by decide)).1 t2 t3 (t4 k43)
    · obtain ⟨c2, s1, s2, s3, s4, s5⟩ := y_takes (B := B) (h := h) (t5 k43) (s := 45) (by decide)
      rw [decide_eq_false k43, if_pos (show bI false = 0 by decide), r_cls, ckc_s, show (45 : Int32) = nI 45 from rfl, s1, bnd_s]
      by_cases k45 : rB n b (sSk n b j) = 45
      · rw [decide_eq_true k45, if_neg (show ¬ bI true = 0 by decide), r_cls, ckc_s, show opA (rB n b (sSk n b j)) = some (opC 45) from by rw [k45]; rfl]
        exact stp 45 c2 (Or.inr rfl) (rB_lt k45 (by decide)).1 (t2.tr s2) (s3.trans t3) (s4 k45)
      · have e0 : opA (rB n b (sSk n b j)) = none := by unfold opA; rw [if_neg k43, if_neg k45]
        rw [decide_eq_false k45, if_pos (show bI false = 0 by decide), IHf, e0]
        refine ⟨c2, h, t2.tr s2, fun _ _ => rfl, Nat.le_refl _, Nat.le_refl _, hd.1, rfl, by rw [s3, t3]; exact h4, ?_, ⟨m, ar, ln, ba, lm, g, by omega, by omega⟩, by omega⟩
        obtain ⟨a, q1, q2⟩ := s5 k45
        exact ⟨a, q1, by rw [q2, sSk_id]⟩
end SM
