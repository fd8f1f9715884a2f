/-! PART 26: plain: tests joined -/
set_option maxRecDepth 100000
/-- F reads tests as S says -/
def tSp (D : PD) (cap : Nat × Nat) (B N n : Nat) (b : Nat → Nat) (F : Nat → PH → Option ((Nat ⊕ Nat) × PH)) (S : Nat → RS (List Int32)) (d : Nat) (mk5 : Int32) (x y w k : Nat) : Prop :=
  ∀ (c : CZ) (h : PH) (j : Nat), rdS D B N h → cAs n b j c → j ≤ n → cI c 7 4 = nI d → cI c 7 5 = mk5 → h.1 + 60 * (n - j) + 100 ≤ cap.1 + x → h.2.1 + 800 * (n - j) + 40000 ≤ cap.2 + y →
    ∃ c' h', cRd c c' ∧ hGr h h' ∧ hW B h' ∧ match S j with
      | .inl g => F (B + 7) (mk B c h) = some (.inr (B + 8), mk B c' h') ∧ cFt c' g ∧ h'.1 + x ≤ h.1 + 60 * (n - j) + 100 ∧ h'.2.1 + y ≤ h.2.1 + 800 * (n - j) + 1000
      | .inr (cs, e) => ∃ p, F (B + 7) (mk B c h) = some (.inl p, mk B c' h') ∧ cI c' 7 4 = nI d ∧ cAs n b e c' ∧ tT (iv h.1 h'.1) B k h' p cs ∧ h'.1 + x + 60 * (n - e) ≤ h.1 + 60 * (n - j) ∧ h'.2.1 + y + 800 * (n - e) ≤ h.2.1 + 800 * (n - j) + w * wl n b e
theorem wl_le {n : Nat} (b : Nat → Nat) {j : Nat} (hj : j ≤ n) : sSk n b j + wl n b j ≤ n := by
  have h1 := sSk_le b hj
  have h2 := sWhF_ge isL b (n - sSk n b j) (sSk n b j)
  unfold wl sWe
  omega
theorem wl_sk (n : Nat) (b : Nat → Nat) (j : Nat) : wl n b (sSk n b j) = wl n b j := by unfold wl; rw [sSk_id]
theorem rPas_w {n : Nat} {b : Nat → Nat} {j : Nat} {W : List Nat} {v : List Nat × Nat} {e : Nat} (h : rWordJ n b (sSk n b j) = .inr (v, e)) : rPas n b W j = if v.1 = W then .inr (true, e) else .inr (false, j) := by
  unfold rPas
  obtain ⟨h1, h2, h3, h4, h5, h6, h7⟩ := rWordJ_r h
  rw [hB_f h]
  by_cases c : v.1 = W
  · rw [if_pos (decide_eq_true c), if_pos c, h5]
  · rw [if_neg (by rw [decide_eq_false c]; decide), if_neg c, if_neg (by rw [h3]; intro q; exact Bool.noConfusion q.2)]
theorem rPas_l {n : Nat} {b : Nat → Nat} {j : Nat} {W : List Nat} {g : Nat × Nat} (h : rWordJ n b (sSk n b j) = .inl g) : rPas n b W j = if isL (rB n b (sSk n b j)) = true then .inl g else .inr (false, j) := by
  unfold rPas
  obtain ⟨h1, h2⟩ := rWordJ_l h
  have hb : hB n b (sSk n b j) W = false := by unfold hB; rw [h]
  rw [if_neg (by rw [hb]; decide)]
  by_cases c : isL (rB n b (sSk n b j)) = true
  · have p : pv b (sSk n b j) = true := by
      cases q : pv b (sSk n b j) with
      | true => rfl
      | false => exact absurd ⟨c, q⟩ h2
    rw [if_pos ⟨c, p⟩, if_pos c, h1]
  · rw [if_neg (fun q => c q.1), if_neg c]
theorem x_jnNew {B : Nat} {D : PD} {cap : Nat × Nat} {c : CZ} {h : PH} (all : Bool) (hw : hW B h) (r1 : h.1 + 3 ≤ cap.1) (r2 : h.2.1 + 7 ≤ cap.2) :
    ∃ h1 h2, pNew cap (mk B c h) (.inr (10, [.null, .int 0])) 2 = some (h.1, mk B c h1) ∧ fX10_init D cap h.1 all (mk B c h1) = some (mk B c h2) ∧ pF (mk B c h2) h.1 10 0 = some (.ref (h.1 + 1)) ∧ jnW h.1 h2 h.1 (h.1 + 1) (h.1 + 2) 2 all (fun _ => 0) 0 ∧ hW B h2 ∧ hGr h h2 ∧ h2.1 = h.1 + 3 ∧ h2.2.1 = h.2.1 + 7 := by
  have hB := hw.1
  refine ⟨hNew h (.inr (10, [.null, .int 0])) 2, ?_⟩
  rw [mk_new hB (by omega) (by omega)]
  have w1 := hw.new (.inr (10, [.null, .int 0])) 2
  have g1 := hGr.new h (.inr (10, [.null, .int 0])) 2
  have d1 := hN_at h (.inr (10, [.null, .int 0])) 2
  have n1 : (hNew h (.inr (10, [.null, .int 0])) 2).1 = h.1 + 1 := rfl
  have s1 : (hNew h (.inr (10, [.null, .int 0])) 2).2.1 = h.2.1 + 2 := rfl
  generalize hNew h (.inr (10, [.null, .int 0])) 2 = h1 at w1 g1 d1 n1 s1
  have op : outB B h.1 := Or.inr (Or.inr hB)
  unfold fX10_init fX9_init
  rw [bnv_s, mk_new w1.1 (by omega) (by omega), bnd_s]
  have w2 := w1.new (.inr (21, [.int 0, .null, .int 0])) 3
  have g2 := g1.tr (hGr.new h1 (.inr (21, [.int 0, .null, .int 0])) 3)
  have d2 := hN_at h1 (.inr (21, [.int 0, .null, .int 0])) 3
  have p2 : (hNew h1 (.inr (21, [.int 0, .null, .int 0])) 3).2.2 h.1 = some (true, .inr (10, [.null, .int 0])) := by rw [hN_ne _ _ _ (by omega)]; exact d1
  have n2 : (hNew h1 (.inr (21, [.int 0, .null, .int 0])) 3).1 = h.1 + 2 := by show h1.1 + 1 = _; omega
  have s2 : (hNew h1 (.inr (21, [.int 0, .null, .int 0])) 3).2.1 = h.2.1 + 5 := by show h1.2.1 + 3 = _; omega
  generalize hNew h1 (.inr (21, [.int 0, .null, .int 0])) 3 = h2 at w2 g2 d2 p2 n2 s2
  rw [n1] at d2 ⊢
  rw [show fJ2_init D cap (h.1 + 1) 2 (mk B c h2) = _ from x_lInit (k := 2) w2 (by decide) (by omega) (by omega) d2 (by omega) (by omega), bnv_s]
  have w3 := (w2.new (qArr 2 fun _ => none) 2).put (a := h.1 + 1) (by show h.1 + 1 < h2.1 + 1; omega) (.inr (21, [.int 0, .ref h2.1, .int 0]))
  have g3 := (g2.tr (hGr.new h2 (qArr 2 fun _ => none) 2)).put (a := h.1 + 1) (by omega) (.inr (21, [.int 0, .ref h2.1, .int 0]))
  have d3 : (pPutE (hNew h2 (qArr 2 fun _ => none) 2) (h.1 + 1) (.inr (21, [.int 0, .ref h2.1, .int 0]))).2.2 (h.1 + 1) = some (true, .inr (21, [.int 0, .ref h2.1, .int 0])) := pE_at _ _ _
  have t3 : (pPutE (hNew h2 (qArr 2 fun _ => none) 2) (h.1 + 1) (.inr (21, [.int 0, .ref h2.1, .int 0]))).2.2 (h.1 + 2) = some (true, qArr 2 fun _ => none) := by rw [pE_ne _ (by omega), ← n2, hN_at]
  have p3 : (pPutE (hNew h2 (qArr 2 fun _ => none) 2) (h.1 + 1) (.inr (21, [.int 0, .ref h2.1, .int 0]))).2.2 h.1 = some (true, .inr (10, [.null, .int 0])) := by rw [pE_ne _ (by omega), hN_ne _ _ _ (by omega)]; exact p2
  have n3 : (pPutE (hNew h2 (qArr 2 fun _ => none) 2) (h.1 + 1) (.inr (21, [.int 0, .ref h2.1, .int 0]))).1 = h.1 + 3 := by show h2.1 + 1 = _; omega
  have s3 : (pPutE (hNew h2 (qArr 2 fun _ => none) 2) (h.1 + 1) (.inr (21, [.int 0, .ref h2.1, .int 0]))).2.1 = h.2.1 + 7 := by show h2.2.1 + 2 = _; omega
  generalize pPutE (hNew h2 (qArr 2 fun _ => none) 2) (h.1 + 1) (.inr (21, [.int 0, .ref h2.1, .int 0])) = h3 at w3 g3 d3 t3 p3 n3 s3
  rw [n2] at d3
  rw [mk_pO op p3 (by decide), bnv_s, mk_pO op (pE_at _ _ _) (show 1 < 2 by decide), bnv_s, pE_pE, show (([.null, .int 0] : List Value).set 0 (.ref (h.1 + 1))).set 1 (.int (bI all)) = [.ref (h.1 + 1), .int (bI all)] from rfl]
  have w4 := w3.put (a := h.1) (by omega) (.inr (10, [.ref (h.1 + 1), .int (bI all)]))
  have g4 := g3.put (a := h.1) (Nat.le_refl _) (.inr (10, [.ref (h.1 + 1), .int (bI all)]))
  have d4 : (pPutE h3 h.1 (.inr (10, [.ref (h.1 + 1), .int (bI all)]))).2.2 (h.1 + 1) = some (true, .inr (21, [.int 0, .ref (h.1 + 2), .int 0])) := by rw [pE_ne _ (by omega)]; exact d3
  have t4 : (pPutE h3 h.1 (.inr (10, [.ref (h.1 + 1), .int (bI all)]))).2.2 (h.1 + 2) = some (true, qArr 2 fun _ => none) := by rw [pE_ne _ (by omega)]; exact t3
  have p4 : (pPutE h3 h.1 (.inr (10, [.ref (h.1 + 1), .int (bI all)]))).2.2 h.1 = some (true, .inr (10, [.ref (h.1 + 1), .int (bI all)])) := pE_at _ _ _
  have n4 : (pPutE h3 h.1 (.inr (10, [.ref (h.1 + 1), .int (bI all)]))).1 = h.1 + 3 := n3
  have s4 : (pPutE h3 h.1 (.inr (10, [.ref (h.1 + 1), .int (bI all)]))).2.1 = h.2.1 + 7 := s3
  refine ⟨_, rfl, rfl, pF_of (k := 0) (b := true) (by rw [mk_out op]; exact p4) rfl, ⟨⟨Nat.le_refl _, by rw [n4]; omega⟩, p4, ⟨⟨by omega, by rw [n4]; omega⟩, ⟨by omega, by rw [n4]; omega, by omega⟩, 0, fun _ => none, d4, t4, by omega, by omega, by omega, by omega, fun i hi => absurd hi (Nat.not_lt_zero _)⟩, by omega, by omega⟩, w4, g4, n4, s4⟩
section SS
variable {B N n : Nat} {b : Nat → Nat} {D : PD} {cap : Nat × Nat}
/-- the loop of bth -/
theorem bth_L {rS rB' rU rF : Nat → PH → Option ((Nat ⊕ Nat) × PH)} {S : Nat → RS (List Int32)} {d : Nat} {m5 : Int32} {x y k lo p al : Nat} (hlo : B + 841 ≤ lo) (hN : N ≤ lo) (hn : n ≤ 1600) (hp : rPg n b S) (A : tSp D cap B N n b (fX2_fact D cap rS rB' rU rF) S d m5 x y 0 k) (dm : PH → Option ((Nat ⊕ Nat) × PH)) :
    ∀ (f : Nat) (c : CZ) (h : PH) (j m ar ln : Nat) (cs : List Int32) (M : Nat), f < M → rdS D B N h → cAs n b j c → j ≤ n → n < f + j → cI c 7 4 = nI d → cI c 7 5 = m5 → jnS B lo h p al ar ln true k m cs → 2 * m ≤ j + 1 → h.1 + 60 * (n - j) + 100 ≤ cap.1 → h.2.1 + 6 * m + 800 * (n - j) + 40100 ≤ cap.2 + 3 * ln + 0 * wl n b j →
      ∃ c' h', cRd c c' ∧ (∀ a, a < lo → h'.2.2 a = h.2.2 a) ∧ h.1 ≤ h'.1 ∧ h.2.1 ≤ h'.2.1 ∧ hW B h' ∧ match rChainW n b S wAnd 10 f cs j with
        | .inl g => fx (fX2_both_L23 D cap (B + 7) rS rB' rU rF p) dm M (mk B c h) = some (.inr (B + 8), mk B c' h') ∧ cFt c' g ∧ h'.1 ≤ h.1 + 60 * (n - j) + 100 ∧ h'.2.1 + 3 * ln + 0 * wl n b j ≤ h.2.1 + 6 * m + 800 * (n - j) + 1100
        | .inr (cs', e) => fx (fX2_both_L23 D cap (B + 7) rS rB' rU rF p) dm M (mk B c h) = some (.inl p, mk B c' h') ∧ cI c' 7 4 = nI d ∧ cAs n b e c' ∧ (∃ m' ar' ln', jnS B lo h' p al ar' ln' true k m' cs' ∧ 2 * m' ≤ e + 1 ∧ h'.2.1 + 6 * m' + 3 * ln + 800 * (n - e) + 0 * wl n b j ≤ h.2.1 + 6 * m + 3 * ln' + 800 * (n - j) + 2 * wl n b e + 4) ∧ h'.1 + 60 * (n - e) ≤ h.1 + 60 * (n - j) + 3
  | 0, c, h, j, m, ar, ln, cs, M, _, _, _, hj, hf, _, _, _, _, _, _ => absurd hf (by omega)
  | f + 1, c, h, j, m, ar, ln, cs, M, hM, hd, ha, hj, hf, h4, h5, g, hm, r1, r2 => by
    obtain ⟨M, rfl⟩ : ∃ M', M = M' + 1 := ⟨M - 1, by omega⟩
    obtain ⟨gb1, gb3, gb4⟩ := jnS_b g
    have hjs := sSk_ge n b j
    have hjn := sSk_le b hj
    have hwl := wl_le b hj
    have IH := fun c1 h1 j1 m1 ar1 ln1 cs1 q1 q2 q3 q4 q5 q6 q7 q8 q9 q10 => bth_L (p := p) (al := al) hlo hN hn hp A dm f c1 h1 j1 m1 ar1 ln1 cs1 M (by omega) q1 q2 q3 q4 q5 q6 q7 q8 q9 q10
    rw [fx_s]
    generalize fx (fX2_both_L23 D cap (B + 7) rS rB' rU rF p) dm M = T at IH ⊢
    have er : rChainW n b S wAnd 10 (f + 1) cs j = match rWordJ n b (sSk n b j) with
      | .inr (v, e) => if v.1 = wAnd then sbd (S e) fun c2 e2 => rChainW n b S wAnd 10 f (cs ++ c2 ++ [10]) e2 else .inr (cs, sSk n b j)
      | .inl g => if isL (rB n b (sSk n b j)) = true then .inl g else .inr (cs, sSk n b j) := rfl
    obtain ⟨c1, h1, ⟨x1, x2, x3, x4, x5⟩, P2⟩ := y_passes (D := D) (cap := cap) (c := c) hd ha (i := 18) (by decide) (by omega) (by omega)
    have eW : kWd.getD 18 [] = wAnd := rfl
    rw [eW] at P2
    have hd1 := hd.gr x2 x3
    have x21 := x2.1
    have x22 := x2.2.1
    -- nothing more
    have stop : rPas n b wAnd j = .inr (false, j) → ∃ c' h', cRd c c' ∧ (∀ a, a < lo → h'.2.2 a = h.2.2 a) ∧ h.1 ≤ h'.1 ∧ h.2.1 ≤ h'.2.1 ∧ hW B h' ∧ fX2_both_L23 D cap (B + 7) rS rB' rU rF p T (mk B c h) = some (.inl p, mk B c' h') ∧ cI c' 7 4 = nI d ∧ cAs n b (sSk n b j) c' ∧ (∃ m' ar' ln', jnS B lo h' p al ar' ln' true k m' cs ∧ 2 * m' ≤ sSk n b j + 1 ∧ h'.2.1 + 6 * m' + 3 * ln + 800 * (n - sSk n b j) + 0 * wl n b j ≤ h.2.1 + 6 * m + 3 * ln' + 800 * (n - j) + 2 * wl n b (sSk n b j) + 4) ∧ h'.1 + 60 * (n - sSk n b j) ≤ h.1 + 60 * (n - j) + 3 := by
      intro q
      rw [q] at P2
      obtain ⟨p1, p2, p3, -⟩ := P2
      unfold fX2_both_L23
      rw [r_cls, ckc_s, p1, bnx_l, if_pos (show bI false = 0 by decide), wl_sk]
      refine ⟨c1, h1, x1, fun a ha => x2.2.2 a (by omega), x21, x22, x3, rfl, by rw [p2]; exact h4, ?_, ⟨m, ar, ln, ?_, by omega, by omega⟩, by omega⟩
      · obtain ⟨a, q1, q2⟩ := p3
        exact ⟨a, q1, by rw [q2, sSk_id]⟩
      · obtain ⟨ads, cc, ⟨⟨u1, u2⟩, u3, u4, u5⟩, u6, u7, u8⟩ := g
        have u40 := u4
        obtain ⟨⟨v1, v2⟩, ⟨v3, v4, v5⟩, -⟩ := u40
        exact ⟨ads, cc, ⟨⟨u1, by omega⟩, by rw [x2.2.2 p u2]; exact u3, u4.of x21 (x2.2.2 al v2) (x2.2.2 ar v4), u5⟩, u6, fun i hi => (u7 i hi).of (fun a ha => ⟨ivy_up ha x21 (Or.inl rfl), x2.2.2 a ha.1.2⟩), u8⟩
    rw [er]
    cases qw : rWordJ n b (sSk n b j) with
    | inl gg =>
      have eP := rPas_l (W := wAnd) qw
      by_cases il : isL (rB n b (sSk n b j)) = true
      · rw [if_pos il] at eP
        rw [eP] at P2
        obtain ⟨p1, p2⟩ := P2
        refine ⟨c1, h1, x1, fun a ha => x2.2.2 a (by omega), x21, x22, x3, ?_⟩
        show match (if isL (rB n b (sSk n b j)) = true then .inl gg else .inr (cs, sSk n b j) : RS (List Int32)) with
          | .inl g => _
          | .inr (cs', e) => _
        rw [if_pos il]
        unfold fX2_both_L23
        rw [r_cls, ckc_s, p1, bnx_r]
        exact ⟨rfl, p2, by omega, by omega⟩
      · rw [if_neg il] at eP
        obtain ⟨c', h', s1, s2, s3, s4, s5, s6⟩ := stop eP
        refine ⟨c', h', s1, s2, s3, s4, s5, ?_⟩
        show match (if isL (rB n b (sSk n b j)) = true then .inl gg else .inr (cs, sSk n b j) : RS (List Int32)) with
          | .inl g => _
          | .inr (cs', e) => _
        rw [if_neg il]
        exact s6
    | inr pp =>
      obtain ⟨v, e1⟩ := pp
      have eP := rPas_w (W := wAnd) qw
      obtain ⟨b1, b2, b3, b4, b5, b6, b7⟩ := rWordJ_r qw
      have ewl : wl n b j = e1 - sSk n b j := by unfold wl; rw [b5]
      by_cases cw : v.1 = wAnd
      · rw [if_pos cw] at eP
        rw [eP] at P2
        obtain ⟨p1, p2, p3, -⟩ := P2
        show ∃ c' h', _ ∧ _ ∧ _ ∧ _ ∧ _ ∧ match (if v.1 = wAnd then sbd (S e1) fun c2 e2 => rChainW n b S wAnd 10 f (cs ++ c2 ++ [10]) e2 else .inr (cs, sSk n b j)) with
          | .inl g => _
          | .inr (cs', e) => _
        rw [if_pos cw]
        obtain ⟨ads, cc, w0, u6, u7, u8⟩ := g
        have w00 := w0
        obtain ⟨⟨u1, u2⟩, u3, u4, u5⟩ := w00
        have u40 := u4
        obtain ⟨⟨v1, v2⟩, ⟨v3, v4, v5⟩, -⟩ := u40
        have pF1 : pF (mk B c1 h1) p 10 0 = some (.ref al) := pF_of (k := 0) (b := true) (by rw [mk_out (Or.inr (Or.inr (by omega))), x2.2.2 p u2]; exact u3) rfl
        unfold fX2_both_L23
        rw [r_cls, ckc_s, p1, bnx_l, if_neg (show ¬ bI true = 0 by decide), pF1, vA_s, r_cls, ckc_s]
        have m51 : cI c1 7 5 = m5 := by rw [x1.1 7 5 (by omega) (by decide)]; exact h5
        obtain ⟨c3, h3, y1, y2, y3, y4⟩ := A c1 h1 e1 hd1 p3 b7 (by rw [p2]; exact h4) m51 (by omega) (by omega)
        have y21 := y2.1
        have y22 := y2.2.1
        cases qa : S e1 with
        | inl gg =>
          rw [qa] at y4
          obtain ⟨z1, z2, z3, z4⟩ := y4
          rw [z1, bnx_r, sbd_l]
          exact ⟨c3, h3, x1.tr y1, fun a ha => by rw [y2.2.2 a (by omega), x2.2.2 a (by omega)], by omega, by omega, y3, rfl, z2, by omega, by omega⟩
        | inr pp =>
          obtain ⟨cp, e2⟩ := pp
          rw [qa] at y4
          obtain ⟨px, z1, z2, z3, z4, z5, z6⟩ := y4
          obtain ⟨k1, k2⟩ := hp _ _ _ qa
          have k3 := sSk_ge n b e1
          have k4 := wl_le b k2
          have k5 := sSk_ge n b e2
          obtain ⟨-, t1, h4', ar', ln', t2, t3, t4, t5, t6, t7, t8⟩ := jn_add (c := c3) (D := D) (cap := cap) y3 hlo (x2.tr y2) w0 u7 (by omega) (z4.of (fun a ha => ⟨⟨by have := ha.1; omega, ha.2⟩, rfl⟩)) (by omega) (by omega)
          rw [z1, bnx_l, t1, ckc_s, t2, bnd_s, sbd_r]
          have g4 : jnS B lo h4' p al ar' ln' true k (m + 1) (cs ++ cp ++ [10]) := by
            refine ⟨_, _, t3, by omega, t4, ?_⟩
            obtain ⟨m, rfl⟩ : ∃ m', m = m' + 1 := ⟨m - 1, by omega⟩
            rw [chC_up, ← u8]
            rfl
          have hd4 : rdS D B N h4' := ⟨t5, by have := hd.2.1; omega, hd.2.2.1, hd.2.2.2.gr (fun a ha _ => by rw [t8 a (by omega)]; exact (x2.tr y2).2.2 a (by have := hd.2.1; omega))⟩
          obtain ⟨wb1, -⟩ := jnS_b g4
          obtain ⟨c5, h5', o1, o2, o3, o4, o5, o6⟩ := IH c3 h4' e2 (m + 1) ar' ln' (cs ++ cp ++ [10]) hd4 z3 k2 (by omega) z2 (by rw [y1.1 7 5 (by omega) (by decide)]; exact m51) g4 (by omega) (by omega) (by omega)
          refine ⟨c5, h5', (x1.tr y1).tr o1, fun a ha => by rw [o2 a ha, t8 a ha, (x2.tr y2).2.2 a (by omega)], by omega, by omega, o5, ?_⟩
          cases qr : rChainW n b S wAnd 10 f (cs ++ cp ++ [10]) e2 with
          | inl gg =>
            rw [qr] at o6
            obtain ⟨i1, i2, i3, i4⟩ := o6
            exact ⟨i1, i2, by omega, by omega⟩
          | inr pp =>
            obtain ⟨cs', e⟩ := pp
            rw [qr] at o6
            obtain ⟨i1, i2, i3, ⟨m', ar2, ln2, i4, i5, i6⟩, i7⟩ := o6
            exact ⟨i1, i2, i3, ⟨m', ar2, ln2, i4, i5, by omega⟩, by omega⟩
      · rw [if_neg cw] at eP
        obtain ⟨c', h', s1, s2, s3, s4, s5, s6⟩ := stop eP
        refine ⟨c', h', s1, s2, s3, s4, s5, ?_⟩
        show match (if v.1 = wAnd then sbd (S e1) fun c2 e2 => rChainW n b S wAnd 10 f (cs ++ c2 ++ [10]) e2 else .inr (cs, sSk n b j)) with
          | .inl g => _
          | .inr (cs', e) => _
        rw [if_neg cw]
        exact s6
def rBothX (n : Nat) (b : Nat → Nat) (S : Nat → RS (List Int32)) (i : Nat) : RS (List Int32) := sbd (S i) fun c e => rChainW n b S wAnd 10 (n + 1) c e
theorem y_bth {rS rB' rU rF : Nat → PH → Option ((Nat ⊕ Nat) × PH)} {S : Nat → RS (List Int32)} {d : Nat} {m5 : Int32} {x y k : Nat} (hx : x ≤ 60) (hy : y ≤ 400) (hn : n ≤ 1600) (hp : rPg n b S) (A : tSp D cap B N n b (fX2_fact D cap rS rB' rU rF) S d m5 (x + 10) (y + 120) 0 k) :
    tSp D cap B N n b (fX2_both D cap rS rB' rU rF) (rBothX n b S) d m5 x y 2 (k + 1) := by
  intro c h j hd ha hj h4 h5 r1 r2
  obtain ⟨h1, h2, n1, n2, n8, n3, n4, n5, n6, n7⟩ := x_jnNew (B := B) (D := D) (cap := cap) (c := c) true hd.1 (by omega) (by omega)
  unfold fX2_both
  rw [n1, bnd_s, n2, bnv_s, n8, vA_s, r_cls, ckc_s]
  have hd2 := hd.gr n5 n4
  obtain ⟨c3, h3, v1, v2, v3, v4⟩ := A c h2 j hd2 ha hj h4 h5 (by omega) (by omega)
  have eS : rBothX n b S j = sbd (S j) fun c e => rChainW n b S wAnd 10 (n + 1) c e := rfl
  rw [eS]
  cases qa : S j with
  | inl gg =>
    rw [qa] at v4
    obtain ⟨u1, u2, u3, u4⟩ := v4
    rw [u1, bnx_r, sbd_l]
    exact ⟨c3, h3, v1, n5.tr v2, v3, rfl, u2, by omega, by omega⟩
  | inr pp =>
    obtain ⟨cp, e2⟩ := pp
    rw [qa] at v4
    obtain ⟨px, u1, u2, u3, u4, u5, u6⟩ := v4
    obtain ⟨k1, k2⟩ := hp _ _ _ qa
    have k3 := sSk_ge n b j
    have k4 := wl_le b k2
    have k5 := sSk_ge n b e2
    have g34 := v2.1
    have g35 := v2.2.1
    obtain ⟨-, t1, h4', ar', ln', t2, t3, t4, t5, t6, t7, t8⟩ := jn_add (c := c3) (D := D) (cap := cap) (cc := fun _ => []) v3 hd.1.1 v2 n3 (fun i hi => absurd hi (Nat.not_lt_zero _)) (by omega) u4 (by omega) (by omega)
    rw [u1, bnx_l, t1, ckc_s, t2, bnd_s, sbd_r]
    have g4 : jnS B h.1 h4' h.1 (h.1 + 1) ar' ln' true k 1 cp := ⟨_, _, t3, by omega, t4, by show cp = va_up (fun _ => []) 0 cp 0; rw [va_up_self]⟩
    have hd4 : rdS D B N h4' := ⟨t5, by have := hd.2.1; omega, hd.2.2.1, hd2.2.2.2.gr (fun a ha _ => by rw [t8 a (by have := hd.2.1; omega)]; exact v2.2.2 a (by have := hd.2.1; omega))⟩
    obtain ⟨wb1, -⟩ := jnS_b g4
    obtain ⟨c5, h5', z1, z2, z3, z4, z5, z6⟩ := bth_L (p := h.1) (al := h.1 + 1) (lo := h.1) hd.1.1 hd.2.1 hn hp A (fun _ => none) (n + 1) c3 h4' e2 1 ar' ln' cp FU (FU_gt (by omega)) hd4 u3 k2 (by omega) u2 (by rw [v1.1 7 5 (by omega) (by decide)]; exact h5) g4 (by omega) (by omega) (by omega)
    have hgr : hGr h h5' := ⟨by have := n5.1; omega, by have := n5.2.1; omega, fun a ha => by rw [z2 a ha, t8 a ha, v2.2.2 a (by omega), n5.2.2 a ha]⟩
    refine ⟨c5, h5', v1.tr z1, hgr, z5, ?_⟩
    cases qr : rChainW n b S wAnd 10 (n + 1) cp e2 with
    | inl gg =>
      rw [qr] at z6
      obtain ⟨i1, i2, i3, i4⟩ := z6
      exact ⟨i1, i2, by omega, by omega⟩
    | inr pp =>
      obtain ⟨cs', e⟩ := pp
      rw [qr] at z6
      obtain ⟨i1, i2, i3, ⟨m', ar2, ln2, i4, i5, i6⟩, i7⟩ := z6
      obtain ⟨tb1, -⟩ := jnS_b i4
      exact ⟨h.1, i1, i2, i3, i4.tt, by omega, by omega⟩
/-- the loop of tst -/
theorem tst_L {rS rB' rU rF : Nat → PH → Option ((Nat ⊕ Nat) × PH)} {S : Nat → RS (List Int32)} {d : Nat} {m5 : Int32} {x y k lo p al : Nat} (hlo : B + 841 ≤ lo) (hN : N ≤ lo) (hn : n ≤ 1600) (hp : rPg n b S) (A : tSp D cap B N n b (fX2_both D cap rS rB' rU rF) S d m5 x y 2 k) (dm : PH → Option ((Nat ⊕ Nat) × PH)) :
    ∀ (f : Nat) (c : CZ) (h : PH) (j m ar ln : Nat) (cs : List Int32) (M : Nat), f < M → rdS D B N h → cAs n b j c → j ≤ n → n < f + j → cI c 7 4 = nI d → cI c 7 5 = m5 → jnS B lo h p al ar ln false k m cs → 2 * m ≤ j + 1 → h.1 + 60 * (n - j) + 100 ≤ cap.1 → h.2.1 + 6 * m + 800 * (n - j) + 40100 ≤ cap.2 + 3 * ln + 2 * wl n b j →
      ∃ c' h', cRd c c' ∧ (∀ a, a < lo → h'.2.2 a = h.2.2 a) ∧ h.1 ≤ h'.1 ∧ h.2.1 ≤ h'.2.1 ∧ hW B h' ∧ match rChainW n b S wOr 11 f cs j with
        | .inl g => fx (fX2_test_L23 D cap (B + 7) rS rB' rU rF p) dm M (mk B c h) = some (.inr (B + 8), mk B c' h') ∧ cFt c' g ∧ h'.1 ≤ h.1 + 60 * (n - j) + 100 ∧ h'.2.1 + 3 * ln + 2 * wl n b j ≤ h.2.1 + 6 * m + 800 * (n - j) + 1100
        | .inr (cs', e) => fx (fX2_test_L23 D cap (B + 7) rS rB' rU rF p) dm M (mk B c h) = some (.inl p, mk B c' h') ∧ cI c' 7 4 = nI d ∧ cAs n b e c' ∧ (∃ m' ar' ln', jnS B lo h' p al ar' ln' false k m' cs' ∧ 2 * m' ≤ e + 1 ∧ h'.2.1 + 6 * m' + 3 * ln + 800 * (n - e) + 2 * wl n b j ≤ h.2.1 + 6 * m + 3 * ln' + 800 * (n - j) + 4 * wl n b e + 4) ∧ h'.1 + 60 * (n - e) ≤ h.1 + 60 * (n - j) + 3
  | 0, c, h, j, m, ar, ln, cs, M, _, _, _, hj, hf, _, _, _, _, _, _ => absurd hf (by omega)
  | f + 1, c, h, j, m, ar, ln, cs, M, hM, hd, ha, hj, hf, h4, h5, g, hm, r1, r2 => by
    obtain ⟨M, rfl⟩ : ∃ M', M = M' + 1 := ⟨M - 1, by omega⟩
    obtain ⟨gb1, gb3, gb4⟩ := jnS_b g
    have hjs := sSk_ge n b j
    have hjn := sSk_le b hj
    have hwl := wl_le b hj
    have IH := fun c1 h1 j1 m1 ar1 ln1 cs1 q1 q2 q3 q4 q5 q6 q7 q8 q9 q10 => tst_L (p := p) (al := al) hlo hN hn hp A dm f c1 h1 j1 m1 ar1 ln1 cs1 M (by omega) q1 q2 q3 q4 q5 q6 q7 q8 q9 q10
    rw [fx_s]
    generalize fx (fX2_test_L23 D cap (B + 7) rS rB' rU rF p) dm M = T at IH ⊢
    have er : rChainW n b S wOr 11 (f + 1) cs j = match rWordJ n b (sSk n b j) with
      | .inr (v, e) => if v.1 = wOr then sbd (S e) fun c2 e2 => rChainW n b S wOr 11 f (cs ++ c2 ++ [11]) e2 else .inr (cs, sSk n b j)
      | .inl g => if isL (rB n b (sSk n b j)) = true then .inl g else .inr (cs, sSk n b j) := rfl
    obtain ⟨c1, h1, ⟨x1, x2, x3, x4, x5⟩, P2⟩ := y_passes (D := D) (cap := cap) (c := c) hd ha (i := 19) (by decide) (by omega) (by omega)
    have eW : kWd.getD 19 [] = wOr := rfl
    rw [eW] at P2
    have hd1 := hd.gr x2 x3
    have x21 := x2.1
    have x22 := x2.2.1
    -- nothing more
    have stop : rPas n b wOr j = .inr (false, j) → ∃ c' h', cRd c c' ∧ (∀ a, a < lo → h'.2.2 a = h.2.2 a) ∧ h.1 ≤ h'.1 ∧ h.2.1 ≤ h'.2.1 ∧ hW B h' ∧ fX2_test_L23 D cap (B + 7) rS rB' rU rF p T (mk B c h) = some (.inl p, mk B c' h') ∧ cI c' 7 4 = nI d ∧ cAs n b (sSk n b j) c' ∧ (∃ m' ar' ln', jnS B lo h' p al ar' ln' false k m' cs ∧ 2 * m' ≤ sSk n b j + 1 ∧ h'.2.1 + 6 * m' + 3 * ln + 800 * (n - sSk n b j) + 2 * wl n b j ≤ h.2.1 + 6 * m + 3 * ln' + 800 * (n - j) + 4 * wl n b (sSk n b j) + 4) ∧ h'.1 + 60 * (n - sSk n b j) ≤ h.1 + 60 * (n - j) + 3 := by
      intro q
      rw [q] at P2
      obtain ⟨p1, p2, p3, -⟩ := P2
      unfold fX2_test_L23
      rw [r_cls, ckc_s, p1, bnx_l, if_pos (show bI false = 0 by decide), wl_sk]
      refine ⟨c1, h1, x1, fun a ha => x2.2.2 a (by omega), x21, x22, x3, rfl, by rw [p2]; exact h4, ?_, ⟨m, ar, ln, ?_, by omega, by omega⟩, by omega⟩
      · obtain ⟨a, q1, q2⟩ := p3
        exact ⟨a, q1, by rw [q2, sSk_id]⟩
      · obtain ⟨ads, cc, ⟨⟨u1, u2⟩, u3, u4, u5⟩, u6, u7, u8⟩ := g
        have u40 := u4
        obtain ⟨⟨v1, v2⟩, ⟨v3, v4, v5⟩, -⟩ := u40
        exact ⟨ads, cc, ⟨⟨u1, by omega⟩, by rw [x2.2.2 p u2]; exact u3, u4.of x21 (x2.2.2 al v2) (x2.2.2 ar v4), u5⟩, u6, fun i hi => (u7 i hi).of (fun a ha => ⟨ivy_up ha x21 (Or.inl rfl), x2.2.2 a ha.1.2⟩), u8⟩
    rw [er]
    cases qw : rWordJ n b (sSk n b j) with
    | inl gg =>
      have eP := rPas_l (W := wOr) qw
      by_cases il : isL (rB n b (sSk n b j)) = true
      · rw [if_pos il] at eP
        rw [eP] at P2
        obtain ⟨p1, p2⟩ := P2
        refine ⟨c1, h1, x1, fun a ha => x2.2.2 a (by omega), x21, x22, x3, ?_⟩
        show match (if isL (rB n b (sSk n b j)) = true then .inl gg else .inr (cs, sSk n b j) : RS (List Int32)) with
          | .inl g => _
          | .inr (cs', e) => _
        rw [if_pos il]
        unfold fX2_test_L23
        rw [r_cls, ckc_s, p1, bnx_r]
        exact ⟨rfl, p2, by omega, by omega⟩
      · rw [if_neg il] at eP
        obtain ⟨c', h', s1, s2, s3, s4, s5, s6⟩ := stop eP
        refine ⟨c', h', s1, s2, s3, s4, s5, ?_⟩
        show match (if isL (rB n b (sSk n b j)) = true then .inl gg else .inr (cs, sSk n b j) : RS (List Int32)) with
          | .inl g => _
          | .inr (cs', e) => _
        rw [if_neg il]
        exact s6
    | inr pp =>
      obtain ⟨v, e1⟩ := pp
      have eP := rPas_w (W := wOr) qw
      obtain ⟨b1, b2, b3, b4, b5, b6, b7⟩ := rWordJ_r qw
      have ewl : wl n b j = e1 - sSk n b j := by unfold wl; rw [b5]
      by_cases cw : v.1 = wOr
      · rw [if_pos cw] at eP
        rw [eP] at P2
        obtain ⟨p1, p2, p3, -⟩ := P2
        show ∃ c' h', _ ∧ _ ∧ _ ∧ _ ∧ _ ∧ match (if v.1 = wOr then sbd (S e1) fun c2 e2 => rChainW n b S wOr 11 f (cs ++ c2 ++ [11]) e2 else .inr (cs, sSk n b j)) with
          | .inl g => _
          | .inr (cs', e) => _
        rw [if_pos cw]
        obtain ⟨ads, cc, w0, u6, u7, u8⟩ := g
        have w00 := w0
        obtain ⟨⟨u1, u2⟩, u3, u4, u5⟩ := w00
        have u40 := u4
        obtain ⟨⟨v1, v2⟩, ⟨v3, v4, v5⟩, -⟩ := u40
        have pF1 : pF (mk B c1 h1) p 10 0 = some (.ref al) := pF_of (k := 0) (b := true) (by rw [mk_out (Or.inr (Or.inr (by omega))), x2.2.2 p u2]; exact u3) rfl
        unfold fX2_test_L23
        rw [r_cls, ckc_s, p1, bnx_l, if_neg (show ¬ bI true = 0 by decide), pF1, vA_s, r_cls, ckc_s]
        have m51 : cI c1 7 5 = m5 := by rw [x1.1 7 5 (by omega) (by decide)]; exact h5
        obtain ⟨c3, h3, y1, y2, y3, y4⟩ := A c1 h1 e1 hd1 p3 b7 (by rw [p2]; exact h4) m51 (by omega) (by omega)
        have y21 := y2.1
        have y22 := y2.2.1
        cases qa : S e1 with
        | inl gg =>
          rw [qa] at y4
          obtain ⟨z1, z2, z3, z4⟩ := y4
          rw [z1, bnx_r, sbd_l]
          exact ⟨c3, h3, x1.tr y1, fun a ha => by rw [y2.2.2 a (by omega), x2.2.2 a (by omega)], by omega, by omega, y3, rfl, z2, by omega, by omega⟩
        | inr pp =>
          obtain ⟨cp, e2⟩ := pp
          rw [qa] at y4
          obtain ⟨px, z1, z2, z3, z4, z5, z6⟩ := y4
          obtain ⟨k1, k2⟩ := hp _ _ _ qa
          have k3 := sSk_ge n b e1
          have k4 := wl_le b k2
          have k5 := sSk_ge n b e2
          obtain ⟨-, t1, h4', ar', ln', t2, t3, t4, t5, t6, t7, t8⟩ := jn_add (c := c3) (D := D) (cap := cap) y3 hlo (x2.tr y2) w0 u7 (by omega) (z4.of (fun a ha => ⟨⟨by have := ha.1; omega, ha.2⟩, rfl⟩)) (by omega) (by omega)
          rw [z1, bnx_l, t1, ckc_s, t2, bnd_s, sbd_r]
          have g4 : jnS B lo h4' p al ar' ln' false k (m + 1) (cs ++ cp ++ [11]) := by
            refine ⟨_, _, t3, by omega, t4, ?_⟩
            obtain ⟨m, rfl⟩ : ∃ m', m = m' + 1 := ⟨m - 1, by omega⟩
            rw [chC_up, ← u8]
            rfl
          have hd4 : rdS D B N h4' := ⟨t5, by have := hd.2.1; omega, hd.2.2.1, hd.2.2.2.gr (fun a ha _ => by rw [t8 a (by omega)]; exact (x2.tr y2).2.2 a (by have := hd.2.1; omega))⟩
          obtain ⟨wb1, -⟩ := jnS_b g4
          obtain ⟨c5, h5', o1, o2, o3, o4, o5, o6⟩ := IH c3 h4' e2 (m + 1) ar' ln' (cs ++ cp ++ [11]) hd4 z3 k2 (by omega) z2 (by rw [y1.1 7 5 (by omega) (by decide)]; exact m51) g4 (by omega) (by omega) (by omega)
          refine ⟨c5, h5', (x1.tr y1).tr o1, fun a ha => by rw [o2 a ha, t8 a ha, (x2.tr y2).2.2 a (by omega)], by omega, by omega, o5, ?_⟩
          cases qr : rChainW n b S wOr 11 f (cs ++ cp ++ [11]) e2 with
          | inl gg =>
            rw [qr] at o6
            obtain ⟨i1, i2, i3, i4⟩ := o6
            exact ⟨i1, i2, by omega, by omega⟩
          | inr pp =>
            obtain ⟨cs', e⟩ := pp
            rw [qr] at o6
            obtain ⟨i1, i2, i3, ⟨m', ar2, ln2, i4, i5, i6⟩, i7⟩ := o6
            exact ⟨i1, i2, i3, ⟨m', ar2, ln2, i4, i5, by omega⟩, by omega⟩
      · rw [if_neg cw] at eP
        obtain ⟨c', h', s1, s2, s3, s4, s5, s6⟩ := stop eP
        refine ⟨c', h', s1, s2, s3, s4, s5, ?_⟩
        show match (if v.1 = wOr then sbd (S e1) fun c2 e2 => rChainW n b S wOr 11 f (cs ++ c2 ++ [11]) e2 else .inr (cs, sSk n b j)) with
          | .inl g => _
          | .inr (cs', e) => _
        rw [if_neg cw]
        exact s6
def rTestX (n : Nat) (b : Nat → Nat) (S : Nat → RS (List Int32)) (i : Nat) : RS (List Int32) := sbd (S i) fun c e => rChainW n b S wOr 11 (n + 1) c e
theorem y_tst {rS rB' rU rF : Nat → PH → Option ((Nat ⊕ Nat) × PH)} {S : Nat → RS (List Int32)} {d : Nat} {m5 : Int32} {x y k : Nat} (hx : x ≤ 60) (hy : y ≤ 400) (hn : n ≤ 1600) (hp : rPg n b S) (A : tSp D cap B N n b (fX2_both D cap rS rB' rU rF) S d m5 (x + 10) (y + 120) 2 k) :
    tSp D cap B N n b (fX2_test D cap rS rB' rU rF) (rTestX n b S) d m5 x y 4 (k + 1) := by
  intro c h j hd ha hj h4 h5 r1 r2
  obtain ⟨h1, h2, n1, n2, n8, n3, n4, n5, n6, n7⟩ := x_jnNew (B := B) (D := D) (cap := cap) (c := c) false hd.1 (by omega) (by omega)
  unfold fX2_test
  rw [n1, bnd_s, n2, bnv_s, n8, vA_s, r_cls, ckc_s]
  have hd2 := hd.gr n5 n4
  obtain ⟨c3, h3, v1, v2, v3, v4⟩ := A c h2 j hd2 ha hj h4 h5 (by omega) (by omega)
  have eS : rTestX n b S j = sbd (S j) fun c e => rChainW n b S wOr 11 (n + 1) c e := rfl
  rw [eS]
  cases qa : S j with
  | inl gg =>
    rw [qa] at v4
    obtain ⟨u1, u2, u3, u4⟩ := v4
    rw [u1, bnx_r, sbd_l]
    exact ⟨c3, h3, v1, n5.tr v2, v3, rfl, u2, by omega, by omega⟩
  | inr pp =>
    obtain ⟨cp, e2⟩ := pp
    rw [qa] at v4
    obtain ⟨px, u1, u2, u3, u4, u5, u6⟩ := v4
    obtain ⟨k1, k2⟩ := hp _ _ _ qa
    have k3 := sSk_ge n b j
    have k4 := wl_le b k2
    have k5 := sSk_ge n b e2
    have g34 := v2.1
    have g35 := v2.2.1
    obtain ⟨-, t1, h4', ar', ln', t2, t3, t4, t5, t6, t7, t8⟩ := jn_add (c := c3) (D := D) (cap := cap) (cc := fun _ => []) v3 hd.1.1 v2 n3 (fun i hi => absurd hi (Nat.not_lt_zero _)) (by omega) u4 (by omega) (by omega)
    rw [u1, bnx_l, t1, ckc_s, t2, bnd_s, sbd_r]
    have g4 : jnS B h.1 h4' h.1 (h.1 + 1) ar' ln' false k 1 cp := ⟨_, _, t3, by omega, t4, by show cp = va_up (fun _ => []) 0 cp 0; rw [va_up_self]⟩
    have hd4 : rdS D B N h4' := ⟨t5, by have := hd.2.1; omega, hd.2.2.1, hd2.2.2.2.gr (fun a ha _ => by rw [t8 a (by have := hd.2.1; omega)]; exact v2.2.2 a (by have := hd.2.1; omega))⟩
    obtain ⟨wb1, -⟩ := jnS_b g4
    obtain ⟨c5, h5', z1, z2, z3, z4, z5, z6⟩ := tst_L (p := h.1) (al := h.1 + 1) (lo := h.1) hd.1.1 hd.2.1 hn hp A (fun _ => none) (n + 1) c3 h4' e2 1 ar' ln' cp FU (FU_gt (by omega)) hd4 u3 k2 (by omega) u2 (by rw [v1.1 7 5 (by omega) (by decide)]; exact h5) g4 (by omega) (by omega) (by omega)
    have hgr : hGr h h5' := ⟨by have := n5.1; omega, by have := n5.2.1; omega, fun a ha => by rw [z2 a ha, t8 a ha, v2.2.2 a (by omega), n5.2.2 a ha]⟩
    refine ⟨c5, h5', v1.tr z1, hgr, z5, ?_⟩
    cases qr : rChainW n b S wOr 11 (n + 1) cp e2 with
    | inl gg =>
      rw [qr] at z6
      obtain ⟨i1, i2, i3, i4⟩ := z6
      exact ⟨i1, i2, by omega, by omega⟩
    | inr pp =>
      obtain ⟨cs', e⟩ := pp
      rw [qr] at z6
      obtain ⟨i1, i2, i3, ⟨m', ar2, ln2, i4, i5, i6⟩, i7⟩ := z6
      obtain ⟨tb1, -⟩ := jnS_b i4
      exact ⟨h.1, i1, i2, i3, i4.tt, by omega, by omega⟩
end SS
