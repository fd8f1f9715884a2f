/-! PART 24: plain: one part of a sum, whole -/
set_option maxRecDepth 100000
section SQ
variable {B N n : Nat} {b : Nat → Nat} {D : PD} {cap : Nat × Nat}
theorem y_atom {rS rB' : Nat → PH → Option ((Nat ⊕ Nat) × PH)} {sum atom : Nat → RS (List Int32)} {d q : Nat} {dp : Bool} {xs ys k : Nat} (hq : q < 3) (hd6 : d ≤ 6) (hdp : dp = false ↔ d = 6) (hxs : xs ≤ 30) (hys : ys ≤ 1000) (hp : rPg n b sum) (A : dp = true → vSp D cap B N n b rS sum (d + 1) (mq q) xs ys k) (A2 : dp = true → vSp D cap B N n b rB' atom (d + 1) (mq q) 21 200 k) :
    vSp D cap B N n b (fX2_atom D cap rS rB') (fun i => rAtomB n b q dp sum atom (sSk n b i)) d (mq q) 21 200 (k + 1) := by
  intro c h j hd ha hj h4 h5 r1 r2
  have W := fun a1 h => y_within (D := D) (cap := cap) (N := N) (a1 := a1) h hd6 hdp hxs hys hp A
  obtain ⟨a, ha, ea⟩ := ha
  have hn := ha.1.1
  have T := x_here (B := B) (h := h) ha
  rw [ea] at T
  have hjs := sSk_ge n b j
  have hjn := sSk_le b hj
  have at1 : cAt n b (sSk n b j) (xI c 7 2 (nI (sSk n b j))) := ha.to hjn
  have rd1 := cRd.at c (i := 2) (by decide) (nI (sSk n b j))
  have i44 : cI (xI c 7 2 (nI (sSk n b j))) 7 4 = nI d := by rw [cI_xI_ne _ (by omega)]; exact h4
  generalize xI c 7 2 (nI (sSk n b j)) = c1 at T at1 rd1 i44
  have T2 := x_here (B := B) (h := h) at1
  rw [sSk_id, ← at1.2.1, xI_self] at T2
  have as1 : cAs n b j c1 := ⟨_, at1, sSk_id n b j⟩
  have i45 : cI c1 7 5 = mq q := by rw [rd1.1 7 5 (by omega) (by decide)]; exact h5
  show ∃ c' h', _ ∧ _ ∧ _ ∧ match rAtomB n b q dp sum atom (sSk n b j) with
    | .inl g => fX2_atom D cap rS rB' (B + 7) (mk B c h) = _ ∧ _
    | .inr (cs, e) => ∃ p, fX2_atom D cap rS rB' (B + 7) (mk B c h) = _ ∧ _
  unfold fX2_atom rAtomB
  rw [r_cls, ckc_s, T, bnd_s]
  by_cases k40 : rB n b (sSk n b j) = 40
  · rw [if_pos (show rI n b (sSk n b j) = (40 : Int32) from (rI_eqc ha.1 _ (by decide)).mpr k40), if_pos k40, r_cls, ckc_s]
    obtain ⟨c2, h2, v1, v2, v3, v4⟩ := W 0 (by omega) c1 h j hd as1 hj i44 i45 (by omega) (by omega)
    have v4 : match rWithin n b dp sum 0 (sSk n b j) with
      | .inl g => fX2_within D cap rS (B + 7) (nI 0) (mk B c1 h) = some (.inr (B + 8), mk B c2 h2) ∧ cFt c2 g ∧ h2.1 + 30 ≤ h.1 + 40 * (n - j) + 40 ∧ h2.2.1 + 300 ≤ h.2.1 + 400 * (n - j) + 500
      | .inr (cs, e) => ∃ p, fX2_within D cap rS (B + 7) (nI 0) (mk B c1 h) = some (.inl p, mk B c2 h2) ∧ cI c2 7 4 = nI d ∧ cAs n b e c2 ∧ vT (iv h.1 h2.1) B (k + 1) h2 p cs ∧ h2.1 + 30 + 40 * (n - e) ≤ h.1 + 40 * (n - j) ∧ h2.2.1 + 300 + 400 * (n - e) ≤ h.2.1 + 400 * (n - j) := v4
    refine ⟨c2, h2, rd1.tr v1, v2, v3, ?_⟩
    cases qw : rWithin n b dp sum 0 (sSk n b j) with
    | inl g =>
      rw [qw] at v4
      obtain ⟨u1, u2, u3, u4⟩ := v4
      show (bnx (fX2_within D cap rS (B + 7) (nI 0) (mk B c1 h)) _) = _ ∧ _
      rw [u1, bnx_r]
      exact ⟨rfl, u2, by omega, by omega⟩
    | inr pp =>
      obtain ⟨cs, e⟩ := pp
      rw [qw] at v4
      obtain ⟨p, u1, u2, u3, u4, u5, u6⟩ := v4
      refine ⟨p, ?_, u2, u3, u4, by omega, by omega⟩
      show (bnx (fX2_within D cap rS (B + 7) (nI 0) (mk B c1 h)) _) = _
      rw [u1, bnx_l]
  rw [if_neg (show ¬ rI n b (sSk n b j) = (40 : Int32) from fun q => k40 ((rI_eqc ha.1 _ (by decide)).mp q)), if_neg k40, r_cls, ckc_s, T2, bnd_s, x_isDigit_r at1.1, bnd_s]
  by_cases kd : isD (rB n b (sSk n b j)) = true
  · rw [kd, if_neg (show ¬ bI true = 0 by decide), if_pos rfl, mk_new hd.1.1 (by omega) (by omega), bnd_s, r_cls, ckc_s]
    have hlt := (isD_lt kd).1
    have w5 := hd.1.new (.inr (16, [.long 0])) 1
    have g5 := hGr.new h (.inr (16, [.long 0])) 1
    have d5 := hN_at h (.inr (16, [.long 0])) 1
    have n5 : (hNew h (.inr (16, [.long 0])) 1).1 = h.1 + 1 := rfl
    have s5 : (hNew h (.inr (16, [.long 0])) 1).2.1 = h.2.1 + 1 := rfl
    generalize hNew h (.inr (16, [.long 0])) 1 = h5' at w5 g5 d5 n5 s5
    obtain ⟨c2, m1, m2⟩ := y_number2 (N := N) w5 as1 (lo := 0) (hi := 9999) (by decide) (by decide)
    have m2 : match rNumJ n b 0 9999 (sSk n b j) with
      | .inl g => fX2_number_2 (B + 7) (nI 0) (nI 9999) (mk B c1 h5') = some (.inr (B + 8), mk B c2 h5') ∧ cFt c2 g
      | .inr (v, e) => fX2_number_2 (B + 7) (nI 0) (nI 9999) (mk B c1 h5') = some (.inl (nI v), mk B c2 h5') ∧ cI c2 7 4 = cI c1 7 4 ∧ cAs n b e c2 := m2
    cases qn : rNumJ n b 0 9999 (sSk n b j) with
    | inl g =>
      rw [qn] at m2
      obtain ⟨u1, u2⟩ := m2
      rw [sbd_l, show fX2_number_2 (B + 7) 0 9999 (mk B c1 h5') = _ from u1, bnx_r]
      exact ⟨c2, h5', rd1.tr m1.1, g5, w5, rfl, u2, by omega, by omega⟩
    | inr pp =>
      obtain ⟨v, e⟩ := pp
      rw [qn] at m2
      obtain ⟨u1, u2, u3⟩ := m2
      obtain ⟨-, -, -, -, b1, b2, -, -, b3, -⟩ := rNumJ_r qn
      have oq : outB B h.1 := Or.inr (Or.inr hd.1.1)
      rw [sbd_r, show fX2_number_2 (B + 7) 0 9999 (mk B c1 h5') = _ from u1, bnx_l]
      unfold fX16_init fX13_init
      rw [bnv_s, mk_pO oq d5 (show 0 < 1 by decide), bnv_s, bnv_s]
      exact ⟨_, _, rd1.tr m1.1, g5.put (a := h.1) (Nat.le_refl _) _, w5.put (a := h.1) (by omega) _, h.1, rfl, by rw [u2]; exact i44, u3, ⟨⟨Nat.le_refl _, by show h.1 < h5'.1; omega⟩, Or.inl ⟨true, v, b3, pE_at _ _ _, rfl⟩⟩, by show h5'.1 + 21 + _ ≤ _; omega, by show h5'.2.1 + 200 + _ ≤ _; omega⟩
  have kd : isD (rB n b (sSk n b j)) = false := by
    cases q : isD (rB n b (sSk n b j)) with
    | false => rfl
    | true => exact absurd q kd
  rw [kd, if_pos (show bI false = 0 by decide), if_neg (show ¬ false = true by decide), r_cls, ckc_s]
  have M := y_word (D := D) (cap := cap) (c := c1) hd as1 (by omega) (by omega)
  have M : match rWordJ n b (sSk n b j) with
    | .inl g => ∃ c', rdP B N c1 c' h h 0 0 ∧ fX2_word D cap (B + 7) (mk B c1 h) = some (.inr (B + 8), mk B c' h) ∧ cFt c' g
    | .inr (v, e) => ∃ c' h', rdP B N c1 c' h h' 3 (4 + 2 * wl n b j) ∧ fX2_word D cap (B + 7) (mk B c1 h) = some (.inl (h.1 + 1), mk B c' h') ∧ cI c' 7 4 = cI c1 7 4 ∧ cI c' 7 3 = nI v.2 ∧ cAs n b e c' ∧ wsN h' (h.1 + 1) v.1 ∧ tP (outB B) h' (h.1 + 1) v.1 ∧ h'.1 = h.1 + 3 := M
  cases qw : rWordJ n b (sSk n b j) with
  | inl g =>
    rw [qw] at M
    obtain ⟨c2, m1, m2, m3⟩ := M
    rw [sbd_l, m2, bnx_r]
    exact ⟨c2, h, rd1.tr m1.1, hGr.rf h, hd.1, rfl, m3, by omega, by omega⟩
  | inr pp =>
    obtain ⟨v, e⟩ := pp
    rw [qw] at M
    obtain ⟨c2, h2, m1, m2, m3, m4, m5, m6, m7, m8⟩ := M
    obtain ⟨b1, b2, b3, b4, b5, b6, b7⟩ := rWordJ_r qw
    have ev : v.2 = sSk n b j := by rw [b4]
    have ewl : wl n b j = e - sSk n b j := by unfold wl; rw [b5]
    obtain ⟨x1, x2, x3, x4, x5⟩ := m1
    have hd2 := hd.gr x2 x3
    have hk := hd2.2.2.2
    have hS := hk.1
    have hNh := hd.2.1
    have hbel : ∀ a, bel B N a → outB B a := fun a ha => ha.1
    have hbne : ∀ a, bel B N a → a ≠ h.1 + 1 := fun a ha => by have := ha.2; omega
    have i25 : cI c2 7 5 = mq q := by rw [x1.1 7 5 (by omega) (by decide)]; exact i45
    have i24 : cI c2 7 4 = nI d := by rw [m3]; exact i44
    have F5 : pF (mk B c2 h2) (B + 7) 2 5 = some (.int (mq q)) := by rw [r_F5, i25]
    rw [sbd_r, m2, bnx_l]
    have hk' := hk
    obtain ⟨-, -, -, ⟨q1, e1, f1⟩, ⟨q2, e2, f2⟩, -⟩ := hk'
    rw [e1, vA_s, x_find hS (P := outB B) (Q := bel B N) (fun _ q => q) hbel m7 f1 hbne, bnd_s]
    cases qp : prtA q v.1 with
    | some kk =>
      obtain ⟨t1, t2, t3⟩ := atm_some (a := B + 7) (y := mk B c2 h2) hq F5 qp (fun _ => none) (fun h17 => bnd (pNew cap h17 (.inr (17, [.int 0])) 1) fun p7 h18 => bnv (fX17_init p7 (oM1 (fndW prtW v.1 0)) h18) fun h19 => (some (.inl p7, h19) : Option ((Nat ⊕ Nat) × PH)))
      rw [(atm_some (a := B + 7) (y := mk B c2 h2) hq F5 qp _ _).1, t2, mk_new x3.1 (by omega) (by omega), bnd_s]
      have w5 := x3.new (.inr (17, [.int 0])) 1
      have g5 := x2.tr (hGr.new h2 (.inr (17, [.int 0])) 1)
      have d5 := hN_at h2 (.inr (17, [.int 0])) 1
      have n5 : (hNew h2 (.inr (17, [.int 0])) 1).1 = h2.1 + 1 := rfl
      have s5 : (hNew h2 (.inr (17, [.int 0])) 1).2.1 = h2.2.1 + 1 := rfl
      generalize hNew h2 (.inr (17, [.int 0])) 1 = h5' at w5 g5 d5 n5 s5
      have oq : outB B h2.1 := Or.inr (Or.inr x3.1)
      unfold fX17_init fX13_init
      rw [bnv_s, mk_pO oq d5 (show 0 < 1 by decide), bnv_s, bnv_s]
      exact ⟨_, _, rd1.tr x1, g5.put (a := h2.1) (by omega) _, w5.put (a := h2.1) (by omega) _, h2.1, rfl, i24, m5, ⟨⟨by omega, by show h2.1 < h5'.1; omega⟩, Or.inr (Or.inl ⟨true, kk, t3, pE_at _ _ _, rfl⟩)⟩, by show h5'.1 + 21 + _ ≤ _; omega, by show h5'.2.1 + 200 + _ ≤ _; omega⟩
    | none =>
      rw [atm_none (a := B + 7) (y := mk B c2 h2) hq F5 qp _ _, r_F5, vI_s, i25, atm_by (p := h.1 + 1) (w := v.1) hq ⟨q2, e2, x_find hS (P := outB B) (Q := bel B N) (fun _ q => q) hbel m7 f2 hbne⟩]
      show ∃ c' h', _ ∧ _ ∧ _ ∧ match rAtomW n b q dp sum atom v.1 v.2 e with
        | .inl g => _
        | .inr (cs, e) => _
      unfold rAtomW
      by_cases cb : v.1 = wBy ∧ q = 2
      · rw [if_pos cb, if_pos cb, if_neg (show ¬ (0 : Int32) = -1 by decide), r_cls, ckc_s]
        obtain ⟨c3, h3, l1, l2, l3, l4⟩ := y_looked hd6 hdp A2 hd2 m5 b7 m4 i24 i25 (by omega) (by omega)
        refine ⟨c3, h3, (rd1.tr x1).tr l1, x2.tr l2, l3, ?_⟩
        cases qa : (if dp = false then .inl (4, v.2) else sbd (atom e) fun c e2 => (.inr (c ++ [60], e2) : RS (List Int32))) with
        | inl g =>
          rw [qa] at l4
          obtain ⟨u1, u2, u3, u4⟩ := l4
          show (bnx (fX2_looked D cap rB' (B + 7) 0 (mk B c2 h2)) _) = _ ∧ _
          rw [u1, bnx_r]
          exact ⟨rfl, u2, by omega, by omega⟩
        | inr pp =>
          obtain ⟨cs, e'⟩ := pp
          rw [qa] at l4
          obtain ⟨p, u1, u2, u3, u4, u5, u6⟩ := l4
          refine ⟨p, ?_, u2, u3, u4.of (fun a ha => ⟨⟨by have := ha.1; omega, ha.2⟩, rfl⟩), by omega, by omega⟩
          show (bnx (fX2_looked D cap rB' (B + 7) 0 (mk B c2 h2)) _) = _
          rw [u1, bnx_l]
      · rw [if_neg cb, if_neg cb, if_pos rfl, tP_cls (fun _ q => q) m7, ckc_s, y_eq hd2 hk (by omega) m7 (i := 16) (by decide), bnd_s]
        -- min or max
        have key : ∀ a1, a1 ≤ 2 → ∃ c' h', cRd c c' ∧ hGr h h' ∧ hW B h' ∧ match rWithin n b dp sum a1 (sSk n b e) with
            | .inl g => (bnx (fX2_within D cap rS (B + 7) (nI a1) (mk B c2 h2)) fun p3 h12 => (some (.inl p3, h12) : Option ((Nat ⊕ Nat) × PH))) = some (.inr (B + 8), mk B c' h') ∧ cFt c' g ∧ h'.1 + 21 ≤ h.1 + 40 * (n - j) + 40 ∧ h'.2.1 + 200 ≤ h.2.1 + 400 * (n - j) + 500
            | .inr (cs, e) => ∃ p, (bnx (fX2_within D cap rS (B + 7) (nI a1) (mk B c2 h2)) fun p3 h12 => (some (.inl p3, h12) : Option ((Nat ⊕ Nat) × PH))) = some (.inl p, mk B c' h') ∧ cI c' 7 4 = nI d ∧ cAs n b e c' ∧ vT (iv h.1 h'.1) B (k + 1) h' p cs ∧ h'.1 + 21 + 40 * (n - e) ≤ h.1 + 40 * (n - j) ∧ h'.2.1 + 200 + 400 * (n - e) ≤ h.2.1 + 400 * (n - j) := by
          intro a1 ha1
          obtain ⟨c3, h3, v1, v2, v3, v4⟩ := W a1 ha1 c2 h2 e hd2 m5 b7 i24 i25 (by omega) (by omega)
          have v4 : match rWithin n b dp sum a1 (sSk n b e) with
            | .inl g => fX2_within D cap rS (B + 7) (nI a1) (mk B c2 h2) = some (.inr (B + 8), mk B c3 h3) ∧ cFt c3 g ∧ h3.1 + 30 ≤ h2.1 + 40 * (n - e) + 40 ∧ h3.2.1 + 300 ≤ h2.2.1 + 400 * (n - e) + 500
            | .inr (cs, e') => ∃ p, fX2_within D cap rS (B + 7) (nI a1) (mk B c2 h2) = some (.inl p, mk B c3 h3) ∧ cI c3 7 4 = nI d ∧ cAs n b e' c3 ∧ vT (iv h2.1 h3.1) B (k + 1) h3 p cs ∧ h3.1 + 30 + 40 * (n - e') ≤ h2.1 + 40 * (n - e) ∧ h3.2.1 + 300 + 400 * (n - e') ≤ h2.2.1 + 400 * (n - e) := v4
          refine ⟨c3, h3, (rd1.tr x1).tr v1, x2.tr v2, v3, ?_⟩
          cases qw : rWithin n b dp sum a1 (sSk n b e) with
          | inl g =>
            rw [qw] at v4
            obtain ⟨u1, u2, u3, u4⟩ := v4
            show (bnx _ _) = _ ∧ _
            rw [u1, bnx_r]
            exact ⟨rfl, u2, by omega, by omega⟩
          | inr pp =>
            obtain ⟨cs, e'⟩ := pp
            rw [qw] at v4
            obtain ⟨p, u1, u2, u3, u4, u5, u6⟩ := v4
            refine ⟨p, ?_, u2, u3, u4.of (fun a ha => ⟨⟨by have := ha.1; omega, ha.2⟩, rfl⟩), by omega, by omega⟩
            rw [u1, bnx_l]
        simp only [jn_s]
        have e16 : kWd.getD 16 [] = wMin := rfl
        have e17 : kWd.getD 17 [] = wMax := rfl
        rw [e16]
        by_cases cm : v.1 = wMin
        · rw [decide_eq_true cm, if_neg (show ¬ bI true = 0 by decide), tP_cls (fun _ q => q) m7, ckc_s, y_eq hd2 hk (by omega) m7 (i := 16) (by decide), bnd_s, e16, decide_eq_true cm, if_neg (show ¬ bI true = 0 by decide), r_cls, ckc_s, if_pos cm]
          exact key 1 (by omega)
        · rw [decide_eq_false cm, if_pos (show bI false = 0 by decide), tP_cls (fun _ q => q) m7, ckc_s, y_eq hd2 hk (by omega) m7 (i := 17) (by decide), bnd_s, e17, if_neg cm]
          by_cases cx : v.1 = wMax
          · rw [decide_eq_true cx, if_neg (show ¬ bI true = 0 by decide), tP_cls (fun _ q => q) m7, ckc_s, y_eq hd2 hk (by omega) m7 (i := 16) (by decide), bnd_s, e16, decide_eq_false cm, if_pos (show bI false = 0 by decide), r_cls, ckc_s, if_pos cx]
            exact key 2 (by omega)
          · rw [decide_eq_false cx, if_pos (show bI false = 0 by decide), r_F3, vI_s, m4, r_cls, ckc_s, show (1 : Int32) = nI 1 from rfl, x_wrong, bnd_s, if_neg cx]
            obtain ⟨p1, p2, p3⟩ := cFlt_po (n := n) (b := b) (rd1.tr x1) 1 v.2
            exact ⟨_, h2, p1, x2, x3, rfl, ⟨p2, p3⟩, by omega, by omega⟩
end SQ
