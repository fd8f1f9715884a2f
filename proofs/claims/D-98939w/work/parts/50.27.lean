/-! PART 27: plain: one test -/
set_option maxRecDepth 100000
/-- where a letter stands that begins no word, f fails there -/
def rLf (n : Nat) (b : Nat → Nat) (f : Nat → RS (List Int32)) : Prop := ∀ i g, isL (rB n b (sSk n b i)) = true → rWordJ n b (sSk n b i) = .inl g → f i = .inl g
theorem rAtomB_lf {n : Nat} {b : Nat → Nat} {q : Nat} {dp : Bool} {sum atom : Nat → RS (List Int32)} {j : Nat} {g : Nat × Nat} (il : isL (rB n b j) = true) (hw : rWordJ n b j = .inl g) : rAtomB n b q dp sum atom j = .inl g := by
  unfold rAtomB
  have il' := il
  unfold isL at il'
  have il' := of_decide_eq_true il'
  rw [if_neg (by omega), if_neg (by unfold isD; intro q; have := of_decide_eq_true q; omega), hw, sbd_l]
theorem rSum_lf (n : Nat) (b : Nat → Nat) (q : Nat) : ∀ r, rLf n b (rSum n b q r)
  | 0 => fun i g il hw => by
    have e : rAtom n b q 0 i = .inl g := rAtomB_lf il hw
    show sbd (sbd (rAtom n b q 0 i) _) _ = _
    rw [e, sbd_l, sbd_l]
  | r + 1 => fun i g il hw => by
    have e : rAtom n b q (r + 1) i = .inl g := rAtomB_lf il hw
    show sbd (sbd (rAtom n b q (r + 1) i) _) _ = _
    rw [e, sbd_l, sbd_l]
theorem wl_no {n : Nat} {b : Nat → Nat} {e s : Nat} (h : rB n b (sSk n b e) = s) (hs : isL s = false) : wl n b e = 0 := by
  unfold wl
  rw [sWe_no (by rw [h]; exact hs)]
  omega
section ST
variable {B N n : Nat} {b : Nat → Nat} {D : PD} {cap : Nat × Nat}
theorem y_fact {rS rB' rU rF : Nat → PH → Option ((Nat ⊕ Nat) × PH)} {sum test fact : Nat → RS (List Int32)} {d : Nat} {dp : Bool} {m5 : Int32} {k : Nat} (hd6 : d ≤ 6) (hdp : dp = false ↔ d = 6) (hp : rPg n b sum) (hpt : rPg n b test) (hpf : rPg n b fact) (hw : rPw n b sum) (hl : rLf n b sum) (A : vSp D cap B N n b (fX2_sum D cap rS rB') sum d m5 7 40 k) (AT : dp = true → tSp D cap B N n b rU test (d + 1) m5 20 160 4 k) (AF : dp = true → tSp D cap B N n b rF fact (d + 1) m5 40 400 0 k) :
    tSp D cap B N n b (fX2_fact D cap rS rB' rU rF) (fun i => rFactB n b dp sum test fact (sSk n b i)) d m5 40 400 0 (k + 1) := by
  intro c h j hd ha hj h4 h5 r1 r2
  obtain ⟨a, ha, ea⟩ := ha
  have hn := ha.1.1
  have T := x_here (B := B) (h := h) ha
  rw [ea] at T
  have hjs := sSk_ge n b j
  have hjn := sSk_le b hj
  have hwl := wl_le b hj
  have at1 : cAt n b (sSk n b j) (xI c 7 2 (nI (sSk n b j))) := ha.to hjn
  have rd1 := cRd.at c (i := 2) (by decide) (nI (sSk n b j))
  have i44 : cI (xI c 7 2 (nI (sSk n b j))) 7 4 = nI d := by rw [cI_xI_ne _ (by omega)]; exact h4
  generalize xI c 7 2 (nI (sSk n b j)) = c1 at T at1 rd1 i44
  have as1 : cAs n b j c1 := ⟨_, at1, sSk_id n b j⟩
  have i45 : cI c1 7 5 = m5 := by rw [rd1.1 7 5 (by omega) (by decide)]; exact h5
  have dpt : d ≠ 6 → dp = true := fun c6 => by
    cases dp with
    | true => rfl
    | false => exact absurd (hdp.mp rfl) c6
  show ∃ c' h', _ ∧ _ ∧ _ ∧ match rFactB n b dp sum test fact (sSk n b j) with
    | .inl g => fX2_fact D cap rS rB' rU rF (B + 7) (mk B c h) = _ ∧ _
    | .inr (cs, e) => ∃ p, fX2_fact D cap rS rB' rU rF (B + 7) (mk B c h) = _ ∧ _
  unfold fX2_fact rFactB
  rw [r_cls, ckc_s, T, bnd_s]
  by_cases k91 : rB n b (sSk n b j) = 91
  · have hlt := (rB_lt k91 (by decide)).1
    rw [if_pos (show rI n b (sSk n b j) = (91 : Int32) from (rI_eqc ha.1 _ (by decide)).mpr k91), if_pos k91, r_F2, vI_s, at1.2.1, r_cls, ckc_s, x_opens _ d hd6 i44]
    by_cases c6 : d = 6
    · rw [if_pos c6, if_pos (hdp.mpr c6), bnx_r]
      obtain ⟨p1, p2, p3⟩ := cFlt_po (n := n) (b := b) rd1 4 (sSk n b j)
      exact ⟨_, h, p1, hGr.rf h, hd.1, rfl, ⟨p2, p3⟩, by omega, by omega⟩
    · have edp := dpt c6
      rw [if_neg c6, if_neg (by rw [edp]; decide), bnx_l, r_F2, vI_s, cI_xI_ne _ (by omega), at1.2.1, nI_1, r_pI _ h 2 (by decide), bnv_s, r_cls, ckc_s]
      have rd2 := (rd1.tr (cRd.at c1 (i := 4) (by decide) (nI (d + 1)))).tr (cRd.at _ (i := 2) (by decide) (nI (sSk n b j + 1)))
      have as2 : cAs n b (sSk n b j + 1) (xI (xI c1 7 4 (nI (d + 1))) 7 2 (nI (sSk n b j + 1))) := ⟨_, ⟨ha.1.rd rd2, cI_xI_eq _ _ _ _, by omega⟩, rfl⟩
      have i24 : cI (xI (xI c1 7 4 (nI (d + 1))) 7 2 (nI (sSk n b j + 1))) 7 4 = nI (d + 1) := by rw [cI_xI_ne _ (by omega), cI_xI_eq]
      generalize xI (xI c1 7 4 (nI (d + 1))) 7 2 (nI (sSk n b j + 1)) = c2 at rd2 as2 i24
      obtain ⟨c3, h3, v1, v2, v3, v4⟩ := AT edp c2 h (sSk n b j + 1) hd as2 (by omega) i24 (by rw [rd2.1 7 5 (by omega) (by decide)]; exact h5) (by omega) (by omega)
      cases qa : test (sSk n b j + 1) with
      | inl gg =>
        rw [qa] at v4
        obtain ⟨u1, u2, u3, u4⟩ := v4
        rw [u1, bnx_r, sbd_l]
        exact ⟨c3, h3, rd2.tr v1, v2, v3, rfl, u2, by omega, by omega⟩
      | inr pp =>
        obtain ⟨cp, e1⟩ := pp
        rw [qa] at v4
        obtain ⟨px, u1, u2, u3, u4, u5, u6⟩ := v4
        obtain ⟨k1, k2⟩ := hpt _ _ _ qa
        have k3 := sSk_ge n b (sSk n b j + 1)
        have k4 := wl_le b k2
        have k5 := sSk_ge n b e1
        rw [u1, bnx_l, sbd_r, r_cls, ckc_s]
        obtain ⟨c4, q1, q2⟩ := y_close v3 u3 (s := 93) (by decide) u2 hd6 px
        cases qm : rMust n b 93 e1 with
        | inl gg =>
          rw [qm] at q2
          obtain ⟨q3, q4⟩ := q2
          rw [sbd_l]
          exact ⟨c4, h3, (rd2.tr v1).tr q1, v2, v3, q3, q4, by omega, by omega⟩
        | inr pp =>
          obtain ⟨_, e2⟩ := pp
          rw [qm] at q2
          obtain ⟨q3, q4, q5⟩ := q2
          obtain ⟨m1, m2, m3, m4, m5'⟩ := rMust_r (by decide) qm
          have w0 : wl n b e1 = 0 := wl_no (s := 93) (by unfold rB; rw [if_pos m3]; exact m4) (by decide)
          rw [w0] at u6
          rw [sbd_r]
          exact ⟨c4, h3, (rd2.tr v1).tr q1, v2, v3, px, q3, q4, q5, u4.ups (by omega), by omega, by omega⟩
  rw [if_neg (show ¬ rI n b (sSk n b j) = (91 : Int32) from fun q => k91 ((rI_eqc ha.1 _ (by decide)).mp q)), if_neg k91, r_cls, ckc_s]
  obtain ⟨c2, h2, ⟨x1, x2, x3, x4, x5⟩, P2⟩ := y_passes (D := D) (cap := cap) (c := c1) hd as1 (i := 14) (by decide) (by omega) (by omega)
  have eN : kWd.getD 14 [] = wNot := rfl
  have eA : kWd.getD 15 [] = wAll := rfl
  rw [eN] at P2
  have hd2 := hd.gr x2 x3
  have x21 := x2.1
  have x22 := x2.2.1
  have i25 : cI c2 7 5 = m5 := by rw [x1.1 7 5 (by omega) (by decide)]; exact i45
  -- two sums compared
  have cmp : ∀ c3 h3, cRd c2 c3 → hGr h2 h3 → hW B h3 → h3.1 ≤ h2.1 + 3 → h3.2.1 ≤ h2.2.1 + (4 + 2 * wl n b j) → cI c3 7 4 = nI d → cAs n b j c3 → ∃ c' h', cRd c c' ∧ hGr h h' ∧ hW B h' ∧ match rCmp n b sum (sSk n b j) with
      | .inl g => (ckc (pCls (mk B c3 h3) (B + 7)) 2 <|
        bnx (fX2_sum D cap rS rB' (B + 7) (mk B c3 h3)) fun p1 h4 =>
        ckc (pCls h4 (B + 7)) 2 <|
        bnd (fX2_here (B + 7) h4) fun r4 h5 =>
        jn (fun (h6 : PH) =>
          vI (pF h6 (B + 7) 2 2) fun v1 =>
          bnv (pPut h6 (B + 7) 2 2 (.int (v1 + 1))) fun h7 =>
          bnd (pNew cap h7 (.inr (19, [.null, .null, .int 0])) 3) fun p2 h8 =>
          ckc (pCls h8 (B + 7)) 2 <|
          bnx (fX2_sum D cap rS rB' (B + 7) h8) fun p3 h9 =>
          bnv (fX19_init p2 p1 r4 p3 h9) fun h10 =>
          (some (.inl p2, h10) : Option ((Nat ⊕ Nat) × PH))) fun j148 =>
        if r4 = (60 : Int32) then
          j148 h5
        else
          if r4 = (62 : Int32) then
            j148 h5
          else
            if r4 = (61 : Int32) then
              j148 h5
            else
              vI (pF h5 (B + 7) 2 2) fun v2 =>
              ckc (pCls h5 (B + 7)) 2 <|
              bnd (fX2_wrong (B + 7) 1 v2 h5) fun p4 h11 =>
              some (.inr p4, h11)) = some (.inr (B + 8), mk B c' h') ∧ cFt c' g ∧ h'.1 + 40 ≤ h.1 + 60 * (n - j) + 100 ∧ h'.2.1 + 400 ≤ h.2.1 + 800 * (n - j) + 1000
      | .inr (cs, e) => ∃ p, (ckc (pCls (mk B c3 h3) (B + 7)) 2 <|
        bnx (fX2_sum D cap rS rB' (B + 7) (mk B c3 h3)) fun p1 h4 =>
        ckc (pCls h4 (B + 7)) 2 <|
        bnd (fX2_here (B + 7) h4) fun r4 h5 =>
        jn (fun (h6 : PH) =>
          vI (pF h6 (B + 7) 2 2) fun v1 =>
          bnv (pPut h6 (B + 7) 2 2 (.int (v1 + 1))) fun h7 =>
          bnd (pNew cap h7 (.inr (19, [.null, .null, .int 0])) 3) fun p2 h8 =>
          ckc (pCls h8 (B + 7)) 2 <|
          bnx (fX2_sum D cap rS rB' (B + 7) h8) fun p3 h9 =>
          bnv (fX19_init p2 p1 r4 p3 h9) fun h10 =>
          (some (.inl p2, h10) : Option ((Nat ⊕ Nat) × PH))) fun j148 =>
        if r4 = (60 : Int32) then
          j148 h5
        else
          if r4 = (62 : Int32) then
            j148 h5
          else
            if r4 = (61 : Int32) then
              j148 h5
            else
              vI (pF h5 (B + 7) 2 2) fun v2 =>
              ckc (pCls h5 (B + 7)) 2 <|
              bnd (fX2_wrong (B + 7) 1 v2 h5) fun p4 h11 =>
              some (.inr p4, h11)) = some (.inl p, mk B c' h') ∧ cI c' 7 4 = nI d ∧ cAs n b e c' ∧ tT (iv h.1 h'.1) B (k + 1) h' p cs ∧ h'.1 + 40 + 60 * (n - e) ≤ h.1 + 60 * (n - j) ∧ h'.2.1 + 400 + 800 * (n - e) ≤ h.2.1 + 800 * (n - j) + 0 * wl n b e := by
    intro c3 h3 y1 y2 y3 y4 y5 y6 y7
    have hd3 := hd2.gr y2 y3
    have as3 : cAs n b (sSk n b j) c3 := by
      obtain ⟨a, q1, q2⟩ := y7
      exact ⟨a, q1, by rw [q2, sSk_id]⟩
    have i35 : cI c3 7 5 = m5 := by rw [y1.1 7 5 (by omega) (by decide)]; exact i25
    obtain ⟨c4, h4, v1, v2, v3, v4⟩ := A c3 h3 (sSk n b j) hd3 as3 hjn y6 i35 (by omega) (by omega)
    have rd4 := ((rd1.tr x1).tr y1).tr v1
    have g4 := (x2.tr y2).tr v2
    have g41 := v2.1
    have y21 := y2.1
    have y22 := y2.2.1
    have g42 := v2.2.1
    have eC : rCmp n b sum (sSk n b j) = sbd (sum (sSk n b j)) fun c1 e1 =>
      if rB n b (sSk n b e1) = 60 ∨ rB n b (sSk n b e1) = 61 ∨ rB n b (sSk n b e1) = 62 then
        sbd (sum (sSk n b e1 + 1)) fun c2 e2 => .inr (c1 ++ c2 ++ [if rB n b (sSk n b e1) = 60 then 7 else if rB n b (sSk n b e1) = 62 then 8 else 9], e2)
      else .inl (1, sSk n b e1) := rfl
    rw [eC, r_cls, ckc_s]
    cases qa : sum (sSk n b j) with
    | inl gg =>
      rw [qa] at v4
      obtain ⟨u1, u2, u3, u4⟩ := v4
      rw [u1, bnx_r, sbd_l]
      exact ⟨c4, h4, rd4, g4, v3, rfl, u2, by omega, by omega⟩
    | inr pp =>
      obtain ⟨cp, e1⟩ := pp
      rw [qa] at v4
      obtain ⟨px, u1, u2, u3, u4, u5, u6⟩ := v4
      obtain ⟨k1, k2⟩ := hp _ _ _ qa
      have k3 := hw _ _ _ qa
      have k4 := sSk_ge n b e1
      have k5 := sSk_le b k2
      have k6 : sSk n b j + wl n b j ≤ e1 := by
        rw [sSk_id] at k3
        have := sWhF_ge isL b (n - sSk n b j) (sSk n b j)
        unfold wl
        omega
      obtain ⟨a4, u3, ea4⟩ := u3
      have T4 := x_here (B := B) (h := h4) u3
      rw [ea4] at T4
      have at4 : cAt n b (sSk n b e1) (xI c4 7 2 (nI (sSk n b e1))) := u3.to k5
      have rd5 := rd4.tr (cRd.at c4 (i := 2) (by decide) (nI (sSk n b e1)))
      have i54 : cI (xI c4 7 2 (nI (sSk n b e1))) 7 4 = nI d := by rw [cI_xI_ne _ (by omega)]; exact u2
      generalize xI c4 7 2 (nI (sSk n b e1)) = c5 at T4 at4 rd5 i54
      rw [u1, bnx_l, sbd_r, r_cls, ckc_s, T4, bnd_s]
      simp only [jn_s]
      by_cases cs : rB n b (sSk n b e1) = 60 ∨ rB n b (sSk n b e1) = 61 ∨ rB n b (sSk n b e1) = 62
      · rw [if_pos cs]
        have hs : rB n b (sSk n b e1) < 256 := by omega
        have hlt : sSk n b e1 < n := (rB_lt rfl hs).1
        have er : rI n b (sSk n b e1) = nI (rB n b (sSk n b e1)) := (rI_eqc ha.1 _ hs).mpr rfl
        rw [er]
        generalize rB n b (sSk n b e1) = s at cs hs
        have key : ∀ (K W : Option ((Nat ⊕ Nat) × PH)), (if nI s = (60 : Int32) then K else if nI s = (62 : Int32) then K else if nI s = (61 : Int32) then K else W) = K := by
          intro K W
          rcases cs with rfl | rfl | rfl
          · rw [if_pos (show nI 60 = (60 : Int32) from rfl)]
          · rw [if_neg (show ¬ nI 61 = (60 : Int32) by decide), if_neg (show ¬ nI 61 = (62 : Int32) by decide), if_pos (show nI 61 = (61 : Int32) from rfl)]
          · rw [if_neg (show ¬ nI 62 = (60 : Int32) by decide), if_pos (show nI 62 = (62 : Int32) from rfl)]
        rw [key, r_F2, vI_s, at4.2.1, nI_1, r_pI _ h4 2 (by decide), bnv_s, mk_new v3.1 (by omega) (by omega), bnd_s, r_cls, ckc_s]
        have rd6 := rd5.tr (cRd.at c5 (i := 2) (by decide) (nI (sSk n b e1 + 1)))
        have as6 : cAs n b (sSk n b e1 + 1) (xI c5 7 2 (nI (sSk n b e1 + 1))) := (at4.to (by omega)).as
        have i64 : cI (xI c5 7 2 (nI (sSk n b e1 + 1))) 7 4 = nI d := by rw [cI_xI_ne _ (by omega)]; exact i54
        generalize xI c5 7 2 (nI (sSk n b e1 + 1)) = c6 at rd6 as6 i64
        have w5 := v3.new (.inr (19, [.null, .null, .int 0])) 3
        have g5 := hGr.new h4 (.inr (19, [.null, .null, .int 0])) 3
        have d5 := hN_at h4 (.inr (19, [.null, .null, .int 0])) 3
        have n5 : (hNew h4 (.inr (19, [.null, .null, .int 0])) 3).1 = h4.1 + 1 := rfl
        have s5 : (hNew h4 (.inr (19, [.null, .null, .int 0])) 3).2.1 = h4.2.1 + 3 := rfl
        generalize hNew h4 (.inr (19, [.null, .null, .int 0])) 3 = h5' at w5 g5 d5 n5 s5
        obtain ⟨c7, h7, z1, z2, z3, z4⟩ := A c6 h5' (sSk n b e1 + 1) (hd3.gr (v2.tr g5) w5) as6 (by omega) i64 (by rw [rd6.1 7 5 (by omega) (by decide)]; exact h5) (by omega) (by omega)
        cases qb : sum (sSk n b e1 + 1) with
        | inl gg =>
          rw [qb] at z4
          obtain ⟨o1, o2, o3, o4⟩ := z4
          rw [o1, bnx_r, sbd_l]
          exact ⟨c7, h7, rd6.tr z1, (g4.tr g5).tr z2, z3, rfl, o2, by omega, by omega⟩
        | inr pp =>
          obtain ⟨cp2, e2⟩ := pp
          rw [qb] at z4
          obtain ⟨py, o1, o2, o3, o4, o5, o6⟩ := z4
          obtain ⟨k7, k8⟩ := hp _ _ _ qb
          have k9 := sSk_ge n b (sSk n b e1 + 1)
          have d6 : h7.2.2 h4.1 = some (true, .inr (19, [.null, .null, .int 0])) := by rw [z2.2.2 _ (by omega)]; exact d5
          have oq : outB B h4.1 := Or.inr (Or.inr v3.1)
          have g7 := z2.1
          rw [o1, bnx_l, sbd_r]
          unfold fX19_init fX9_init
          rw [bnv_s, mk_pO oq d6 (show 0 < 3 by decide), bnv_s, mk_pO oq (pE_at _ _ _) (show 2 < 3 by decide), bnv_s, pE_pE, mk_pO oq (pE_at _ _ _) (show 1 < 3 by decide), bnv_s, pE_pE, bnv_s]
          have x21' := x2.1
          refine ⟨c7, _, rd6.tr z1, ((g4.tr g5).tr z2).put (a := h4.1) (by omega) _, z3.put (a := h4.1) (by omega) _, h4.1, rfl, o2, o3, ⟨⟨by omega, by show h4.1 < h7.1; omega⟩, Or.inr (Or.inr (Or.inl ⟨true, px, py, s, cp, cp2, pE_at _ _ _, cs, u4.of ?_, o4.of ?_, rfl⟩))⟩, by show h7.1 + 40 + _ ≤ _; omega, by show h7.2.1 + 400 + _ ≤ _; omega⟩
          · intro a ha
            have ha : h3.1 ≤ a ∧ a < h4.1 := ha
            exact ⟨⟨by omega, by show a < h7.1; omega⟩, by rw [pE_ne _ (by omega), z2.2.2 a (by omega), g5.2.2 a ha.2]⟩
          · intro a ha
            have ha : h5'.1 ≤ a ∧ a < h7.1 := ha
            exact ⟨⟨by omega, by show a < h7.1; omega⟩, pE_ne _ (by omega) _⟩
      · rw [if_neg cs]
        have f60 : ∀ s, s < 256 → (s = 60 ∨ s = 61 ∨ s = 62) → ¬ rI n b (sSk n b e1) = nI s := fun s hs hs' q => cs (by have := (rI_eqc ha.1 _ hs).mp q; omega)
        rw [if_neg (show ¬ rI n b (sSk n b e1) = (60 : Int32) from f60 60 (by decide) (by decide)), if_neg (show ¬ rI n b (sSk n b e1) = (62 : Int32) from f60 62 (by decide) (by decide)), if_neg (show ¬ rI n b (sSk n b e1) = (61 : Int32) from f60 61 (by decide) (by decide)), r_F2, vI_s, at4.2.1, r_cls, ckc_s, show (1 : Int32) = nI 1 from rfl, x_wrong, bnd_s]
        obtain ⟨p1, p2, p3⟩ := cFlt_po (n := n) (b := b) rd5 1 (sSk n b e1)
        exact ⟨_, h4, p1, g4, v3, rfl, ⟨p2, p3⟩, by omega, by omega⟩
  cases qw : rWordJ n b (sSk n b j) with
  | inl gg =>
    have eP := rPas_l (W := wNot) qw
    by_cases il : isL (rB n b (sSk n b j)) = true
    · rw [if_pos il] at eP
      rw [eP] at P2
      obtain ⟨p1, p2⟩ := P2
      have es : sum (sSk n b j) = .inl gg := hl _ _ (by rw [sSk_id]; exact il) (by rw [sSk_id]; exact qw)
      show ∃ c' h', _ ∧ _ ∧ _ ∧ match rCmp n b sum (sSk n b j) with
        | .inl g => _
        | .inr (cs, e) => _
      unfold rCmp
      rw [es, sbd_l, p1, bnx_r]
      exact ⟨c2, h2, rd1.tr x1, x2, x3, rfl, p2, by omega, by omega⟩
    · rw [if_neg il] at eP
      have eP2 := rPas_l (W := wAll) qw
      rw [if_neg il] at eP2
      rw [eP] at P2
      obtain ⟨p1, p2, p3, -⟩ := P2
      rw [p1, bnx_l, if_pos (show bI false = 0 by decide), r_cls, ckc_s]
      obtain ⟨c3, h3, ⟨y1, y2, y3, y4, y5⟩, Q2⟩ := y_passes (D := D) (cap := cap) (c := c2) hd2 p3 (i := 15) (by decide) (by omega) (by omega)
      rw [eA, eP2] at Q2
      obtain ⟨q1, q2, q3, -⟩ := Q2
      rw [q1, bnx_l, if_pos (show bI false = 0 by decide)]
      exact cmp c3 h3 y1 y2 y3 y4 y5 (by rw [q2, p2]; exact i44) q3
  | inr pp =>
    obtain ⟨v, e1⟩ := pp
    obtain ⟨b1, b2, b3, b4, b5, b6, b7⟩ := rWordJ_r qw
    have ewl : wl n b j = e1 - sSk n b j := by unfold wl; rw [b5]
    have eP := rPas_w (W := wNot) qw
    by_cases cn : v.1 = wNot
    · rw [if_pos cn] at eP
      rw [eP] at P2
      obtain ⟨p1, p2, p3, p4⟩ := P2
      have p4 := p4 rfl
      rw [p1, bnx_l, if_neg (show ¬ bI true = 0 by decide), r_F3, vI_s, p4, r_cls, ckc_s, x_opens _ d hd6 (by rw [p2]; exact i44)]
      show ∃ c' h', _ ∧ _ ∧ _ ∧ match (if v.1 = wNot then (if dp = false then .inl (4, sSk n b j) else sbd (fact e1) fun c e2 => .inr (c ++ [12], e2)) else if v.1 = wAll then .inr ([13], e1) else rCmp n b sum (sSk n b j) : RS (List Int32)) with
        | .inl g => _
        | .inr (cs, e) => _
      rw [if_pos cn]
      by_cases c6 : d = 6
      · rw [if_pos c6, if_pos (hdp.mpr c6), bnx_r]
        obtain ⟨o1, o2, o3⟩ := cFlt_po (n := n) (b := b) (rd1.tr x1) 4 (sSk n b j)
        exact ⟨_, h2, o1, x2, x3, rfl, ⟨o2, o3⟩, by omega, by omega⟩
      · have edp := dpt c6
        rw [if_neg c6, if_neg (by rw [edp]; decide), bnx_l, mk_new x3.1 (by omega) (by omega), bnd_s, r_cls, ckc_s]
        have rd2 := cRd.at c2 (i := 4) (by decide) (nI (d + 1))
        have as2 := p3.p4 (nI (d + 1))
        have i24 := cI_xI_eq c2 7 4 (nI (d + 1))
        generalize xI c2 7 4 (nI (d + 1)) = c4 at rd2 as2 i24
        have w5 := x3.new (.inr (11, [.null])) 1
        have g5 := hGr.new h2 (.inr (11, [.null])) 1
        have d5 := hN_at h2 (.inr (11, [.null])) 1
        have n5 : (hNew h2 (.inr (11, [.null])) 1).1 = h2.1 + 1 := rfl
        have s5 : (hNew h2 (.inr (11, [.null])) 1).2.1 = h2.2.1 + 1 := rfl
        generalize hNew h2 (.inr (11, [.null])) 1 = h5' at w5 g5 d5 n5 s5
        obtain ⟨c6', h6, y1, y2, y3, y4⟩ := AF edp c4 h5' e1 (hd2.gr g5 w5) as2 b7 i24 (by rw [rd2.1 7 5 (by omega) (by decide)]; exact i25) (by omega) (by omega)
        cases qb : fact e1 with
        | inl gg =>
          rw [qb] at y4
          obtain ⟨z1, z2, z3, z4⟩ := y4
          rw [z1, bnx_r, sbd_l]
          exact ⟨c6', h6, ((rd1.tr x1).tr rd2).tr y1, (x2.tr g5).tr y2, y3, rfl, z2, by omega, by omega⟩
        | inr pp =>
          obtain ⟨cp2, e3⟩ := pp
          rw [qb] at y4
          obtain ⟨py, z1, z2, z3, z4, z5, z6⟩ := y4
          obtain ⟨k1, k2⟩ := hpf _ _ _ qb
          have k3 := sSk_ge n b e1
          have d6 : h6.2.2 h2.1 = some (true, .inr (11, [.null])) := by rw [y2.2.2 _ (by omega)]; exact d5
          have oq : outB B h2.1 := Or.inr (Or.inr x3.1)
          have g6 := y2.1
          rw [z1, bnx_l, sbd_r]
          unfold fX11_init fX9_init
          rw [bnv_s, mk_pO oq d6 (show 0 < 1 by decide), bnv_s, bnv_s, r_F4, vI_s, z2, nI_m1 (by omega), r_pI _ _ 4 (by decide), bnv_s]
          refine ⟨_, _, (((rd1.tr x1).tr rd2).tr y1).tr (cRd.at _ (i := 4) (by decide) _), ((x2.tr g5).tr y2).put (a := h2.1) (by omega) _, y3.put (a := h2.1) (by omega) _, h2.1, rfl, cI_xI_eq _ _ _ _, z3.p4 _, ⟨⟨by omega, by show h2.1 < h6.1; omega⟩, Or.inr (Or.inl ⟨true, py, cp2, pE_at _ _ _, z4.of ?_, rfl⟩)⟩, by show h6.1 + 40 + _ ≤ _; omega, by show h6.2.1 + 400 + _ ≤ _; omega⟩
          intro a ha
          have ha : h5'.1 ≤ a ∧ a < h6.1 := ha
          exact ⟨⟨by omega, ha.2⟩, pE_ne _ (by omega) _⟩
    · rw [if_neg cn] at eP
      rw [eP] at P2
      obtain ⟨p1, p2, p3, -⟩ := P2
      rw [p1, bnx_l, if_pos (show bI false = 0 by decide), r_cls, ckc_s]
      obtain ⟨c3, h3, ⟨y1, y2, y3, y4, y5⟩, Q2⟩ := y_passes (D := D) (cap := cap) (c := c2) hd2 p3 (i := 15) (by decide) (by omega) (by omega)
      have eP2 := rPas_w (W := wAll) qw
      show ∃ c' h', _ ∧ _ ∧ _ ∧ match (if v.1 = wNot then (if dp = false then .inl (4, sSk n b j) else sbd (fact e1) fun c e2 => .inr (c ++ [12], e2)) else if v.1 = wAll then .inr ([13], e1) else rCmp n b sum (sSk n b j) : RS (List Int32)) with
        | .inl g => _
        | .inr (cs, e) => _
      rw [if_neg cn]
      by_cases ca : v.1 = wAll
      · rw [if_pos ca] at eP2
        rw [eA, eP2] at Q2
        obtain ⟨q1, q2, q3, -⟩ := Q2
        rw [if_pos ca, q1, bnx_l, if_neg (show ¬ bI true = 0 by decide), mk_new y3.1 (by omega) (by omega), bnd_s]
        unfold fX12_init fX9_init
        rw [bnv_s, bnv_s]
        have y21 := y2.1
        exact ⟨_, _, (rd1.tr x1).tr y1, (x2.tr y2).tr (hGr.new _ _ _), y3.new _ _, h3.1, rfl, by rw [q2, p2]; exact i44, q3, ⟨⟨by omega, by show h3.1 < h3.1 + 1; omega⟩, Or.inl ⟨true, hN_at _ _ _, rfl⟩⟩, by show h3.1 + 1 + 40 + _ ≤ _; omega, by show h3.2.1 + 0 + 400 + _ ≤ _; omega⟩
      · rw [if_neg ca] at eP2
        rw [eA, eP2] at Q2
        obtain ⟨q1, q2, q3, -⟩ := Q2
        rw [if_neg ca, q1, bnx_l, if_pos (show bI false = 0 by decide)]
        exact cmp c3 h3 y1 y2 y3 y4 y5 (by rw [q2, p2]; exact i44) q3
end ST
