/-! PART 36: plain: all statements -/
set_option maxRecDepth 100000
section TD
variable {B N n : Nat} {b : Nat → Nat} {D : PD} {cap : Nat × Nat}
theorem cAs.le {j : Nat} {c : CZ} (g : cAs n b j c) : j ≤ n := by
  obtain ⟨a, q, e⟩ := g
  have := sSk_ge n b j
  have := sSk_le b q.2.2
  omega
/-- what the loop over the statements leaves -/
def slP (B N n : Nat) (X : Option ((Nat ⊕ Nat) × PH)) (K : PH → Option ((Nat ⊕ Nat) × PH)) (c : CZ) (h : PH) (i sa : Nat) (R : RS (ST × Nat)) : Prop :=
  ∃ c' h', cRt c c' ∧ (∀ a, a < N → h'.2.2 a = h.2.2 a) ∧ h.1 ≤ h'.1 ∧ h.2.1 ≤ h'.2.1 ∧ hW B h' ∧ match R with
    | .inl g => X = some (.inr (B + 8), mk B c' h') ∧ cFt c' g ∧ h'.1 ≤ h.1 + 60 * (n - i) + 100 ∧ h'.2.1 ≤ h.2.1 + 800 * (n - i) + 1000
    | .inr ((s', cnt'), _) => X = K (mk B c' h') ∧ scW B N h' sa s' cnt' ∧ stOk s' ∧ cnt' ≤ 80 ∧ h'.1 ≤ h.1 + 60 * (n - i) ∧ h'.2.1 ≤ h.2.1 + 800 * (n - i)
theorem all_L (k107 : PH → Option ((Nat ⊕ Nat) × PH)) (dm : PH → Option ((Nat ⊕ Nat) × PH)) :
    ∀ (f : Nat) (c : CZ) (h : PH) (i sa cnt M : Nat) (s : ST), f < M → cnt + f = 82 → cnt ≤ 80 → rdS D B N h → cAs n b i c → cQ c 7 6 = some sa → cI c 7 4 = nI 0 → scW B N h sa s cnt → stOk s → h.1 + 60 * (n - i) + 100 ≤ cap.1 → h.2.1 + 800 * (n - i) + 40000 ≤ cap.2 →
      slP B N n (fx (fX2_all_L26 D cap (B + 7) k107) dm M (mk B c h)) k107 c h i sa (rSch n b f s cnt i)
  | 0, c, h, i, sa, cnt, M, s, hM, hf, hc, _, _, _, _, _, _, _, _ => absurd hf (by omega)
  | f + 1, c, h, i, sa, cnt, M, s, hM, hf, hc, hd, ha, hq, h4, g, hs, r1, r2 => by
    obtain ⟨M, rfl⟩ : ∃ M', M = M' + 1 := ⟨M - 1, by omega⟩
    have IH := fun c1 h1 i1 s1 q1 q2 q3 q4 q5 q6 q7 q8 q9 => all_L k107 dm f c1 h1 i1 sa (cnt + 1) M s1 (by omega) (by omega) q1 q2 q3 q4 q5 q6 q7 q8 q9
    rw [fx_s]
    generalize fx (fX2_all_L26 D cap (B + 7) k107) dm M = T at IH ⊢
    have hin := ha.le
    have hNB := hd.2.2.1
    have hNh := hd.2.1
    obtain ⟨a, ha, ea⟩ := ha
    have hn := ha.1.1
    have T1 := x_here (B := B) (h := h) ha
    rw [ea] at T1
    have hjs := sSk_ge n b i
    have hjn := sSk_le b hin
    have at1 : cAt n b (sSk n b i) (xI c 7 2 (nI (sSk n b i))) := ha.to hjn
    have rd1 := cRd.at c (i := 2) (by decide) (nI (sSk n b i))
    have i44 : cI (xI c 7 2 (nI (sSk n b i))) 7 4 = nI 0 := by rw [cI_xI_ne _ (by omega)]; exact h4
    generalize xI c 7 2 (nI (sSk n b i)) = c1 at T1 at1 rd1 i44
    have as1 : cAs n b i c1 := ⟨_, at1, sSk_id n b i⟩
    have q1 : cQ c1 7 6 = some sa := by rw [rd1.q]; exact hq
    have er : rSch n b (f + 1) s cnt i = if n ≤ sSk n b i then .inr ((s, cnt), sSk n b i) else sbd (rSt1 n b s cnt (sSk n b i)) fun s' e => rSch n b f s' (cnt + 1) e := rfl
    unfold fX2_all_L26
    rw [er, r_cls, ckc_s, T1, bnd_s]
    by_cases ce : n ≤ sSk n b i
    · rw [if_pos ((rI_m1c ha.1 _).mpr ce), if_pos ce]
      exact ⟨c1, h, rd1.rt, fun _ _ => rfl, Nat.le_refl _, Nat.le_refl _, hd.1, rfl, g, hs, hc, by omega, by omega⟩
    rw [if_neg (fun q => ce ((rI_m1c ha.1 _).mp q)), if_neg ce, r_F6s q1, vA_s]
    obtain ⟨fl, fr, fn, pl, pr, pn, fo, po, tq, g⟩ := g
    have sa1 := g.1.1
    have sa2 := g.1.2
    have osa : outB B sa := Or.inr (Or.inr (by omega))
    rw [g.F hNB c1 (k := 0) rfl, vI_s]
    simp only [jn_s]
    unfold rSt1
    by_cases c80 : cnt = 80
    · rw [if_pos (show nI cnt = (80 : Int32) by rw [c80]; rfl), if_pos c80, r_F2, vI_s, at1.2.1, r_cls, ckc_s, x_most, if_pos rfl, bnx_r, sbd_l]
      obtain ⟨p1, p2, p3⟩ := cFlt_po (n := n) (b := b) rd1 5 (sSk n b i)
      exact ⟨_, h, p1.rt, fun _ _ => rfl, Nat.le_refl _, Nat.le_refl _, hd.1, rfl, ⟨p2, p3⟩, by omega, by omega⟩
    rw [if_neg (show ¬ nI cnt = (80 : Int32) from fun q => c80 ((nI_eq (a := cnt) (b := 80) (by omega) (by omega)).mp q)), if_neg c80, r_F2, vI_s, at1.2.1, r_cls, ckc_s, x_most, if_neg (show ¬ false = true by decide), bnx_l, r_F6s q1, vA_s, g.F hNB c1 (k := 0) rfl, vI_s, mk_pO osa g.2.1 (show 0 < 9 by decide), bnv_s, r_cls, ckc_s, nI_1]
    have Z := sc_putS g (s' := s) (cnt' := cnt + 1) (tq' := tq) ⟨rfl, rfl, rfl⟩ rfl (fun i' hi' => Or.inl ⟨rfl, rfl⟩)
    have wZ := hd.1.put (a := sa) sa2 (.inr (1, [.int (nI (cnt + 1)), .int (nI (kSe (tK s) 0)), .int (nI (kSe (tK s) 1)), .int (nI (kSe (tK s) 2)), .ref fl, .ref pl, va_rf (tq 0), va_rf (tq 1), va_rf (tq 2)]))
    have fZ : ∀ a, a < N → (pPutE h sa (.inr (1, [.int (nI (cnt + 1)), .int (nI (kSe (tK s) 0)), .int (nI (kSe (tK s) 1)), .int (nI (kSe (tK s) 2)), .ref fl, .ref pl, va_rf (tq 0), va_rf (tq 1), va_rf (tq 2)]))).2.2 a = h.2.2 a := fun a ha => pE_ne _ (by omega) _
    have nZ : (pPutE h sa (.inr (1, [.int (nI (cnt + 1)), .int (nI (kSe (tK s) 0)), .int (nI (kSe (tK s) 1)), .int (nI (kSe (tK s) 2)), .ref fl, .ref pl, va_rf (tq 0), va_rf (tq 1), va_rf (tq 2)]))).1 = h.1 := rfl
    have sZ : (pPutE h sa (.inr (1, [.int (nI (cnt + 1)), .int (nI (kSe (tK s) 0)), .int (nI (kSe (tK s) 1)), .int (nI (kSe (tK s) 2)), .ref fl, .ref pl, va_rf (tq 0), va_rf (tq 1), va_rf (tq 2)]))).2.1 = h.2.1 := rfl
    show slP B N n (bnx (fX2_word D cap (B + 7) (mk B c1 (pPutE h sa (.inr (1, [.int (nI (cnt + 1)), .int (nI (kSe (tK s) 0)), .int (nI (kSe (tK s) 1)), .int (nI (kSe (tK s) 2)), .ref fl, .ref pl, va_rf (tq 0), va_rf (tq 1), va_rf (tq 2)]))))) _) k107 c h i sa _
    generalize pPutE h sa (.inr (1, [.int (nI (cnt + 1)), .int (nI (kSe (tK s) 0)), .int (nI (kSe (tK s) 1)), .int (nI (kSe (tK s) 2)), .ref fl, .ref pl, va_rf (tq 0), va_rf (tq 1), va_rf (tq 2)])) = h1 at Z wZ fZ nZ sZ
    have G1 : scW B N h1 sa s (cnt + 1) := ⟨_, _, _, _, _, _, _, _, _, Z⟩
    have hd1 : rdS D B N h1 := hd.fr wZ (by omega) fZ
    have hwl := wl_le b hin
    have M := y_word (D := D) (cap := cap) (c := c1) hd1 as1 (by omega) (by omega)
    have M : match rWordJ n b (sSk n b i) with
      | .inl g => ∃ c', rdP B N c1 c' h1 h1 0 0 ∧ fX2_word D cap (B + 7) (mk B c1 h1) = some (.inr (B + 8), mk B c' h1) ∧ cFt c' g
      | .inr (v, e) => ∃ c' h', rdP B N c1 c' h1 h' 3 (4 + 2 * wl n b i) ∧ fX2_word D cap (B + 7) (mk B c1 h1) = some (.inl (h1.1 + 1), mk B c' h') ∧ cI c' 7 4 = cI c1 7 4 ∧ cI c' 7 3 = nI v.2 ∧ cAs n b e c' ∧ wsN h' (h1.1 + 1) v.1 ∧ tP (outB B) h' (h1.1 + 1) v.1 ∧ h'.1 = h1.1 + 3 := M
    unfold rStmt
    cases qw : rWordJ n b (sSk n b i) with
    | inl gg =>
      rw [qw] at M
      obtain ⟨c2, m1, m2, m3⟩ := M
      rw [sbd_l, sbd_l, sbd_l, m2, bnx_r]
      exact ⟨c2, h1, (rd1.tr m1.1).rt, fZ, by omega, by omega, wZ, rfl, m3, by omega, by omega⟩
    | inr pp =>
      obtain ⟨v, e⟩ := pp
      rw [qw] at M
      obtain ⟨c2, h2, ⟨x1, x2, x3, x4, x5⟩, m2, m3, m4, m5, m6, m7, m8⟩ := M
      obtain ⟨b1, b2, b3, b4, b5, b6, b7⟩ := rWordJ_r qw
      have ev : v.2 = sSk n b i := by rw [b4]
      have ewl : wl n b i = e - sSk n b i := by unfold wl; rw [b5]
      have hd2 := hd1.gr x2 x3
      have rd2 := rd1.tr x1
      have q2 : cQ c2 7 6 = some sa := by rw [x1.q]; exact q1
      have i24 : cI c2 7 4 = nI 0 := by rw [m3]; exact i44
      obtain ⟨w8, w9⟩ := word_8 hn qw
      have wh : wH h2 (h1.1 + 1) v.1 := m6.h ⟨by rw [b4]; show 1 ≤ (seg b (sSk n b i) (sWe n b (sSk n b i) - sSk n b i)).length; rw [seg_len]; omega, w9, w8⟩
      have fr2 : ∀ a, a < N → h2.2.2 a = h.2.2 a := fun a ha => by rw [x2.2.2 a (by omega)]; exact fZ a ha
      have x22 := x2.2.1
      rw [sbd_r, m2, bnx_l, r_F3, vI_s, m4, ev, r_cls, ckc_s]
      -- behind a statement
      have fin : ∀ (c3 : CZ) (h3 : PH) (s' : ST) (e' : Nat), cRt c2 c3 → (∀ a, a < N → h3.2.2 a = h2.2.2 a) → h2.1 ≤ h3.1 → h2.2.1 ≤ h3.2.1 → hW B h3 → cI c3 7 4 = cI c2 7 4 → cAs n b e' c3 → scW B N h3 sa s' (cnt + 1) → stOk s' → h3.1 + 60 * (n - e') ≤ h2.1 + 60 * (n - e) → h3.2.1 + 800 * (n - e') ≤ h2.2.1 + 800 * (n - e) + 4 * wl n b e' →
          slP B N n (ckc (pCls (mk B c3 h3) (B + 7)) 2 <| bnx (fX2_must (B + 7) 59 (mk B c3 h3)) fun u2 h16 => T h16) k107 c h i sa (sbd (sbd (rMust n b 59 e') fun _ e2 => .inr (s', e2)) fun s' e => rSch n b f s' (cnt + 1) e) := by
        intro c3 h3 s' e' t1 t2 t3 t4 t5 t6 t7 t8 t9 t10 t11
        have e'n := t7.le
        have wl' := wl_le b e'n
        have e's := sSk_ge n b e'
        obtain ⟨c4, y1, y2⟩ := y_must (N := N) (h := h3) t5 t7 (s := 59) (by decide)
        rw [r_cls, ckc_s]
        cases qm : rMust n b 59 e' with
        | inl gg =>
          rw [qm] at y2
          obtain ⟨u1, u2⟩ := y2
          rw [show fX2_must (B + 7) 59 (mk B c3 h3) = _ from u1, bnx_r, sbd_l, sbd_l]
          exact ⟨c4, h3, (rd2.rt.tr t1).tr y1.1.rt, fun a ha => by rw [t2 a ha]; exact fr2 a ha, by omega, by omega, t5, rfl, u2, by omega, by omega⟩
        | inr pp =>
          obtain ⟨_, e2⟩ := pp
          rw [qm] at y2
          obtain ⟨u1, u2, u3⟩ := y2
          obtain ⟨o1, o2, o3, o4, o5⟩ := rMust_r (by decide) qm
          have w0 : wl n b e' = 0 := wl_no (s := 59) (by unfold rB; rw [if_pos o3]; exact o4) (by decide)
          rw [w0] at t11
          rw [show fX2_must (B + 7) 59 (mk B c3 h3) = _ from u1, bnx_l, sbd_r, sbd_r]
          have rd4 := (rd2.rt.tr t1).tr y1.1.rt
          obtain ⟨c5, h5, z1, z2, z3, z4, z5, z6⟩ := IH c4 h3 e2 s' (by omega) (hd2.fr t5 t3 t2) u3 (by rw [rd4.q]; exact hq) (by rw [u2, t6]; exact i24) t8 t9 (by omega) (by omega)
          refine ⟨c5, h5, rd4.tr z1, fun a ha => by rw [z2 a ha, t2 a ha]; exact fr2 a ha, by omega, by omega, z5, ?_⟩
          cases qs : rSch n b f s' (cnt + 1) e2 with
          | inl gg =>
            rw [qs] at z6
            obtain ⟨k1, k2, k3, k4⟩ := z6
            exact ⟨k1, k2, by omega, by omega⟩
          | inr pp =>
            obtain ⟨⟨s2, cn2⟩, e5⟩ := pp
            rw [qs] at z6
            obtain ⟨k1, k2, k3, k4, k5, k6⟩ := z6
            exact ⟨k1, k2, k3, k4, by omega, by omega⟩
      have P := y_people (D := D) (cap := cap) (j := sSk n b i) hd2 m5 b7 q2 G1 x2 (show h1.1 ≤ h1.1 + 1 by omega) (by omega) wh hs (by omega) (by omega)
      by_cases cp : v.1 = wFact ∨ v.1 = wPers ∨ v.1 = wKnow ∨ v.1 = wErrs ∨ v.1 = wTaug
      · rw [if_pos cp] at P
        obtain ⟨c3, h3, t1, t2, t3, t4, t5, t6⟩ := P
        cases qs : rStmW n b s v.1 (sSk n b i) e with
        | inl gg =>
          rw [qs] at t6
          obtain ⟨k1, k2, k3, k4⟩ := t6
          rw [k1, bnx_r, sbd_l, sbd_l]
          exact ⟨c3, h3, rd2.rt.tr t1, fun a ha => by rw [t2 a ha]; exact fr2 a ha, by omega, by omega, t5, rfl, k2, by omega, by omega⟩
        | inr pp =>
          obtain ⟨s', e'⟩ := pp
          rw [qs] at t6
          obtain ⟨k1, k2, k3, k4, k5, k6⟩ := t6
          rw [k1, bnx_l, sbd_r, if_neg (show ¬ bI true = 0 by decide)]
          exact fin c3 h3 s' e' t1 t2 t3 t4 t5 k2 k3 k4 (rStmW_ok hs qs) k5 k6
      · rw [if_neg cp] at P
        obtain ⟨h3, k1, k2, k3, k4, k5, k6, k7⟩ := P
        rw [k1, bnx_l, if_pos (show bI false = 0 by decide), r_F3, vI_s, m4, ev, r_cls, ckc_s]
        have hd3 : rdS D B N h3 := hd2.fr k4 (by omega) k7
        obtain ⟨c4, h4', t1, t2, t3, t4, t5, t6⟩ := y_more (D := D) (cap := cap) (j := sSk n b i) hd3 m5 b7 q2 i24 G1 k3 (show h1.1 ≤ h1.1 + 1 by omega) (by omega) k2 cp (by omega) (by omega)
        rw [k5] at t3
        rw [k6] at t4
        rw [k5, k6] at t6
        have t2' : ∀ a, a < N → h4'.2.2 a = h2.2.2 a := fun a ha => by rw [t2 a ha]; exact k7 a ha
        cases qs : rStmW n b s v.1 (sSk n b i) e with
        | inl gg =>
          rw [qs] at t6
          obtain ⟨k1, k2, k3, k4⟩ := t6
          rw [k1, bnx_r, sbd_l, sbd_l]
          exact ⟨c4, h4', rd2.rt.tr t1, fun a ha => by rw [t2' a ha]; exact fr2 a ha, by omega, by omega, t5, rfl, k2, by omega, by omega⟩
        | inr pp =>
          obtain ⟨s', e'⟩ := pp
          rw [qs] at t6
          obtain ⟨k1, k2, k3, k4, k5, k6⟩ := t6
          rw [k1, bnx_l, sbd_r]
          exact fin c4 h4' s' e' t1 t2' t3 t4 t5 k2 k3 k4 (rStmW_ok hs qs) k5 k6
end TD
