/-! PART 33: plain: statements: a fact, a person -/
set_option maxRecDepth 100000
theorem sbd_as {α β γ : Type} (r : RS α) (f : α → Nat → RS β) (g : β → Nat → RS γ) : sbd (sbd r f) g = sbd r fun a e => sbd (f a e) g := by
  cases r with
  | inl x => rfl
  | inr x => rfl
theorem rdS.fr {D : PD} {B N : Nat} {h h' : PH} (g : rdS D B N h) (hw : hW B h') (h1 : h.1 ≤ h'.1) (e : ∀ a, a < N → h'.2.2 a = h.2.2 a) : rdS D B N h' := ⟨hw, Nat.le_trans g.2.1 h1, g.2.2.1, g.2.2.2.gr (fun a ha _ => e a ha)⟩
theorem rNewJ_e {n : Nat} {b : Nat → Nat} {k : SK} {nm : Nat → Nat → List Nat} {j : Nat} {v : List Nat × Nat} {e : Nat} (h : rNewJ n b k nm j = .inr (v, e)) : e = sWe n b j := by
  obtain ⟨w, e1, q1, q2⟩ := sbd_inr h
  obtain ⟨w1, w2, w3, w4, w5⟩ := rNameJ_r q1
  have q2 : (if fnd (nm 0) w.1 (kF k) 0 = none ∧ fnd (nm 1) w.1 (kP k) 0 = none then (.inr (w, e1) : RS (List Nat × Nat)) else .inl (3, w.2)) = .inr (v, e) := q2
  by_cases c : fnd (nm 0) w.1 (kF k) 0 = none ∧ fnd (nm 1) w.1 (kP k) 0 = none
  · rw [if_pos c] at q2
    cases q2
    exact w5
  · rw [if_neg c] at q2; cases q2
theorem rOneJ_e {n : Nat} {b : Nat → Nat} {k : SK} {nm : Nat → Nat → List Nat} {kd j : Nat} {v : Nat × Nat} {e : Nat} (h : rOneJ n b k nm kd j = .inr (v, e)) : e = sWe n b j := by
  obtain ⟨w, e1, q1, q2⟩ := sbd_inr h
  obtain ⟨w1, w2, w3, w4, w5⟩ := rNameJ_r q1
  have q2 : (match fnd (nm kd) w.1 (kN k kd) 0 with
    | some i => (.inr ((i, w.2), e1) : RS (Nat × Nat))
    | none => .inl (3, w.2)) = .inr (v, e) := q2
  cases qf : fnd (nm kd) w.1 (kN k kd) 0 with
  | none => rw [qf] at q2; cases q2
  | some i =>
    rw [qf] at q2
    cases q2
    exact w5
theorem rAsk_e {n : Nat} {b : Nat → Nat} {W : List Nat} {i : Nat} {u : Unit} {e : Nat} (h : rAsk n b W i = .inr (u, e)) : e = sWe n b (sSk n b i) := by
  unfold rAsk at h
  by_cases c : hB n b (sSk n b i) W = true
  · rw [if_pos c] at h
    cases h
    rfl
  · rw [if_neg c] at h; cases h
/-- what a statement leaves -/
def stP {β : Type} (B N n : Nat) (b : Nat → Nat) (r : β) (X : Option ((β ⊕ Nat) × PH)) (c : CZ) (h : PH) (e sa cnt : Nat) (R : RS ST) : Prop :=
  ∃ c' h', cRt c c' ∧ (∀ a, a < N → h'.2.2 a = h.2.2 a) ∧ h.1 ≤ h'.1 ∧ h.2.1 ≤ h'.2.1 ∧ hW B h' ∧ match R with
    | .inl g => X = some (.inr (B + 8), mk B c' h') ∧ cFt c' g ∧ h'.1 ≤ h.1 + 60 * (n - e) + 100 ∧ h'.2.1 ≤ h.2.1 + 800 * (n - e) + 1000
    | .inr (s', e') => X = some (.inl r, mk B c' h') ∧ cI c' 7 4 = cI c 7 4 ∧ cAs n b e' c' ∧ scW B N h' sa s' cnt ∧ h'.1 + 60 * (n - e') ≤ h.1 + 60 * (n - e) ∧ h'.2.1 + 800 * (n - e') ≤ h.2.1 + 800 * (n - e) + 4 * wl n b e'
section TA
variable {B N n : Nat} {b : Nat → Nat} {D : PD} {cap : Nat × Nat}
theorem y_addF {c : CZ} {h : PH} {j e sa cnt : Nat} {s : ST} (hd : rdS D B N h) (ha : cAs n b e c) (he : e ≤ n) (hq : cQ c 7 6 = some sa) (g : scW B N h sa s cnt) (hs : stOk s) (r1 : h.1 + 60 * (n - e) + 100 ≤ cap.1) (r2 : h.2.1 + 800 * (n - e) + 40000 ≤ cap.2) :
    stP B N n b true (
      vA (pF (mk B c h) (B + 7) 2 6) fun p1 =>
      vA (pF (mk B c h) p1 1 4) fun p2 =>
      ckc (pCls (mk B c h) p2) 21 <|
      bnd (fJ2_size p2 (mk B c h)) fun r2 h3 =>
      jn (fun (x2 : Bool) (h4 : PH) =>
        ckc (pCls h4 (B + 7)) 2 <|
        bnx (fX2_most (B + 7) x2 (nI j) h4) fun u1 h5 =>
        ckc (pCls h5 (B + 7)) 2 <|
        bnx (fX2_fresh D cap (B + 7) h5) fun p3 h6 =>
        vA (pF h6 (B + 7) 2 6) fun p4 =>
        vA (pF h6 p4 1 4) fun p5 =>
        bnd (pNew cap h6 (.inr (7, [.null, .int 0])) 2) fun p6 h7 =>
        ckc (pCls h7 (B + 7)) 2 <|
        bnx (fX2_number D cap (B + 7) (dK D 5) 1 9 h7) fun r3 h8 =>
        bnv (fX7_init p6 p3 r3 h8) fun h9 =>
        ckc (pCls h9 p5) 21 <|
        bnd (fJ2_add D cap p5 (some p6) h9) fun r4 h10 =>
        (some (.inl true, h10) : Option ((Bool ⊕ Nat) × PH))) fun j191 =>
      if r2 = (8 : Int32) then
        j191 true h3
      else
        j191 false h3) c h e sa cnt (rFactS n b s j e) := by
  have hn : n ≤ 1600 := by
    obtain ⟨a, q, -⟩ := ha
    exact q.1.1
  obtain ⟨fl, fr, fn, pl, pr, pn, fo, po, tq, g⟩ := g
  have gl := g.2.2.1
  have hNB := hd.2.2.1
  have hwl := wl_le b he
  have hes := sSk_ge n b e
  have k8 := hs.1.1
  have lsm : lstP (iv N h.1) (mk B c h) fl fo (kF (tK s)) := gl.ls.of (fun a ha => ⟨ha, mk_out (Or.inr (Or.inr (by have := ha.1; omega))) c h⟩)
  unfold rFactS
  rw [r_F6s hq, vA_s, g.F hNB c (k := 4) rfl, vA_s, l_cls lsm, ckc_s, l_size lsm, bnd_s]
  simp only [jn_s]
  by_cases c8 : kF (tK s) = 8
  · rw [if_pos (show nI (kF (tK s)) = (8 : Int32) by rw [c8]; rfl), r_cls, ckc_s, x_most, if_pos rfl, bnx_r, if_pos c8]
    obtain ⟨p1, p2, p3⟩ := cFlt_po (n := n) (b := b) (cRd.rf c) 5 j
    exact ⟨_, h, p1.rt, fun _ _ => rfl, Nat.le_refl _, Nat.le_refl _, hd.1, rfl, ⟨p2, p3⟩, by omega, by omega⟩
  rw [if_neg (show ¬ nI (kF (tK s)) = (8 : Int32) from fun q => c8 ((nI_eq (a := kF (tK s)) (b := 8) (by omega) (by omega)).mp q)), r_cls, ckc_s, x_most, if_neg (show ¬ false = true by decide), bnx_l, r_cls, ckc_s, if_neg c8]
  obtain ⟨c1, h1, ⟨x1, x2, x3, x4, x5⟩, M⟩ := y_fresh (D := D) (cap := cap) (c := c) hd ha hNB hq g hs (by omega) (by omega)
  have hd1 := hd.gr x2 x3
  have x21 := x2.1
  have x22 := x2.2.1
  cases qn : rNewJ n b (tK s) (tNm s) (sSk n b e) with
  | inl gg =>
    rw [qn] at M
    obtain ⟨m1, m2⟩ := M
    rw [sbd_l, m1, bnx_r]
    exact ⟨c1, h1, x1.rt, fun a ha => x2.2.2 a (by have := hd.2.1; omega), x21, x22, x3, rfl, m2, by omega, by omega⟩
  | inr pp =>
    obtain ⟨v, e1⟩ := pp
    rw [qn] at M
    obtain ⟨m1, m2, m3, m4, m5⟩ := M
    obtain ⟨-, n1, n2⟩ := rNewJ_r qn
    have n3 := rNewJ_e qn
    have ewl : wl n b e = e1 - sSk n b e := by unfold wl; rw [n3]
    have hwl1 := wl_le b n2
    have he1 := sSk_ge n b e1
    have q1 : cQ c1 7 6 = some sa := by rw [x1.q]; exact hq
    have g1 := g.gr x2
    rw [m1, bnx_l, r_F6s q1, vA_s, g1.F hNB c1 (k := 4) rfl, vA_s, mk_new x3.1 (by omega) (by omega), bnd_s, r_cls, ckc_s, sbd_r]
    have w5 := x3.new (.inr (7, [.null, .int 0])) 2
    have g5 := hGr.new h1 (.inr (7, [.null, .int 0])) 2
    have d5 := hN_at h1 (.inr (7, [.null, .int 0])) 2
    have n5 : (hNew h1 (.inr (7, [.null, .int 0])) 2).1 = h1.1 + 1 := rfl
    have s5 : (hNew h1 (.inr (7, [.null, .int 0])) 2).2.1 = h1.2.1 + 2 := rfl
    generalize hNew h1 (.inr (7, [.null, .int 0])) 2 = h2 at w5 g5 d5 n5 s5
    have hd2 := hd1.gr g5 w5
    obtain ⟨c3, h3, ⟨y1, y2, y3, y4, y5⟩, M2⟩ := y_numb (D := D) (cap := cap) (c := c1) hd2 m3 (i := 5) (by decide) (lo := 1) (hi' := 9) (by decide) (by decide) (by omega) (by omega)
    have y21 := y2.1
    have y22 := y2.2.1
    have eK : kWd.getD 5 [] = wWorth := rfl
    rw [eK] at M2
    have eR : (sbd (rAsk n b wWorth e1) fun _ e2 => sbd (rNum n b 1 9 e2) fun x e3 => (.inr (sAddF s v.1 x, e3) : RS ST)) = sbd (sbd (rAsk n b wWorth e1) fun _ e2 => rNum n b 1 9 e2) fun x e3 => .inr (sAddF s v.1 x, e3) := (sbd_as _ _ _).symm
    rw [eR]
    cases qm : (sbd (rAsk n b wWorth e1) fun _ e2 => rNum n b 1 9 e2) with
    | inl gg =>
      rw [qm] at M2
      obtain ⟨u1, u2⟩ := M2
      rw [show fX2_number D cap (B + 7) (dK D 5) 1 9 (mk B c1 h2) = _ from u1, bnx_r, sbd_l]
      exact ⟨c3, h3, (x1.tr y1).rt, fun a ha => by rw [y2.2.2 a (by have := hd.2.1; omega), g5.2.2 a (by have := hd.2.1; omega), x2.2.2 a (by have := hd.2.1; omega)], by omega, by omega, y3, rfl, u2, by omega, by omega⟩
    | inr pp =>
      obtain ⟨x, e3⟩ := pp
      obtain ⟨u, e2, z1, z2⟩ := sbd_inr qm
      have z3 := rAsk_r z1
      have z4 := rAsk_e z1
      have z5 := rNum_r z2
      have ewl1 : wl n b e1 = e2 - sSk n b e1 := by unfold wl; rw [z4]
      rw [qm] at M2
      obtain ⟨u1, u2, u3⟩ := M2
      rw [show fX2_number D cap (B + 7) (dK D 5) 1 9 (mk B c1 h2) = _ from u1, bnx_l, sbd_r]
      have d6 : h3.2.2 h1.1 = some (true, .inr (7, [.null, .int 0])) := by rw [y2.2.2 _ (by omega)]; exact d5
      have oq : outB B h1.1 := Or.inr (Or.inr x3.1)
      unfold fX7_init
      rw [mk_pO oq d6 (show 0 < 2 by decide), bnv_s, mk_pO oq (pE_at _ _ _) (show 1 < 2 by decide), bnv_s, pE_pE, bnv_s]
      have w7 := y3.put (a := h1.1) (by omega) (.inr (7, [.ref (h.1 + 1), .int (nI x)]))
      have g7 : hGr h (pPutE h3 h1.1 (.inr (7, [.ref (h.1 + 1), .int (nI x)]))) := (((x2.tr g5).tr y2).put (a := h1.1) (by omega) _)
      have d7 := pE_at h3 h1.1 (.inr (7, [.ref (h.1 + 1), .int (nI x)]))
      have e7 : ∀ a, a ≠ h1.1 → (pPutE h3 h1.1 (.inr (7, [.ref (h.1 + 1), .int (nI x)]))).2.2 a = h3.2.2 a := fun a ha => pE_ne _ ha _
      have n7 : (pPutE h3 h1.1 (.inr (7, [.ref (h.1 + 1), .int (nI x)]))).1 = h3.1 := rfl
      have s7 : (pPutE h3 h1.1 (.inr (7, [.ref (h.1 + 1), .int (nI x)]))).2.1 = h3.2.1 := rfl
      show stP B N n b true (ckc (pCls (mk B c3 (pPutE h3 h1.1 (.inr (7, [.ref (h.1 + 1), .int (nI x)])))) fl) 21 <| bnd (fJ2_add D cap fl (some h1.1) (mk B c3 (pPutE h3 h1.1 (.inr (7, [.ref (h.1 + 1), .int (nI x)]))))) fun r4 h10 => (some (.inl true, h10) : Option ((Bool ⊕ Nat) × PH))) c h e sa cnt (.inr (sAddF s v.1 x, e3))
      generalize pPutE h3 h1.1 (.inr (7, [.ref (h.1 + 1), .int (nI x)])) = h7 at w7 g7 d7 e7 n7 s7
      have str : strP (fun a => iv h.1 h7.1 a ∧ a ≠ h1.1) h7 (h.1 + 1) v.1 := m5.of (fun a ha => by
        have ha : h.1 ≤ a ∧ a < h1.1 := ha
        exact ⟨⟨⟨ha.1, by omega⟩, by omega⟩, by rw [e7 a (by omega), y2.2.2 a (by omega), g5.2.2 a ha.2]⟩)
      have lsm : lstP (iv N h7.1) (mk B c3 h7) fl fo (kF (tK s)) := (g.gr g7).2.2.1.ls.of (fun a ha => ⟨ha, mk_out (Or.inr (Or.inr (by have := ha.1; omega))) c3 h7⟩)
      obtain ⟨h8, t1, t2, t3, t4, t5, t6⟩ := sc_addF (c := c3) (D := D) (cap := cap) w7 hNB g g7 (x := h1.1) (nn := h.1 + 1) (v := x) (l := v.1) ⟨by omega, by omega⟩ d7 (str.of (fun a ha => ⟨ha.1, rfl⟩)) (by omega) (by omega) (by omega)
      rw [l_cls lsm, ckc_s, t1, bnd_s]
      refine ⟨c3, h8, (x1.tr y1).rt, fun a ha => by rw [t6 a ha, e7 a (by have := hd.2.1; omega), y2.2.2 a (by have := hd.2.1; omega), g5.2.2 a (by have := hd.2.1; omega), x2.2.2 a (by have := hd.2.1; omega)], by omega, by omega, t3, rfl, by rw [u2]; exact m2, u3, t2, by omega, by omega⟩
theorem y_addP {c : CZ} {h : PH} {j e sa cnt : Nat} {s : ST} (hd : rdS D B N h) (ha : cAs n b e c) (he : e ≤ n) (hq : cQ c 7 6 = some sa) (g : scW B N h sa s cnt) (hs : stOk s) (r1 : h.1 + 60 * (n - e) + 100 ≤ cap.1) (r2 : h.2.1 + 800 * (n - e) + 40000 ≤ cap.2) :
    stP B N n b true (
      vA (pF (mk B c h) (B + 7) 2 6) fun p1 =>
      vA (pF (mk B c h) p1 1 5) fun p2 =>
      ckc (pCls (mk B c h) p2) 21 <|
      bnd (fJ2_size p2 (mk B c h)) fun r2 h3 =>
      jn (fun (x2 : Bool) (h4 : PH) =>
        ckc (pCls h4 (B + 7)) 2 <|
        bnx (fX2_most (B + 7) x2 (nI j) h4) fun u1 h5 =>
        ckc (pCls h5 (B + 7)) 2 <|
        bnx (fX2_fresh D cap (B + 7) h5) fun p3 h6 =>
        vA (pF h6 (B + 7) 2 6) fun p4 =>
        vA (pF h6 p4 1 5) fun p5 =>
        bnd (pNew cap h6 (.inr (8, [.null, .int 0, .int 0, .int 0, .int 0])) 5) fun p6 h7 =>
        ckc (pCls h7 (B + 7)) 2 <|
        bnx (fX2_number D cap (B + 7) (dK D 6) 0 99 h7) fun r3 h8 =>
        bnv (fX8_init p6 p3 r3 h8) fun h9 =>
        ckc (pCls h9 p5) 21 <|
        bnd (fJ2_add D cap p5 (some p6) h9) fun r4 h10 =>
        (some (.inl true, h10) : Option ((Bool ⊕ Nat) × PH))) fun j191 =>
      if r2 = (8 : Int32) then
        j191 true h3
      else
        j191 false h3) c h e sa cnt (rPersS n b s j e) := by
  have hn : n ≤ 1600 := by
    obtain ⟨a, q, -⟩ := ha
    exact q.1.1
  obtain ⟨fl, fr, fn, pl, pr, pn, fo, po, tq, g⟩ := g
  have gl := g.2.2.2.1
  have hNB := hd.2.2.1
  have hwl := wl_le b he
  have hes := sSk_ge n b e
  have k8 := hs.1.2.1
  have lsm : lstP (iv N h.1) (mk B c h) pl po (kP (tK s)) := gl.ls.of (fun a ha => ⟨ha, mk_out (Or.inr (Or.inr (by have := ha.1; omega))) c h⟩)
  unfold rPersS
  rw [r_F6s hq, vA_s, g.F hNB c (k := 5) rfl, vA_s, l_cls lsm, ckc_s, l_size lsm, bnd_s]
  simp only [jn_s]
  by_cases c8 : kP (tK s) = 8
  · rw [if_pos (show nI (kP (tK s)) = (8 : Int32) by rw [c8]; rfl), r_cls, ckc_s, x_most, if_pos rfl, bnx_r, if_pos c8]
    obtain ⟨p1, p2, p3⟩ := cFlt_po (n := n) (b := b) (cRd.rf c) 5 j
    exact ⟨_, h, p1.rt, fun _ _ => rfl, Nat.le_refl _, Nat.le_refl _, hd.1, rfl, ⟨p2, p3⟩, by omega, by omega⟩
  rw [if_neg (show ¬ nI (kP (tK s)) = (8 : Int32) from fun q => c8 ((nI_eq (a := kP (tK s)) (b := 8) (by omega) (by omega)).mp q)), r_cls, ckc_s, x_most, if_neg (show ¬ false = true by decide), bnx_l, r_cls, ckc_s, if_neg c8]
  obtain ⟨c1, h1, ⟨x1, x2, x3, x4, x5⟩, M⟩ := y_fresh (D := D) (cap := cap) (c := c) hd ha hNB hq g hs (by omega) (by omega)
  have hd1 := hd.gr x2 x3
  have x21 := x2.1
  have x22 := x2.2.1
  cases qn : rNewJ n b (tK s) (tNm s) (sSk n b e) with
  | inl gg =>
    rw [qn] at M
    obtain ⟨m1, m2⟩ := M
    rw [sbd_l, m1, bnx_r]
    exact ⟨c1, h1, x1.rt, fun a ha => x2.2.2 a (by have := hd.2.1; omega), x21, x22, x3, rfl, m2, by omega, by omega⟩
  | inr pp =>
    obtain ⟨v, e1⟩ := pp
    rw [qn] at M
    obtain ⟨m1, m2, m3, m4, m5⟩ := M
    obtain ⟨-, n1, n2⟩ := rNewJ_r qn
    have n3 := rNewJ_e qn
    have ewl : wl n b e = e1 - sSk n b e := by unfold wl; rw [n3]
    have hwl1 := wl_le b n2
    have he1 := sSk_ge n b e1
    have q1 : cQ c1 7 6 = some sa := by rw [x1.q]; exact hq
    have g1 := g.gr x2
    rw [m1, bnx_l, r_F6s q1, vA_s, g1.F hNB c1 (k := 5) rfl, vA_s, mk_new x3.1 (by omega) (by omega), bnd_s, r_cls, ckc_s, sbd_r]
    have w5 := x3.new (.inr (8, [.null, .int 0, .int 0, .int 0, .int 0])) 5
    have g5 := hGr.new h1 (.inr (8, [.null, .int 0, .int 0, .int 0, .int 0])) 5
    have d5 := hN_at h1 (.inr (8, [.null, .int 0, .int 0, .int 0, .int 0])) 5
    have n5 : (hNew h1 (.inr (8, [.null, .int 0, .int 0, .int 0, .int 0])) 5).1 = h1.1 + 1 := rfl
    have s5 : (hNew h1 (.inr (8, [.null, .int 0, .int 0, .int 0, .int 0])) 5).2.1 = h1.2.1 + 5 := rfl
    generalize hNew h1 (.inr (8, [.null, .int 0, .int 0, .int 0, .int 0])) 5 = h2 at w5 g5 d5 n5 s5
    have hd2 := hd1.gr g5 w5
    obtain ⟨c3, h3, ⟨y1, y2, y3, y4, y5⟩, M2⟩ := y_numb (D := D) (cap := cap) (c := c1) hd2 m3 (i := 6) (by decide) (lo := 0) (hi' := 99) (by decide) (by decide) (by omega) (by omega)
    have y21 := y2.1
    have y22 := y2.2.1
    have eK : kWd.getD 6 [] = wCalm := rfl
    rw [eK] at M2
    have eR : (sbd (rAsk n b wCalm e1) fun _ e2 => sbd (rNum n b 0 99 e2) fun x e3 => (.inr (sAddP s v.1 x, e3) : RS ST)) = sbd (sbd (rAsk n b wCalm e1) fun _ e2 => rNum n b 0 99 e2) fun x e3 => .inr (sAddP s v.1 x, e3) := (sbd_as _ _ _).symm
    rw [eR]
    cases qm : (sbd (rAsk n b wCalm e1) fun _ e2 => rNum n b 0 99 e2) with
    | inl gg =>
      rw [qm] at M2
      obtain ⟨u1, u2⟩ := M2
      rw [show fX2_number D cap (B + 7) (dK D 6) 0 99 (mk B c1 h2) = _ from u1, bnx_r, sbd_l]
      exact ⟨c3, h3, (x1.tr y1).rt, fun a ha => by rw [y2.2.2 a (by have := hd.2.1; omega), g5.2.2 a (by have := hd.2.1; omega), x2.2.2 a (by have := hd.2.1; omega)], by omega, by omega, y3, rfl, u2, by omega, by omega⟩
    | inr pp =>
      obtain ⟨x, e3⟩ := pp
      obtain ⟨u, e2, z1, z2⟩ := sbd_inr qm
      have z3 := rAsk_r z1
      have z4 := rAsk_e z1
      have z5 := rNum_r z2
      have ewl1 : wl n b e1 = e2 - sSk n b e1 := by unfold wl; rw [z4]
      rw [qm] at M2
      obtain ⟨u1, u2, u3⟩ := M2
      rw [show fX2_number D cap (B + 7) (dK D 6) 0 99 (mk B c1 h2) = _ from u1, bnx_l, sbd_r]
      have d6 : h3.2.2 h1.1 = some (true, .inr (8, [.null, .int 0, .int 0, .int 0, .int 0])) := by rw [y2.2.2 _ (by omega)]; exact d5
      have oq : outB B h1.1 := Or.inr (Or.inr x3.1)
      unfold fX8_init fX7_init_P
      rw [mk_pO oq d6 (show 0 < 5 by decide), bnv_s, mk_pO oq (pE_at _ _ _) (show 1 < 5 by decide), bnv_s, pE_pE, bnv_s, mk_pO oq (pE_at _ _ _) (show 2 < 5 by decide), bnv_s, pE_pE, bnv_s]
      have w7 := y3.put (a := h1.1) (by omega) (.inr (8, [.ref (h.1 + 1), .int (nI x), .int (-1), .int 0, .int 0]))
      have g7 : hGr h (pPutE h3 h1.1 (.inr (8, [.ref (h.1 + 1), .int (nI x), .int (-1), .int 0, .int 0]))) := (((x2.tr g5).tr y2).put (a := h1.1) (by omega) _)
      have d7 := pE_at h3 h1.1 (.inr (8, [.ref (h.1 + 1), .int (nI x), .int (-1), .int 0, .int 0]))
      have e7 : ∀ a, a ≠ h1.1 → (pPutE h3 h1.1 (.inr (8, [.ref (h.1 + 1), .int (nI x), .int (-1), .int 0, .int 0]))).2.2 a = h3.2.2 a := fun a ha => pE_ne _ ha _
      have n7 : (pPutE h3 h1.1 (.inr (8, [.ref (h.1 + 1), .int (nI x), .int (-1), .int 0, .int 0]))).1 = h3.1 := rfl
      have s7 : (pPutE h3 h1.1 (.inr (8, [.ref (h.1 + 1), .int (nI x), .int (-1), .int 0, .int 0]))).2.1 = h3.2.1 := rfl
      show stP B N n b true (ckc (pCls (mk B c3 (pPutE h3 h1.1 (.inr (8, [.ref (h.1 + 1), .int (nI x), .int (-1), .int 0, .int 0])))) pl) 21 <| bnd (fJ2_add D cap pl (some h1.1) (mk B c3 (pPutE h3 h1.1 (.inr (8, [.ref (h.1 + 1), .int (nI x), .int (-1), .int 0, .int 0]))))) fun r4 h10 => (some (.inl true, h10) : Option ((Bool ⊕ Nat) × PH))) c h e sa cnt (.inr (sAddP s v.1 x, e3))
      generalize pPutE h3 h1.1 (.inr (8, [.ref (h.1 + 1), .int (nI x), .int (-1), .int 0, .int 0])) = h7 at w7 g7 d7 e7 n7 s7
      have str : strP (fun a => iv h.1 h7.1 a ∧ a ≠ h1.1) h7 (h.1 + 1) v.1 := m5.of (fun a ha => by
        have ha : h.1 ≤ a ∧ a < h1.1 := ha
        exact ⟨⟨⟨ha.1, by omega⟩, by omega⟩, by rw [e7 a (by omega), y2.2.2 a (by omega), g5.2.2 a ha.2]⟩)
      have lsm : lstP (iv N h7.1) (mk B c3 h7) pl po (kP (tK s)) := (g.gr g7).2.2.2.1.ls.of (fun a ha => ⟨ha, mk_out (Or.inr (Or.inr (by have := ha.1; omega))) c3 h7⟩)
      obtain ⟨h8, t1, t2, t3, t4, t5, t6⟩ := sc_addP (c := c3) (D := D) (cap := cap) w7 hNB hs g g7 (x := h1.1) (nn := h.1 + 1) (v := x) (l := v.1) ⟨by omega, by omega⟩ d7 str (by omega) (by omega) (by omega)
      rw [l_cls lsm, ckc_s, t1, bnd_s]
      refine ⟨c3, h8, (x1.tr y1).rt, fun a ha => by rw [t6 a ha, e7 a (by have := hd.2.1; omega), y2.2.2 a (by have := hd.2.1; omega), g5.2.2 a (by have := hd.2.1; omega), x2.2.2 a (by have := hd.2.1; omega)], by omega, by omega, t3, rfl, by rw [u2]; exact m2, u3, t2, by omega, by omega⟩
end TA
