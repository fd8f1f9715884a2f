/-! PART 15: plain: the component's words: asked for, passed, names -/
set_option maxRecDepth 100000
/-- the reader stands at j, or before blanks that lead to where j leads -/
def cAs (n : Nat) (b : Nat → Nat) (j : Nat) (c : CZ) : Prop := ∃ a, cAt n b a c ∧ sSk n b a = sSk n b j
theorem cAt.as {n : Nat} {b : Nat → Nat} {a : Nat} {c : CZ} (h : cAt n b a c) : cAs n b a c := ⟨a, h, rfl⟩
/-- the reader's own words and heap; N: where the call began -/
def rdS (D : PD) (B N : Nat) (h : PH) : Prop := hW B h ∧ N ≤ h.1 ∧ B + 841 ≤ N ∧ Kst D B N h
/-- what is left behind -/
def rdP (B N : Nat) (c c' : CZ) (h h' : PH) (x y : Nat) : Prop := cRd c c' ∧ hGr h h' ∧ hW B h' ∧ h'.1 ≤ h.1 + x ∧ h'.2.1 ≤ h.2.1 + y
theorem rdP.rf (B N : Nat) {c c' : CZ} {h : PH} (hw : hW B h) (hr : cRd c c') : rdP B N c c' h h 0 0 := ⟨hr, hGr.rf h, hw, Nat.le_refl _, Nat.le_refl _⟩
theorem rdP.tr {B N : Nat} {c1 c2 c3 : CZ} {h1 h2 h3 : PH} {x y x' y' : Nat} (p : rdP B N c1 c2 h1 h2 x y) (q : rdP B N c2 c3 h2 h3 x' y') : rdP B N c1 c3 h1 h3 (x + x') (y + y') := by
  obtain ⟨p1, p2, p3, p4, p5⟩ := p
  obtain ⟨q1, q2, q3, q4, q5⟩ := q
  exact ⟨p1.tr q1, p2.tr q2, q3, by omega, by omega⟩
theorem rdP.up {B N : Nat} {c c' : CZ} {h h' : PH} {x y x' y' : Nat} (p : rdP B N c c' h h' x y) (hx : x ≤ x') (hy : y ≤ y') : rdP B N c c' h h' x' y' := ⟨p.1, p.2.1, p.2.2.1, by have := p.2.2.2.1; omega, by have := p.2.2.2.2; omega⟩
theorem rdS.gr {D : PD} {B N : Nat} {h h' : PH} (g : rdS D B N h) (hg : hGr h h') (hw : hW B h') : rdS D B N h' := ⟨hw, Nat.le_trans g.2.1 hg.1, g.2.2.1, g.2.2.2.gr (fun a ha _ => hg.2.2 a (Nat.lt_of_lt_of_le ha g.2.1))⟩
/-- how long the word there is -/
def wl (n : Nat) (b : Nat → Nat) (j : Nat) : Nat := sWe n b (sSk n b j) - sSk n b j
/-- a fault is told -/
def cFt (c' : CZ) (g : Nat × Nat) : Prop := cI c' 8 6 = nI g.1 ∧ cI c' 8 7 = nI g.2
theorem bnx_l {α β : Type} (r : α) (h : PH) (k : α → PH → Option ((β ⊕ Nat) × PH)) : bnx (some (.inl r, h)) k = k r h := rfl
theorem bnx_r {α β : Type} (q : Nat) (h : PH) (k : α → PH → Option ((β ⊕ Nat) × PH)) : bnx (some (.inr q, h)) k = some (.inr q, h) := rfl
section SH
variable {n : Nat} {b : Nat → Nat} {B N j : Nat} {D : PD} {cap : Nat × Nat} {c : CZ} {h : PH}
theorem rMust_c {s a : Nat} (e : sSk n b a = sSk n b j) : rMust n b s a = rMust n b s j := by unfold rMust; rw [e]
theorem y_must (hw : hW B h) (ha : cAs n b j c) {s : Nat} (hs : s < 256) : ∃ c', rdP B N c c' h h 0 0 ∧ match rMust n b s j with
    | .inl g => fX2_must (B + 7) (nI s) (mk B c h) = some (.inr (B + 8), mk B c' h) ∧ cFt c' g
    | .inr (_, e) => fX2_must (B + 7) (nI s) (mk B c h) = some (.inl (), mk B c' h) ∧ cI c' 7 4 = cI c 7 4 ∧ cAs n b e c' := by
  obtain ⟨a, ha, ea⟩ := ha
  have M := x_must (B := B) (h := h) ha hs
  rw [rMust_c ea] at M
  have rd2 := cRd.at c (i := 2) (by decide) (nI (sSk n b a))
  cases q : rMust n b s j with
  | inl g =>
    rw [q] at M
    obtain ⟨p1, p2, p3⟩ := cFlt_po (n := n) (b := b) rd2 g.1 g.2
    exact ⟨_, rdP.rf B N hw p1, M, p2, p3⟩
  | inr p =>
    obtain ⟨u, e⟩ := p
    rw [q] at M
    have := rMust_r hs q
    exact ⟨_, rdP.rf B N hw (cRd.at c (by decide) _), M, cI_xI_ne _ (by omega) _, (ha.to this.2.1).as⟩
theorem y_number2 (hw : hW B h) (ha : cAs n b j c) {lo hi : Nat} (hlo : lo < 10000) (hhi : hi < 10000) : ∃ c', rdP B N c c' h h 0 0 ∧ match rNum n b lo hi j with
    | .inl g => fX2_number_2 (B + 7) (nI lo) (nI hi) (mk B c h) = some (.inr (B + 8), mk B c' h) ∧ cFt c' g
    | .inr (v, e) => fX2_number_2 (B + 7) (nI lo) (nI hi) (mk B c h) = some (.inl (nI v), mk B c' h) ∧ cI c' 7 4 = cI c 7 4 ∧ cAs n b e c' := by
  obtain ⟨a, ha, ea⟩ := ha
  have M := x_number2 (B := B) (h := h) ha hlo hhi
  have er : rNum n b lo hi a = rNum n b lo hi j := by unfold rNum; rw [ea]
  rw [er] at M
  cases q : rNum n b lo hi j with
  | inl g =>
    rw [q] at M
    obtain ⟨c', m1, m2, m3, m4⟩ := M
    exact ⟨c', rdP.rf B N hw m2, m1, m3, m4⟩
  | inr p =>
    obtain ⟨v, e⟩ := p
    rw [q] at M
    obtain ⟨c', m1, m2, m3, m4⟩ := M
    exact ⟨c', rdP.rf B N hw m2, m1, m3, m4.as⟩
theorem wsN_t {h' : PH} {p : Nat} {w : List Nat} (g : wsN h' p w) (hp : B + 841 ≤ p) (h8 : ∀ x, x ∈ w → x < 128) (hl : w.length ≤ 1600) : tP (outB B) h' p w := by
  obtain ⟨g1, f, g2, g3⟩ := g
  exact ⟨Or.inr (Or.inr hp), h8, hl, true, true, 0, 0, p + 1, f, Or.inr (Or.inr (by omega)), g1, g2, g3⟩
theorem word_8 {i : Nat} {v : List Nat × Nat} {e : Nat} (hn : n ≤ 1600) (h : rWordJ n b i = .inr (v, e)) : (∀ x, x ∈ v.1 → x < 128) ∧ v.1.length ≤ 1600 := by
  obtain ⟨w1, w2, w3, w4, w5, w6, w7⟩ := rWordJ_r h
  constructor
  · intro x hx
    rw [w4] at hx
    obtain ⟨k, k1, k2, k3⟩ := seg_mem b _ _ x hx
    have := of_decide_eq_true (sWhF_in isL b (n - i) i k k1 (by show k < sWe n b i; omega))
    omega
  · rw [w4]
    show (seg b i (sWe n b i - i)).length ≤ 1600
    rw [seg_len]
    omega
/-- a word read: 3 cells -/
theorem y_word (hd : rdS D B N h) (ha : cAs n b j c) (r1 : h.1 + 3 ≤ cap.1) (r2 : h.2.1 + 4 + 2 * n ≤ cap.2) : match rWord n b j with
    | .inl g => ∃ c', rdP B N c c' h h 0 0 ∧ fX2_word D cap (B + 7) (mk B c h) = some (.inr (B + 8), mk B c' h) ∧ cFt c' g
    | .inr (v, e) => ∃ c' h', rdP B N c c' h h' 3 (4 + 2 * wl n b j) ∧ fX2_word D cap (B + 7) (mk B c h) = some (.inl (h.1 + 1), mk B c' h') ∧ cI c' 7 4 = cI c 7 4 ∧ cI c' 7 3 = nI v.2 ∧ cAs n b e c' ∧ wsN h' (h.1 + 1) v.1 ∧ tP (outB B) h' (h.1 + 1) v.1 ∧ h'.1 = h.1 + 3 := by
  obtain ⟨a, ha, ea⟩ := ha
  have hn := ha.1.1
  have M := x_word (D := D) (cap := cap) hd.2.2.2.1 hd.1 ha r1 r2
  have er : rWord n b a = rWord n b j := by unfold rWord; rw [ea]
  rw [er] at M
  cases q : rWord n b j with
  | inl g =>
    rw [q] at M
    obtain ⟨c', m1, m2, m3, m4⟩ := M
    exact ⟨c', rdP.rf B N hd.1 m2, m1, m3, m4⟩
  | inr p =>
    obtain ⟨v, e⟩ := p
    rw [q] at M
    obtain ⟨c', h', m1, m2, m3, m4, m5, m6, m7, m8, m9, m10⟩ := M
    obtain ⟨w1, w2, w3, w4, w5, w6, w7⟩ := rWordJ_r q
    have w8 := word_8 hn q
    have := hd.1.1
    have ew : e - v.2 = wl n b j := by unfold wl; rw [w5, w4]
    exact ⟨c', h', ⟨m2, m6, m7, by omega, by omega⟩, m1, m3, m4, m5.as, m10, wsN_t m10 (by omega) w8.1 w8.2, m8⟩
theorem y_eq (hd : rdS D B N h) {h' : PH} {c' : CZ} (hk : Kst D B N h') {p : Nat} {w : List Nat} (hp : N ≤ p) (g : tP (outB B) h' p w) {i : Nat} (hi : i < 20) : fJ6_equals D p (some (dK D i)) (mk B c' h') = some (decide (w = kWd.getD i []), mk B c' h') := by
  have t := hk.2.1 i hi
  have : dK D i < N := t.1.2
  exact x_equals hk.1 (fun a q => q) (fun a q => q.1) g t (by omega)
theorem tP_cls {P : Nat → Prop} {h' : PH} {c' : CZ} {p : Nat} {w : List Nat} (hP : ∀ a, P a → outB B a) (g : tP P h' p w) : pCls (mk B c' h') p = some 22 := by
  obtain ⟨g0, -, -, b1, b2, x, y, ba, f, -, g4, -⟩ := g
  exact pCls_of (by rw [mk_out (hP _ g0)]; exact g4)
/-- a given word asked for -/
theorem y_word2 (hd : rdS D B N h) (ha : cAs n b j c) {i : Nat} (hi : i < 20) (r1 : h.1 + 3 ≤ cap.1) (r2 : h.2.1 + 4 + 2 * n ≤ cap.2) : ∃ c' h', rdP B N c c' h h' 3 (4 + 2 * wl n b j) ∧ match rAsk n b (kWd.getD i []) j with
    | .inl g => fX2_word_2 D cap (B + 7) (dK D i) (mk B c h) = some (.inr (B + 8), mk B c' h') ∧ cFt c' g
    | .inr (_, e) => fX2_word_2 D cap (B + 7) (dK D i) (mk B c h) = some (.inl (), mk B c' h') ∧ cI c' 7 4 = cI c 7 4 ∧ cAs n b e c' := by
  have M := y_word (D := D) (cap := cap) hd ha r1 r2
  unfold rWord at M
  cases q : rWordJ n b (sSk n b j) with
  | inl g =>
    rw [q] at M
    obtain ⟨c', m1, m2, m3⟩ := M
    have hb : hB n b (sSk n b j) (kWd.getD i []) = false := by unfold hB; rw [q]
    have er : rAsk n b (kWd.getD i []) j = .inl (1, sSk n b j) := by unfold rAsk; rw [hb, if_neg (by decide)]
    have E : fX2_word_2 D cap (B + 7) (dK D i) (mk B c h) = some (.inr (B + 8), mk B c' h) := by
      unfold fX2_word_2
      rw [r_cls, ckc_s, m2, bnx_r]
    rw [er]
    rw [(rWordJ_l q).1] at m3
    exact ⟨c', h, m1.up (by omega) (by omega), E, m3⟩
  | inr pp =>
    obtain ⟨v, e⟩ := pp
    rw [q] at M
    obtain ⟨c', h', m1, m2, m3, m4, m5, m6, m7, m8⟩ := M
    obtain ⟨w1, w2, w3, w4, w5, w6, w7⟩ := rWordJ_r q
    have hv2 : v.2 = sSk n b j := by rw [w4]
    have hd' := hd.gr m1.2.1 m1.2.2.1
    have E : fX2_word_2 D cap (B + 7) (dK D i) (mk B c h) = if v.1 = kWd.getD i [] then some (.inl (), mk B c' h') else some (.inr (B + 8), mk B (cFlt c' 1 (sSk n b j)) h') := by
      unfold fX2_word_2
      rw [r_cls, ckc_s, m2, bnx_l, tP_cls (fun a q => q) m7, ckc_s, y_eq hd hd'.2.2.2 (by have := hd.2.1; omega) m7 hi, bnd_s]
      by_cases d : v.1 = kWd.getD i []
      · rw [decide_eq_true d, if_neg (show ¬ bI true = 0 by decide), if_pos d]
      · rw [decide_eq_false d, if_pos (show bI false = 0 by decide), if_neg d, r_F3, vI_s, m4, hv2, r_cls, ckc_s, show (1 : Int32) = nI 1 from rfl, x_wrong, bnd_s]
    have er : rAsk n b (kWd.getD i []) j = if v.1 = kWd.getD i [] then .inr ((), e) else .inl (1, sSk n b j) := by
      unfold rAsk
      rw [hB_f q, w5]
      by_cases d : v.1 = kWd.getD i []
      · rw [decide_eq_true d, if_pos rfl, if_pos d]
      · rw [decide_eq_false d, if_neg (by decide), if_neg d]
    by_cases d : v.1 = kWd.getD i []
    · rw [if_pos d] at E er
      rw [er]
      exact ⟨c', h', m1, E, m3, m5⟩
    · rw [if_neg d] at E er
      rw [er]
      obtain ⟨p1, p2, p3⟩ := cFlt_po (n := n) (b := b) (cRd.rf c') 1 (sSk n b j)
      exact ⟨_, h', (m1.tr (rdP.rf B N m1.2.2.1 p1)).up (by omega) (by omega), E, p2, p3⟩
/-- what passing a word says: passed, or not here -/
def rPas (n : Nat) (b : Nat → Nat) (W : List Nat) (j : Nat) : RS Bool := if hB n b (sSk n b j) W = true then .inr (true, sWe n b (sSk n b j)) else if isL (rB n b (sSk n b j)) = true ∧ pv b (sSk n b j) = true then .inl (1, sSk n b j) else .inr (false, j)
theorem y_passes (hd : rdS D B N h) (ha : cAs n b j c) {i : Nat} (hi : i < 20) (r1 : h.1 + 3 ≤ cap.1) (r2 : h.2.1 + 4 + 2 * n ≤ cap.2) : ∃ c' h', rdP B N c c' h h' 3 (4 + 2 * wl n b j) ∧ match rPas n b (kWd.getD i []) j with
    | .inl g => fX2_passes D cap (B + 7) (dK D i) (mk B c h) = some (.inr (B + 8), mk B c' h') ∧ cFt c' g
    | .inr (r, e) => fX2_passes D cap (B + 7) (dK D i) (mk B c h) = some (.inl r, mk B c' h') ∧ cI c' 7 4 = cI c 7 4 ∧ cAs n b e c' ∧ (r = true → cI c' 7 3 = nI (sSk n b j)) := by
  obtain ⟨a, ha, ea⟩ := ha
  have hs := ha.sk
  rw [ea] at hs
  have hjj := sSk_id n b j
  have hs2 : cAs n b (sSk n b j) (xI c 7 2 (nI (sSk n b j))) := hs.as
  have rd2 := cRd.at c (i := 2) (by decide) (nI (sSk n b j))
  have d4 : cI (xI c 7 2 (nI (sSk n b j))) 7 4 = cI c 7 4 := cI_xI_ne _ (by omega) _
  have E0 : ∀ k : Bool → PH → Option ((Bool ⊕ Nat) × PH), (bnd (fX2_here (B + 7) (mk B c h)) fun r1 h1 => bnd (fX0_isLetter r1 h1) k) = k (isL (rB n b (sSk n b j))) (mk B (xI c 7 2 (nI (sSk n b j))) h) := by
    intro k
    rw [x_here ha, bnd_s, ea, x_isLetter_r ha.1, bnd_s]
  have M := y_word (D := D) (cap := cap) (N := N) hd hs2 r1 r2
  have ewl : wl n b (sSk n b j) = wl n b j := by unfold wl; rw [hjj]
  unfold rWord at M
  rw [hjj, ewl] at M
  generalize xI c 7 2 (nI (sSk n b j)) = c1 at hs hs2 rd2 d4 E0 M
  unfold rPas
  cases q : rWordJ n b (sSk n b j) with
  | inl g =>
    rw [q] at M
    obtain ⟨c', m1, m2, m3⟩ := M
    obtain ⟨g1, g2⟩ := rWordJ_l q
    have hb : hB n b (sSk n b j) (kWd.getD i []) = false := by unfold hB; rw [q]
    rw [hb, if_neg (show ¬ (false = true) by decide)]
    cases cl : isL (rB n b (sSk n b j)) with
    | false =>
      rw [if_neg (fun q => by cases q.1)]
      refine ⟨c1, h, (rdP.rf B N hd.1 rd2).up (by omega) (by omega), ?_, d4, ⟨sSk n b j, hs, hjj⟩, fun q => by cases q⟩
      unfold fX2_passes
      rw [r_F2, vI_s, r_cls, ckc_s, E0, cl, if_pos (by decide)]
    | true =>
      have cp : pv b (sSk n b j) = true := by
        cases h : pv b (sSk n b j) with
        | true => rfl
        | false => exact absurd ⟨cl, h⟩ g2
      rw [if_pos ⟨rfl, cp⟩]
      rw [g1] at m3
      refine ⟨c', h, (rdP.tr (rdP.rf B N hd.1 rd2) m1).up (by omega) (by omega), ?_, m3⟩
      unfold fX2_passes
      rw [r_F2, vI_s, r_cls, ckc_s, E0, cl, if_neg (by decide), r_cls, ckc_s, m2, bnx_r]
  | inr pp =>
    obtain ⟨v, e⟩ := pp
    rw [q] at M
    obtain ⟨c', h', m1, m2, m3, m4, m5, m6, m7, m8⟩ := M
    obtain ⟨w1, w2, w3, w4, w5, w6, w7⟩ := rWordJ_r q
    have hv2 : v.2 = sSk n b j := by rw [w4]
    have cl : isL (rB n b (sSk n b j)) = true := by unfold rB; rw [if_pos w1]; exact w2
    have hd' := hd.gr m1.2.1 m1.2.2.1
    have T := rdP.tr (rdP.rf B N hd.1 rd2) m1
    rw [hB_f q]
    have E : fX2_passes D cap (B + 7) (dK D i) (mk B c h) = if v.1 = kWd.getD i [] then some (.inl true, mk B c' h') else some (.inl false, mk B (xI c' 7 2 (nI a)) h') := by
      unfold fX2_passes
      rw [r_F2, vI_s, r_cls, ckc_s, E0, cl, if_neg (by decide), r_cls, ckc_s, m2, bnx_l, tP_cls (fun a q => q) m7, ckc_s, y_eq hd hd'.2.2.2 (by have := hd.2.1; omega) m7 hi, bnd_s]
      by_cases d : v.1 = kWd.getD i []
      · rw [decide_eq_true d, if_neg (show ¬ bI true = 0 by decide), if_pos d]
      · rw [decide_eq_false d, if_pos (show bI false = 0 by decide), if_neg d, ha.2.1, r_pI c' h' 2 (by decide), bnv_s]
    by_cases d : v.1 = kWd.getD i []
    · rw [if_pos d] at E
      rw [decide_eq_true d, if_pos rfl, ← w5]
      exact ⟨c', h', T.up (by omega) (by omega), E, m3.trans d4, m5, fun _ => by rw [m4, hv2]⟩
    · rw [if_neg d] at E
      rw [decide_eq_false d, if_neg (show ¬ (false = true) by decide), if_neg (by rw [w3]; exact fun q => by cases q.2)]
      refine ⟨_, h', (T.tr (rdP.rf B N m1.2.2.1 (cRd.at c' (by decide) _))).up (by omega) (by omega), E, ?_, ⟨a, ?_, ea⟩, fun q => by cases q⟩
      · rw [cI_xI_ne _ (by omega)]; exact m3.trans d4
      · obtain ⟨a5, m5a, -⟩ := m5
        exact m5a.to ha.2.2
end SH
