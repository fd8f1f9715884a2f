/-! PART 30: plain: the school that is being told, in the component -/
set_option maxRecDepth 100000
/-- only the reader (but the text's length) and the fault are changed -/
def cRt (c c' : CZ) : Prop := (∀ o i, o ≠ 8 → ¬ (o = 7 ∧ i ≠ 1) → cI c' o i = cI c o i) ∧ c'.2 = c.2
theorem cRd.rt {c c' : CZ} (h : cRd c c') : cRt c c' := ⟨fun o i h1 h2 => h.1 o i (by omega) h1, h.2⟩
theorem cRt.tr {c1 c2 c3 : CZ} (h : cRt c1 c2) (g : cRt c2 c3) : cRt c1 c3 := ⟨fun o i h1 h2 => (g.1 o i h1 h2).trans (h.1 o i h1 h2), g.2.trans h.2⟩
theorem cRt.rf (c : CZ) : cRt c c := ⟨fun _ _ _ _ => rfl, rfl⟩
theorem cRd.q {c c' : CZ} (h : cRd c c') (o i : Nat) : cQ c' o i = cQ c o i := by unfold cQ; rw [h.2]
theorem cRt.q {c c' : CZ} (h : cRt c c') (o i : Nat) : cQ c' o i = cQ c o i := by unfold cQ; rw [h.2]
theorem lsW.ls {lo : Nat} {h : PH} {al ar ln : Nat} {ads : Nat → Nat} {n : Nat} (g : lsW lo h al ar ln ads n) : lstP (iv lo h.1) h al ads n := by
  obtain ⟨g1, ⟨g2, g3, g4⟩, mc, f, g5, g6, g7, g8, g9, g10, g11⟩ := g
  exact ⟨g1, true, true, mc, ar, ln, f, ⟨g2, g3⟩, g5, g6, g7, by omega, g11⟩
/-- a cell of the call that is none of the school's own that change -/
def scQ (lo hi sa fl fr pl pr : Nat) (po : Nat → Nat) (np a : Nat) : Prop := iv lo hi a ∧ (a ≠ sa ∧ a ≠ fl ∧ a ≠ fr ∧ a ≠ pl ∧ a ≠ pr) ∧ ∀ p, p < np → a ≠ po p
theorem scQ_up {lo hi hi' sa fl fr pl pr np a : Nat} {po : Nat → Nat} (h1 : hi ≤ hi') (g : scQ lo hi sa fl fr pl pr po np a) : scQ lo hi' sa fl fr pl pr po np a := ⟨⟨g.1.1, Nat.lt_of_lt_of_le g.1.2 h1⟩, g.2⟩
def scO (B lo : Nat) (h : PH) (sa fl fr fn pl pr pn : Nat) (fo po : Nat → Nat) (tq : Nat → Option Nat) (s : ST) (cnt : Nat) : Prop :=
  (lo ≤ sa ∧ sa < h.1) ∧ h.2.2 sa = some (true, .inr (1, [.int (nI cnt), .int (nI (kSe (tK s) 0)), .int (nI (kSe (tK s) 1)), .int (nI (kSe (tK s) 2)), .ref fl, .ref pl, va_rf (tq 0), va_rf (tq 1), va_rf (tq 2)])) ∧
  lsW lo h fl fr fn fo (kF (tK s)) ∧ lsW lo h pl pr pn po (kP (tK s)) ∧
  (sa ≠ fl ∧ sa ≠ fr ∧ sa ≠ pl ∧ sa ≠ pr ∧ fl ≠ pl ∧ fl ≠ pr ∧ fr ≠ pl ∧ fr ≠ pr) ∧
  (∀ f, f < kF (tK s) → scQ lo h.1 sa fl fr pl pr po (kP (tK s)) (fo f) ∧ ∃ n, h.2.2 (fo f) = some (true, .inr (7, [.ref n, .int (nI (kWo (tK s) f))])) ∧ strP (scQ lo h.1 sa fl fr pl pr po (kP (tK s))) h n (tNm s 0 f)) ∧
  (∀ p, p < kP (tK s) → (iv lo h.1 (po p) ∧ po p ≠ sa ∧ po p ≠ fl ∧ po p ≠ fr ∧ po p ≠ pl ∧ po p ≠ pr) ∧ ∃ n, h.2.2 (po p) = some (true, .inr (8, [.ref n, .int (nI (kCa (tK s) p)), .int (nI (tM s p) - 1), .int (nI (tR s p)), .int (nI (tW s p))])) ∧ strP (scQ lo h.1 sa fl fr pl pr po (kP (tK s))) h n (tNm s 1 p)) ∧
  (∀ p p', p < kP (tK s) → p' < kP (tK s) → po p = po p' → p = p') ∧
  ∀ i, i < 3 → (kTe (tK s) i = none ∧ tq i = none) ∨ ∃ (c : List Int32) (t : Nat), kTe (tK s) i = some c ∧ tq i = some t ∧ tT (scQ lo h.1 sa fl fr pl pr po (kP (tK s))) B 64 h t c
def scW (B lo : Nat) (h : PH) (sa : Nat) (s : ST) (cnt : Nat) : Prop := ∃ (fl fr fn pl pr pn : Nat) (fo po : Nat → Nat) (tq : Nat → Option Nat), scO B lo h sa fl fr fn pl pr pn fo po tq s cnt
section SW1
variable {B lo : Nat} {h : PH} {sa fl fr fn pl pr pn : Nat} {fo po : Nat → Nat} {tq : Nat → Option Nat} {s : ST} {cnt : Nat}
theorem scO.gr {h' : PH} (g : scO B lo h sa fl fr fn pl pr pn fo po tq s cnt) (hg : hGr h h') : scO B lo h' sa fl fr fn pl pr pn fo po tq s cnt := by
  obtain ⟨⟨a1, a2⟩, a3, g1, g2, g3, g4, g5, g6, g7⟩ := g
  have h1 := hg.1
  have e : ∀ a, scQ lo h.1 sa fl fr pl pr po (kP (tK s)) a → scQ lo h'.1 sa fl fr pl pr po (kP (tK s)) a ∧ h'.2.2 a = h.2.2 a := fun a ha => ⟨scQ_up h1 ha, hg.2.2 a ha.1.2⟩
  refine ⟨⟨a1, by omega⟩, by rw [hg.2.2 _ a2]; exact a3, g1.of h1 (hg.2.2 _ g1.1.2) (hg.2.2 _ g1.2.1.2.1), g2.of h1 (hg.2.2 _ g2.1.2) (hg.2.2 _ g2.2.1.2.1), g3, fun f hf => ?_, fun p hp => ?_, g6, fun i hi => ?_⟩
  · obtain ⟨q1, n, q2, q3⟩ := g4 f hf
    exact ⟨scQ_up h1 q1, n, by rw [hg.2.2 _ q1.1.2]; exact q2, q3.of e⟩
  · obtain ⟨⟨q1, q0⟩, n, q2, q3⟩ := g5 p hp
    exact ⟨⟨⟨q1.1, by have := q1.2; omega⟩, q0⟩, n, by rw [hg.2.2 _ q1.2]; exact q2, q3.of e⟩
  · rcases g7 i hi with q | ⟨c, t, q1, q2, q3⟩
    · exact Or.inl q
    · exact Or.inr ⟨c, t, q1, q2, q3.of e⟩
theorem scW.gr {h' : PH} (g : scW B lo h sa s cnt) (hg : hGr h h') : scW B lo h' sa s cnt := by
  obtain ⟨fl, fr, fn, pl, pr, pn, fo, po, tq, g⟩ := g
  exact ⟨fl, fr, fn, pl, pr, pn, fo, po, tq, g.gr hg⟩
theorem scO.nmF (g : scO B lo h sa fl fr fn pl pr pn fo po tq s cnt) (hlo : B + 841 ≤ lo) (hs : stOk s) {h2 : PH} (hg : hGr h h2) {p : Nat} (hp : h.1 ≤ p) : nmL B (iv lo h.1) h2 p fo (tNm s 0) (kF (tK s)) := by
  obtain ⟨-, -, -, -, -, g4, -⟩ := g
  intro i hi
  obtain ⟨q1, n, q2, q3⟩ := g4 i hi
  refine ⟨Or.inr (Or.inr (by have := q1.1.1; omega)), hs.2.2.1 0 i (by decide) hi, true, 7, n, _, Or.inl rfl, by rw [hg.2.2 _ q1.1.2]; exact q2, q3.of (fun a ha => ⟨ha.1, hg.2.2 _ ha.1.2⟩), ?_⟩
  have := q3.1.1.2
  omega
theorem scO.nmP (g : scO B lo h sa fl fr fn pl pr pn fo po tq s cnt) (hlo : B + 841 ≤ lo) (hs : stOk s) {h2 : PH} (hg : hGr h h2) {p : Nat} (hp : h.1 ≤ p) : nmL B (iv lo h.1) h2 p po (tNm s 1) (kP (tK s)) := by
  obtain ⟨-, -, -, -, -, -, g5, -⟩ := g
  intro i hi
  obtain ⟨⟨q1, q0⟩, n, q2, q3⟩ := g5 i hi
  refine ⟨Or.inr (Or.inr (by have := q1.1; omega)), hs.2.2.1 1 i (by decide) hi, true, 8, n, _, Or.inr rfl, by rw [hg.2.2 _ q1.2]; exact q2, q3.of (fun a ha => ⟨ha.1, hg.2.2 _ ha.1.2⟩), ?_⟩
  have := q3.1.1.2
  omega
theorem scO.F (g : scO B lo h sa fl fr fn pl pr pn fo po tq s cnt) (hlo : B + 841 ≤ lo) (c : CZ) {k : Nat} {v : Value} (hv : [.int (nI cnt), .int (nI (kSe (tK s) 0)), .int (nI (kSe (tK s) 1)), .int (nI (kSe (tK s) 2)), .ref fl, .ref pl, va_rf (tq 0), va_rf (tq 1), va_rf (tq 2)][k]? = some v) : pF (mk B c h) sa 1 k = some v := by
  obtain ⟨⟨a1, a2⟩, a3, -⟩ := g
  exact pF_of (b := true) (by rw [mk_out (Or.inr (Or.inr (by omega)))]; exact a3) hv
theorem r_F6s {c : CZ} {B : Nat} {h : PH} {sa : Nat} (hq : cQ c 7 6 = some sa) : pF (mk B c h) (B + 7) 2 6 = some (.ref sa) := by rw [r_F6, hq]; rfl
end SW1
section SX
variable {B N n : Nat} {b : Nat → Nat} {D : PD} {cap : Nat × Nat}
theorem y_fresh {c : CZ} {h : PH} {j : Nat} {lo sa fl fr fn pl pr pn : Nat} {fo po : Nat → Nat} {tq : Nat → Option Nat} {s : ST} {cnt : Nat} (hd : rdS D B N h) (ha : cAs n b j c) (hlo : B + 841 ≤ lo) (hq : cQ c 7 6 = some sa) (g : scO B lo h sa fl fr fn pl pr pn fo po tq s cnt) (hs : stOk s) (r1 : h.1 + 3 ≤ cap.1) (r2 : h.2.1 + 4 + 2 * n ≤ cap.2) :
    ∃ c' h', rdP B N c c' h h' 3 (4 + 2 * wl n b j) ∧ match rNewJ n b (tK s) (tNm s) (sSk n b j) with
      | .inl g => fX2_fresh D cap (B + 7) (mk B c h) = some (.inr (B + 8), mk B c' h') ∧ cFt c' g
      | .inr (v, e) => fX2_fresh D cap (B + 7) (mk B c h) = some (.inl (h.1 + 1), mk B c' h') ∧ cI c' 7 4 = cI c 7 4 ∧ cAs n b e c' ∧ h'.1 = h.1 + 3 ∧ strP (iv h.1 h'.1) h' (h.1 + 1) v.1 := by
  obtain ⟨c1, h1, x, M⟩ := y_name (D := D) (cap := cap) (c := c) hd ha r1 r2
  have x' := x
  obtain ⟨x1, x2, x3, x4, x5⟩ := x'
  unfold fX2_fresh rNewJ
  rw [r_cls, ckc_s]
  cases qn : rNameJ n b (sSk n b j) with
  | inl gg =>
    rw [qn] at M
    obtain ⟨m1, m2⟩ := M
    rw [sbd_l, m1, bnx_r]
    exact ⟨c1, h1, x, rfl, m2⟩
  | inr pp =>
    obtain ⟨v, e⟩ := pp
    rw [qn] at M
    obtain ⟨m1, m2, m3, m4, m5, w, m6, m7, m8⟩ := M
    have g1 := g.gr x2
    have hS := hd.2.2.2.1
    have q1 : cQ c1 7 6 = some sa := by rw [x1.q]; exact hq
    have k8 := hs.1.1
    have p8 := hs.1.2.1
    have hlh : lo ≤ h.1 := by have := g.1.1; have := g.1.2; omega
    have hPo : ∀ a, iv lo h.1 a → outB B a := fun a ha => Or.inr (Or.inr (by have := ha.1; omega))
    have hQo : ∀ a, iv lo h1.1 a → outB B a := fun a ha => Or.inr (Or.inr (by have := ha.1; omega))
    have tw : tP (iv lo h1.1) h1 (h.1 + 1) w := m6.of (fun a ha => ⟨⟨by have := ha.1; omega, ha.2⟩, rfl⟩)
    have f0 := x_find7 (D := D) (c := c1) hS hPo hQo (by omega) tw m7 g1.2.2.1.ls (g.nmF hlo hs x2 (p := h.1 + 1) (by omega))
    have f1 := x_find7 (D := D) (c := c1) hS hPo hQo (by omega) tw m7 g1.2.2.2.1.ls (g.nmP hlo hs x2 (p := h.1 + 1) (by omega))
    rw [← m8] at f0 f1
    have b0 := oM1_m1 (o := fnd (tNm s 0) v.1 (kF (tK s)) 0) (fun j hj => by have := (fnd_lt _ _ _ _ _ hj).2.1; omega)
    have b1 := oM1_m1 (o := fnd (tNm s 1) v.1 (kP (tK s)) 0) (fun j hj => by have := (fnd_lt _ _ _ _ _ hj).2.1; omega)
    rw [m1, bnx_l, r_F6s q1, vA_s, g1.F hlo c1 (k := 4) rfl, vA_s, f0, bnd_s, sbd_r]
    simp only [jn_s]
    obtain ⟨p1, p2, p3⟩ := cFlt_po (n := n) (b := b) x1 3 v.2
    by_cases c0 : fnd (tNm s 0) v.1 (kF (tK s)) 0 = none
    · rw [if_pos (b0.mpr c0), r_F6s q1, vA_s, g1.F hlo c1 (k := 5) rfl, vA_s, f1, bnd_s]
      by_cases cc : fnd (tNm s 1) v.1 (kP (tK s)) 0 = none
      · rw [if_pos (b1.mpr cc), if_pos ⟨c0, cc⟩]
        exact ⟨c1, h1, x, rfl, m2, m4, m5, by rw [m8]; exact m6.s m7⟩
      · rw [if_neg (fun q => cc (b1.mp q)), if_neg (fun q => cc q.2), r_F3, vI_s, m3, r_cls, ckc_s, show (3 : Int32) = nI 3 from rfl, x_wrong, bnd_s]
        exact ⟨_, h1, ⟨p1, x2, x3, x4, x5⟩, rfl, p2, p3⟩
    · rw [if_neg (fun q => c0 (b0.mp q)), if_neg (fun q => c0 q.1), r_F3, vI_s, m3, r_cls, ckc_s, show (3 : Int32) = nI 3 from rfl, x_wrong, bnd_s]
      exact ⟨_, h1, ⟨p1, x2, x3, x4, x5⟩, rfl, p2, p3⟩
theorem y_known {c : CZ} {h : PH} {j : Nat} {lo al ar ln : Nat} {ads : Nat → Nat} {s : ST} {kd : Nat} (hkd : kd < 2) (hd : rdS D B N h) (ha : cAs n b j c) (hlo : B + 841 ≤ lo) (hlh : lo ≤ h.1) (gl : lsW lo h al ar ln ads (kN (tK s) kd)) (gn : ∀ h2 p, hGr h h2 → h.1 ≤ p → nmL B (iv lo h.1) h2 p ads (tNm s kd) (kN (tK s) kd)) (hs : stOk s) (r1 : h.1 + 3 ≤ cap.1) (r2 : h.2.1 + 4 + 2 * n ≤ cap.2) :
    ∃ c' h', rdP B N c c' h h' 3 (4 + 2 * wl n b j) ∧ match rOneJ n b (tK s) (tNm s) kd (sSk n b j) with
      | .inl g => fX2_known D cap (B + 7) al (mk B c h) = some (.inr (B + 8), mk B c' h') ∧ cFt c' g
      | .inr (v, e) => fX2_known D cap (B + 7) al (mk B c h) = some (.inl (nI v.1), mk B c' h') ∧ cI c' 7 4 = cI c 7 4 ∧ cI c' 7 3 = nI v.2 ∧ cAs n b e c' := by
  obtain ⟨c1, h1, x, M⟩ := y_name (D := D) (cap := cap) (c := c) hd ha r1 r2
  have x' := x
  obtain ⟨x1, x2, x3, x4, x5⟩ := x'
  unfold fX2_known rOneJ
  rw [r_cls, ckc_s]
  cases qn : rNameJ n b (sSk n b j) with
  | inl gg =>
    rw [qn] at M
    obtain ⟨m1, m2⟩ := M
    rw [sbd_l, m1, bnx_r]
    exact ⟨c1, h1, x, rfl, m2⟩
  | inr pp =>
    obtain ⟨v, e⟩ := pp
    rw [qn] at M
    obtain ⟨m1, m2, m3, m4, m5, w, m6, m7, m8⟩ := M
    have gl1 := gl.of x2.1 (x2.2.2 _ gl.1.2) (x2.2.2 _ gl.2.1.2.1)
    have hS := hd.2.2.2.1
    have k8 : kN (tK s) kd ≤ 8 := by
      have k8 := hs.1.1
      have p8 := hs.1.2.1
      unfold kN
      split <;> omega
    have hPo : ∀ a, iv lo h.1 a → outB B a := fun a ha => Or.inr (Or.inr (by have := ha.1; omega))
    have hQo : ∀ a, iv lo h1.1 a → outB B a := fun a ha => Or.inr (Or.inr (by have := ha.1; omega))
    have tw : tP (iv lo h1.1) h1 (h.1 + 1) w := m6.of (fun a ha => ⟨⟨by have := ha.1; omega, ha.2⟩, rfl⟩)
    have f0 := x_find7 (D := D) (c := c1) hS hPo hQo (by omega) tw m7 gl1.ls (gn h1 (h.1 + 1) x2 (by omega))
    rw [← m8] at f0
    have b0 := oM1_m1 (o := fnd (tNm s kd) v.1 (kN (tK s) kd) 0) (fun j hj => by have := (fnd_lt _ _ _ _ _ hj).2.1; omega)
    rw [m1, bnx_l, f0, bnd_s, sbd_r]
    cases c0 : fnd (tNm s kd) v.1 (kN (tK s) kd) 0 with
    | none =>
      obtain ⟨p1, p2, p3⟩ := cFlt_po (n := n) (b := b) x1 3 v.2
      rw [if_pos (show oM1 none = (-1 : Int32) from rfl), r_F3, vI_s, m3, r_cls, ckc_s, show (3 : Int32) = nI 3 from rfl, x_wrong, bnd_s]
      exact ⟨_, h1, ⟨p1, x2, x3, x4, x5⟩, rfl, p2, p3⟩
    | some i =>
      rw [c0] at b0
      rw [if_neg (fun q => by cases b0.mp q)]
      exact ⟨c1, h1, x, rfl, m2, m3, m4⟩
/-- a word and a number behind it -/
theorem y_numb {c : CZ} {h : PH} {j : Nat} (hd : rdS D B N h) (ha : cAs n b j c) {i : Nat} (hi : i < 20) {lo hi' : Nat} (hlo : lo < 10000) (hhi : hi' < 10000) (r1 : h.1 + 3 ≤ cap.1) (r2 : h.2.1 + 4 + 2 * n ≤ cap.2) :
    ∃ c' h', rdP B N c c' h h' 3 (4 + 2 * wl n b j) ∧ match sbd (rAsk n b (kWd.getD i []) j) (fun _ e2 => rNum n b lo hi' e2) with
      | .inl g => fX2_number D cap (B + 7) (dK D i) (nI lo) (nI hi') (mk B c h) = some (.inr (B + 8), mk B c' h') ∧ cFt c' g
      | .inr (v, e) => fX2_number D cap (B + 7) (dK D i) (nI lo) (nI hi') (mk B c h) = some (.inl (nI v), mk B c' h') ∧ cI c' 7 4 = cI c 7 4 ∧ cAs n b e c' := by
  obtain ⟨c1, h1, ⟨x1, x2, x3, x4, x5⟩, M⟩ := y_word2 (D := D) (cap := cap) (c := c) hd ha hi r1 r2
  unfold fX2_number
  rw [r_cls, ckc_s]
  cases qa : rAsk n b (kWd.getD i []) j with
  | inl gg =>
    rw [qa] at M
    obtain ⟨m1, m2⟩ := M
    rw [sbd_l, m1, bnx_r]
    exact ⟨c1, h1, ⟨x1, x2, x3, x4, x5⟩, rfl, m2⟩
  | inr pp =>
    obtain ⟨u, e⟩ := pp
    rw [qa] at M
    obtain ⟨m1, m2, m3⟩ := M
    obtain ⟨c2, y, M2⟩ := y_number2 (N := N) x3 m3 hlo hhi
    have rd := x1.tr y.1
    rw [sbd_r, m1, bnx_l, r_cls, ckc_s]
    cases qn : rNum n b lo hi' e with
    | inl gg =>
      rw [qn] at M2
      obtain ⟨u1, u2⟩ := M2
      rw [u1, bnx_r]
      exact ⟨c2, h1, ⟨rd, x2, x3, x4, x5⟩, rfl, u2⟩
    | inr pp =>
      obtain ⟨v, e2⟩ := pp
      rw [qn] at M2
      obtain ⟨u1, u2, u3⟩ := M2
      rw [u1, bnx_l]
      exact ⟨c2, h1, ⟨rd, x2, x3, x4, x5⟩, rfl, by rw [u2]; exact m2, u3⟩
end SX
