/-! PART 25: plain: sums tied; a sum reads its first word whole -/
set_option maxRecDepth 100000
section SR
variable {B N n : Nat} {b : Nat → Nat} {D : PD} {cap : Nat × Nat}
theorem vSp.ups {F : Nat → PH → Option ((Nat ⊕ Nat) × PH)} {S : Nat → RS (List Int32)} {d : Nat} {m5 : Int32} {x y k k' : Nat} (hk : k ≤ k') (g : vSp D cap B N n b F S d m5 x y k) : vSp D cap B N n b F S d m5 x y k' := by
  intro c h j hd ha hj h4 h5 r1 r2
  obtain ⟨c', h', g1, g2, g3, g4⟩ := g c h j hd ha hj h4 h5 r1 r2
  refine ⟨c', h', g1, g2, g3, ?_⟩
  cases q : S j with
  | inl gg => rw [q] at g4; exact g4
  | inr pp =>
    obtain ⟨cs, e⟩ := pp
    rw [q] at g4
    obtain ⟨p, u1, u2, u3, u4, u5, u6⟩ := g4
    exact ⟨p, u1, u2, u3, u4.ups hk, u5, u6⟩
theorem y_sumO {rS rB' : Nat → PH → Option ((Nat ⊕ Nat) × PH)} {S : Nat → RS (List Int32)} {d : Nat} {m5 : Int32} {k : Nat} (hS : dS D 4 = .int 1) (hn : n ≤ 1600) (hp : rPg n b S) (A : vSp D cap B N n b (fX2_atom D cap rS rB') S d m5 21 200 k) : vSp D cap B N n b (fX2_sum D cap rS rB') (rSumO n b S) d m5 7 40 (k + 2) :=
  y_sum (by decide) (by decide) hS hn (rProd_pg hp) (y_product (x := 14) (y := 120) (by decide) (by decide) hS hn hp A)
theorem y_sums {q : Nat} (hq : q < 3) (hS : dS D 4 = .int 1) (hn : n ≤ 1600) : ∀ r d m, d + r = 6 → r < m → vSp D cap B N n b (vSB D cap m).2 (rAtom n b q r) d (mq q) 21 200 (3 * r + 1) ∧ vSp D cap B N n b (vSB D cap m).1 (rSum n b q r) d (mq q) 7 40 (3 * r + 3)
  | 0, d, m, h1, h2 => by
    obtain ⟨m, rfl⟩ : ∃ m', m = m' + 1 := ⟨m - 1, by omega⟩
    have A := y_atom (D := D) (cap := cap) (B := B) (N := N) (n := n) (b := b) (rS := (vSB D cap m).1) (rB' := (vSB D cap m).2) (sum := rBad) (atom := rBad) (d := d) (dp := false) (xs := 0) (ys := 0) (k := 0) hq (by omega) ⟨fun _ => by omega, fun _ => rfl⟩ (by decide) (by decide) (rBad_pg n b) (fun h => by cases h) (fun h => by cases h)
    exact ⟨A, y_sumO hS hn (rAtom_pg n b q 0) A⟩
  | r + 1, d, m, h1, h2 => by
    obtain ⟨m, rfl⟩ : ∃ m', m = m' + 1 := ⟨m - 1, by omega⟩
    obtain ⟨a1, a2⟩ := y_sums (q := q) hq hS hn r (d + 1) m (by omega) (by omega)
    have A := y_atom (D := D) (cap := cap) (B := B) (N := N) (n := n) (b := b) (rS := (vSB D cap m).1) (rB' := (vSB D cap m).2) (sum := rSumO n b (rAtom n b q r)) (atom := rAtom n b q r) (d := d) (dp := true) (xs := 7) (ys := 40) (k := 3 * r + 3) hq (by omega) ⟨(fun h => Bool.noConfusion h), (fun h => absurd h (by omega))⟩ (by decide) (by decide) (rSumO_pg (rAtom_pg n b q r)) (fun _ => a2) (fun _ => a1.ups (by omega))
    exact ⟨A, y_sumO hS hn (rAtom_pg n b q (r + 1)) A⟩
end SR
/-- what is read ends behind the first word -/
def rPw (n : Nat) (b : Nat → Nat) (f : Nat → RS (List Int32)) : Prop := ∀ i c e, f i = .inr (c, e) → sWe n b (sSk n b i) ≤ e
theorem sWe_no {n : Nat} {b : Nat → Nat} {j : Nat} (h : isL (rB n b j) = false) : sWe n b j = j := by
  refine sWhF_stop isL b (n - j) j (fun q => ?_)
  have hj : j < n := by omega
  unfold rB at h
  rw [if_pos hj] at h
  exact h
theorem rAtomB_pw {n : Nat} {b : Nat → Nat} {q : Nat} {dp : Bool} {sum atom : Nat → RS (List Int32)} (hp : rPg n b sum) (ha : rPg n b atom) {j : Nat} {c : List Int32} {e : Nat} (h : rAtomB n b q dp sum atom j = .inr (c, e)) : sWe n b j ≤ e := by
  have hb := (rAtomB_pg hp ha h).1
  cases il : isL (rB n b j) with
  | false => rw [sWe_no il]; omega
  | true =>
    unfold rAtomB at h
    have il' := il
    unfold isL at il'
    have il' := of_decide_eq_true il'
    rw [if_neg (by omega), if_neg (by unfold isD; intro q; have := of_decide_eq_true q; omega)] at h
    obtain ⟨w, e3, q1, q2⟩ := sbd_inr h
    obtain ⟨q3, -, -, q4, q5, q6, q7⟩ := rWordJ_r q1
    rw [← q5]
    have ge := sSk_ge n b e3
    cases q8 : prtA q w.1 with
    | some k =>
      rw [q8] at q2
      cases q2
      omega
    | none =>
      rw [q8] at q2
      have q2 : rAtomW n b q dp sum atom w.1 w.2 e3 = .inr (c, e) := q2
      unfold rAtomW at q2
      by_cases d1 : w.1 = wBy ∧ q = 2
      · rw [if_pos d1] at q2
        by_cases d2 : dp = false
        · rw [if_pos d2] at q2; cases q2
        · rw [if_neg d2] at q2
          obtain ⟨c5, e5, q9, q10⟩ := sbd_inr q2
          have := ha _ _ _ q9
          cases q10
          omega
      · rw [if_neg d1] at q2
        by_cases d2 : w.1 = wMin
        · rw [if_pos d2] at q2
          have := rWithin_pg hp q2
          omega
        · rw [if_neg d2] at q2
          by_cases d3 : w.1 = wMax
          · rw [if_pos d3] at q2
            have := rWithin_pg hp q2
            omega
          · rw [if_neg d3] at q2; cases q2
theorem rProd_pw {n : Nat} {b : Nat → Nat} {atom : Nat → RS (List Int32)} (hp : rPg n b atom) (hw : rPw n b atom) : rPw n b (rProd n b atom) := by
  intro i c e h
  obtain ⟨c3, e3, q1, q2⟩ := sbd_inr h
  have := hw _ _ _ q1
  have := rChain_pg hp rfl _ _ _ _ _ (hp _ _ _ q1).2 q2
  omega
theorem rSumO_pw {n : Nat} {b : Nat → Nat} {atom : Nat → RS (List Int32)} (hp : rPg n b atom) (hw : rPw n b atom) : rPw n b (rSumO n b atom) := by
  intro i c e h
  obtain ⟨c3, e3, q1, q2⟩ := sbd_inr h
  have := rProd_pw hp hw _ _ _ q1
  have := rChain_pg (rProd_pg hp) rfl _ _ _ _ _ (rProd_pg hp _ _ _ q1).2 q2
  omega
theorem rAtom_pw (n : Nat) (b : Nat → Nat) (q : Nat) : ∀ r, rPw n b (rAtom n b q r)
  | 0 => fun i c e h => rAtomB_pw (rBad_pg n b) (rBad_pg n b) h
  | r + 1 => fun i c e h => rAtomB_pw (rSumO_pg (rAtom_pg n b q r)) (rAtom_pg n b q r) h
theorem rSum_pw (n : Nat) (b : Nat → Nat) (q r : Nat) : rPw n b (rSum n b q r) := rSumO_pw (rAtom_pg n b q r) (rAtom_pw n b q r)
/-! lists of tests -/
theorem tT_el {P : Nat → Prop} {B : Nat} : ∀ {k : Nat} {h : PH} {a : Nat} {cs : List Int32}, tT P B k h a cs → P a ∧ isEl (pCls h a) = true
  | 0, h, a, cs, g => g.elim
  | k + 1, h, a, cs, g => by
    obtain ⟨g0, g⟩ := g
    refine ⟨g0, ?_⟩
    rcases g with ⟨b, g1, -⟩ | ⟨b, a1, c1, g1, -⟩ | ⟨b, a1, a2, s, c1, c2, g1, -⟩ | ⟨b, all, al, m, ads, cs, g1, -⟩
    · rw [pCls_of g1]; decide
    · rw [pCls_of g1]; decide
    · rw [pCls_of g1]; decide
    · rw [pCls_of g1]; decide
/-- tests joined, at p: the list (al, ar) -/
def jnW (lo : Nat) (h : PH) (p al ar ln : Nat) (all : Bool) (ads : Nat → Nat) (n : Nat) : Prop := (lo ≤ p ∧ p < h.1) ∧ h.2.2 p = some (true, .inr (10, [.ref al, .int (bI all)])) ∧ lsW lo h al ar ln ads n ∧ (p ≠ al ∧ p ≠ ar)
def ivy (lo hi p al ar a : Nat) : Prop := iv lo hi a ∧ a ≠ p ∧ a ≠ al ∧ a ≠ ar
def jnS (B lo : Nat) (h : PH) (p al ar ln : Nat) (all : Bool) (k m : Nat) (cs : List Int32) : Prop := ∃ (ads : Nat → Nat) (cc : Nat → List Int32), jnW lo h p al ar ln all ads m ∧ 1 ≤ m ∧ (∀ i, i < m → tT (ivy lo h.1 p al ar) B k h (ads i) (cc i)) ∧ cs = chC (fun _ => if all = true then 10 else 11) cc m
theorem jnS.tt {B lo : Nat} {h : PH} {p al ar ln : Nat} {all : Bool} {k m : Nat} {cs : List Int32} (g : jnS B lo h p al ar ln all k m cs) : tT (iv lo h.1) B (k + 1) h p cs := by
  obtain ⟨ads, cc, ⟨p1, p2, ⟨⟨a1, a2⟩, ⟨a3, a4, a5⟩, mc, f, f1, f2, f3, f4, f5, f6, f7⟩, -⟩, w1, w2, w3⟩ := g
  exact ⟨p1, Or.inr (Or.inr (Or.inr ⟨true, all, al, m, ads, cc, p2, w1, ⟨⟨a1, a2⟩, true, true, mc, ar, ln, f, ⟨a3, a4⟩, f1, f2, f3, by omega, f7⟩, fun i hi => (w2 i hi).of (fun a ha => ⟨ha.1, rfl⟩), w3⟩))⟩
theorem jnS_b {B lo : Nat} {h : PH} {p al ar ln : Nat} {all : Bool} {k m : Nat} {cs : List Int32} (g : jnS B lo h p al ar ln all k m cs) : ln ≤ 2 * m + 4 ∧ (lo ≤ p ∧ p < h.1) := by
  obtain ⟨ads, cc, ⟨p1, -, ⟨-, -, -, -, -, -, -, -, l5, -⟩, -⟩, -⟩ := g
  exact ⟨l5, p1⟩
section SR1
variable {B N n : Nat} {b : Nat → Nat} {D : PD} {cap : Nat × Nat}
theorem ivy_up {lo hi hi' p al ar ar' a : Nat} (h : ivy lo hi p al ar a) (h1 : hi ≤ hi') (h2 : ar' = ar ∨ hi ≤ ar') : ivy lo hi' p al ar' a := by
  obtain ⟨⟨a1, a2⟩, a3, a4, a5⟩ := h
  refine ⟨⟨a1, by omega⟩, a3, a4, ?_⟩
  rcases h2 with q | q <;> omega
/-- one more test; h0: the heap when the chain was last looked at -/
theorem jn_add {c : CZ} {h0 h : PH} {lo p al ar ln k m x : Nat} {all : Bool} {ads : Nat → Nat} {cc : Nat → List Int32} {c2 : List Int32} (hw : hW B h) (hlo : B + 841 ≤ lo) (hg : hGr h0 h) (w : jnW lo h0 p al ar ln all ads m) (w2 : ∀ i, i < m → tT (ivy lo h0.1 p al ar) B k h0 (ads i) (cc i)) (hm : m < 800) (hx : tT (iv h0.1 h.1) B k h x c2) (r1 : h.1 + 1 ≤ cap.1) (r2 : h.2.1 + (2 * m + 4) ≤ cap.2) :
    pF (mk B c h) p 10 0 = some (.ref al) ∧ pCls (mk B c h) al = some 21 ∧ ∃ h' ar' ln', fJ2_add D cap al (some x) (mk B c h) = some (true, mk B c h') ∧ jnW lo h' p al ar' ln' all (va_up ads m x) (m + 1) ∧ (∀ i, i < m + 1 → tT (ivy lo h'.1 p al ar') B k h' (va_up ads m x i) (va_up cc m c2 i)) ∧ hW B h' ∧ (h.1 ≤ h'.1 ∧ h'.1 ≤ h.1 + 1) ∧ (h.2.1 ≤ h'.2.1 ∧ h'.2.1 + 6 * (m + 1) + 3 * ln ≤ h.2.1 + 6 * m + 3 * ln' + 7) ∧ ∀ a, a < lo → h'.2.2 a = h.2.2 a := by
  obtain ⟨⟨p1, p2⟩, p3, gl, e1, e2⟩ := w
  have gl0 := gl
  obtain ⟨⟨la1, la2⟩, ⟨la3, la4, la5⟩, -⟩ := gl0
  have hg1 := hg.1
  have gl1 : lsW lo h al ar ln ads m := gl.of hg.1 (hg.2.2 al la2) (hg.2.2 ar la4)
  have p3' : h.2.2 p = some (true, .inr (10, [.ref al, .int (bI all)])) := by rw [hg.2.2 p p2]; exact p3
  obtain ⟨⟨x1, x2⟩, x3⟩ := tT_el hx
  have hE0 : ∀ i, i < m → tT (ivy lo h.1 p al ar) B k h (ads i) (cc i) := fun i hi => (w2 i hi).of (fun a ha => ⟨ivy_up ha hg.1 (Or.inl rfl), hg.2.2 a ha.1.2⟩)
  have cl : ∀ a, B + 841 ≤ a → pCls (mk B c h) a = pCls h a := fun a ha => by unfold pCls; rw [mk_out (Or.inr (Or.inr ha))]
  have gl2 := gl1
  obtain ⟨-, -, mc, f, f1, -⟩ := gl2
  refine ⟨pF_of (k := 0) (b := true) (by rw [mk_out (Or.inr (Or.inr (by omega)))]; exact p3') rfl, pCls_of (b := true) (by rw [mk_out (Or.inr (Or.inr (by omega)))]; exact f1), ?_⟩
  obtain ⟨h', ar', ln', y1, y2, y3, y4, y5, y6, y8⟩ := x_lAdd (B := B) (D := D) (cap := cap) (c := c) hw hlo gl1 hm ⟨Or.inr (Or.inr (by omega)), x2, by omega, by omega, by rw [cl x (by omega)]; exact x3⟩ (fun i hi => by
    obtain ⟨⟨⟨z1, z2⟩, z3, z4, z5⟩, z8⟩ := tT_el (hE0 i hi)
    exact ⟨Or.inr (Or.inr (by omega)), z2, z4, z5, by rw [cl _ (by omega)]; exact z8⟩) r1 r2
  have y6' : ar' = ar ∨ h.1 ≤ ar' := y6.elim Or.inl (fun q => Or.inr (by omega))
  have y20 := y2
  obtain ⟨-, ⟨v3, v4, v5⟩, -⟩ := y20
  refine ⟨h', ar', ln', y1, ⟨⟨p1, by omega⟩, by rw [y8 p (by omega) e1 e2]; exact p3', y2, e1, ?_⟩, fun i hi => ?_, y3, y4, y5, fun a ha => y8 a (by omega) (by omega) (by omega)⟩
  · rcases y6' with q | q <;> omega
  · by_cases ci : i = m
    · rw [ci, va_up_self, va_up_self]
      refine hx.of (fun a ha => ?_)
      have ha : h0.1 ≤ a ∧ a < h.1 := ha
      refine ⟨⟨⟨by omega, by omega⟩, by omega, by omega, ?_⟩, y8 a ha.2 (by omega) (by omega)⟩
      rcases y6' with q | q <;> omega
    · rw [va_up_ne _ _ ci, va_up_ne _ _ ci]
      exact (hE0 i (by omega)).of (fun a ha => ⟨ivy_up ha y4.1 y6', y8 a ha.1.2 ha.2.2.1 ha.2.2.2⟩)
theorem chC_key (o o' : Nat → Int32) (u u' : Nat → List Int32) : ∀ (t : Nat), (∀ i, i < t → o i = o' i ∧ u i = u' i) → chC o u t = chC o' u' t := by
  intro t
  induction t with
  | zero => intro _; rfl
  | succ t ih =>
    intro e
    cases t with
    | zero => exact (e 0 (by omega)).2
    | succ t =>
      show chC o u (t + 1) ++ u (t + 1) ++ [o (t + 1)] = chC o' u' (t + 1) ++ u' (t + 1) ++ [o' (t + 1)]
      rw [ih (fun i hi => e i (by omega)), (e (t + 1) (by omega)).1, (e (t + 1) (by omega)).2]
theorem chC_up (o : Nat → Int32) (cc : Nat → List Int32) (m : Nat) (c2 : List Int32) : chC o (va_up cc (m + 1) c2) (m + 1 + 1) = chC o cc (m + 1) ++ c2 ++ [o (m + 1)] := by
  show chC o (va_up cc (m + 1) c2) (m + 1) ++ va_up cc (m + 1) c2 (m + 1) ++ [o (m + 1)] = _
  rw [va_up_self, chC_key o o (va_up cc (m + 1) c2) cc (m + 1) (fun i hi => ⟨rfl, va_up_ne _ _ (by omega)⟩)]
end SR1
