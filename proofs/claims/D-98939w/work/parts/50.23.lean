/-! PART 23: plain: one part of a sum -/
set_option maxRecDepth 100000
def mq (q : Nat) : Int32 := if q = 2 then 3999 else if q = 1 then 399 else 127
theorem x_has_m : ∀ q, q < 3 → ∀ k, k < 12 → decide (((mq q >>> (nI k &&& 31)) &&& 1) = (1 : Int32)) = alOf q k := by decide
theorem mq_2 : ∀ q, q < 3 → (mq q = (3999 : Int32) ↔ q = 2) := by decide
theorem x_hasm {q k : Nat} (hq : q < 3) (hk : k < 12) (y : PH) : fX0_has (mq q) (nI k) y = some (alOf q k, y) := by
  have := x_has_m q hq k hk
  unfold fX0_has
  by_cases c : ((mq q >>> (nI k &&& 31)) &&& 1) = (1 : Int32)
  · rw [if_pos c, ← this, decide_eq_true c]
  · rw [if_neg c, ← this, decide_eq_false c]
section SP
variable {B N n : Nat} {b : Nat → Nat} {D : PD} {cap : Nat × Nat}
theorem y_looked {rB' : Nat → PH → Option ((Nat ⊕ Nat) × PH)} {atom : Nat → RS (List Int32)} {d : Nat} {dp : Bool} {m5 : Int32} {k : Nat} (hd6 : d ≤ 6) (hdp : dp = false ↔ d = 6) (A : dp = true → vSp D cap B N n b rB' atom (d + 1) m5 21 200 k) {c : CZ} {h : PH} {j v : Nat} (hd : rdS D B N h) (ha : cAs n b j c) (hj : j ≤ n) (h3 : cI c 7 3 = nI v) (h4 : cI c 7 4 = nI d) (h5 : cI c 7 5 = m5) (r1 : h.1 + 40 * (n - j) + 40 ≤ cap.1 + 20) (r2 : h.2.1 + 400 * (n - j) + 20000 ≤ cap.2 + 197) :
    ∃ c' h', cRd c c' ∧ hGr h h' ∧ hW B h' ∧ match (if dp = false then .inl (4, v) else sbd (atom j) fun c e2 => (.inr (c ++ [60], e2) : RS (List Int32))) with
      | .inl g => fX2_looked D cap rB' (B + 7) 0 (mk B c h) = some (.inr (B + 8), mk B c' h') ∧ cFt c' g ∧ h'.1 + 20 ≤ h.1 + 40 * (n - j) + 40 ∧ h'.2.1 + 197 ≤ h.2.1 + 400 * (n - j) + 500
      | .inr (cs, e) => ∃ p, fX2_looked D cap rB' (B + 7) 0 (mk B c h) = some (.inl p, mk B c' h') ∧ cI c' 7 4 = nI d ∧ cAs n b e c' ∧ vT (iv h.1 h'.1) B (k + 1) h' p cs ∧ h'.1 + 20 + 40 * (n - e) ≤ h.1 + 40 * (n - j) ∧ h'.2.1 + 197 + 400 * (n - e) ≤ h.2.1 + 400 * (n - j) := by
  unfold fX2_looked
  rw [r_F3, vI_s, h3, r_cls, ckc_s, x_opens _ d hd6 h4]
  by_cases c6 : d = 6
  · rw [if_pos c6, if_pos (hdp.mpr c6), bnx_r]
    obtain ⟨p1, p2, p3⟩ := cFlt_po (n := n) (b := b) (cRd.rf c) 4 v
    exact ⟨_, h, p1, hGr.rf h, hd.1, rfl, ⟨p2, p3⟩, by omega, by omega⟩
  · have edp : dp = true := by
      cases dp with
      | true => rfl
      | false => exact absurd (hdp.mp rfl) c6
    rw [if_neg c6, if_neg (by rw [edp]; decide), bnx_l, mk_new hd.1.1 (by omega) (by omega), bnd_s, r_F7, vA_s, r_cls, ckc_s]
    have rd2 := cRd.at c (i := 4) (by decide) (nI (d + 1))
    have as2 := ha.p4 (nI (d + 1))
    have i24 := cI_xI_eq c 7 4 (nI (d + 1))
    generalize xI c 7 4 (nI (d + 1)) = c2 at rd2 as2 i24
    have w5 := hd.1.new (.inr (18, [.int 0, .null, .null])) 3
    have g5 := hGr.new h (.inr (18, [.int 0, .null, .null])) 3
    have d5 := hN_at h (.inr (18, [.int 0, .null, .null])) 3
    have n5 : (hNew h (.inr (18, [.int 0, .null, .null])) 3).1 = h.1 + 1 := rfl
    have s5 : (hNew h (.inr (18, [.int 0, .null, .null])) 3).2.1 = h.2.1 + 3 := rfl
    generalize hNew h (.inr (18, [.int 0, .null, .null])) 3 = h5' at w5 g5 d5 n5 s5
    obtain ⟨c6', h6, y1, y2, y3, y4⟩ := A edp c2 h5' j (hd.gr g5 w5) as2 hj i24 (by rw [rd2.1 7 5 (by omega) (by decide)]; exact h5) (by omega) (by omega)
    cases qb : atom j with
    | inl gg =>
      rw [qb] at y4
      obtain ⟨z1, z2, z3, z4⟩ := y4
      rw [z1, bnx_r, sbd_l]
      exact ⟨c6', h6, rd2.tr y1, g5.tr y2, y3, rfl, z2, by omega, by omega⟩
    | inr pp =>
      obtain ⟨cp2, e3⟩ := pp
      rw [qb] at y4
      obtain ⟨py, z1, z2, z3, z4, z5, z6⟩ := y4
      have d6 : h6.2.2 h.1 = some (true, .inr (18, [.int 0, .null, .null])) := by rw [y2.2.2 _ (by omega)]; exact d5
      have oq : outB B h.1 := Or.inr (Or.inr hd.1.1)
      have g6 := y2.1
      rw [z1, bnx_l, sbd_r]
      unfold fX18_init fX13_init
      rw [mk_pO oq d6 (show 2 < 3 by decide), bnv_s, bnv_s, mk_pO oq (pE_at _ _ _) (show 0 < 3 by decide), bnv_s, pE_pE, mk_pO oq (pE_at _ _ _) (show 1 < 3 by decide), bnv_s, pE_pE, bnv_s, r_F4, vI_s, z2, nI_m1 (by omega), r_pI _ _ 4 (by decide), bnv_s]
      refine ⟨_, _, (rd2.tr y1).tr (cRd.at _ (i := 4) (by decide) _), (g5.tr y2).put (a := h.1) (Nat.le_refl _) _, y3.put (a := h.1) (by omega) _, h.1, rfl, cI_xI_eq _ _ _ _, z3.p4 _, ⟨⟨Nat.le_refl _, by show h.1 < h6.1; omega⟩, Or.inr (Or.inr (Or.inr (Or.inl ⟨true, py, cp2, pE_at _ _ _, z4.of ?_, rfl⟩)))⟩, by show h6.1 + 20 + _ ≤ _; omega, by show h6.2.1 + 197 + _ ≤ _; omega⟩
      intro a ha
      have ha : h5'.1 ≤ a ∧ a < h6.1 := ha
      exact ⟨⟨by omega, ha.2⟩, pE_ne _ (by omega) _⟩
/-- a word that is no part of this kind goes on -/
theorem atm_none {β : Type} {q : Nat} (hq : q < 3) {y : PH} {a : Nat} (hy : pF y a 2 5 = some (.int (mq q))) {w : List Nat} (hw : prtA q w = none) (K : PH → Option β) (T : PH → Option β) :
    (jn K fun j80 => if oM1 (fndW prtW w 0) = ((-1) : Int32) then j80 y else vI (pF y a 2 5) fun v3 => bnd (fX0_has v3 (oM1 (fndW prtW w 0)) y) fun r9 h17 => if (bI r9) = 0 then j80 h17 else T h17) = K y := by
  rw [jn_s]
  unfold prtA at hw
  cases e : fndW prtW w 0 with
  | none => rw [if_pos (by decide)]
  | some k =>
    rw [e] at hw
    have hw : (if alOf q k = true then some k else none) = none := hw
    have hk : k < 12 := by have := (fndW_lt w prtW 0 k e).2.1; have e12 : prtW.length = 12 := rfl; omega
    have ha : alOf q k = false := by
      cases c : alOf q k with
      | false => rfl
      | true => rw [c, if_pos rfl] at hw; cases hw
    rw [show oM1 (some k) = nI k from rfl, if_neg ((show ∀ k, k < 12 → ¬ nI k = (-1 : Int32) by decide) _ hk), hy, vI_s, x_hasm hq hk, bnd_s, ha, if_pos (by decide)]
theorem atm_some {β : Type} {q k : Nat} (hq : q < 3) {y : PH} {a : Nat} (hy : pF y a 2 5 = some (.int (mq q))) {w : List Nat} (hw : prtA q w = some k) (K : PH → Option β) (T : PH → Option β) :
    (jn K fun j80 => if oM1 (fndW prtW w 0) = ((-1) : Int32) then j80 y else vI (pF y a 2 5) fun v3 => bnd (fX0_has v3 (oM1 (fndW prtW w 0)) y) fun r9 h17 => if (bI r9) = 0 then j80 h17 else T h17) = T y ∧ oM1 (fndW prtW w 0) = nI k ∧ k < 12 := by
  rw [jn_s]
  unfold prtA at hw
  cases e : fndW prtW w 0 with
  | none => rw [e] at hw; cases hw
  | some k' =>
    rw [e] at hw
    have hw : (if alOf q k' = true then some k' else none) = some k := hw
    have hk : k' < 12 := by have := (fndW_lt w prtW 0 k' e).2.1; have e12 : prtW.length = 12 := rfl; omega
    by_cases ha : alOf q k' = true
    · rw [if_pos ha] at hw
      cases hw
      rw [show oM1 (some k) = nI k from rfl, if_neg ((show ∀ k, k < 12 → ¬ nI k = (-1 : Int32) by decide) _ hk), hy, vI_s, x_hasm hq hk, bnd_s, ha, if_neg (by decide)]
      exact ⟨rfl, rfl, hk⟩
    · rw [if_neg ha] at hw; cases hw
theorem atm_by {β : Type} {q : Nat} (hq : q < 3) {y : PH} {p : Nat} {w : List Nat} (hF : ∃ q2, dS D 2 = .ref q2 ∧ fX0_find D p q2 y = some (oM1 (fndW [wBy] w 0), y)) (K : Int32 → PH → Option β) :
    (jn K fun j101 => if mq q = (3999 : Int32) then vA (some (dS D 2)) fun p6 => bnd (fX0_find D p p6 y) fun r8 h16 => j101 r8 h16 else j101 (-1) y) = K (if w = wBy ∧ q = 2 then 0 else -1) y := by
  rw [jn_s]
  obtain ⟨q2, e1, e2⟩ := hF
  by_cases c : q = 2
  · rw [if_pos ((mq_2 q hq).mpr c), e1, vA_s, e2, bnd_s]
    show K (oM1 (if wBy = w then some 0 else none)) y = _
    by_cases cw : w = wBy
    · rw [if_pos cw.symm, if_pos ⟨cw, c⟩]; rfl
    · rw [if_neg (fun e => cw e.symm), if_neg (fun e => cw e.1)]; rfl
  · rw [if_neg (fun e => c ((mq_2 q hq).mp e)), if_neg (fun e => c e.2)]
end SP
