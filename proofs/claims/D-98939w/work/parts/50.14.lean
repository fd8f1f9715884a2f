/-! PART 14: plain: texts compared and found -/
set_option maxRecDepth 100000
/-- the text at a tells the bytes w -/
def tP (P : Nat → Prop) (h : PH) (a : Nat) (w : List Nat) : Prop := P a ∧ (∀ x, x ∈ w → x < 128) ∧ w.length ≤ 1600 ∧ ∃ (b1 b2 : Bool) (x y : Int32) (ba : Nat) (f : Nat → Int32), P ba ∧ h.2.2 a = some (b1, .inr (22, [.ref ba, .int 0, .int x, .int y])) ∧ h.2.2 ba = some (b2, .inl (2, w.length, .inl f)) ∧ ∀ i, i < w.length → f i = nI (w.getD i 0)
theorem tP.of {P P' : Nat → Prop} {h h' : PH} (e : ∀ a, P a → P' a ∧ h'.2.2 a = h.2.2 a) {a : Nat} {w : List Nat} (g : tP P h a w) : tP P' h' a w := by
  obtain ⟨g0, g1, g2, b1, b2, x, y, ba, f, g3, g4, g5, g6⟩ := g
  exact ⟨(e a g0).1, g1, g2, b1, b2, x, y, ba, f, (e ba g3).1, by rw [(e a g0).2, g4], by rw [(e ba g3).2, g5], g6⟩
def lsP (P : Nat → Prop) (h : PH) (q : Nat) (L : List (List Nat)) : Prop := P q ∧ L.length ≤ 100 ∧ ∃ (b1 : Bool) (f : Nat → Option Nat), h.2.2 q = some (b1, .inl (7, L.length, .inr (.inr (.inr (.inr f))))) ∧ ∀ i, i < L.length → ∃ a, f i = some a ∧ tP P h a (L.getD i [])
theorem lsP.of {P P' : Nat → Prop} {h h' : PH} (e : ∀ a, P a → P' a ∧ h'.2.2 a = h.2.2 a) {a : Nat} {L : List (List Nat)} (g : lsP P h a L) : lsP P' h' a L := by
  obtain ⟨g0, g1, b1, f, g2, g3⟩ := g
  refine ⟨(e a g0).1, g1, b1, f, by rw [(e a g0).2, g2], fun i hi => ?_⟩
  obtain ⟨x, x1, x2⟩ := g3 i hi
  exact ⟨x, x1, x2.of e⟩
theorem seg_drop (l m : List Nat) : ∀ k, k ≤ l.length → l.length = m.length → (∀ i, k ≤ i → i < l.length → l.getD i 0 = m.getD i 0) → l.drop k = m.drop k := by
  intro k hk hl h
  apply List.ext_getElem
  · rw [List.length_drop, List.length_drop, hl]
  · intro i h1 h2
    rw [List.length_drop] at h1 h2
    have := h (k + i) (by omega) (by omega)
    rw [List.getElem_drop, List.getElem_drop]
    simp only [List.getD, List.getElem?_eq_getElem (show k + i < l.length by omega), List.getElem?_eq_getElem (show k + i < m.length by omega), Option.getD_some] at this
    exact this
section SG1
variable {B : Nat} {D : PD} {cap : Nat × Nat} {c : CZ} {h : PH}
theorem eq_L {p q : Nat} {w v : List Nat} (hlen : w.length = v.length) (hw8 : ∀ x, x ∈ w → x < 128) (hv8 : ∀ x, x ∈ v → x < 128) (hl : w.length ≤ 1600) {f g : Nat → Int32} {b1 b2 : Bool} (hp : (mk B c h).2.2 p = some (b1, .inl (2, w.length, .inl f))) (hq : (mk B c h).2.2 q = some (b2, .inl (2, v.length, .inl g))) (hf : ∀ i, i < w.length → f i = nI (w.getD i 0)) (hg : ∀ i, i < v.length → g i = nI (v.getD i 0)) (dm : Int32 → PH → Option (Bool × PH)) : ∀ (m i : Nat), i ≤ w.length → w.length - i < m →
    fx (fJ9_equals_L9 p q) dm m (nI i) (mk B c h) = some (decide (w.drop i = v.drop i), mk B c h)
  | 0, i, _, hm => absurd hm (Nat.not_lt_zero _)
  | m + 1, i, hi, hm => by
    have IH := eq_L hlen hw8 hv8 hl hp hq hf hg dm m
    rw [fx_s]
    generalize fx (fJ9_equals_L9 p q) dm m = S at IH ⊢
    unfold fJ9_equals_L9
    rw [pArr_of hp, ob_s]
    dsimp only
    by_cases ci : i < w.length
    · have c2 : i < v.length := by omega
      have e1 : w.getD i 0 = w[i] := by simp [List.getD, ci]
      have e2 : v.getD i 0 = v[i] := by simp [List.getD, c2]
      have b1' := hw8 _ (List.getElem_mem ci)
      have b2' := hv8 _ (List.getElem_mem c2)
      rw [if_neg (nI_ge ci (by omega)), pLd_of hp ci (by omega), ob_s, pLd_of hq c2 (by omega), ob_s, hf i ci, hg i c2, e1, e2, List.drop_eq_getElem_cons ci, List.drop_eq_getElem_cons c2]
      have e3 : (nI w[i] = nI v[i]) ↔ w[i] = v[i] := nI_eq (by omega) (by omega)
      by_cases d : w[i] = v[i]
      · rw [if_pos (e3.mpr d), nI_1, IH (i + 1) ci (by omega)]
        congr 2
        exact decide_eq_decide.mpr ⟨fun q => by rw [q, d], fun q => (List.cons.inj q).2⟩
      · rw [if_neg (fun q => d (e3.mp q)), decide_eq_false (fun q => d (List.cons.inj q).1)]
    · rw [if_pos (nI_le (by omega) (by omega)), List.drop_eq_nil_of_le (by omega), List.drop_eq_nil_of_le (by omega)]
      rfl
theorem x_equals (hS : dS D 4 = .int 1) {P Q : Nat → Prop} (hP : ∀ a, P a → outB B a) (hQ : ∀ a, Q a → outB B a) {p q : Nat} {w v : List Nat} (gp : tP P h p w) (gq : tP Q h q v) (hne : p ≠ q) : fJ6_equals D p (some q) (mk B c h) = some (decide (w = v), mk B c h) := by
  obtain ⟨p0, p1, p2, pb1, pb2, px, py, pba, pf, p3, p4, p5, p6⟩ := gp
  obtain ⟨q0, q1, q2, qb1, qb2, qx, qy, qba, qf, q3, q4, q5, q6⟩ := gq
  have mp : (mk B c h).2.2 p = some (pb1, .inr (22, [.ref pba, .int 0, .int px, .int py])) := by rw [mk_out (hP _ p0)]; exact p4
  have mq : (mk B c h).2.2 q = some (qb1, .inr (22, [.ref qba, .int 0, .int qx, .int qy])) := by rw [mk_out (hQ _ q0)]; exact q4
  have mpb : (mk B c h).2.2 pba = some (pb2, .inl (2, w.length, .inl pf)) := by rw [mk_out (hP _ p3)]; exact p5
  have mqb : (mk B c h).2.2 qba = some (qb2, .inl (2, v.length, .inl qf)) := by rw [mk_out (hQ _ q3)]; exact q5
  unfold fJ6_equals
  rw [qS_s, if_neg hne, pCls_of mq, ckc_s]
  simp only [jn_s]
  rw [if_neg (by decide), ckc_s, hS, vI_s, if_neg (by decide), pF_of (k := 1) mp rfl, vI_s, pF_of (k := 1) mq rfl, vI_s, if_pos rfl, pF_of (k := 0) mp rfl, vA_s, pF_of (k := 0) mq rfl, vA_s]
  unfold fJ9_equals
  rw [pArr_of mpb, ob_s, pArr_of mqb, ob_s]
  dsimp only
  by_cases hl : w.length = v.length
  · have L := eq_L (B := B) (c := c) hl p1 q1 p2 mpb mqb p6 q6 (fun _ _ => none) FU 0 (Nat.zero_le _) (FU_gt (by omega))
    rw [if_pos (by rw [hl]), show fx (fJ9_equals_L9 pba qba) (fun _ _ => none) FU 0 (mk B c h) = _ from L, bnd_s, List.drop_zero, List.drop_zero]
    cases decide (w = v) with
    | false => rw [if_pos (by decide)]
    | true => rw [if_neg (by decide)]
  · rw [if_neg (fun e => hl ((nI_eq (by omega) (by omega)).mp e)), bnd_s, if_pos (by decide), decide_eq_false (fun e => hl (by rw [e]))]
theorem find_L (hS : dS D 4 = .int 1) {P Q : Nat → Prop} (hP : ∀ a, P a → outB B a) (hQ : ∀ a, Q a → outB B a) {p q : Nat} {w : List Nat} {L : List (List Nat)} (gp : tP P h p w) (gq : lsP Q h q L) (hne : ∀ a, Q a → a ≠ p) (dm : Int32 → PH → Option (Int32 × PH)) : ∀ (m i : Nat), i ≤ L.length → L.length - i < m →
    fx (fX0_find_L2 D p q) dm m (nI i) (mk B c h) = some (oM1 (fndW (L.drop i) w i), mk B c h)
  | 0, i, _, hm => absurd hm (Nat.not_lt_zero _)
  | m + 1, i, hi, hm => by
    have IH := find_L hS hP hQ gp gq hne dm m
    rw [fx_s]
    generalize fx (fX0_find_L2 D p q) dm m = S at IH ⊢
    obtain ⟨g0, g1, b1, f, g2, g3⟩ := gq
    have mq : (mk B c h).2.2 q = some (b1, .inl (7, L.length, .inr (.inr (.inr (.inr f))))) := by rw [mk_out (hQ _ g0)]; exact g2
    unfold fX0_find_L2
    rw [pArr_of mq, ob_s]
    dsimp only
    by_cases ci : i < L.length
    · obtain ⟨a, a1, a2⟩ := g3 i ci
      have e1 : L.getD i [] = L[i] := by simp [List.getD, ci]
      rw [e1] at a2
      have ma : pCls (mk B c h) a = some 22 := by
        obtain ⟨t0, -, -, tb1, tb2, tx, ty, tba, tf, -, t4, -⟩ := a2
        exact pCls_of (by rw [mk_out (hQ _ t0)]; exact t4)
      rw [if_neg (nI_ge ci (by omega)), pLdQ_of mq ci (by omega), ob_s, a1, qS_s, ma, ckc_s, x_equals hS hQ hP a2 gp (hne a a2.1), bnd_s, List.drop_eq_getElem_cons ci]
      show _ = some (oM1 (if L[i] = w then some i else fndW (L.drop (i + 1)) w (i + 1)), mk B c h)
      by_cases d : L[i] = w
      · rw [decide_eq_true d, if_neg (by decide), if_pos d]
        rfl
      · rw [decide_eq_false d, if_pos (by decide), if_neg d, nI_1, IH (i + 1) ci (by omega)]
    · rw [if_pos (nI_le (by omega) (by omega)), List.drop_eq_nil_of_le (by omega)]
      rfl
theorem x_find (hS : dS D 4 = .int 1) {P Q : Nat → Prop} (hP : ∀ a, P a → outB B a) (hQ : ∀ a, Q a → outB B a) {p q : Nat} {w : List Nat} {L : List (List Nat)} (gp : tP P h p w) (gq : lsP Q h q L) (hne : ∀ a, Q a → a ≠ p) : fX0_find D p q (mk B c h) = some (oM1 (fndW L w 0), mk B c h) := by
  have := gq.2.1
  unfold fX0_find
  have L0 := find_L (B := B) (c := c) hS hP hQ gp gq hne (fun _ _ => none) FU 0 (Nat.zero_le _) (FU_gt (by omega))
  rw [List.drop_zero] at L0
  exact L0
end SG1
/-- the constant texts and lists -/
def kWd : List (List Nat) := [wFact, wPers, wKnow, wErrs, wTaug, wWorth, wCalm, wBy, wTake, wGarb, wSits, wPass, wTrie, wIll, wNot, wAll, wMin, wMax, wAnd, wOr]
def bel (B N a : Nat) : Prop := outB B a ∧ a < N
def Kst (D : PD) (B N : Nat) (h : PH) : Prop := dS D 4 = .int 1 ∧ (∀ i, i < 20 → tP (bel B N) h (dK D i) (kWd.getD i [])) ∧ (∃ q L, dS D 0 = .ref q ∧ lsP (bel B N) h q L ∧ ∀ w, w ∈ L ↔ w ∈ ownW) ∧ (∃ q, dS D 1 = .ref q ∧ lsP (bel B N) h q prtW) ∧ (∃ q, dS D 2 = .ref q ∧ lsP (bel B N) h q [wBy]) ∧ ∃ q, dS D 3 = .ref q ∧ lsP (bel B N) h q askW
theorem Kst.gr {D : PD} {B N : Nat} {h h' : PH} (g : Kst D B N h) (e : ∀ a, a < N → outB B a → h'.2.2 a = h.2.2 a) : Kst D B N h' := by
  have e' : ∀ a, bel B N a → bel B N a ∧ h'.2.2 a = h.2.2 a := fun a ha => ⟨ha, e a ha.2 ha.1⟩
  obtain ⟨g1, g2, ⟨q0, L, g3, g4, g5⟩, ⟨q1, g6, g7⟩, ⟨q2, g8, g9⟩, ⟨q3, g10, g11⟩⟩ := g
  exact ⟨g1, fun i hi => (g2 i hi).of e', ⟨q0, L, g3, g4.of e', g5⟩, ⟨q1, g6, g7.of e'⟩, ⟨q2, g8, g9.of e'⟩, ⟨q3, g10, g11.of e'⟩⟩
