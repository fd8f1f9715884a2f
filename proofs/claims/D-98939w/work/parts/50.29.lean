/-! PART 29: plain: the component reads and finds names -/
set_option maxRecDepth 100000
theorem fndW_mem (w : List Nat) : ∀ (L : List (List Nat)) (k : Nat), fndW L w k = none ↔ ¬ w ∈ L
  | [], k => ⟨fun _ h => (by cases h), fun _ => rfl⟩
  | x :: L, k => by
    have ih := fndW_mem w L (k + 1)
    show (if x = w then some k else fndW L w (k + 1)) = none ↔ _
    by_cases c : x = w
    · rw [if_pos c]
      exact ⟨fun h => (by cases h), fun h => absurd (by rw [c]; exact List.mem_cons_self) h⟩
    · rw [if_neg c, ih, List.mem_cons]
      exact ⟨fun h q => by rcases q with q | q; exact c q.symm; exact h q, fun h q => h (Or.inr q)⟩
/-- letters as a name tells them -/
theorem map_96 {w : List Nat} (h : ∀ x, x ∈ w → 97 ≤ x ∧ x ≤ 122) : (w.map (· - 96)).map (· + 96) = w := by
  rw [List.map_map]
  have : ∀ v : List Nat, (∀ x, x ∈ v → 97 ≤ x ∧ x ≤ 122) → v.map ((· + 96) ∘ (· - 96)) = v := by
    intro v
    induction v with
    | nil => intro _; rfl
    | cons a v ih =>
      intro q
      rw [List.map_cons, ih (fun x hx => q x (List.mem_cons_of_mem _ hx))]
      have := q a List.mem_cons_self
      congr 1
      show a - 96 + 96 = a
      omega
  exact this w h
theorem map_96' (l : List Nat) : (l.map (· + 96)).map (· - 96) = l := by
  rw [List.map_map]
  have : ∀ v : List Nat, v.map ((· - 96) ∘ (· + 96)) = v := by
    intro v
    induction v with
    | nil => rfl
    | cons a v ih =>
      rw [List.map_cons, ih]
      congr 1
  exact this l
theorem getD_map96 (l : List Nat) (i : Nat) (hi : i < l.length) : (l.map (· + 96)).getD i 0 = l.getD i 0 + 96 := by
  simp [List.getD, hi]
theorem getD_map96' (l : List Nat) (i : Nat) (hi : i < l.length) : (l.map (· - 96)).getD i 0 = l.getD i 0 - 96 := by
  simp [List.getD, hi]
theorem strP.t {P : Nat → Prop} {h : PH} {a : Nat} {l : List Nat} (g : strP P h a l) (hl : nmOk l) : tP P h a (l.map (· + 96)) := by
  obtain ⟨g0, b1, b2, x, y, ba, f, g1, g2, g3, g4⟩ := g
  refine ⟨g0, ?_, by rw [List.length_map]; have := hl.2.1; omega, b1, b2, x, y, ba, f, g1, g2, by rw [List.length_map]; exact g3, ?_⟩
  · intro x hx
    obtain ⟨d, d1, d2⟩ := List.mem_map.mp hx
    have := hl.2.2 d d1
    omega
  · intro i hi
    rw [List.length_map] at hi
    rw [getD_map96 l i hi]
    exact g4 i hi
theorem tP.s {P : Nat → Prop} {h : PH} {a : Nat} {w : List Nat} (g : tP P h a w) (hw : ∀ x, x ∈ w → 97 ≤ x ∧ x ≤ 122) : strP P h a (w.map (· - 96)) := by
  obtain ⟨g0, -, -, b1, b2, x, y, ba, f, g1, g2, g3, g4⟩ := g
  refine ⟨g0, b1, b2, x, y, ba, f, g1, g2, by rw [List.length_map]; exact g3, ?_⟩
  intro i hi
  rw [List.length_map] at hi
  rw [getD_map96' w i hi, g4 i hi]
  have e : w.getD i 0 = w[i] := by simp [List.getD, hi]
  have := hw _ (List.getElem_mem hi)
  rw [e]
  congr 1
  omega
theorem word_l {n : Nat} {b : Nat → Nat} {i : Nat} {v : List Nat × Nat} {e : Nat} (h : rWordJ n b i = .inr (v, e)) : ∀ x, x ∈ v.1 → 97 ≤ x ∧ x ≤ 122 := by
  obtain ⟨h1, h2, h3, h4, h5, h6, h7⟩ := rWordJ_r h
  rw [h4]
  intro x hx
  obtain ⟨k, k1, k2⟩ := List.getElem_of_mem hx
  have k1' : k < sWe n b i - i := by rw [seg_len] at k1; exact k1
  have e1 : (seg b i (sWe n b i - i)).getD k 0 = x := by simp [List.getD, k1, k2]
  rw [seg_getD _ _ _ _ k1'] at e1
  have := sWhF_in isL b (n - i) i (i + k) (by omega) (by unfold sWe at k1'; omega)
  have := of_decide_eq_true this
  omega
section SV
variable {B N n : Nat} {b : Nat → Nat} {D : PD} {cap : Nat × Nat}
/-- a list of things with names -/
def nmL (B : Nat) (P : Nat → Prop) (h : PH) (p : Nat) (ads : Nat → Nat) (nm : Nat → List Nat) (k : Nat) : Prop := ∀ i, i < k → outB B (ads i) ∧ nmOk (nm i) ∧ ∃ (b : Bool) (ci n : Nat) (rest : List Value), (ci = 7 ∨ ci = 8) ∧ h.2.2 (ads i) = some (b, .inr (ci, .ref n :: rest)) ∧ strP P h n (nm i) ∧ n ≠ p
theorem find7_L {c : CZ} {h : PH} (hS : dS D 4 = .int 1) {P Q : Nat → Prop} (hP : ∀ a, P a → outB B a) (hQ : ∀ a, Q a → outB B a) {p al : Nat} {w : List Nat} {ads : Nat → Nat} {nm : Nat → List Nat} {k : Nat} (hk : k ≤ 800) (gp : tP Q h p w) (hw : ∀ x, x ∈ w → 97 ≤ x ∧ x ≤ 122) (gl : lstP Q h al ads k) (gn : nmL B P h p ads nm k) (dm : Int32 → PH → Option (Int32 × PH)) : ∀ (m i : Nat), i ≤ k → k - i < m →
    fx (fX7_find_L2 D al p) dm m (nI i) (mk B c h) = some (oM1 (fnd nm (w.map (· - 96)) (k - i) i), mk B c h)
  | 0, i, _, hm => absurd hm (Nat.not_lt_zero _)
  | m + 1, i, hi, hm => by
    have IH := find7_L (c := c) hS hP hQ hk gp hw gl gn dm m
    rw [fx_s]
    generalize fx (fX7_find_L2 D al p) dm m = S at IH ⊢
    have gl' : lstP Q (mk B c h) al ads k := gl.of (fun a ha => ⟨ha, mk_out (hQ a ha) c h⟩)
    unfold fX7_find_L2
    rw [l_cls gl', ckc_s, l_size gl', bnd_s]
    by_cases ci : i < k
    · obtain ⟨o1, o2, b1, cl, nn, rest, o3, o4, o5, o6⟩ := gn i ci
      have m4 : (mk B c h).2.2 (ads i) = some (b1, .inr (cl, .ref nn :: rest)) := by rw [mk_out o1]; exact o4
      have hp2 : pF2 (mk B c h) (ads i) 7 8 0 = some (.ref nn) := by
        unfold pF2
        rcases o3 with rfl | rfl
        · rw [pF_of (k := 0) m4 rfl]
        · have e7 : pF (mk B c h) (ads i) 7 0 = none := by
            unfold pF
            rw [m4]
            rfl
          rw [e7, pF_of (k := 0) m4 rfl]
      have t5 := o5.t o2
      rw [if_neg (nI_ge ci (by omega)), l_cls gl', ckc_s, l_get gl' ci, bnd_s, qS_s, pCls_of m4]
      unfold ck2
      rw [if_pos (by rcases o3 with rfl | rfl; exact Or.inl rfl; exact Or.inr rfl), hp2, vA_s, tP_cls hP t5, ckc_s, x_equals hS hP hQ t5 gp o6, bnd_s, show k - i = (k - (i + 1)) + 1 by omega]
      show _ = some (oM1 (if nm i = w.map (· - 96) then some i else fnd nm (w.map (· - 96)) (k - (i + 1)) (i + 1)), mk B c h)
      by_cases d : nm i = w.map (· - 96)
      · rw [decide_eq_true (by rw [d, map_96 hw]), if_neg (by decide), if_pos d]
        rfl
      · rw [decide_eq_false (fun q => d (by rw [← q, map_96'])), if_pos (by decide), if_neg d, nI_1, IH (i + 1) ci (by omega)]
    · rw [if_pos (nI_le (by omega) (by omega)), show k - i = 0 by omega]
      rfl
theorem x_find7 {c : CZ} {h : PH} (hS : dS D 4 = .int 1) {P Q : Nat → Prop} (hP : ∀ a, P a → outB B a) (hQ : ∀ a, Q a → outB B a) {p al : Nat} {w : List Nat} {ads : Nat → Nat} {nm : Nat → List Nat} {k : Nat} (hk : k ≤ 800) (gp : tP Q h p w) (hw : ∀ x, x ∈ w → 97 ≤ x ∧ x ≤ 122) (gl : lstP Q h al ads k) (gn : nmL B P h p ads nm k) : fX7_find D al p (mk B c h) = some (oM1 (fnd nm (w.map (· - 96)) k 0), mk B c h) :=
  find7_L hS hP hQ hk gp hw gl gn (fun _ _ => none) FU 0 (Nat.zero_le _) (FU_gt (by omega))
/-- a name read: 3 cells -/
theorem y_name {c : CZ} {h : PH} {j : Nat} (hd : rdS D B N h) (ha : cAs n b j c) (r1 : h.1 + 3 ≤ cap.1) (r2 : h.2.1 + 4 + 2 * n ≤ cap.2) : ∃ c' h', rdP B N c c' h h' 3 (4 + 2 * wl n b j) ∧ match rNameJ n b (sSk n b j) with
    | .inl g => fX2_name D cap (B + 7) (mk B c h) = some (.inr (B + 8), mk B c' h') ∧ cFt c' g
    | .inr (v, e) => fX2_name D cap (B + 7) (mk B c h) = some (.inl (h.1 + 1), mk B c' h') ∧ cI c' 7 4 = cI c 7 4 ∧ cI c' 7 3 = nI v.2 ∧ cAs n b e c' ∧ h'.1 = h.1 + 3 ∧ ∃ w : List Nat, tP (iv h.1 h'.1) h' (h.1 + 1) w ∧ (∀ x, x ∈ w → 97 ≤ x ∧ x ≤ 122) ∧ v.1 = w.map (· - 96) := by
  have M := y_word (D := D) (cap := cap) (c := c) hd ha r1 r2
  unfold fX2_name rNameJ
  rw [r_cls, ckc_s]
  have M : match rWordJ n b (sSk n b j) with
    | .inl g => ∃ c', rdP B N c c' h h 0 0 ∧ fX2_word D cap (B + 7) (mk B c h) = some (.inr (B + 8), mk B c' h) ∧ cFt c' g
    | .inr (v, e) => ∃ c' h', rdP B N c c' h h' 3 (4 + 2 * wl n b j) ∧ fX2_word D cap (B + 7) (mk B c h) = some (.inl (h.1 + 1), mk B c' h') ∧ cI c' 7 4 = cI c 7 4 ∧ cI c' 7 3 = nI v.2 ∧ cAs n b e c' ∧ wsN h' (h.1 + 1) v.1 ∧ tP (outB B) h' (h.1 + 1) v.1 ∧ h'.1 = h.1 + 3 := M
  cases qw : rWordJ n b (sSk n b j) with
  | inl g =>
    rw [qw] at M
    obtain ⟨c2, m1, m2, m3⟩ := M
    rw [sbd_l, m2, bnx_r]
    exact ⟨c2, h, m1.up (by omega) (by omega), rfl, m3⟩
  | inr pp =>
    obtain ⟨v, e⟩ := pp
    rw [qw] at M
    obtain ⟨c2, h2, m1, m2, m3, m4, m5, m6, m7, m8⟩ := M
    obtain ⟨b1, b2, b3, b4, b5, b6, b7⟩ := rWordJ_r qw
    have ev : v.2 = sSk n b j := by rw [b4]
    have hl := word_l qw
    obtain ⟨x1, x2, x3, x4, x5⟩ := m1
    have hd2 := hd.gr x2 x3
    have hk := hd2.2.2.2
    have hS := hk.1
    have hNh := hd.2.1
    have hbel : ∀ a, bel B N a → outB B a := fun a ha => ha.1
    have hbne : ∀ a, bel B N a → a ≠ h.1 + 1 := fun a ha => by have := ha.2; omega
    have hk' := hk
    obtain ⟨-, -, ⟨q0, L, e0, f0, f1⟩, -⟩ := hk'
    have bL : ∀ i, fndW L v.1 0 = some i → i < 2000 := fun i hi => by
      have := (fndW_lt v.1 L 0 i hi).2.1
      have := f0.2.1
      omega
    rw [sbd_r, m2, bnx_l, e0, vA_s, x_find hS (P := outB B) (Q := bel B N) (fun _ q => q) hbel m7 f0 hbne, bnd_s]
    have o1 := oM1_m1 bL
    by_cases cw : v.1 ∈ ownW
    · rw [if_neg (fun q => (fndW_mem v.1 L 0).mp (o1.mp q) ((f1 _).mpr cw)), r_F3, vI_s, m4, r_cls, ckc_s, show (1 : Int32) = nI 1 from rfl, x_wrong, bnd_s, if_pos cw]
      obtain ⟨p1, p2, p3⟩ := cFlt_po (n := n) (b := b) x1 1 v.2
      exact ⟨_, h2, ⟨p1, x2, x3, x4, x5⟩, rfl, by rw [← ev]; exact ⟨p2, p3⟩⟩
    · have ts := m7.s hl
      have tsm : strP (outB B) (mk B c2 h2) (h.1 + 1) (v.1.map (· - 96)) := ts.of (fun a ha => ⟨ha, mk_out ha c2 h2⟩)
      have sl := str_len hS tsm
      rw [List.length_map] at sl
      have vl := m7.2.2.1
      rw [if_pos (o1.mpr ((fndW_mem v.1 L 0).mpr (fun q => cw ((f1 _).mp q)))), sl.1, ckc_s, sl.2, bnd_s, if_neg cw]
      by_cases c6 : 6 < v.1.length
      · rw [if_neg (show ¬ nI v.1.length ≤ (6 : Int32) from nI_ge (a := 6) c6 (by omega)), r_F3, vI_s, m4, r_cls, ckc_s, show (1 : Int32) = nI 1 from rfl, show nI v.2 + 6 = nI (v.2 + 6) from nI_add v.2 6, x_wrong, bnd_s, if_pos c6]
        obtain ⟨p1, p2, p3⟩ := cFlt_po (n := n) (b := b) x1 1 (v.2 + 6)
        exact ⟨_, h2, ⟨p1, x2, x3, x4, x5⟩, rfl, by rw [← ev]; exact ⟨p2, p3⟩⟩
      · rw [if_pos (show nI v.1.length ≤ (6 : Int32) from nI_le (b := 6) (by omega) (by omega)), if_neg c6]
        refine ⟨c2, h2, ⟨x1, x2, x3, x4, x5⟩, rfl, m3, by rw [← ev]; exact m4, m5, m8, v.1, ?_, hl, rfl⟩
        obtain ⟨w1, f, w2, w3⟩ := m6
        exact ⟨⟨by omega, by omega⟩, m7.2.1, m7.2.2.1, true, true, 0, 0, h.1 + 1 + 1, f, ⟨by omega, by omega⟩, w1, w2, w3⟩
end SV
