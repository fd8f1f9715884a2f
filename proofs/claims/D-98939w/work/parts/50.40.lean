/-! PART 40: plain: a question read -/
set_option maxRecDepth 100000
section TI
variable {B n : Nat} {b : Nat → Nat} {D : PD} {cap : Nat × Nat} {c : CZ} {h : PH}
/-- a question at p with the tree t -/
def quP (B N : Nat) (h : PH) (p kd t : Nat) (cs : List Int32) (L : Int64) (F : Bool) : Prop := (N ≤ p ∧ p < h.1) ∧ kd < 6 ∧ h.2.2 p = some (true, .inr (20, [.int (nI kd), va_rf (if 3 ≤ kd then none else some t), va_rf (if 3 ≤ kd then some t else none), .long L, .int (bI F)])) ∧ if 3 ≤ kd then vT (fun a => iv N h.1 a ∧ a ≠ p) B 64 h t cs else tT (fun a => iv N h.1 a ∧ a ≠ p) B 64 h t cs
theorem y_quest (hw : hW B h) (hk : Kst D B h.1 h) (hn : n ≤ 1600) (hb : ∀ i, i < n → b i < 256 ∧ cI c 6 i = sb (b i)) (r1 : h.1 + 60 * n + 105 ≤ cap.1) (r2 : h.2.1 + 800 * n + 40023 ≤ cap.2) :
    ∃ c' h', cR7 c c' ∧ hGr h h' ∧ hW B h' ∧ h'.1 ≤ h.1 + 60 * n + 105 ∧ h'.2.1 ≤ h.2.1 + 800 * n + 1023 ∧ match rQst n b with
      | .inl g => fX2_question D cap (B + 7) (nI n) (mk B c h) = some (.inr (B + 8), mk B c' h') ∧ cFt c' g
      | .inr ((kd, cs), _) => ∃ p t, fX2_question D cap (B + 7) (nI n) (mk B c h) = some (.inl p, mk B c' h') ∧ quP B h.1 h' p kd t cs (-1) false := by
  unfold fX2_question
  rw [r_pI c h 1 (by decide), bnv_s, r_pI _ h 2 (by decide), bnv_s, r_pI _ h 4 (by decide), bnv_s, r_pI _ h 5 (by decide), bnv_s, r_cls, ckc_s]
  have rd : cR7 c (xI (xI (xI (xI c 7 1 (nI n)) 7 2 0) 7 4 0) 7 5 3999) := ⟨fun o i q1 q2 => by rw [cI_xI_ne _ (by omega), cI_xI_ne _ (by omega), cI_xI_ne _ (by omega), cI_xI_ne _ (by omega)], rfl, fun o q => rfl⟩
  have e1 : cI (xI (xI (xI (xI c 7 1 (nI n)) 7 2 0) 7 4 0) 7 5 3999) 7 1 = nI n := by rw [cI_xI_ne _ (by omega), cI_xI_ne _ (by omega), cI_xI_ne _ (by omega), cI_xI_eq]
  have e2 : cI (xI (xI (xI (xI c 7 1 (nI n)) 7 2 0) 7 4 0) 7 5 3999) 7 2 = nI 0 := by rw [cI_xI_ne _ (by omega), cI_xI_ne _ (by omega), cI_xI_eq]; rfl
  have e4 : cI (xI (xI (xI (xI c 7 1 (nI n)) 7 2 0) 7 4 0) 7 5 3999) 7 4 = nI 0 := by rw [cI_xI_ne _ (by omega), cI_xI_eq]; rfl
  have e5 : cI (xI (xI (xI (xI c 7 1 (nI n)) 7 2 0) 7 4 0) 7 5 3999) 7 5 = mq 2 := by rw [cI_xI_eq]; rfl
  generalize xI (xI (xI (xI c 7 1 (nI n)) 7 2 0) 7 4 0) 7 5 3999 = c1 at rd e1 e2 e4 e5
  have as1 : cAs n b 0 c1 := ⟨0, ⟨⟨hn, fun i hi => ⟨(hb i hi).1, by rw [rd.1 6 i (by decide) (by decide)]; exact (hb i hi).2⟩, e1⟩, e2, Nat.zero_le _⟩, rfl⟩
  have tx1 : cTx n b c1 := by
    obtain ⟨a, q, -⟩ := as1
    exact q.1
  have hd : rdS D B h.1 h := ⟨hw, Nat.le_refl _, hw.1, hk⟩
  have hwl := wl_le b (Nat.zero_le n)
  have M := y_word (D := D) (cap := cap) (c := c1) hd as1 (by omega) (by omega)
  have M : match rWordJ n b (sSk n b 0) with
    | .inl g => ∃ c', rdP B h.1 c1 c' h h 0 0 ∧ fX2_word D cap (B + 7) (mk B c1 h) = some (.inr (B + 8), mk B c' h) ∧ cFt c' g
    | .inr (v, e) => ∃ c' h', rdP B h.1 c1 c' h h' 3 (4 + 2 * wl n b 0) ∧ fX2_word D cap (B + 7) (mk B c1 h) = some (.inl (h.1 + 1), mk B c' h') ∧ cI c' 7 4 = cI c1 7 4 ∧ cI c' 7 3 = nI v.2 ∧ cAs n b e c' ∧ wsN h' (h.1 + 1) v.1 ∧ tP (outB B) h' (h.1 + 1) v.1 ∧ h'.1 = h.1 + 3 := M
  unfold rQst
  cases qw : rWordJ n b (sSk n b 0) with
  | inl gg =>
    rw [qw] at M
    obtain ⟨c2, m1, m2, m3⟩ := M
    rw [sbd_l, m2, bnx_r]
    exact ⟨c2, h, rd.tr m1.1.rt.r7, hGr.rf h, hw, by omega, by omega, rfl, m3⟩
  | inr pp =>
    obtain ⟨v, e⟩ := pp
    rw [qw] at M
    obtain ⟨c2, h2, ⟨x1, x2, x3, x4, x5⟩, m2, m3, m4, m5, m6, m7, m8⟩ := M
    obtain ⟨b1, b2, b3, b4, b5, b6, b7⟩ := rWordJ_r qw
    have ev : v.2 = sSk n b 0 := by rw [b4]
    have ewl : wl n b 0 = e - sSk n b 0 := by unfold wl; rw [b5]
    have hd2 := hd.gr x2 x3
    have hS := hk.1
    have x22 := x2.2.1
    obtain ⟨-, -, -, -, -, q3, f3, l3⟩ := id hd2.2.2.2
    rw [sbd_r, m2, bnx_l, f3, vA_s, x_find hS (P := outB B) (Q := bel B h.1) (fun _ q => q) (fun a ha => ha.1) m7 l3 (fun a ha => by have := ha.2; omega), bnd_s]
    cases qk : fndW askW v.1 0 with
    | none =>
      rw [if_pos (show oM1 none = (-1 : Int32) from rfl), r_F3, vI_s, m4, ev, r_cls, ckc_s, show (1 : Int32) = nI 1 from rfl, x_wrong, bnd_s]
      obtain ⟨p1, p2, p3⟩ := cFlt_po (n := n) (b := b) x1 1 (sSk n b 0)
      exact ⟨_, h2, rd.tr p1.rt.r7, x2, x3, by omega, by omega, rfl, p2, p3⟩
    | some kd =>
      have k6 : kd < 6 := by have := (fndW_lt v.1 askW 0 kd qk).2.1; have e6 : askW.length = 6 := rfl; omega
      rw [show oM1 (some kd) = nI kd from rfl, if_neg (nI_nm1 (by omega))]
      simp only [jn_s]
      have i24 : cI c2 7 4 = nI 0 := by rw [m3]; exact e4
      have i25 : cI c2 7 5 = mq 2 := by rw [x1.1 7 5 (by omega) (by decide)]; exact e5
      rw [mk_new x3.1 (by omega) (by omega), bnd_s]
      have w5 := x3.new (.inr (20, [.int 0, .null, .null, .long 0, .int 0])) 5
      have g5 := hGr.new h2 (.inr (20, [.int 0, .null, .null, .long 0, .int 0])) 5
      have d5 := hN_at h2 (.inr (20, [.int 0, .null, .null, .long 0, .int 0])) 5
      have n5 : (hNew h2 (.inr (20, [.int 0, .null, .null, .long 0, .int 0])) 5).1 = h2.1 + 1 := rfl
      have s5 : (hNew h2 (.inr (20, [.int 0, .null, .null, .long 0, .int 0])) 5).2.1 = h2.2.1 + 5 := rfl
      generalize hNew h2 (.inr (20, [.int 0, .null, .null, .long 0, .int 0])) 5 = h3 at w5 g5 d5 n5 s5
      have hd3 := hd2.gr g5 w5
      have oq : outB B h2.1 := Or.inr (Or.inr x3.1)
      have x21 := x2.1
      -- nothing may follow
      have fin : ∀ (c4 : CZ) (h4 : PH) (cs : List Int32) (e1 px : Nat), cRd c2 c4 → hGr h2 h4 → hW B h4 → cAs n b e1 c4 → h2.1 < h4.1 → h4.1 ≤ h.1 + 60 * n + 105 → h4.2.1 ≤ h.2.1 + 800 * n + 1023 → quP B h.1 h4 h2.1 kd px cs (-1) false →
          ∃ c' h', cR7 c c' ∧ hGr h h' ∧ hW B h' ∧ h'.1 ≤ h.1 + 60 * n + 105 ∧ h'.2.1 ≤ h.2.1 + 800 * n + 1023 ∧ match (if n ≤ sSk n b e1 then .inr ((kd, cs), sSk n b e1) else .inl (1, sSk n b e1) : RS (Nat × List Int32)) with
            | .inl g => (ckc (pCls (mk B c4 h4) (B + 7)) 2 <| bnd (fX2_here (B + 7) (mk B c4 h4)) fun r2 h8 => if r2 = ((-1) : Int32) then (some (.inl h2.1, h8) : Option ((Nat ⊕ Nat) × PH)) else vI (pF h8 (B + 7) 2 2) fun v1 => ckc (pCls h8 (B + 7)) 2 <| bnd (fX2_wrong (B + 7) 1 v1 h8) fun p3 h9 => some (.inr p3, h9)) = some (.inr (B + 8), mk B c' h') ∧ cFt c' g
            | .inr ((kd, cs), _) => ∃ p t, (ckc (pCls (mk B c4 h4) (B + 7)) 2 <| bnd (fX2_here (B + 7) (mk B c4 h4)) fun r2 h8 => if r2 = ((-1) : Int32) then (some (.inl h2.1, h8) : Option ((Nat ⊕ Nat) × PH)) else vI (pF h8 (B + 7) 2 2) fun v1 => ckc (pCls h8 (B + 7)) 2 <| bnd (fX2_wrong (B + 7) 1 v1 h8) fun p3 h9 => some (.inr p3, h9)) = some (.inl p, mk B c' h') ∧ quP B h.1 h' p kd t cs (-1) false := by
        intro c4 h4 cs e1 px t1 t2 t3 t4 t5 t6 t7 t8
        have t4' := t4.le
        obtain ⟨a, q1, q2⟩ := t4
        have T := x_here (B := B) (h := h4) q1
        rw [q2] at T
        have at1 := q1.to (sSk_le b t4')
        have rd4 := (x1.tr t1).tr (cRd.at c4 (i := 2) (by decide) (nI (sSk n b e1)))
        generalize xI c4 7 2 (nI (sSk n b e1)) = c5 at T at1 rd4
        rw [r_cls, ckc_s, T, bnd_s]
        by_cases ce : n ≤ sSk n b e1
        · rw [if_pos ((rI_m1c tx1 _).mpr ce), if_pos ce]
          exact ⟨c5, h4, rd.tr rd4.rt.r7, x2.tr t2, t3, t6, t7, h2.1, px, rfl, t8⟩
        · rw [if_neg (fun q => ce ((rI_m1c tx1 _).mp q)), if_neg ce, r_F2, vI_s, at1.2.1, r_cls, ckc_s, show (1 : Int32) = nI 1 from rfl, x_wrong, bnd_s]
          obtain ⟨p1, p2, p3⟩ := cFlt_po (n := n) (b := b) rd4 1 (sSk n b e1)
          exact ⟨_, h4, rd.tr p1.rt.r7, x2.tr t2, t3, t6, t7, rfl, p2, p3⟩
      show ∃ c' h', _ ∧ _ ∧ _ ∧ _ ∧ _ ∧ match (sbd (if 3 ≤ kd then rSum n b 2 6 e else rTest n b 2 6 e) fun c e1 => if n ≤ sSk n b e1 then .inr ((kd, c), sSk n b e1) else .inl (1, sSk n b e1) : RS (Nat × List Int32)) with
        | .inl g => _
        | .inr ((kd, cs), _) => _
      by_cases k3 : 3 ≤ kd
      · rw [if_pos k3, if_pos (show (3 : Int32) ≤ nI kd from nI_le (a := 3) k3 (by omega)), r_cls, ckc_s]
        have T := (y_sums (D := D) (cap := cap) (B := B) (N := h.1) (n := n) (b := b) (q := 2) (by decide) hS hn 6 0 10 rfl (by decide)).2
        obtain ⟨c4, h4, v1, v2, v3, v4⟩ := T c2 h3 e hd3 m5 b7 i24 i25 (by omega) (by omega)
        have v21 := v2.1
        unfold vSumT
        cases qt : rSum n b 2 6 e with
        | inl gg =>
          rw [qt] at v4
          obtain ⟨u1, u2, u3, u4⟩ := v4
          rw [u1, bnx_r, sbd_l]
          exact ⟨c4, h4, rd.tr (x1.tr v1).rt.r7, (x2.tr g5).tr v2, v3, by omega, by omega, rfl, u2⟩
        | inr pp =>
          obtain ⟨cs, e1⟩ := pp
          rw [qt] at v4
          obtain ⟨px, u1, u2, u3, u4, u5, u6⟩ := v4
          have d6 : h4.2.2 h2.1 = some (true, .inr (20, [.int 0, .null, .null, .long 0, .int 0])) := by rw [v2.2.2 _ (by omega)]; exact d5
          rw [u1, bnx_l, sbd_r]
          unfold fX20_init
          rw [mk_pO oq d6 (show 3 < 5 by decide), bnv_s, mk_pO oq (pE_at _ _ _) (show 0 < 5 by decide), bnv_s, pE_pE, mk_pO oq (pE_at _ _ _) (show 1 < 5 by decide), bnv_s, pE_pE, mk_pO oq (pE_at _ _ _) (show 2 < 5 by decide), bnv_s, pE_pE, bnv_s]
          refine fin c4 _ cs e1 px v1 ((g5.tr v2).put (a := h2.1) (Nat.le_refl _) _) (v3.put (a := h2.1) (by omega) _) u3 (by show h2.1 < h4.1; omega) (by show h4.1 ≤ _; omega) (by show h4.2.1 ≤ _; omega) ⟨⟨by omega, by show h2.1 < h4.1; omega⟩, k6, ?_, ?_⟩
          · rw [pE_at, if_pos k3, if_pos k3]
            rfl
          · rw [if_pos k3]
            exact (u4.ups (by decide)).of (fun a ha => by
              have ha : h3.1 ≤ a ∧ a < h4.1 := ha
              exact ⟨⟨⟨by omega, ha.2⟩, by omega⟩, pE_ne _ (by omega) _⟩)
      · rw [if_neg k3, if_neg (show ¬ (3 : Int32) ≤ nI kd from nI_ge (b := 3) (by omega) (by decide)), bnd_s, r_cls, ckc_s]
        have T := (y_tests (D := D) (cap := cap) (B := B) (N := h.1) (n := n) (b := b) (q := 2) (by decide) hS hn 6 0 10 rfl (by decide)).2
        obtain ⟨c4, h4, v1, v2, v3, v4⟩ := T c2 h3 e hd3 m5 b7 i24 i25 (by omega) (by omega)
        have v21 := v2.1
        unfold vTestT
        cases qt : rTest n b 2 6 e with
        | inl gg =>
          rw [qt] at v4
          obtain ⟨u1, u2, u3, u4⟩ := v4
          rw [u1, bnx_r, sbd_l]
          exact ⟨c4, h4, rd.tr (x1.tr v1).rt.r7, (x2.tr g5).tr v2, v3, by omega, by omega, rfl, u2⟩
        | inr pp =>
          obtain ⟨cs, e1⟩ := pp
          rw [qt] at v4
          obtain ⟨px, u1, u2, u3, u4, u5, u6⟩ := v4
          have d6 : h4.2.2 h2.1 = some (true, .inr (20, [.int 0, .null, .null, .long 0, .int 0])) := by rw [v2.2.2 _ (by omega)]; exact d5
          have wle := wl_le b u3.le
          have wls := sSk_ge n b e1
          rw [u1, bnx_l, sbd_r]
          unfold fX20_init
          rw [mk_pO oq d6 (show 3 < 5 by decide), bnv_s, mk_pO oq (pE_at _ _ _) (show 0 < 5 by decide), bnv_s, pE_pE, mk_pO oq (pE_at _ _ _) (show 1 < 5 by decide), bnv_s, pE_pE, mk_pO oq (pE_at _ _ _) (show 2 < 5 by decide), bnv_s, pE_pE, bnv_s]
          refine fin c4 _ cs e1 px v1 ((g5.tr v2).put (a := h2.1) (Nat.le_refl _) _) (v3.put (a := h2.1) (by omega) _) u3 (by show h2.1 < h4.1; omega) (by show h4.1 ≤ _; omega) (by show h4.2.1 ≤ _; omega) ⟨⟨by omega, by show h2.1 < h4.1; omega⟩, k6, ?_, ?_⟩
          · rw [pE_at, if_neg k3, if_neg k3]
            rfl
          · rw [if_neg k3]
            exact (u4.ups (by decide)).of (fun a ha => by
              have ha : h3.1 ≤ a ∧ a < h4.1 := ha
              exact ⟨⟨⟨by omega, ha.2⟩, by omega⟩, pE_ne _ (by omega) _⟩)
end TI
