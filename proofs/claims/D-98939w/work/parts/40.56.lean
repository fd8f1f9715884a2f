/-! PART 56: plain: the component ahead: who may be the source -/
set_option maxRecDepth 100000
section SR
variable {D : PD} {B : Nat} {g : SG} {c : CZ} {h0 : PH}
theorem x_isSource (hD : ∃ q, dS D 7 = va_rf q) (h : cG B g c h0) {s f n : Nat} (hs : s < kP (gK g)) (hf : f < kF (gK g)) (hy : wY (gW g) + n ≤ 2000) : ∃ c', fX0_isSource D B (nI s) (nI f) (nI n) (mk B c h0) = some (sSrc (gK g) (gW g) (gH g) s f n, mk B c' h0) ∧ cFr 51 c c' ∧ cPi B 51 c' ∧ (sSrc (gK g) (gW g) (gH g) s f n = true → cAll B (gK g) (sSrcV (gK g) (gW g) s f n) 51 c') := by
  have h1 := h.2.1
  have h8 := h1.1.2.1
  have hF8 := h1.1.1
  have now := h.2.2.1
  have hw := now.1
  have hr := h.2.2.2.2.2.1
  have hrk := h.1.2.2.1
  have fin : Ok (fX0_isSource D B (nI s) (nI f) (nI n) (mk B c h0)) (fun r => r.1 = sSrc (gK g) (gW g) (gH g) s f n ∧ ∃ c', r.2 = mk B c' h0 ∧ cFr 51 c c' ∧ cPi B 51 c' ∧ (sSrc (gK g) (gW g) (gH g) s f n = true → cAll B (gK g) (sSrcV (gK g) (gW g) s f n) 51 c')) := by
    unfold fX0_isSource
    rw [x0_F9, vA_s, st_cls is14, ckc_s, x_stands h1.1 is14 hw now.2.1 hs (by omega), bnd_s]
    have l1 := sIs_lt (gW g) s f
    by_cases c0 : sIs (gW g) s f = 0
    · have e : sSrc (gK g) (gW g) (gH g) s f n = false := by
        unfold sSrc
        rw [decide_eq_false (by simpa using c0)]
        rfl
      rw [if_pos (by rw [c0]; rfl), e]
      exact Ok.of ⟨rfl, c, rfl, cFr.rf 51 c, h.2.2.2.1, fun q => by cases q⟩
    obtain ⟨c1, q1, q2⟩ := x_start h (cFr.rf 51 c) h.2.2.2.1
    rw [if_neg (nI_ne0 (by omega) (by omega)), x0_F10, vA_s, x0_F9, vA_s, st_cls is51, ckc_s, q1, bnd_s]
    simp only [jn_s]
    refine fx_okN (F := fX0_isSource_L29 B (nI f) _) (z := fun _ _ => none) (fun s j (y : CZ) => s (nI j) (mk B y h0)) (kP (gK g)) (fun j y => cTr B (gK g) c (itN (sHeaS (gW g) f) j 0 (gW g)) y) _ ?_ ?_ FU 0 c1 (Nat.zero_le _) q2 (FU_gt (by omega))
    · intro s2 j y hj hy go
      have ny := hy.now now
      have xy := hy.sc h1
      have l := sIs_lt (gW g) j f
      have hS := itN_S (sHeaS (gW g) f) j (gW g)
      rw [hS] at go
      show Ok (fX0_isSource_L29 B (nI f) _ s2 (nI j) (mk B y h0)) _
      unfold fX0_isSource_L29
      rw [x0_cls, ckc_s, x_people xy, bnd_s, if_neg (nI_ge hj (by omega)), x0_F9, vA_s, st_cls is14, ckc_s, x_stands h1.1 is14 hw ny.2.1 hj (by omega), bnd_s]
      simp only [jn_s, nI_1]
      unfold sHeaS at go
      by_cases e2 : sIs (gW g) j f = 2
      · rw [if_pos e2] at go
        obtain ⟨y2, z1, z2, z3⟩ := x_hears (h0 := h0) h1.1 is51 hy.2 hj hf
        rw [if_pos (by rw [e2]; rfl), x0_F10, vA_s, st_cls is51, ckc_s, z1, bnv_s]
        exact go y2 ⟨hy.1.tr z2, z3⟩
      · rw [if_neg e2] at go
        rw [if_neg (show ¬ nI (sIs (gW g) j f) = 2 from fun q => e2 ((nI_eq (b := 2) (by omega) (by decide)).mp q))]
        exact go y hy
    · intro s2 y hy
      have xy := hy.sc h1
      show Ok (fX0_isSource_L29 B (nI f) _ s2 (nI (kP (gK g))) (mk B y h0)) _
      unfold fX0_isSource_L29
      rw [x0_cls, ckc_s, x_people xy, bnd_s, if_pos (nI_le (Nat.le_refl _) (by omega))]
      have key := fun q hq => sSrc_hea h1.1 hw (s := s) (f := f) (by omega) c0 q hq
      have w1 := (sSrc_fr h1.1 hw (s := s) hf (kP (gK g)) (Nat.le_refl _)).1
      have w1y := (sSrc_fr h1.1 hw (s := s) hf (kP (gK g)) (Nat.le_refl _)).2.1
      have as1 := (sSrc_at (gW g) s f (kP (gK g))).1
      have as2 := (sHea_at (gW g) f (kP (gK g))).1
      have wv := hy.2.1
      have eV : sSrcV (gK g) (gW g) s f n = sYears (gK g) n (itN (sSrcS (gW g) s f) (kP (gK g)) 0 (gW g)) := rfl
      generalize itN (sSrcS (gW g) s f) (kP (gK g)) 0 (gW g) = T at key w1 as1 w1y eV
      generalize itN (sHeaS (gW g) f) (kP (gK g)) 0 (gW g) = v at key hy as2 wv
      have asT : sAs T v := ⟨as1.1.trans as2.1.symm, as1.2.1.trans as2.2.1.symm, as1.2.2.1.trans as2.2.2.1.symm, as1.2.2.2.1.trans as2.2.2.2.1.symm, as1.2.2.2.2.trans as2.2.2.2.2.symm⟩
      have r8 := wv.r8 h1.1 hs
      have w8 := wv.w8 h1.1 hs
      have in8 : inb (nI s) 8 = true := inb_nI (by omega) (by decide)
      have nc : (nI s).toNatClampNeg = s := nI_c (by omega)
      have hst := hy.2.2.1
      have l3 : pLd (mk B (xI y (51 + 2) s (nI (wR v s &&& (255 - 2 ^ f)))) h0) (B + 51 + 3) 0 (nI s) = some (nI (wW v s)) := by
        rw [Nat.add_assoc, (st_k3 is51).ld _ h0 in8, nc, cI_x, if_neg (by omega), (hst.2.2.2 s hs).2.2.1]
      dsimp only
      rw [x0_F10, vA_s, st_F5 is51, vA_s, st_r is51 hst hs h8, ob_s, s_clr _ r8 f (by omega), Nat.add_assoc B 51 2, (st_k2 is51).st y h0 in8, bnv_s, nc, x0_F10, vA_s, st_F6 is51, vA_s, l3, ob_s, s_or _ w8 f (by omega), Nat.add_assoc B 51 3, (st_k3 is51).st _ h0 in8, bnv_s, nc, x0_F10, vA_s, st_cls is51, ckc_s]
      have t2 : cTr B (gK g) c T (xI (xI y (51 + 2) s (nI (wR v s &&& (255 - 2 ^ f)))) (51 + 3) s (nI (wW v s ||| 2 ^ f))) := by
        refine ⟨(hy.1.tr (cFr.x y (by omega) _ _)).tr (cFr.x _ (by omega) _ _), cAll.as h8 hy.2 w1 asT (fun o i ho => ?_) rfl (fun q hq => ?_)⟩
        · rw [cI_x, if_neg (by omega), cI_x, if_neg (by omega)]
        · obtain ⟨z1, z2, z3, z4⟩ := hst.2.2.2 q hq
          rw [(key q hq).1, (key q hq).2, cI_x, if_neg (by omega), cI_x, cI_x, cI_x]
          by_cases e : q = s
          · subst e
            rw [if_pos ⟨rfl, rfl⟩, if_pos rfl, if_pos ⟨rfl, rfl⟩, if_pos rfl]
            exact ⟨rfl, rfl⟩
          · rw [if_neg (fun x => e x.2), if_neg e, if_neg (fun x => e x.2), if_neg (fun x => e x.2), if_neg e]
            exact ⟨z2, z3⟩
      obtain ⟨y3, q3, q4⟩ := t2.years hD h (n := n) (by omega)
      rw [q3, bnd_s]
      rw [← eV] at q4
      have x3 := q4.sc h1
      have e0 : sSrc (gK g) (gW g) (gH g) s f n = (List.range (gH g).length).all fun i => decide (sIs (sSrcV (gK g) (gW g) s f n) ((gH g).getD i (0, 0)).1 f = ((gH g).getD i (0, 0)).2) := by
        unfold sSrc
        rw [decide_eq_true (by exact c0), Bool.true_and]
      have n3 : cI y3 0 13 = nI (gH g).length := by rw [q4.1.1 0 13 (by omega)]; exact hr.2.1
      refine fx_okN (F := fX0_isSource_L112 B (nI f)) (z := fun _ _ => none) (fun s j (y : CZ) => s (nI j) (mk B y h0)) (gH g).length (fun j y => y = y3 ∧ ∀ i, i < j → sIs (sSrcV (gK g) (gW g) s f n) ((gH g).getD i (0, 0)).1 f = ((gH g).getD i (0, 0)).2) _ ?_ ?_ FU 0 y3 (Nat.zero_le _) ⟨rfl, fun i hi => absurd hi (Nat.not_lt_zero _)⟩ (FU_gt (by omega))
      · rintro s3 j y' hj ⟨rfl, hh⟩ go
        obtain ⟨k1, k2⟩ := hrk j hj
        obtain ⟨m1, m2⟩ := hr.2.2 j hj
        have in16 : inb (nI j) 16 = true := inb_nI (by omega) (by decide)
        have l := sIs_lt (sSrcV (gK g) (gW g) s f n) ((gH g).getD j (0, 0)).1 f
        have ld1 : pLd (mk B y' h0) (B + 88) 0 (nI j) = some (nI ((gH g).getD j (0, 0)).1) := by
          rw [k_hw.ld y' h0 in16, nI_c (by omega), q4.1.1 88 j (by omega), m1]
        have ld2 : pLd (mk B y' h0) (B + 89) 0 (nI j) = some (nI ((gH g).getD j (0, 0)).2) := by
          rw [k_ha.ld y' h0 in16, nI_c (by omega), q4.1.1 89 j (by omega), m2]
        show Ok (fX0_isSource_L112 B (nI f) s3 (nI j) (mk B y' h0)) _
        unfold fX0_isSource_L112
        rw [x0_F13, vI_s, n3, if_neg (nI_ge hj (by omega)), x0_F10, vA_s, x0_F11, vA_s, ld1, ob_s, st_cls is51, ckc_s, x_stands h1.1 is51 q4.2.1 q4.2.2.1 k1 (by omega), bnd_s, x0_F12, vA_s, ld2, ob_s, nI_1]
        by_cases e : sIs (sSrcV (gK g) (gW g) s f n) ((gH g).getD j (0, 0)).1 f = ((gH g).getD j (0, 0)).2
        · rw [if_pos (by rw [e])]
          refine go y' ⟨rfl, fun i hi => ?_⟩
          by_cases ei : i = j
          · subst ei; exact e
          · exact hh i (by omega)
        · rw [if_neg (fun q => e ((nI_eq (by omega) (by omega)).mp q))]
          have ef : sSrc (gK g) (gW g) (gH g) s f n = false := by
            rw [e0, List.all_eq_false]
            exact ⟨j, List.mem_range.mpr hj, by simpa using e⟩
          rw [ef]
          exact Ok.of ⟨rfl, y', rfl, q4.1, q4.2.2.2.pi, fun q => by cases q⟩
      · rintro s3 y' ⟨rfl, hh⟩
        show Ok (fX0_isSource_L112 B (nI f) s3 (nI (gH g).length) (mk B y' h0)) _
        unfold fX0_isSource_L112
        have et : sSrc (gK g) (gW g) (gH g) s f n = true := by
          rw [e0, List.all_eq_true]
          intro i hi
          exact decide_eq_true (hh i (List.mem_range.mp hi))
        rw [x0_F13, vI_s, n3, if_pos (nI_le (Nat.le_refl _) (by omega)), et]
        exact Ok.of ⟨rfl, y', rfl, q4.1, q4.2.2.2.pi, fun _ => q4.2⟩
  obtain ⟨⟨r, h'⟩, e, q1, c', q2, q3⟩ := fin
  have q2 : h' = mk B c' h0 := q2
  exact ⟨c', by rw [e, q2]; cases q1; rfl, q3⟩
theorem x_sources (hD : ∃ q, dS D 7 = va_rf q) (h : cG B g c h0) (a n : Int32) : ∃ c', fX0_sources D B a n (mk B c h0) = some ((if sPn (kF (gK g)) a = true ∧ sAh (gW g) n 0 20 = true then nI (sSou (gK g) (gW g) (gH g) a.toNatClampNeg n.toNatClampNeg (kP (gK g))) else -1), mk B c' h0) ∧ cG B g c' h0 := by
  have h1 := h.2.1
  have h8 := h1.1.2.1
  have hF8 := h1.1.1
  have now := h.2.2.1
  have fin : Ok (fX0_sources D B a n (mk B c h0)) (fun r => r.1 = (if sPn (kF (gK g)) a = true ∧ sAh (gW g) n 0 20 = true then nI (sSou (gK g) (gW g) (gH g) a.toNatClampNeg n.toNatClampNeg (kP (gK g))) else -1) ∧ ∃ c', r.2 = mk B c' h0 ∧ cG B g c' h0) := by
    unfold fX0_sources
    rw [x0_cls, ckc_s, x_isFact h1, bnd_s]
    cases e : sPn (kF (gK g)) a with
    | false => exact Ok.of ⟨rfl, c, rfl, h⟩
    | true =>
    obtain ⟨f, hf, rfl⟩ := sPn_nat e hF8
    rw [if_neg (by decide), x0_cls, ckc_s, x_isAhead now.1 now.2.1 _ 0 20 (by decide) (by decide), bnd_s, show (0 : Int32).toInt = 0 from by decide, show (20 : Int32).toInt = 20 from by decide]
    cases e1 : sAh (gW g) n 0 20 with
    | false => exact Ok.of ⟨rfl, c, rfl, h⟩
    | true =>
    obtain ⟨n, rfl, -, h20, h99⟩ := sAh_nat e1 (by decide) (by decide)
    rw [if_neg (by decide), if_pos ⟨rfl, rfl⟩, nI_c (by omega), nI_c (by omega)]
    refine fx_okN (F := fX0_sources_L26 D B (nI f) (nI n)) (z := fun _ _ _ => none) (fun s j (b : Nat × CZ) => s (nI b.1) (nI j) (mk B b.2 h0)) (kP (gK g)) (fun j b => b.1 = sSou (gK g) (gW g) (gH g) f n j ∧ cG B g b.2 h0) _ ?_ ?_ FU 0 (0, c) (Nat.zero_le _) ⟨rfl, h⟩ (FU_gt (by omega))
    · rintro s j ⟨a, y⟩ hj ⟨ha, hy⟩ go
      have ha : a = sSou (gK g) (gW g) (gH g) f n j := ha
      have hy : cG B g y h0 := hy
      have hS : sSou (gK g) (gW g) (gH g) f n (j + 1) = (if sSrc (gK g) (gW g) (gH g) j f n = true then a ||| 2 ^ j else a) := by rw [ha]; exact itN_S _ _ _
      obtain ⟨y2, q1, q2, q3, -⟩ := x_isSource hD hy (n := n) hj hf (by omega)
      have gy := hy.fr q2 q3
      show Ok (fX0_sources_L26 D B (nI f) (nI n) s (nI a) (nI j) (mk B y h0)) _
      unfold fX0_sources_L26
      rw [x0_cls, ckc_s, x_people hy.2.1, bnd_s, if_neg (nI_ge hj (by omega)), x0_cls, ckc_s, q1, bnd_s]
      simp only [jn_s, nI_1]
      cases hh : sSrc (gK g) (gW g) (gH g) j f n with
      | false =>
        rw [hh, if_neg (by decide)] at hS
        rw [if_pos (by decide)]
        show Ok (s (nI a ||| nI 0) _ _) _
        rw [nI_or, Nat.or_zero]
        exact go (a, y2) ⟨hS.symm, gy⟩
      | true =>
        rw [hh, if_pos rfl] at hS
        rw [if_neg (by decide), s_bit j (by omega), nI_or]
        exact go (a ||| 2 ^ j, y2) ⟨hS.symm, gy⟩
    · rintro s ⟨a, y⟩ ⟨ha, hy⟩
      have ha : a = sSou (gK g) (gW g) (gH g) f n (kP (gK g)) := ha
      have hy : cG B g y h0 := hy
      show Ok (fX0_sources_L26 D B (nI f) (nI n) s (nI a) (nI (kP (gK g))) (mk B y h0)) _
      unfold fX0_sources_L26
      rw [x0_cls, ckc_s, x_people hy.2.1, bnd_s, if_pos (nI_le (Nat.le_refl _) (by omega)), ha]
      exact Ok.of ⟨rfl, y, rfl, hy⟩
  obtain ⟨⟨r, h'⟩, e, q1, c', q2, q3⟩ := fin
  have q2 : h' = mk B c' h0 := q2
  exact ⟨c', by rw [e, q2]; cases q1; rfl, q3⟩
end SR
