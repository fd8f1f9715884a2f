/-! PART 58: plain: the component ahead: probe, whole -/
set_option maxRecDepth 100000
section PB
variable {D : PD} {B : Nat} {g : SG} {c : CZ} {h0 : PH}
theorem x_probe (hD : ∃ q, dS D 7 = va_rf q) (h : cG B g c h0) (a n what : Int32) : ∃ c', fX0_probe D B a n what (mk B c h0) = some ((if sPn (kF (gK g)) a = true ∧ sAh (gW g) n 0 20 = true ∧ sIn what 0 1 = true then spProbe (gK g) (gW g) (gH g) a.toNatClampNeg n.toNatClampNeg what else -1), mk B c' h0) ∧ cG B g c' h0 := by
  have h1 := h.2.1
  have h8 := h1.1.2.1
  have hF8 := h1.1.1
  have now := h.2.2.1
  have fin : Ok (fX0_probe D B a n what (mk B c h0)) (fun r => r.1 = (if sPn (kF (gK g)) a = true ∧ sAh (gW g) n 0 20 = true ∧ sIn what 0 1 = true then spProbe (gK g) (gW g) (gH g) a.toNatClampNeg n.toNatClampNeg what else -1) ∧ ∃ c', r.2 = mk B c' h0 ∧ cG B g c' h0) := by
    unfold fX0_probe
    rw [x0_cls, ckc_s, x_isFact h1, bnd_s]
    cases e : sPn (kF (gK g)) a with
    | false => exact Ok.of ⟨rfl, c, rfl, h⟩
    | true =>
    obtain ⟨f, hf, rfl⟩ := sPn_nat e hF8
    rw [if_neg (by decide), x0_cls, ckc_s, x_isAhead now.1 now.2.1 _ 0 20 (by decide) (by decide), bnd_s, show (0 : Int32).toInt = 0 from by decide, show (20 : Int32).toInt = 20 from by decide]
    cases e1 : sAh (gW g) n 0 20 with
    | false => exact Ok.of ⟨rfl, c, rfl, h⟩
    | true =>
    obtain ⟨n, rfl, -, h20, h99⟩ := sAh_nat e1 (by decide) (by decide)
    rw [if_neg (by decide), x_is, bnd_s, show (0 : Int32).toInt = 0 from by decide, show (1 : Int32).toInt = 1 from by decide]
    cases e2 : sIn what 0 1 with
    | false => exact Ok.of ⟨rfl, c, rfl, h⟩
    | true =>
    rw [if_neg (by decide), if_pos ⟨rfl, rfl, rfl⟩, nI_c (by omega), nI_c (by omega), x0_F14, vA_s, k_sby.arr c h0, ob_s]
    simp only [jn_s]
    refine fx_okN (F := fX0_probe_L44 (B + 90) _ _) (z := fun _ _ => none) (fun s j (y : CZ) => s (nI j) (mk B y h0)) 8 (fun j y => cG B g y h0 ∧ ∀ p, p < j → ∀ v, v < 3 → cI y (91 + p) v = 0) _ ?_ ?_ FU 0 c (Nat.zero_le _) ⟨h, fun p hp => absurd hp (Nat.not_lt_zero _)⟩ (FU_gt (by decide))
    · rintro s j y hj ⟨gy, hz⟩ go
      show Ok (fX0_probe_L44 (B + 90) (8, _) _ s (nI j) (mk B y h0)) _
      unfold fX0_probe_L44
      dsimp only
      rw [if_neg (nI_ge hj (by decide)), gy.ldrow hj, ob_s]
      simp only [jn_s, nI_1]
      refine fx_okN (F := fX0_probe_L61 _ _) (z := fun _ _ => none) (fun s v (y : CZ) => s (nI v) (mk B y h0)) 3 (fun v y => cG B g y h0 ∧ (∀ p, p < j → ∀ v, v < 3 → cI y (91 + p) v = 0) ∧ ∀ u, u < v → cI y (91 + j) u = 0) _ ?_ ?_ FU 0 y (Nat.zero_le _) ⟨gy, hz, fun u hu => absurd hu (Nat.not_lt_zero _)⟩ (FU_gt (by decide))
      · rintro s2 v y2 hv ⟨g2, z1, z2⟩ go2
        show Ok (fX0_probe_L61 (some (B + (91 + j))) _ s2 (nI v) (mk B y2 h0)) _
        unfold fX0_probe_L61
        rw [if_neg (show ¬ (3 : Int32) ≤ nI v from nI_ge (b := 3) hv (by decide)), qS_s, (k_sbr hj).st y2 h0 (inb_nI (by omega) (by decide)), bnv_s, nI_c (by omega), nI_1]
        refine go2 _ ⟨g2.row (by omega) _ _, fun p hp u hu => ?_, fun u hu => ?_⟩
        · rw [cI_x, if_neg (by omega)]; exact z1 p hp u hu
        · rw [cI_x]
          by_cases eu : u = v
          · rw [if_pos ⟨rfl, eu⟩]
          · rw [if_neg (fun x => eu x.2)]; exact z2 u (by omega)
      · rintro s2 y2 ⟨g2, z1, z2⟩
        show Ok (fX0_probe_L61 (some (B + (91 + j))) _ s2 (nI 3) (mk B y2 h0)) _
        unfold fX0_probe_L61
        rw [if_pos (by decide)]
        refine go y2 ⟨g2, fun p hp u hu => ?_⟩
        by_cases ep : p = j
        · rw [ep]; exact z2 u hu
        · exact z1 p (by omega) u hu
    · rintro s y ⟨gy, hz⟩
      show Ok (fX0_probe_L44 (B + 90) (8, _) _ s (nI 8) (mk B y h0)) _
      unfold fX0_probe_L44
      dsimp only
      rw [if_pos (nI_le (Nat.le_refl _) (by decide))]
      -- the sources, one by one
      refine fx_okN (F := fX0_probe_L91 D B (nI f) (nI n) _) (z := fun _ _ _ => none) (fun s j (b : Nat × CZ) => s (nI b.1) (nI j) (mk B b.2 h0)) (kP (gK g)) (fun j b => b.1 = sCnt (gK g) (gW g) (gH g) f n j ∧ cG B g b.2 h0 ∧ ∀ p, p < kP (gK g) → ∀ v, v < 3 → cI b.2 (91 + p) v = nI (sCls (gK g) (gW g) (gH g) f n j p v)) _ ?_ ?_ FU 0 (0, y) (Nat.zero_le _) ⟨rfl, gy, fun p hp v hv => hz p (by omega) v hv⟩ (FU_gt (by omega))
      · rintro s j ⟨a, x⟩ hj ⟨ha, gx, hcl⟩ go
        have ha : a = sCnt (gK g) (gW g) (gH g) f n j := ha
        have gx : cG B g x h0 := gx
        have hcl : ∀ p, p < kP (gK g) → ∀ v, v < 3 → cI x (91 + p) v = nI (sCls (gK g) (gW g) (gH g) f n j p v) := hcl
        have hS : sCnt (gK g) (gW g) (gH g) f n (j + 1) = a + if sSrc (gK g) (gW g) (gH g) j f n = true then 1 else 0 := by rw [ha]; exact cnt_S _ _
        have hC : ∀ p v, sCls (gK g) (gW g) (gH g) f n (j + 1) p v = sCls (gK g) (gW g) (gH g) f n j p v + if sSrc (gK g) (gW g) (gH g) j f n = true ∧ sIs (sSrcV (gK g) (gW g) j f n) p f = v then 1 else 0 := fun p v => cnt_S _ _
        obtain ⟨x2, q1, q2, q3, q4⟩ := x_isSource hD gx (n := n) hj hf (by omega)
        have g2 := gx.fr q2 q3
        have hcl2 : ∀ p, p < kP (gK g) → ∀ v, v < 3 → cI x2 (91 + p) v = nI (sCls (gK g) (gW g) (gH g) f n j p v) := fun p hp v hv => by
          rw [q2.1 _ _ (by omega)]; exact hcl p hp v hv
        show Ok (fX0_probe_L91 D B (nI f) (nI n) _ s (nI a) (nI j) (mk B x h0)) _
        unfold fX0_probe_L91
        rw [x0_cls, ckc_s, x_people gx.2.1, bnd_s, if_neg (nI_ge hj (by omega)), x0_cls, ckc_s, q1, bnd_s]
        simp only [jn_s, nI_1]
        cases hh : sSrc (gK g) (gW g) (gH g) j f n with
        | false =>
          rw [hh, if_neg (by decide), Nat.add_zero] at hS
          rw [if_pos (by decide)]
          refine go (a, x2) ⟨hS.symm, g2, fun p hp v hv => ?_⟩
          rw [hC, hh, if_neg (by simp), Nat.add_zero]
          exact hcl2 p hp v hv
        | true =>
          rw [hh, if_pos rfl] at hS
          rw [if_neg (by decide)]
          have av := q4 hh
          refine fx_okN (F := fX0_probe_L120 B (nI f) (nI a) _) (z := fun _ _ => none) (fun s i (y : CZ) => s (nI i) (mk B y h0)) (kP (gK g)) (fun i y => cG B g y h0 ∧ cAll B (gK g) (sSrcV (gK g) (gW g) j f n) 51 y ∧ ∀ p, p < kP (gK g) → ∀ v, v < 3 → cI y (91 + p) v = nI (sCls (gK g) (gW g) (gH g) f n j p v + if p < i ∧ sIs (sSrcV (gK g) (gW g) j f n) p f = v then 1 else 0)) _ ?_ ?_ FU 0 x2 (Nat.zero_le _) ⟨g2, av, fun p hp v hv => by rw [hcl2 p hp v hv, if_neg (by omega), Nat.add_zero]⟩ (FU_gt (by omega))
          · rintro s2 i y2 hi ⟨gy2, ay2, cy2⟩ go2
            have l3 := sIs_lt (sSrcV (gK g) (gW g) j f n) i f
            have in3 : inb (nI (sIs (sSrcV (gK g) (gW g) j f n) i f)) 3 = true := inb_nI l3 (by decide)
            show Ok (fX0_probe_L120 B (nI f) (nI a) _ s2 (nI i) (mk B y2 h0)) _
            unfold fX0_probe_L120
            rw [x0_cls, ckc_s, x_people gy2.2.1, bnd_s, if_neg (nI_ge hi (by omega)), x0_F14, vA_s, gy2.ldrow (show i < 8 by omega), ob_s, x0_F10, vA_s, st_cls is51, ckc_s, x_stands h1.1 is51 ay2.1 ay2.2.1 hi (by omega), bnd_s, qS_s, (k_sbr (show i < 8 by omega)).ld y2 h0 in3, ob_s, (k_sbr (show i < 8 by omega)).st y2 h0 in3, bnv_s, nI_c (by omega), cy2 i hi _ l3, nI_1, nI_1]
            refine go2 _ ⟨gy2.row (by omega) _ _, ?_, fun p hp v hv => ?_⟩
            · obtain ⟨hw, ht, r1, r2, π, g3, g4, g5, g6⟩ := ay2
              have e : ∀ o' i', o' < 88 → cI (xI y2 (91 + i) (sIs (sSrcV (gK g) (gW g) j f n) i f) (nI (sCls (gK g) (gW g) (gH g) f n j i (sIs (sSrcV (gK g) (gW g) j f n) i f) + (if i < i ∧ sIs (sSrcV (gK g) (gW g) j f n) i f = sIs (sSrcV (gK g) (gW g) j f n) i f then 1 else 0) + 1))) o' i' = cI y2 o' i' := fun o' i' q => by rw [cI_x, if_neg (by omega)]
              refine ⟨hw, ⟨by rw [e _ _ (by omega)]; exact ht.1, by rw [e _ _ (by omega)]; exact ht.2.1, by rw [e _ _ (by omega)]; exact ht.2.2.1, fun p hp => ?_⟩, r1, by rw [e _ _ (by omega)]; exact r2, π, g3, g4, g5, fun i hi => ?_⟩
              · rw [e _ _ (by omega), e _ _ (by omega), e _ _ (by omega), e _ _ (by omega)]
                exact ht.2.2.2 p hp
              · have := g3 i (by omega)
                rw [e _ _ (by omega), e _ _ (by omega), e _ _ (by omega)]
                exact g6 i hi
            · rw [cI_x, cy2 p hp v hv]
              by_cases ep : p = i
              · subst ep
                by_cases ev : sIs (sSrcV (gK g) (gW g) j f n) p f = v
                · subst ev
                  rw [if_pos ⟨rfl, rfl⟩, if_neg (by omega), if_pos ⟨by omega, rfl⟩, Nat.add_zero]
                · rw [if_neg (by omega), if_neg (fun q => ev q.2), if_neg (fun q => ev q.2)]
              · rw [if_neg (by omega)]
                by_cases ev : p < i ∧ sIs (sSrcV (gK g) (gW g) j f n) p f = v
                · rw [if_pos ev, if_pos ⟨by omega, ev.2⟩]
                · rw [if_neg ev, if_neg (fun q => ev ⟨by omega, q.2⟩)]
          · rintro s2 y2 ⟨gy2, ay2, cy2⟩
            show Ok (fX0_probe_L120 B (nI f) (nI a) _ s2 (nI (kP (gK g))) (mk B y2 h0)) _
            unfold fX0_probe_L120
            rw [x0_cls, ckc_s, x_people gy2.2.1, bnd_s, if_pos (nI_le (Nat.le_refl _) (by omega)), nI_1]
            refine go (a + 1, y2) ⟨hS.symm, gy2, fun p hp v hv => ?_⟩
            show cI y2 (91 + p) v = _
            rw [cy2 p hp v hv, hC, hh]
            by_cases ev : sIs (sSrcV (gK g) (gW g) j f n) p f = v
            · rw [if_pos ⟨hp, ev⟩, if_pos ⟨rfl, ev⟩]
            · rw [if_neg (fun q => ev q.2), if_neg (fun q => ev q.2)]
      · rintro s ⟨a, x⟩ ⟨ha, gx, hcl⟩
        have ha : a = sCnt (gK g) (gW g) (gH g) f n (kP (gK g)) := ha
        have gx : cG B g x h0 := gx
        show Ok (fX0_probe_L91 D B (nI f) (nI n) _ s (nI a) (nI (kP (gK g))) (mk B x h0)) _
        unfold fX0_probe_L91
        rw [x0_cls, ckc_s, x_people gx.2.1, bnd_s, if_pos (nI_le (Nat.le_refl _) (by omega)), ha]
        refine x_probe_last (f := f) (n := n) gx hcl ?_
        unfold spProbe
        have hin : (sPrbA (gK g) (gW g) (gH g) f n).1 ≤ kP (gK g) := by
          unfold sPrbA
          split
          · exact Nat.zero_le _
          · exact (sPrb_in _ _ _ _ _ _).1
        generalize (sPrbA (gK g) (gW g) (gH g) f n).1 = a1 at hin
        generalize (sPrbA (gK g) (gW g) (gH g) f n).2 = a2
        by_cases z0 : a1 = 0
        · rw [if_pos (by rw [z0]; decide), if_pos (Or.inl z0)]
          exact Ok.of ⟨rfl, x, rfl, gx⟩
        · rw [if_neg (m1_ne z0 (by omega))]
          by_cases cw : what = 0
          · rw [if_pos cw, if_pos (Or.inr cw)]
            exact Ok.of ⟨rfl, x, rfl, gx⟩
          · rw [if_neg cw, if_neg z0, if_neg (show ¬ (a1 = 0 ∨ what = 0) from fun q => q.elim z0 cw)]
            exact Ok.of ⟨rfl, x, rfl, gx⟩
  obtain ⟨⟨r, h'⟩, e, q1, c', q2, q3⟩ := fin
  have q2 : h' = mk B c' h0 := q2
  exact ⟨c', by rw [e, q2]; cases q1; rfl, q3⟩
end PB
