/-! PART 39: plain: the component's school -/
set_option maxRecDepth 100000
theorem bnc_l {α β : Type} (r : α) (h : PH) (kt : Nat → PH → Option β) (k : α → PH → Option β) : bnc (some (.inl r, h)) kt k = k r h := rfl
theorem bnc_r {α β : Type} (q : Nat) (h : PH) (kt : Nat → PH → Option β) (k : α → PH → Option β) : bnc (some (.inr q, h)) kt k = kt q h := rfl
theorem sWho_st (s : ST) (b : Nat) : ∀ n, sWho (stW s) n b = 0
  | 0 => rfl
  | n + 1 => by
    rw [sWho_S, sWho_st s b n, if_neg (by show ¬ (0 : Nat).testBit b = true; simp)]
section TH
variable {B : Nat} {D : PD} {cap : Nat × Nat} {g : SG} {c : CZ} {h : PH}
theorem x_school (H : cG B g c h) (hw : hW B h) (hk : Kst D B h.1 h) (r1 : h.1 + 60 * gT g + 105 ≤ cap.1) (r2 : h.2.1 + 800 * gT g + 40023 ≤ cap.2) :
    ∃ c' h', fX0_school D cap B (mk B c h) = some ((spSchool g).1, mk B c' h') ∧ cG B (spSchool g).2 c' h' ∧ hGr h h' ∧ hW B h' ∧ h'.1 ≤ h.1 + 60 * gT g + 105 ∧ h'.2.1 ≤ h.2.1 + 800 * gT g + 1023 := by
  have hT := H.1.2.2.2.1
  have hb := H.1.2.2.2.2.1
  have H1 := H.flt 0 (-1)
  obtain ⟨c2, t1, H2, t2⟩ := x_taken H1
  have t1 : fX0_taken B (mk B (xI (xI c 0 3 0) 0 4 (-1)) h) = some (nI (gT g), mk B c2 h) := t1
  have t2 : ∀ i, i < gT g → cI c2 6 i = sb (gB g i) := t2
  unfold fX0_school
  rw [x0_pI c h 3 (by decide), bnv_s, x0_pI _ h 4 (by decide), bnv_s, x0_F5, vA_s, x0_cls, ckc_s, t1, bnd_s, r_cls, ckc_s]
  obtain ⟨c3, h3, x1, x2, x3, x4, x5, x6⟩ := y_all (D := D) (cap := cap) (c := c2) (n := gT g) (b := gB g) hw hk hT (fun i hi => ⟨hb i hi, t2 i hi⟩) r1 r2
  have H3 := (H2.r7 x1).gr hw x2
  unfold spSchool
  cases qs : rSch (gT g) (gB g) 82 st0 0 0 with
  | inl gg =>
    rw [qs] at x6
    obtain ⟨k1, k2, k3⟩ := x6
    rw [k1, bnc_r, f_cls, ckc_s, f_F6, vI_s, k2, x0_pI c3 h3 3 (by decide), bnv_s, f_F7, vI_s, cI_xI_ne _ (by omega), k3, x0_pI _ h3 4 (by decide), bnv_s, x0_cls, ckc_s]
    have H5 := H3.flt (nI gg.1) (nI gg.2)
    obtain ⟨c6, y1, y2⟩ := x_refuses H5 (i := 1) (by decide)
    rw [show fX0_refuses B 1 (mk B (xI (xI c3 0 3 (nI gg.1)) 0 4 (nI gg.2)) h3) = _ from y1, bnd_s]
    exact ⟨c6, h3, rfl, y2, x2, x3, x4, x5⟩
  | inr pp =>
    obtain ⟨⟨s, cnt⟩, e⟩ := pp
    rw [qs] at x6
    obtain ⟨k1, k2, k3, k4⟩ := x6
    rw [k1, bnc_l, show pPut (mk B c3 h3) B 0 0 (.ref h.1) = _ from x0_p0 c3 h3 (some h.1), bnv_s, x0_F9, vA_s, st_cls is14, ckc_s]
    unfold fX5_begins
    rw [st_p0 is14, bnv_s, st_p1 is14, bnv_s, st_p2 is14, bnv_s, st_p3 is14, bnv_s]
    have u : ∀ o i, cI (xI (xI (xI (xI (xQ' c3 0 0 (some h.1)) 14 0 0) 14 1 0) 14 2 0) 14 3 0) o i = if o = 14 ∧ (i = 0 ∨ i = 1 ∨ i = 2 ∨ i = 3) then 0 else cI c3 o i := by
      intro o i
      rw [cI_x, cI_x, cI_x, cI_x]
      by_cases q : o = 14 ∧ (i = 0 ∨ i = 1 ∨ i = 2 ∨ i = 3)
      · rw [if_pos q]
        obtain ⟨rfl, q⟩ := q
        rcases q with rfl | rfl | rfl | rfl <;> simp
      · rw [if_neg q, if_neg (by omega), if_neg (by omega), if_neg (by omega), if_neg (by omega)]
        rfl
    have uq : cQ (xI (xI (xI (xI (xQ' c3 0 0 (some h.1)) 14 0 0) 14 1 0) 14 2 0) 14 3 0) 0 0 = some h.1 := by
      show va_up c3.2.2 0 (va_up (c3.2.2 0) 0 (some h.1)) 0 0 = some h.1
      rw [va_up_self, va_up_self]
    have uL : (xI (xI (xI (xI (xQ' c3 0 0 (some h.1)) 14 0 0) 14 1 0) 14 2 0) 14 3 0).2.1 = c3.2.1 := rfl
    have uQ : ∀ o, o ≠ 0 → (xI (xI (xI (xI (xQ' c3 0 0 (some h.1)) 14 0 0) 14 1 0) 14 2 0) 14 3 0).2.2 o = c3.2.2 o := fun o ho => va_up_ne _ _ ho
    generalize xI (xI (xI (xI (xQ' c3 0 0 (some h.1)) 14 0 0) 14 1 0) 14 2 0) 14 3 0 = c4 at u uq uL uQ
    have h8 := k3.1.2.1
    obtain ⟨c5, i1, i2, i3, i4, i5⟩ := begins_L k2 hw.1 k3 (fun _ _ => none) FU 0 c4 (Nat.zero_le _) (FU_gt (by omega)) uq
    have q5 : cQ (xI (xI c5 0 16 0) 0 13 0) 0 0 = some h.1 := by
      show c5.2.2 0 0 = some h.1
      rw [i3]
      exact uq
    obtain ⟨fl, fr, fn, pl, pr, pn, fo, po, tq, gO'⟩ := id k2
    rw [show fx (fX5_begins_L22 (B + 14)) (fun _ _ => none) FU 0 (mk B c4 h3) = _ from i1, bnv_s, x0_pI c5 h3 16 (by decide), bnv_s, x0_pI _ h3 13 (by decide), bnv_s, x0_F0, q5, show va_rf (some h.1) = .ref h.1 from rfl, vA_s, gO'.F hw.1 _ (k := 0) rfl, vI_s]
    refine ⟨xI (xI c5 0 16 0) 0 13 0, h3, rfl, ?_, x2, x3, x4, x5⟩
    show cG B (newG g s) _ h3
    have w : ∀ o i, ¬ (o = 0 ∧ (i = 13 ∨ i = 16)) → cI (xI (xI c5 0 16 0) 0 13 0) o i = cI c5 o i := fun o i q => by rw [cI_xI_ne _ (by omega), cI_xI_ne _ (by omega)]
    have w13 : cI (xI (xI c5 0 16 0) 0 13 0) 0 13 = 0 := cI_xI_eq _ _ _ _
    have w16 : cI (xI (xI c5 0 16 0) 0 13 0) 0 16 = 0 := by rw [cI_xI_ne _ (by omega), cI_xI_eq]
    have wL : (xI (xI c5 0 16 0) 0 13 0).2.1 = c3.2.1 := by show c5.2.1 = _; rw [i3]; exact uL
    have wQ : ∀ o, o ≠ 0 → (xI (xI c5 0 16 0) 0 13 0).2.2 o = c3.2.2 o := fun o ho => by show c5.2.2 o = _; rw [i3]; exact uQ o ho
    generalize xI (xI c5 0 16 0) 0 13 0 = c6 at q5 w w13 w16 wL wQ
    have e : ∀ o i, ¬ (o = 0 ∧ (i = 13 ∨ i = 16)) → (o < 14 ∨ 18 < o) → cI c6 o i = cI c3 o i := fun o i q1 q2 => by rw [w o i q1, i2 o i (by omega), u, if_neg (by omega)]
    have e14 : ∀ i, i < 4 → cI c6 14 i = 0 := fun i hi => by rw [w 14 i (by omega), i2 14 i (by omega), u, if_pos (by omega)]
    obtain ⟨h0', h1, h2, h3', ⟨u1, u2, u3, σ, s1, s2, s3, s4⟩, h5, h6, h7, h8', h9, h10, h11⟩ := H3
    refine ⟨?_, ⟨k3.1, h.1, q5, k2.sc hw.1⟩, ⟨k3.2.1, ⟨?_, ?_, ?_, fun p hp => ?_⟩, Nat.zero_le _, ?_, ?_⟩, h3'.of (wQ _ (by decide)), ⟨Nat.zero_le _, w16, fun j hj => (u3 j hj).of (wQ _ (by omega)), σ, s1, s2, fun i hi => by show c6.2.2 99 i = _; rw [wQ 99 (by decide)]; exact s3 i hi, fun i hi => absurd hi (Nat.not_lt_zero _)⟩, ⟨Nat.zero_le _, w13, fun i hi => absurd hi (Nat.not_lt_zero _)⟩, ⟨by rw [e _ _ (by decide) (by decide)]; exact h6.1, fun i hi => absurd hi (Nat.not_lt_zero _)⟩, fun j hj => by rw [e _ _ (by omega) (by omega)]; exact h7 j hj, ⟨by rw [e _ _ (by decide) (by decide)]; exact h8'.1, by rw [e _ _ (by decide) (by decide)]; exact h8'.2⟩, by show c6.2.1 0 17 = _; rw [wL]; exact h9, ⟨by rw [e _ _ (by decide) (by decide)]; exact h10.1, fun i hi => by rw [e _ _ (by omega) (by omega)]; exact h10.2 i hi⟩, fun j hj => by show c6.2.2 90 j = _; rw [wQ 90 (by decide)]; exact h11 j hj⟩
    · refine ⟨by show 0 ≤ 999; omega, (fun u hu => (by cases hu)), ?_, by show 0 ≤ 1600; omega, fun i hi => absurd hi (Nat.not_lt_zero _), k3.2.2.1, H.1.2.2.2.2.2.2⟩
      exact fun i hi => absurd hi (Nat.not_lt_zero _)
    · rw [e14 0 (by decide)]; rfl
    · rw [e14 1 (by decide), show sWho (gW (newG g s)) (kP (gK (newG g s))) 0 = 0 from sWho_st s 0 _]; rfl
    · rw [e14 2 (by decide), show sWho (gW (newG g s)) (kP (gK (newG g s))) 1 = 0 from sWho_st s 1 _]; rfl
    · have hp : p < kP (tK s) := hp
      obtain ⟨z1, z2, z3, z4⟩ := i5 p (Nat.zero_le _) hp
      show cI c6 15 p = _ ∧ cI c6 16 p = _ ∧ cI c6 17 p = _ ∧ cI c6 18 p = _
      rw [w _ _ (by omega), w _ _ (by omega), w _ _ (by omega), w _ _ (by omega)]
      exact ⟨z1, z2, z3, z4⟩
    · rw [e14 3 (by decide)]; rfl
    · obtain ⟨-, -, -, -, π, p1, p2, p3, -⟩ := h2
      exact ⟨π, p1, p2, fun i hi => by show c6.2.2 19 i = _; rw [wQ 19 (by decide)]; exact p3 i hi, fun i hi => absurd hi (Nat.not_lt_zero _)⟩
end TH
