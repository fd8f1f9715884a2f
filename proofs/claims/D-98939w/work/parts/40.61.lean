/-! PART 61: plain: the component acts: keeps, undo, teach, tell -/
set_option maxRecDepth 100000
theorem sPush_19 (us : List SW) (w : SW) : sPush us w = w :: us.take 19 := rfl
section KF
variable {D : PD} {B : Nat} {g : SG} {c c' : CZ} {h0 : PH}
theorem cQ_o {c c' : CZ} {o : Nat} (h : c'.2.2 o = c.2.2 o) (i : Nat) : cQ c' o i = cQ c o i := by unfold cQ; rw [h]
/-- the first kept is turned to the end, and is free -/
theorem x_turn (h : cG B g c h0) (hl : (gU g).length = 20) {c1 : CZ} (e1 : c1.1 = c.1) (e2 : c1.2.1 = c.2.1) (e3 : ∀ o, o ≠ 99 → c1.2.2 o = c.2.2 o) (e4 : ∀ i, i < 20 → cQ c1 99 i = if i < 19 then cQ c 99 (i + 1) else cQ c 99 0) : cG B (uWU g (gW g) ((gU g).take 19)) (xI c1 0 16 (nI 19)) h0 := by
  obtain ⟨h0', h1, h2, h3, ⟨u1, u2, u3, σ, s1, s2, s3, s4⟩, h5, h6, h7, h8, h9, h10, h11⟩ := h
  have e : ∀ o i, ¬ (o = 0 ∧ i = 16) → cI (xI c1 0 16 (nI 19)) o i = cI c o i := fun o i hn => by rw [cI_x, if_neg hn]; show c1.1 o i = c.1 o i; rw [e1]
  have eq : ∀ o, o ≠ 99 → (xI c1 0 16 (nI 19)).2.2 o = c.2.2 o := e3
  have tl : ((gU g).take 19).length = 19 := by rw [List.length_take]; omega
  refine ⟨⟨h0'.1, fun u hu => h0'.2.1 u (List.mem_of_mem_take hu), h0'.2.2⟩, h1.q (eq 0 (by decide)), h2.of (fun o i a b => e o i (by omega)) (eq _ (by decide)), h3.of (eq _ (by decide)), ⟨?_, ?_, fun j hj => (u3 j hj).of (eq _ (by omega)), fun i => if i < 19 then σ (i + 1) else σ 0, fun i hi => ?_, fun i j hi hj hij => ?_, fun i hi => ?_, fun i hi => ?_⟩, ⟨h5.1, by rw [e _ _ (by decide)]; exact h5.2.1, fun i hi => by rw [e _ _ (by omega), e _ _ (by omega)]; exact h5.2.2 i hi⟩, ⟨by rw [e _ _ (by decide)]; exact h6.1, fun i hi => by rw [e _ _ (by omega)]; exact h6.2 i hi⟩, fun j hj => by rw [e _ _ (by omega)]; exact h7 j hj, ⟨by rw [e _ _ (by decide)]; exact h8.1, by rw [e _ _ (by decide)]; exact h8.2⟩, ?_, ⟨by rw [e _ _ (by decide)]; exact h10.1, fun i hi => by rw [e _ _ (by omega)]; exact h10.2 i hi⟩, fun j hj => ?_⟩
  · show ((gU g).take 19).length ≤ 20
    omega
  · show cI _ 0 16 = nI ((gU g).take 19).length
    rw [tl, cI_x, if_pos ⟨rfl, rfl⟩]
  · show (if i < 19 then σ (i + 1) else σ 0) < 20
    split
    · exact s1 _ (by omega)
    · exact s1 _ (by omega)
  · have hij : (if i < 19 then σ (i + 1) else σ 0) = (if j < 19 then σ (j + 1) else σ 0) := hij
    by_cases ci : i < 19
    · by_cases cj : j < 19
      · rw [if_pos ci, if_pos cj] at hij
        have := s2 _ _ (by omega) (by omega) hij
        omega
      · rw [if_pos ci, if_neg cj] at hij
        have := s2 _ _ (by omega) (by omega) hij
        omega
    · by_cases cj : j < 19
      · rw [if_neg ci, if_pos cj] at hij
        have := s2 _ _ (by omega) (by omega) hij
        omega
      · omega
  · show cQ c1 99 i = some (B + (100 + 37 * (if i < 19 then σ (i + 1) else σ 0)))
    rw [e4 i hi]
    by_cases ci : i < 19
    · rw [if_pos ci, if_pos ci]; exact s3 _ (by omega)
    · rw [if_neg ci, if_neg ci]; exact s3 _ (by omega)
  · have hi : i < ((gU g).take 19).length := hi
    rw [tl] at hi
    show cAll B (gK g) (((gU g).take 19).getD i default) (100 + 37 * (if ((gU g).take 19).length - 1 - i < 19 then σ (((gU g).take 19).length - 1 - i + 1) else σ 0)) _
    rw [tl, if_pos (by omega)]
    have := s4 i (by omega)
    rw [hl] at this
    have ed : ((gU g).take 19).getD i default = (gU g).getD i default := by
      simp only [List.getD, List.getElem?_take, if_pos hi]
    rw [ed, show 19 - 1 - i + 1 = 20 - 1 - i by omega]
    have := s1 (20 - 1 - i) (by omega)
    exact ‹cAll B (gK g) _ _ c›.of (fun o i' a b => e o i' (by omega)) (eq _ (by omega))
  · show c1.2.1 0 17 = _
    rw [e2]
    exact h9
  · show (xI c1 0 16 (nI 19)).2.2 90 j = _
    rw [eq 90 (by omega)]
    exact h11 j hj
theorem x_keeps (h : cG B g c h0) : ∃ c', fX0_keeps B (mk B c h0) = some (mk B c' h0) ∧ cG B (uWU g (gW g) (sPush (gU g) (gW g))) c' h0 := by
  have fin : Ok (fX0_keeps B (mk B c h0)) (fun r => ∃ c', r = mk B c' h0 ∧ cG B (uWU g (gW g) (sPush (gU g) (gW g))) c' h0) := by
    obtain ⟨u1, u2, u3, σ, s1, s2, s3, s4⟩ := h.2.2.2.2.1
    rw [sPush_19]
    unfold fX0_keeps
    rw [x0_F16, vI_s, u2]
    simp only [jn_s]
    by_cases c20 : (gU g).length = 20
    · rw [if_pos (by rw [c20]; rfl), x0_F15, vA_s, k_kept.ld c h0 (by decide), ob_s, show (Int32.toNatClampNeg 0) = 0 from by decide, s3 0 (by decide)]
      refine fx_okN (F := fX0_keeps_L18 B _) (z := fun _ _ => none) (fun s j (y : CZ) => s (nI j) (mk B y h0)) 20 (fun j y => 1 ≤ j ∧ y.1 = c.1 ∧ y.2.1 = c.2.1 ∧ (∀ o, o ≠ 99 → y.2.2 o = c.2.2 o) ∧ ∀ i, i < 20 → cQ y 99 i = if i + 1 < j then cQ c 99 (i + 1) else cQ c 99 i) _ ?_ ?_ FU 1 c (by decide) ⟨Nat.le_refl _, rfl, rfl, fun _ _ => rfl, fun i hi => by rw [if_neg (by omega)]⟩ (FU_gt (by decide))
      · rintro s j y hj ⟨j1, y1, y2, y3, y4⟩ go
        have hσ := s1 j hj
        show Ok (fX0_keeps_L18 B _ s (nI j) (mk B y h0)) _
        unfold fX0_keeps_L18
        rw [if_neg (show ¬ (20 : Int32) ≤ nI j from nI_ge (b := 20) hj (by decide)), x0_F15, vA_s, vA_s, k_kept.ld y h0 (inb_nI hj (by decide)), nI_c (by omega), y4 j hj, if_neg (by omega), s3 j hj, ob_s, qS_s, st_cls (isk hσ), ckc_s, nI_m1 (by omega), k_kept.st y h0 (inb_nI (show j - 1 < 20 by omega) (by decide)), bnv_s, nI_c (by omega), nI_1]
        refine go _ ⟨by omega, y1, y2, fun o ho => ?_, fun i hi => ?_⟩
        · rw [← y3 o ho]
          show va_up y.2.2 99 _ o = _
          rw [va_up_ne _ _ ho]
        · rw [cQ_x]
          by_cases ei : i = j - 1
          · rw [if_pos ⟨rfl, ei⟩, if_pos (by omega), ei, show j - 1 + 1 = j by omega, s3 j hj]
          · rw [if_neg (fun x => ei x.2), y4 i hi]
            by_cases ci : i + 1 < j
            · rw [if_pos ci, if_pos (by omega)]
            · rw [if_neg ci, if_neg (by omega)]
      · rintro s y ⟨j1, y1, y2, y3, y4⟩
        have hσ := s1 0 (by decide)
        show Ok (fX0_keeps_L18 B _ s (nI 20) (mk B y h0)) _
        unfold fX0_keeps_L18
        have e16 : ∀ v, cI (xQ' y 99 19 v) 0 16 = nI 20 := fun v => by
          show y.1 0 16 = _
          rw [y1, ← c20]
          exact u2
        rw [if_pos (by decide)]
        dsimp only
        rw [x0_F15, vA_s, qS_s, st_cls (isk hσ), ckc_s, k_kept.st y h0 (by decide), bnv_s, show (Int32.toNatClampNeg 19) = 19 from by decide, x0_F16, vI_s, e16, show nI 20 - 1 = nI 19 from by decide, x0_pI _ _ 16 (by decide), bnv_s]
        have t := x_turn h c20 (c1 := xQ' y 99 19 (some (B + (100 + 37 * σ 0)))) y1 y2 (fun o ho => by
          rw [← y3 o ho]
          show va_up y.2.2 99 _ o = _
          rw [va_up_ne _ _ ho]) (fun i hi => by
          rw [cQ_x]
          by_cases ei : i = 19
          · rw [if_pos ⟨rfl, ei⟩, if_neg (by omega), s3 0 (by decide)]
          · rw [if_neg (fun x => ei x.2), y4 i hi, if_pos (by omega), if_pos (by omega)])
        have tl : ((gU g).take 19).length = 19 := by rw [List.length_take]; omega
        obtain ⟨c2, q1, q2⟩ := x_keep1 t (show ((gU g).take 19).length < 20 by omega)
        exact ⟨_, q1, c2, rfl, q2⟩
    · rw [if_neg (show ¬ nI (gU g).length = 20 from fun q => c20 ((nI_eq (b := 20) (by omega) (by decide)).mp q))]
      obtain ⟨c2, q1, q2⟩ := x_keep1 h (by omega)
      refine ⟨_, q1, c2, rfl, ?_⟩
      rw [List.take_of_length_le (by omega)]
      exact q2
  obtain ⟨r, e, c', rfl, q⟩ := fin
  exact ⟨c', e, q⟩
end KF
