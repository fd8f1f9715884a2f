/-! PART 57: plain: the component ahead: probe -/
set_option maxRecDepth 100000
theorem imax_v {a b : Nat} (ha : a < 2 ^ 31) (hb : b < 2 ^ 31) (h : PH) : fJ12_max (nI a) (nI b) h = some (nI (max a b), h) := by
  unfold fJ12_max
  by_cases c : a < b
  · rw [if_pos (nI_lt c hb), Nat.max_eq_right (by omega)]
  · rw [if_neg (nI_nlt (by omega) ha), Nat.max_eq_left (by omega)]
section PR
variable {D : PD} {B : Nat} {g : SG} {c : CZ} {h0 : PH}
/-- the rows of probe are nobody's -/
theorem cG.row {o : Nat} (h : cG B g c h0) (ho : 91 ≤ o ∧ o < 99) (i : Nat) (v : Int32) : cG B g (xI c o i v) h0 := by
  obtain ⟨h0', h1, h2, h3, h4, h5, h6, h7, h8, h9, h10, h11⟩ := h
  have e : ∀ o' i', o' ≠ o → cI (xI c o i v) o' i' = cI c o' i' := fun o' i' q => by rw [cI_x, if_neg (fun x => q x.1)]
  have pi : ∀ s, cPi B s c → cPi B s (xI c o i v) := fun s hp => hp
  have all : ∀ {k : SK} {w : SW} {s : Nat}, isS s → cAll B k w s c → cAll B k w s (xI c o i v) := fun {k w s} hs hx => by
    have hs' : s + 37 ≤ 91 ∨ 99 < s := by rcases hs with rfl | rfl | ⟨j, hj, rfl⟩ <;> omega
    obtain ⟨hw, ht, r1, r2, π, g3, g4, g5, g6⟩ := hx
    refine ⟨hw, ⟨by rw [e _ _ (by omega)]; exact ht.1, by rw [e _ _ (by omega)]; exact ht.2.1, by rw [e _ _ (by omega)]; exact ht.2.2.1, fun p hp => ?_⟩, r1, by rw [e _ _ (by omega)]; exact r2, π, g3, g4, g5, fun i hi => ?_⟩
    · rw [e _ _ (by omega), e _ _ (by omega), e _ _ (by omega), e _ _ (by omega)]
      exact ht.2.2.2 p hp
    · have := g3 i (by omega)
      rw [e _ _ (by omega), e _ _ (by omega), e _ _ (by omega)]
      exact g6 i hi
  obtain ⟨u1, u2, u3, σ, s1, s2, s3, s4⟩ := h4
  refine ⟨h0', h1, all is14 h2, h3, ⟨u1, by rw [e _ _ (by omega)]; exact u2, u3, σ, s1, s2, s3, fun i hi => all (isk (s1 _ (by omega))) (s4 i hi)⟩, ⟨h5.1, by rw [e _ _ (by omega)]; exact h5.2.1, fun i hi => by rw [e _ _ (by omega), e _ _ (by omega)]; exact h5.2.2 i hi⟩, ⟨by rw [e _ _ (by omega)]; exact h6.1, fun i hi => by rw [e _ _ (by omega)]; exact h6.2 i hi⟩, fun i hi => by rw [e _ _ (by omega)]; exact h7 i hi, ⟨by rw [e _ _ (by omega)]; exact h8.1, by rw [e _ _ (by omega)]; exact h8.2⟩, h9, ⟨by rw [e _ _ (by omega)]; exact h10.1, fun i hi => by rw [e _ _ (by omega)]; exact h10.2 i hi⟩, h11⟩
theorem cG.ldrow (h : cG B g c h0) {j : Nat} (hj : j < 8) : pLdQ (mk B c h0) (B + 90) 6 (nI j) = some (some (B + (91 + j))) := by
  rw [k_sby.ld c h0 (inb_nI (by omega) (by decide)), nI_c (by omega), h.2.2.2.2.2.2.2.2.2.2.2 j hj]
/-- which to ask, from the counts -/
theorem x_probe_last {Q : Int32 × PH → Prop} {f n : Nat} {K : Int32 → Int32 → PH → Option (Int32 × PH)} (h : cG B g c h0) (hc : ∀ p, p < kP (gK g) → ∀ v, v < 3 → cI c (91 + p) v = nI (sCls (gK g) (gW g) (gH g) f n (kP (gK g)) p v)) (hK : Ok (K (nI (sPrbA (gK g) (gW g) (gH g) f n).1 - 1) (nI (if (sPrbA (gK g) (gW g) (gH g) f n).1 = 0 then 100000000 else (sPrbA (gK g) (gW g) (gH g) f n).2)) (mk B c h0)) Q) : Ok (fx (fX0_probe_L174 B (nI (sCnt (gK g) (gW g) (gH g) f n (kP (gK g)))) K) (fun _ _ _ _ => none) FU (-1) 100000000 0 (mk B c h0)) Q := by
  have h8 := h.2.1.1.2.1
  have hcnt := sCnt_le (gK g) (gW g) (gH g) f n (kP (gK g))
  unfold sPrbA at hK
  refine fx_okN (F := fX0_probe_L174 B (nI (sCnt (gK g) (gW g) (gH g) f n (kP (gK g)))) K) (z := fun _ _ _ _ => none) (fun s j (b : (Nat × Nat)) => s (nI b.1 - 1) (nI (if b.1 = 0 then 100000000 else b.2)) (nI j) (mk B c h0)) (kP (gK g)) (fun j b => b = if sCnt (gK g) (gW g) (gH g) f n (kP (gK g)) = 0 then (0, 0) else sPrb (gK g) (gW g) (gH g) f n j) Q ?_ ?_ FU 0 (0, 0) (Nat.zero_le _) (by split <;> rfl) (FU_gt (by omega))
  · rintro s j a hj ha go
    show Ok (fX0_probe_L174 B (nI (sCnt (gK g) (gW g) (gH g) f n (kP (gK g)))) K s (nI a.1 - 1) (nI (if a.1 = 0 then 100000000 else a.2)) (nI j) (mk B c h0)) Q
    unfold fX0_probe_L174
    rw [x0_cls, ckc_s, x_people h.2.1, bnd_s, if_neg (nI_ge hj (by omega))]
    by_cases c0 : sCnt (gK g) (gW g) (gH g) f n (kP (gK g)) = 0
    · rw [if_pos c0] at hK ha
      rw [c0, if_pos (by decide), ha]
      exact hK
    · rw [if_neg c0] at ha
      rw [if_neg c0] at go
      obtain ⟨i1, i2⟩ := sPrb_in (gK g) (gW g) (gH g) f n j
      rw [← ha] at i1 i2
      have hS : sPrb (gK g) (gW g) (gH g) f n (j + 1) = sPrbS (gK g) (gW g) (gH g) f n j a := by rw [ha]; exact itN_S _ _ _
      have b0 := sCls_le (gK g) (gW g) (gH g) f n (kP (gK g)) j 0
      have b1 := sCls_le (gK g) (gW g) (gH g) f n (kP (gK g)) j 1
      have b2 := sCls_le (gK g) (gW g) (gH g) f n (kP (gK g)) j 2
      have ld : ∀ v, v < 3 → pLd (mk B c h0) (B + (91 + j)) 0 (nI v) = some (nI (sCls (gK g) (gW g) (gH g) f n (kP (gK g)) j v)) := fun v hv => by
        rw [(k_sbr (show j < 8 by omega)).ld c h0 (inb_nI (by omega) (by decide)), nI_c (by omega), hc j hj v hv]
      have d0 : pLd (mk B c h0) (B + (91 + j)) 0 0 = some (nI (sCls (gK g) (gW g) (gH g) f n (kP (gK g)) j 0)) := ld 0 (by decide)
      have d1 : pLd (mk B c h0) (B + (91 + j)) 0 1 = some (nI (sCls (gK g) (gW g) (gH g) f n (kP (gK g)) j 1)) := ld 1 (by decide)
      have d2 : pLd (mk B c h0) (B + (91 + j)) 0 2 = some (nI (sCls (gK g) (gW g) (gH g) f n (kP (gK g)) j 2)) := ld 2 (by decide)
      have lr := h.ldrow (show j < 8 by omega)
      rw [if_neg (nI_nle (by omega) (by omega)), x0_F14, vA_s, lr, ob_s, qS_s, d0, ob_s, vA_s, lr, ob_s, qS_s, d1, ob_s, vA_s, lr, ob_s, qS_s, d2, ob_s, imax_v (by omega) (by omega), bnd_s, imax_v (by omega) (by omega), bnd_s]
      simp only [jn_s, nI_1]
      unfold sPrbS at hS
      have hml := sMst_le (gK g) (gW g) (gH g) f n j
      have em : max (sCls (gK g) (gW g) (gH g) f n (kP (gK g)) j 0) (max (sCls (gK g) (gW g) (gH g) f n (kP (gK g)) j 1) (sCls (gK g) (gW g) (gH g) f n (kP (gK g)) j 2)) = sMst (gK g) (gW g) (gH g) f n j := rfl
      rw [em]
      generalize sMst (gK g) (gW g) (gH g) f n j = m at hS hml ⊢
      by_cases ca : a.1 = 0 ∨ m < a.2
      · rw [if_pos ca] at hS
        rw [if_pos (nI_lt (by split <;> omega) (by split <;> omega))]
        have := go (j + 1, m) hS.symm
        have this : Ok (s (nI (j + 1) - 1) (nI (if j + 1 = 0 then 100000000 else m)) (nI (j + 1)) (mk B c h0)) Q := this
        rw [nI_pred, if_neg (by omega)] at this
        exact this
      · rw [if_neg ca] at hS
        rw [if_neg (nI_nlt (by split <;> omega) (by omega))]
        exact go a hS.symm
  · rintro s a ha
    show Ok (fX0_probe_L174 B (nI (sCnt (gK g) (gW g) (gH g) f n (kP (gK g)))) K s (nI a.1 - 1) (nI (if a.1 = 0 then 100000000 else a.2)) (nI (kP (gK g))) (mk B c h0)) Q
    unfold fX0_probe_L174
    rw [x0_cls, ckc_s, x_people h.2.1, bnd_s, if_pos (nI_le (Nat.le_refl _) (by omega)), ha]
    exact hK
end PR
