/-! PART 63: plain: the component acts: years, chance -/
set_option maxRecDepth 100000
section YE
variable {D : PD} {B : Nat} {g : SG} {c c' : CZ} {h0 : PH}
theorem uWU_2 (g : SG) (w w' : SW) (us us' : List SW) : uWU (uWU g w us) w' us' = uWU g w' us' := rfl
theorem sYears_S (k : SK) (n : Nat) (w : SW) : sYears k (n + 1) w = sYear k (sYears k n w) 0 := itN_S _ _ _
theorem cPas_le {k : SK} (hk : kOk k) (w : SW) : cPas k w ≤ 8 := by
  rw [cPas_pop hk]
  exact pop_le _ (sWho_lt _ _ _ hk.2.1)
theorem x_yearsP (hD : ∃ q, dS D 7 = va_rf q) (h : cG B g c h0) (a : Int32) : ∃ c', fX0_years D B a (mk B c h0) = some ((spYears g a).1, mk B c' h0) ∧ cG B (spYears g a).2 c' h0 := by
  have h1 := h.2.1
  have hk := h1.1
  have now := h.2.2.1
  have fin : Ok (fX0_years D B a (mk B c h0)) (fun r => r.1 = (spYears g a).1 ∧ ∃ c', r.2 = mk B c' h0 ∧ cG B (spYears g a).2 c' h0) := by
    unfold fX0_years spYears
    rw [x0_cls, ckc_s, x_isAhead now.1 now.2.1 _ 1 100 (by decide) (by decide), bnd_s, show (1 : Int32).toInt = 1 from by decide, show (100 : Int32).toInt = 100 from by decide]
    cases e1 : sAh (gW g) a 1 100 with
    | false =>
      obtain ⟨c', q1, q2⟩ := x_refuses h (i := 3) (by decide)
      have q1 : fX0_refuses B 3 (mk B c h0) = _ := q1
      rw [if_pos (by decide), if_neg (by decide), x0_cls, ckc_s, q1, bnd_s]
      exact Ok.of ⟨rfl, c', rfl, q2⟩
    | true =>
    obtain ⟨n, rfl, -, h100, h99⟩ := sAh_nat e1 (by decide) (by decide)
    obtain ⟨c1, q1, q2⟩ := x_keeps h
    rw [if_neg (by decide), if_pos rfl, nI_c (by omega), x0_cls, ckc_s, q1, bnv_s]
    refine fx_okN (F := fX0_years_L25 D B (nI n)) (z := fun _ _ _ => none) (fun s j (b : Nat × CZ) => s (nI b.1) (nI j) (mk B b.2 h0)) n (fun j b => b.1 + cPas (gK g) (gW g) = cPas (gK g) (sYears (gK g) j (gW g)) ∧ cG B (uWU g (sYears (gK g) j (gW g)) (sPush (gU g) (gW g))) b.2 h0) _ ?_ ?_ FU 0 (0, c1) (Nat.zero_le _) ⟨Nat.zero_add _, q2⟩ (FU_gt (by omega))
    · rintro s j ⟨m, y⟩ hj ⟨hm, gy⟩ go
      have hm : m + cPas (gK g) (gW g) = cPas (gK g) (sYears (gK g) j (gW g)) := hm
      have gy : cG B (uWU g (sYears (gK g) j (gW g)) (sPush (gU g) (gW g))) y h0 := gy
      have hY := sYears_Y (gK g) j (gW g)
      obtain ⟨y2, r, z1, z2, z3, z4, z5⟩ := x_passes hD gy.2.1 is14 gy.2.2.1 (ill := 0) (by decide) (by show wY (sYears (gK g) j (gW g)) < 2000; omega)
      have z1 : fX5_passes D (B + 14) 0 (mk B y h0) = some (nI r, mk B y2 h0) := z1
      have z3 : pop r + cPas (gK g) (sYears (gK g) j (gW g)) = cPas (gK g) (sYear (gK g) (sYears (gK g) j (gW g)) 0) := z3
      have z5 : cAll B (gK g) (sYear (gK g) (sYears (gK g) j (gW g)) 0) 14 y2 := z5
      show Ok (fX0_years_L25 D B (nI n) s (nI m) (nI j) (mk B y h0)) _
      unfold fX0_years_L25
      rw [if_neg (nI_ge hj (by omega)), x0_F9, vA_s, st_cls is14, ckc_s, z1, bnd_s, bitCount_v z2, bnd_s, nI_add, nI_1]
      rw [← sYears_S] at z3 z5
      refine go (m + pop r, y2) ⟨by show m + pop r + _ = _; omega, ?_⟩
      have := gy.what z4 z5 (by rw [sYears_Y]; omega)
      rw [uWU_2] at this
      exact this
    · rintro s ⟨m, y⟩ ⟨hm, gy⟩
      have hm : m + cPas (gK g) (gW g) = cPas (gK g) (sYears (gK g) n (gW g)) := hm
      have gy : cG B (uWU g (sYears (gK g) n (gW g)) (sPush (gU g) (gW g))) y h0 := gy
      show Ok (fX0_years_L25 D B (nI n) s (nI m) (nI n) (mk B y h0)) _
      unfold fX0_years_L25
      rw [if_pos (nI_le (Nat.le_refl _) (by omega)), ← hm]
      refine Ok.of ⟨?_, y, rfl, gy⟩
      show nI m = nI (m + cPas (gK g) (gW g)) - nI (cPas (gK g) (gW g))
      rw [← nI_add, Int32.add_sub_cancel]
  obtain ⟨⟨r, h'⟩, e, q1, c', q2, q3⟩ := fin
  have q2 : h' = mk B c' h0 := q2
  exact ⟨c', by rw [e, q2]; cases q1; rfl, q3⟩
/-- the seed is written -/
theorem cG.seed (h : cG B g c h0) (v : Int64) : cG B (uS g v) (xL c 0 17 v) h0 := by
  obtain ⟨h0', h1, h2, h3, h4, h5, h6, h7, h8, h9, h10, h11⟩ := h
  refine ⟨h0', h1, h2, h3, h4, h5, h6, h7, h8, ?_, h10, h11⟩
  rw [cL_x, if_pos ⟨rfl, rfl⟩]
  rfl
theorem x_draw (h : cG B g c h0) : fX0_draw B 100 (mk B c h0) = some (sDr (sDraw (gS g)), mk B (xL c 0 17 (sDraw (gS g))) h0) := by
  have e9 : cL c 0 17 = gS g := h.2.2.2.2.2.2.2.2.2.1
  unfold fX0_draw
  rw [x0_F17, vJ_s, e9, x0_p17, bnv_s, x0_F17, vJ_s, cL_x, if_pos ⟨rfl, rfl⟩, ck_t (by decide)]
  rfl
end YE
