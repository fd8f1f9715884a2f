/-! PART 64: plain: the component acts: chance -/
set_option maxRecDepth 100000
section CH
variable {D : PD} {B : Nat} {g : SG} {c c' : CZ} {h0 : PH}
theorem uS_2 (g : SG) (v v' : Int64) : uS (uS g v) v' = uS g v' := rfl
theorem uS_own (g : SG) : uS g (gS g) = g := rfl
/-- one draw of a year -/
theorem x_chance_s0 {K : Int32 → PH → Option (Int32 × PH)} {s : Int32 → Int32 → PH → Option (Int32 × PH)} {i : Nat} {v : Int64} {d : Int32} (h : cSc B (gK g) (gN g) c h0) (hi : i < kP (gK g)) (a : Int32) (hd : fX0_draw B 100 (mk B c h0) = some (d, mk B (xL c 0 17 v) h0)) : fX0_chance_L36 B K s a (nI i) (mk B c h0) = if nI (kSe (gK g) 2) ≤ d then s a (nI (i + 1)) (mk B (xL c 0 17 v) h0) else s (a ||| (1 <<< (nI i &&& 31))) (nI (i + 1)) (mk B (xL c 0 17 v) h0) := by
  have h8 := h.1.2.1
  have h2 : cSc B (gK g) (gN g) (xL c 0 17 v) h0 := h.q rfl
  obtain ⟨sa, f0, -, b, st, fl, pl, tq, fo, po, g1, -⟩ := h2.F0
  unfold fX0_chance_L36
  rw [x0_cls, ckc_s, x_people h, bnd_s, if_neg (nI_ge hi (by omega)), x0_cls, ckc_s, hd, bnd_s, f0, vA_s, pF_of (k := 3) g1 rfl, vI_s]
  simp only [jn_s, nI_1]
  by_cases cd : nI (kSe (gK g) 2) ≤ d
  · rw [if_pos cd, if_pos cd, Int32.or_zero]
  · rw [if_neg cd, if_neg cd]
theorem x_chance_s {K : Int32 → PH → Option (Int32 × PH)} {s : Int32 → Int32 → PH → Option (Int32 × PH)} {i : Nat} (h : cG B g c h0) (hi : i < kP (gK g)) (a : Int32) : fX0_chance_L36 B K s a (nI i) (mk B c h0) = if nI (kSe (gK g) 2) ≤ sDr (sDraw (gS g)) then s a (nI (i + 1)) (mk B (xL c 0 17 (sDraw (gS g))) h0) else s (a ||| (1 <<< (nI i &&& 31))) (nI (i + 1)) (mk B (xL c 0 17 (sDraw (gS g))) h0) := x_chance_s0 h.2.1 hi a (x_draw h)
theorem x_chance_e {K : Int32 → PH → Option (Int32 × PH)} {s : Int32 → Int32 → PH → Option (Int32 × PH)} (h : cG B g c h0) (a : Int32) : fX0_chance_L36 B K s a (nI (kP (gK g))) (mk B c h0) = K a (mk B c h0) := by
  have h8 := h.2.1.1.2.1
  unfold fX0_chance_L36
  rw [x0_cls, ckc_s, x_people h.2.1, bnd_s, if_pos (nI_le (Nat.le_refl _) (by omega))]
/-- the draws of one year -/
theorem x_chance_in {Q : Int32 × PH → Prop} {K : Int32 → PH → Option (Int32 × PH)} (h : cG B g c h0)
    (hK : ∀ c2, cG B (uS g (sIll (gK g) (gS g) (kP (gK g))).2) c2 h0 → Ok (K (nI (sIll (gK g) (gS g) (kP (gK g))).1) (mk B c2 h0)) Q) : Ok (fx (fX0_chance_L36 B K) (fun _ _ _ => none) FU 0 0 (mk B c h0)) Q := by
  have h8 := h.2.1.1.2.1
  refine fx_okN (F := fX0_chance_L36 B K) (z := fun _ _ _ => none) (fun s i (b : Nat × CZ) => s (nI b.1) (nI i) (mk B b.2 h0)) (kP (gK g)) (fun i b => b.1 = (sIll (gK g) (gS g) i).1 ∧ cG B (uS g (sIll (gK g) (gS g) i).2) b.2 h0) Q ?_ ?_ FU 0 (0, c) (Nat.zero_le _) (by rw [sIll_0]; exact ⟨rfl, h⟩) (FU_gt (by omega))
  · rintro s2 i ⟨ill, x2⟩ hi ⟨hill, gx⟩ go2
    have hill : ill = (sIll (gK g) (gS g) i).1 := hill
    have gx : cG B (uS g (sIll (gK g) (gS g) i).2) x2 h0 := gx
    have hlt := sIll_lt (gK g) (gS g) i (by omega)
    rw [sIll_S] at go2
    rw [← hill] at hlt
    generalize sIll (gK g) (gS g) i = t at hill gx go2
    have st := x_chance_s (K := K) (s := s2) (i := i) gx hi (nI ill)
    have st : fX0_chance_L36 B K s2 (nI ill) (nI i) (mk B x2 h0) = if nI (kSe (gK g) 2) ≤ sDr (sDraw t.2) then s2 (nI ill) (nI (i + 1)) (mk B (xL x2 0 17 (sDraw t.2)) h0) else s2 (nI ill ||| (1 <<< (nI i &&& 31))) (nI (i + 1)) (mk B (xL x2 0 17 (sDraw t.2)) h0) := st
    show Ok (fX0_chance_L36 B K s2 (nI ill) (nI i) (mk B x2 h0)) Q
    rw [st]
    unfold sIllS at go2
    have gv := gx.seed (sDraw t.2)
    rw [uS_2] at gv
    generalize sDraw t.2 = v at go2 gv ⊢
    generalize sDr v = d at go2 ⊢
    by_cases cd : nI (kSe (gK g) 2) ≤ d
    · rw [if_pos cd] at go2
      rw [if_pos cd]
      exact go2 (ill, _) ⟨hill, gv⟩
    · rw [if_neg cd] at go2
      rw [if_neg cd, s_or ill hlt i (by omega)]
      exact go2 (ill ||| 2 ^ i, _) ⟨by rw [hill], gv⟩
  · rintro s2 ⟨ill, x2⟩ ⟨hill, gx⟩
    have hill : ill = (sIll (gK g) (gS g) (kP (gK g))).1 := hill
    have gx : cG B (uS g (sIll (gK g) (gS g) (kP (gK g))).2) x2 h0 := gx
    have st := x_chance_e (K := K) (s := s2) gx (nI ill)
    have st : fX0_chance_L36 B K s2 (nI ill) (nI (kP (gK g))) (mk B x2 h0) = K (nI ill) (mk B x2 h0) := st
    show Ok (fX0_chance_L36 B K s2 (nI ill) (nI (kP (gK g))) (mk B x2 h0)) Q
    rw [st, hill]
    exact hK x2 gx
theorem uWS (g : SG) (w w' : SW) (us us' : List SW) (v : Int64) : uWU (uS (uWU g w us) v) w' us' = uS (uWU g w' us') v := rfl
theorem x_chance (hD : ∃ q, dS D 7 = va_rf q) (h : cG B g c h0) (a : Int32) : ∃ c', fX0_chance D B a (mk B c h0) = some ((spChance g a).1, mk B c' h0) ∧ cG B (spChance g a).2 c' h0 := by
  have h1 := h.2.1
  have hk := h1.1
  have h8 := hk.2.1
  have now := h.2.2.1
  have fin : Ok (fX0_chance D B a (mk B c h0)) (fun r => r.1 = (spChance g a).1 ∧ ∃ c', r.2 = mk B c' h0 ∧ cG B (spChance g a).2 c' h0) := by
    unfold fX0_chance spChance
    rw [x0_cls, ckc_s, x_isAhead now.1 now.2.1 _ 1 100 (by decide) (by decide), bnd_s, show (1 : Int32).toInt = 1 from by decide, show (100 : Int32).toInt = 100 from by decide]
    cases e1 : sAh (gW g) a 1 100 with
    | false =>
      obtain ⟨c', q1, q2⟩ := x_refuses h (i := 3) (by decide)
      have q1 : fX0_refuses B 3 (mk B c h0) = _ := q1
      rw [if_pos (by decide), if_neg (by decide), x0_cls, ckc_s, q1, bnd_s]
      exact Ok.of ⟨rfl, c', rfl, q2⟩
    | true =>
    obtain ⟨n, rfl, -, h100, h99⟩ := sAh_nat e1 (by decide) (by decide)
    obtain ⟨c1, q1, q2⟩ := x_keeps h
    rw [if_neg (by decide), if_pos rfl, nI_c (by omega), x0_cls, ckc_s, q1, bnv_s]
    refine fx_okN (F := fX0_chance_L25 D B (nI n)) (z := fun _ _ _ => none) (fun s j (b : Nat × CZ) => s (nI b.1) (nI j) (mk B b.2 h0)) n (fun j b => b.1 = (sCha (gK g) j (gW g) (gS g)).1 ∧ cG B (uS (uWU g (sCha (gK g) j (gW g) (gS g)).2.1 (sPush (gU g) (gW g))) (sCha (gK g) j (gW g) (gS g)).2.2) b.2 h0) _ ?_ ?_ FU 0 (0, c1) (Nat.zero_le _) (by rw [sCha_0]; exact ⟨rfl, q2⟩) (FU_gt (by omega))
    · rintro s j ⟨m, y⟩ hj ⟨hm, gy⟩ go
      have hm : m = (sCha (gK g) j (gW g) (gS g)).1 := hm
      have gy : cG B (uS (uWU g (sCha (gK g) j (gW g) (gS g)).2.1 (sPush (gU g) (gW g))) (sCha (gK g) j (gW g) (gS g)).2.2) y h0 := gy
      have hyr := (sCha_Y (gK g) (gW g) (gS g) j).1
      rw [sCha_S] at go
      generalize sCha (gK g) j (gW g) (gS g) = t at hm gy go hyr
      show Ok (fX0_chance_L25 D B (nI n) s (nI m) (nI j) (mk B y h0)) _
      unfold fX0_chance_L25
      rw [if_neg (nI_ge hj (by omega)), jn_s]
      refine x_chance_in gy (fun y2 g2 => ?_)
      have hlt := sIll_lt (gK g) t.2.2 (kP (gK g)) h8
      have g2 : cG B (uS (uWU g t.2.1 (sPush (gU g) (gW g))) (sIll (gK g) t.2.2 (kP (gK g))).2) y2 h0 := g2
      unfold sChaS at go
      show Ok (bnd (fJ16_bitCount (nI (sIll (gK g) t.2.2 (kP (gK g))).1) (mk B y2 h0)) fun r2 h5 => vA (pF h5 B 0 9) fun p1 => ckc (pCls h5 p1) 5 <| bnd (fX5_passes D p1 (nI (sIll (gK g) t.2.2 (kP (gK g))).1) h5) fun r3 h6 => s (nI m + r2) (nI j + 1) h6) _
      generalize sIll (gK g) t.2.2 (kP (gK g)) = i at g2 hlt go
      obtain ⟨y3, r, z1, z2, z3, z4, z5⟩ := x_passes hD g2.2.1 is14 g2.2.2.1 (ill := i.1) hlt (by show wY t.2.1 < 2000; omega)
      have z5 : cAll B (gK g) (sYear (gK g) t.2.1 i.1) 14 y3 := z5
      rw [bitCount_v hlt, bnd_s, x0_F9, vA_s, st_cls is14, ckc_s, z1, bnd_s, nI_add, nI_1]
      refine go (m + pop i.1, y3) ⟨by rw [hm], ?_⟩
      have := g2.what z4 z5 (by rw [sYear_Y]; omega)
      have e : uWU (uS (uWU g t.2.1 (sPush (gU g) (gW g))) i.2) (sYear (gK g) t.2.1 i.1) (sPush (gU g) (gW g)) = uS (uWU g (sYear (gK g) t.2.1 i.1) (sPush (gU g) (gW g))) i.2 := uWS _ _ _ _ _ _
      have this : cG B (uWU (uS (uWU g t.2.1 (sPush (gU g) (gW g))) i.2) (sYear (gK g) t.2.1 i.1) (sPush (gU g) (gW g))) y3 h0 := this
      rw [e] at this
      exact this
    · rintro s ⟨m, y⟩ ⟨hm, gy⟩
      have hm : m = (sCha (gK g) n (gW g) (gS g)).1 := hm
      show Ok (fX0_chance_L25 D B (nI n) s (nI m) (nI n) (mk B y h0)) _
      unfold fX0_chance_L25
      rw [if_pos (nI_le (Nat.le_refl _) (by omega)), hm]
      exact Ok.of ⟨rfl, y, rfl, gy⟩
  obtain ⟨⟨r, h'⟩, e, q1, c', q2, q3⟩ := fin
  have q2 : h' = mk B c' h0 := q2
  exact ⟨c', by rw [e, q2]; cases q1; rfl, q3⟩
end CH
