/-! PART 49: plain: the component: passes, years -/
set_option maxRecDepth 100000
theorem sMM_congr {w v : SW} {n p : Nat} (h0 : ∀ q, q < n → (wF v q).testBit 0 = (wF w q).testBit 0) (hM : wM v = wM w) : sMM v n p = sMM w n p := by
  cases e : sMM w n p with
  | true =>
    obtain ⟨q, h1, h2, h3, h4⟩ := (sMM_iff w n p).mp e
    exact (sMM_iff v n p).mpr ⟨q, h1, by rw [h0 q h1]; exact h2, by rw [hM]; exact h3, by rw [hM]; exact h4⟩
  | false =>
    cases e2 : sMM v n p with
    | false => rfl
    | true =>
      obtain ⟨q, h1, h2, h3, h4⟩ := (sMM_iff v n p).mp e2
      rw [h0 q h1] at h2
      rw [hM] at h3 h4
      rw [(sMM_iff w n p).mpr ⟨q, h1, h2, h3, h4⟩] at e
      cases e
/-- what becoming doctors changes -/
theorem sDoc_flag {k : SK} {w : SW} (h : wOk k w) : ∀ n, n ≤ kP k → wM (itN (sDocS k) n 0 w) = wM w ∧ (∀ q, q < kP k → (wF (itN (sDocS k) n 0 w) q).testBit 0 = (wF w q).testBit 0) ∧ ∀ q, q < kP k → (wF (itN (sDocS k) n 0 w) q).testBit 1 = ((wF w q).testBit 1 || (decide (q < n) && sMM w (kP k) q))
  | 0, _ => ⟨rfl, fun _ _ => rfl, fun q _ => by rw [decide_eq_false (Nat.not_lt_zero _), Bool.false_and, Bool.or_false]; rfl⟩
  | n + 1, hn => by
    obtain ⟨h1, h2, h3⟩ := sDoc_flag h n (by omega)
    have wk := sDoc_ok h n (by omega)
    rw [itN_S]
    generalize itN (sDocS k) n 0 w = v at h1 h2 h3 wk
    have mm : sMM v (kP k) n = sMM w (kP k) n := sMM_congr h2 h1
    have f4 := (wk.2.2 n (by omega)).2.2.2.2.2
    have e3 := h3 n (by omega)
    rw [decide_eq_false (Nat.lt_irrefl n), Bool.false_and, Bool.or_false] at e3
    have dl : ∀ q, q ≠ n → (decide (q < n + 1) && sMM w (kP k) q) = (decide (q < n) && sMM w (kP k) q) := fun q hq => by
      by_cases c : q < n
      · rw [decide_eq_true c, decide_eq_true (show q < n + 1 by omega)]
      · rw [decide_eq_false c, decide_eq_false (show ¬ q < n + 1 by omega)]
    unfold sDocS
    rw [mm]
    split
    next c =>
      refine ⟨h1, h2, fun q hq => ?_⟩
      by_cases e : q = n
      · rw [e, e3] at *
        rw [c]; rfl
      · rw [dl q e]; exact h3 q hq
    next c =>
      split
      next c2 =>
        refine ⟨h1, fun q hq => ?_, fun q hq => ?_⟩
        · show (wF (sBec v n 1) q).testBit 0 = _
          rw [wF_bec]
          split
          next e => rw [f_t _ f4 1 (by decide) 0 (by decide), e, h2 n (by omega)]; simp
          next => exact h2 q hq
        · show (wF (sBec v n 1) q).testBit 1 = _
          rw [wF_bec]
          split
          next e => rw [f_t _ f4 1 (by decide) 1 (by decide), e, c2, decide_eq_true (show n < n + 1 by omega)]; simp
          next e => rw [dl q e]; exact h3 q hq
      next c2 =>
        refine ⟨h1, h2, fun q hq => ?_⟩
        by_cases e : q = n
        · have c2 : sMM w (kP k) n = false := by simpa using c2
          rw [e, e3, c2, Bool.and_false, Bool.or_false]
        · rw [dl q e]; exact h3 q hq
section PA
variable {D : PD} {B : Nat} {k : SK} {nm : Nat → Nat → List Nat} {c : CZ} {h0 : PH} {w : SW} {s : Nat}
theorem x_set {Q : Int32 × PH → Prop} {K : Int32 → PH → Option (Int32 × PH)} (hx : cSc B k nm c h0) (hs : isS s) (hw : wOk k w) (ht : cSt k w s c) (hK : Ok (K (nI (sSet w (kP k))) (mk B c h0)) Q) : Ok (fx (fX5_passes_L20 (B + s) K) (fun _ _ _ => none) FU 0 0 (mk B c h0)) Q := by
  have h8 := hx.1.2.1
  have wl := sWho_lt w (kP k) 0 h8
  refine fx_okN (F := fX5_passes_L20 (B + s) K) (z := fun _ _ _ => none) (fun g j (a : Nat) => g (nI a) (nI j) (mk B c h0)) (kP k) (fun j a => a = sSet w j) Q ?_ ?_ FU 0 0 (Nat.zero_le _) rfl (FU_gt (by omega))
  · rintro g j a hj rfl go
    have lt := sSet_lt hx.1 hw j (by omega)
    have m1 := (hw.2.2 j hj).1
    rw [sSet_S] at go
    unfold sSetS at go
    show Ok (fX5_passes_L20 (B + s) K g (nI (sSet w j)) (nI j) (mk B c h0)) Q
    unfold fX5_passes_L20
    have hbit : (sWho w (kP k) 0).testBit j = (wF w j).testBit 0 := by rw [sWho_bit w 0 (kP k) h8 j (by omega), decide_eq_true hj, Bool.true_and]
    rw [st_F11 hs, vA_s, x0_cls, ckc_s, x_people hx, bnd_s, if_neg (nI_ge hj (by omega)), st_F1 hs, vI_s, ht.2.1, has_v wl (by omega), bnd_s, hbit]
    simp only [jn_s, nI_1]
    cases v1 : (wF w j).testBit 0 with
    | false =>
      rw [if_neg (by rw [v1]; simp)] at go
      rw [if_pos (by decide)]
      exact go _ rfl
    | true =>
      rw [if_neg (by decide), st_F4 hs, vA_s, st_m hs ht hj h8, ob_s]
      by_cases c1 : wM w j = 0
      · rw [if_neg (fun q => q.2.1 c1)] at go
        rw [if_pos (by rw [c1]; decide)]
        exact go _ rfl
      · have hm : wM w j - 1 < kP k := by omega
        have m2 := (hw.2.2 (wM w j - 1) hm).1
        rw [if_neg (m1_ne c1 (by omega)), vA_s, vA_s, st_m hs ht hj h8, ob_s, nI_m1 (by omega), st_m hs ht hm h8, ob_s]
        by_cases c2 : wM w (wM w j - 1) = 0
        · rw [if_neg (fun q => q.2.2 c2)] at go
          rw [if_pos (by rw [c2]; decide)]
          exact go _ rfl
        · rw [if_pos ⟨v1, c1, c2⟩] at go
          rw [if_neg (m1_ne c2 (by omega)), vA_s, vA_s, st_m hs ht hj h8, ob_s, nI_m1 (show 0 < wM w j by omega), st_m hs ht hm h8, ob_s, nI_m1 (show 0 < wM w (wM w j - 1) by omega), s_or _ lt _ (by omega)]
          exact go _ rfl
  · rintro g a rfl
    show Ok (fX5_passes_L20 (B + s) K g (nI (sSet w (kP k))) (nI (kP k)) (mk B c h0)) Q
    unfold fX5_passes_L20
    rw [st_F11 hs, vA_s, x0_cls, ckc_s, x_people hx, bnd_s, if_pos (nI_le (Nat.le_refl _) (by omega))]
    exact hK
theorem x_docs {Q : Int32 × PH → Prop} {K : PH → Option (Int32 × PH)} (hx : cSc B k nm c h0) (hs : isS s) (ha : cAll B k w s c) (hK : ∀ c', cTl s c c' → cRw B (wK (sDoc k w)) s c' → Ok (K (mk B c' h0)) Q) : Ok (fx (fX5_passes_L97 (B + s) (nI (sSet w (kP k))) K) (fun _ _ => none) FU 0 (mk B c h0)) Q := by
  have h8 := hx.1.2.1
  obtain ⟨hw, ht, hr⟩ := ha
  have wl := sWho_lt w (kP k) 1 h8
  have sl := sSet_lt hx.1 hw (kP k) (Nat.le_refl _)
  refine fx_okN (F := fX5_passes_L97 (B + s) (nI (sSet w (kP k))) K) (z := fun _ _ => none) (fun g j (b : CZ) => g (nI j) (mk B b h0)) (kP k) (fun j b => cTl s c b ∧ cRw B (wK (itN (sDocS k) j 0 w)) s b) Q ?_ ?_ FU 0 c (Nat.zero_le _) ⟨cTl.rf s c, hr⟩ (FU_gt (by omega))
  · rintro g j b hj ⟨hb, rb⟩ go
    have xb := hb.fr.sc hs hx
    have tb := hb.st ht
    obtain ⟨f1, f2, f3⟩ := sDoc_flag hw j (by omega)
    have fy := (sDoc_fr k j w).1
    rw [itN_S] at go
    generalize itN (sDocS k) j 0 w = v at rb f1 f2 f3 fy go
    have mm : sMM v (kP k) j = sMM w (kP k) j := sMM_congr f2 f1
    have e3 := f3 j hj
    rw [decide_eq_false (Nat.lt_irrefl j), Bool.false_and, Bool.or_false] at e3
    unfold sDocS at go
    rw [mm] at go
    show Ok (fX5_passes_L97 (B + s) (nI (sSet w (kP k))) K g (nI j) (mk B b h0)) Q
    unfold fX5_passes_L97
    have al := and_256 (b := 255 ^^^ sWho w (kP k) 1) sl
    have hbit : (sSet w (kP k) &&& (255 ^^^ sWho w (kP k) 1)).testBit j = (sMM w (kP k) j && !(wF w j).testBit 1) := by
      rw [Nat.testBit_and, sSet_bit hx.1 hw (by omega) (kP k) (Nat.le_refl _), xor255_bit (by omega), sWho_bit w 1 (kP k) h8 j (by omega), decide_eq_true hj, Bool.true_and]
    rw [st_F11 hs, vA_s, x0_cls, ckc_s, x_people xb, bnd_s, if_neg (nI_ge hj (by omega)), st_F2 hs, vI_s, tb.2.2.1, and_not _ _ sl, has_v al (by omega), bnd_s, hbit]
    simp only [jn_s]
    rw [← e3]
    cases v1 : (wF v j).testBit 1 with
    | true =>
      rw [if_pos v1] at go
      rw [Bool.not_true, Bool.and_false, if_pos (by decide), nI_1]
      exact go b ⟨hb, rb⟩
    | false =>
      rw [if_neg (by rw [v1]; decide)] at go
      rw [Bool.not_false, Bool.and_true]
      cases v2 : sMM w (kP k) j with
      | false =>
        rw [if_neg (by rw [v2]; decide)] at go
        rw [if_pos (by decide), nI_1]
        exact go b ⟨hb, rb⟩
      | true =>
        rw [if_pos v2] at go
        obtain ⟨b', q1, q2, q3⟩ := x_tells (h0 := h0) hs (w := v) j 2 rb (by rw [tb.1, fy])
        have q1 : fX5_tells (B + s) (nI j) 2 (mk B b h0) = some (mk B b' h0) := q1
        rw [if_neg (by decide), st_cls hs, ckc_s, q1, bnv_s, nI_1]
        exact go b' ⟨hb.tr q2, q3⟩
  · rintro g b ⟨hb, rb⟩
    have xb := hb.fr.sc hs hx
    show Ok (fX5_passes_L97 (B + s) (nI (sSet w (kP k))) K g (nI (kP k)) (mk B b h0)) Q
    unfold fX5_passes_L97
    rw [st_F11 hs, vA_s, x0_cls, ckc_s, x_people xb, bnd_s, if_pos (nI_le (Nat.le_refl _) (by omega))]
    exact hK b hb rb
theorem x_passes (hD : ∃ q, dS D 7 = va_rf q) (hx : cSc B k nm c h0) (hs : isS s) (ha : cAll B k w s c) {ill : Nat} (hi : ill < 256) (hy : wY w < 2000) : ∃ c' r, fX5_passes D (B + s) (nI ill) (mk B c h0) = some (nI r, mk B c' h0) ∧ r < 256 ∧ pop r + cPas k w = cPas k (sYear k w ill) ∧ cFr s c c' ∧ cAll B k (sYear k w ill) s c' := by
  have h8 := hx.1.2.1
  obtain ⟨hw, ht, hr⟩ := ha
  obtain ⟨c1, e1, t1, s1⟩ := x_teaches hD hx hs hw ht hi
  have w1 := sTau_ok hx.1 hw ill _ (Nat.le_refl _)
  have a1 : cAll B k (sTau k w ill) s c1 := ⟨w1, s1, by
    have : wK (sTau k w ill) = wK w := (sTau_fr k w ill _).1
    rw [this]
    exact t1.rw' hr⟩
  have x1 := t1.fr.sc hs hx
  obtain ⟨c2, e2, t2, a2⟩ := x_examines hD x1 hs a1 hi
  have x2 := t2.sc hs x1
  have fr2 : cFr s c c2 := t1.fr.tr t2
  have hz := sYear_ok hx.1 hw ill hy
  have hyy : wY (sExa k ill (sTau k w ill)) = wY w := by
    unfold sExa sTau
    rw [(sExa_fr k _ _ _).1, (sTau_fr k w ill _).2.2.2.1]
  have hyd : wY (sDoc k (sExa k ill (sTau k w ill))) = wY (sExa k ill (sTau k w ill)) := (sDoc_fr k _ _).1
  have pas := fun p hp h1 => sYear_pas hx.1 hw ill (p := p) hp h1
  have hYe : sYear k w ill = uY (sDoc k (sExa k ill (sTau k w ill))) (wY (sDoc k (sExa k ill (sTau k w ill))) + 1) := rfl
  rw [hYe] at pas hz ⊢
  generalize sExa k ill (sTau k w ill) = v at a2 hyy hyd pas hz ⊢
  obtain ⟨hv, sv, rv⟩ := a2
  obtain ⟨f1, f2, f3⟩ := sDoc_flag hv (kP k) (Nat.le_refl _)
  have f1 : wM (sDoc k v) = wM v := f1
  have f2 : ∀ q, q < kP k → (wF (sDoc k v) q).testBit 0 = (wF v q).testBit 0 := f2
  have f3 : ∀ q, q < kP k → (wF (sDoc k v) q).testBit 1 = ((wF v q).testBit 1 || sMM v (kP k) q) := fun q hq => by
    have := f3 q hq
    rw [decide_eq_true hq, Bool.true_and] at this
    exact this
  have fd : ∀ u : SW, (wR u = wR v ∧ wW u = wW v ∧ wL' u = wL' v) → ∀ p, (wR (sDocS k p u) = wR v ∧ wW (sDocS k p u) = wW v ∧ wL' (sDocS k p u) = wL' v) := fun u hu p => by
    unfold sDocS
    split
    · exact hu
    · split
      · exact hu
      · exact hu
  have fd : wR (sDoc k v) = wR v ∧ wW (sDoc k v) = wW v ∧ wL' (sDoc k v) = wL' v := itN_inv (Inv := fun _ u => wR u = wR v ∧ wW u = wW v ∧ wL' u = wL' v) (m := kP k) (st := sDocS k) (fun j u _ hu => fd u hu j) (kP k) 0 v (by omega) ⟨rfl, rfl, rfl⟩
  have l0 := sWho_lt v (kP k) 0 h8
  have l1 := sWho_lt v (kP k) 1 h8
  have sl := sSet_lt x2.1 hv (kP k) (Nat.le_refl _)
  have e0 : sWho (sDoc k v) (kP k) 0 = sWho v (kP k) 0 := set_ext _ (sWho_lt _ _ _ h8) _ l0 (fun j hj => by
    rw [sWho_bit _ _ _ h8 j hj, sWho_bit _ _ _ h8 j hj]
    by_cases q : j < kP k
    · rw [f2 j q]
    · rw [decide_eq_false q, Bool.false_and, Bool.false_and])
  have e1' : sWho (sDoc k v) (kP k) 1 = sWho v (kP k) 1 ||| sSet v (kP k) := set_ext _ (sWho_lt _ _ _ h8) _ (or_256 l1 sl) (fun j hj => by
    rw [sWho_bit _ _ _ h8 j hj, Nat.testBit_or, sWho_bit _ _ _ h8 j hj, sSet_bit x2.1 hv hj (kP k) (Nat.le_refl _)]
    by_cases q : j < kP k
    · rw [f3 j q, decide_eq_true q, Bool.true_and, Bool.true_and]
    · rw [decide_eq_false q, Bool.false_and, Bool.false_and, Bool.false_or]
      cases e : sMM v (kP k) j with
      | false => rfl
      | true =>
        obtain ⟨z, z1, z2, z3, z4⟩ := (sMM_iff v (kP k) j).mp e
        have m1 := (hv.2.2 z z1).1
        have m2 := (hv.2.2 (wM v z - 1) (by omega)).1
        omega)
  have fin : Ok (fX5_passes D (B + s) (nI ill) (mk B c h0)) (fun r => ∃ c' m, r = (nI m, mk B c' h0) ∧ m < 256 ∧ pop m + cPas k w = cPas k (uY (sDoc k v) (wY (sDoc k v) + 1)) ∧ cFr s c c' ∧ cAll B k (uY (sDoc k v) (wY (sDoc k v) + 1)) s c') := by
    unfold fX5_passes
    rw [st_F1 hs, vI_s, ht.2.1, st_cls hs, ckc_s, e1, bnv_s, st_cls hs, ckc_s, e2, bnv_s]
    simp only [jn_s]
    refine x_set x2 hs hv sv (x_docs x2 hs ⟨hv, sv, rv⟩ (fun c3 t3 r3 => ?_))
    have s3 := t3.st sv
    show Ok (vI (pF (mk B c3 h0) (B + s) 5 2) fun v2 => bnv (pPut (mk B c3 h0) (B + s) 5 2 (.int (v2 ||| nI (sSet v (kP k))))) fun h5 => vI (pF h5 (B + s) 5 0) fun v3 => bnv (pPut h5 (B + s) 5 0 (.int (v3 + 1))) fun h6 => vI (pF h6 (B + s) 5 1) fun v4 => some ((v4 &&& (nI (sWho w (kP k) 0) ^^^ (-1))), h6)) _
    rw [st_F2 hs, vI_s, s3.2.2.1, nI_or, st_p2 hs, bnv_s, st_F0 hs, vI_s, cI_x, if_neg (by omega), s3.1, nI_1, st_p0 hs, bnv_s, st_F1 hs, vI_s, cI_x, if_neg (by omega), cI_x, if_neg (by omega), s3.2.1, and_not _ _ l0]
    refine Ok.of ⟨_, _, rfl, and_256 l0, ?_, (fr2.tr t3.fr).tr ((cFr.x c3 (by omega) _ _).tr (cFr.x _ (by omega) _ _)), hz, ⟨?_, ?_, ?_, fun p hp => ?_⟩, ?_⟩
    · rw [cPas_pop hx.1, cPas_pop hx.1]
      have e0' : sWho (uY (sDoc k v) (wY (sDoc k v) + 1)) (kP k) 0 = sWho v (kP k) 0 := e0
      rw [e0', pop_cnt _ (and_256 l0), pop_cnt _ (sWho_lt w _ _ h8), pop_cnt _ l0]
      refine cnt_add 8 (fun q hq => ?_)
      rw [Nat.testBit_and, xor255_bit hq, sWho_bit v 0 (kP k) h8 q hq, sWho_bit w 0 (kP k) h8 q hq]
      by_cases hqk : q < kP k
      · rw [decide_eq_true hqk, Bool.true_and, Bool.true_and]
        cases a : (wF w q).testBit 0 with
        | false => cases (wF v q).testBit 0 <;> rfl
        | true =>
          have := pas q hqk a
          have this : (wF (sDoc k v) q).testBit 0 = true := this
          rw [f2 q hqk] at this
          rw [this]
          rfl
      · rw [decide_eq_false hqk, Bool.false_and, Bool.false_and]
        rfl
    · rw [cI_x, if_pos ⟨rfl, rfl⟩]
      show _ = nI (wY (sDoc k v) + 1)
      rw [hyd]
    · rw [cI_x, if_neg (by omega), cI_x, if_neg (by omega), s3.2.1]
      exact congrArg nI e0.symm
    · rw [cI_x, if_neg (by omega), cI_x, if_pos ⟨rfl, rfl⟩]
      exact congrArg nI e1'.symm
    · obtain ⟨z1, z2, z3, z4⟩ := s3.2.2.2 p hp
      rw [cI_x, if_neg (by omega), cI_x, if_neg (by omega), cI_x, if_neg (by omega), cI_x, if_neg (by omega), cI_x, if_neg (by omega), cI_x, if_neg (by omega), cI_x, if_neg (by omega), cI_x, if_neg (by omega), z1, z2, z3, z4]
      refine ⟨?_, ?_, ?_, ?_⟩
      · show _ = nI (wM (sDoc k v) p) - 1
        rw [f1]
      · show _ = nI (wR (sDoc k v) p)
        rw [fd.1]
      · show _ = nI (wW (sDoc k v) p)
        rw [fd.2.1]
      · show _ = nI (wL' (sDoc k v) p)
        rw [fd.2.2]
    · exact (r3.i (by omega) _).i (by omega) _
  obtain ⟨r, e, c', m, rfl, q1, q2, q3, q4⟩ := fin
  exact ⟨c', m, e, q1, q2, q3, q4⟩
theorem x_years (hD : ∃ q, dS D 7 = va_rf q) (hx : cSc B k nm c h0) (hs : isS s) (ha : cAll B k w s c) {n : Nat} (hy : wY w + n ≤ 2000) : ∃ c', fX5_years D (B + s) (nI n) (mk B c h0) = some (B + s, mk B c' h0) ∧ cFr s c c' ∧ cAll B k (sYears k n w) s c' := by
  have fin : Ok (fX5_years D (B + s) (nI n) (mk B c h0)) (fun r => ∃ c', r = (B + s, mk B c' h0) ∧ cFr s c c' ∧ cAll B k (sYears k n w) s c') := by
    unfold fX5_years
    refine fx_okN (F := fX5_years_L2 D (B + s) (nI n)) (z := fun _ _ => none) (fun g j (b : CZ) => g (nI j) (mk B b h0)) n (fun j b => cFr s c b ∧ cAll B k (sYears k j w) s b) _ ?_ ?_ FU 0 c (Nat.zero_le _) ⟨cFr.rf s c, ha⟩ (FU_gt (by omega))
    · rintro g j b hj ⟨hb, ab⟩ go
      have := sYears_Y k j w
      obtain ⟨b', r, e, -, -, q1, q2⟩ := x_passes hD (hb.sc hs hx) hs ab (ill := 0) (by decide) (by omega)
      have e : fX5_passes D (B + s) 0 (mk B b h0) = some (nI r, mk B b' h0) := e
      show Ok (fX5_years_L2 D (B + s) (nI n) g (nI j) (mk B b h0)) _
      unfold fX5_years_L2
      rw [if_neg (nI_ge hj (by omega)), st_cls hs, ckc_s, e, bnd_s, nI_1]
      refine go b' ⟨hb.tr q1, ?_⟩
      unfold sYears
      rw [itN_S]
      exact q2
    · rintro g b ⟨hb, ab⟩
      show Ok (fX5_years_L2 D (B + s) (nI n) g (nI n) (mk B b h0)) _
      unfold fX5_years_L2
      rw [if_pos (nI_le (Nat.le_refl _) (by omega))]
      exact Ok.of ⟨b, rfl, hb, ab⟩
  obtain ⟨r, e, c', rfl, q1, q2⟩ := fin
  exact ⟨c', e, q1, q2⟩
end PA
