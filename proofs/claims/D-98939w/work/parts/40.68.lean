/-! PART 68: plain: the component that only asks: letter -/
set_option maxRecDepth 100000
theorem str_len {D : PD} {P : Nat → Prop} {h : PH} {a : Nat} {l : List Nat} (hS : dS D 4 = .int 1) (g : strP P h a l) : pCls h a = some 22 ∧ fJ6_length D a h = some (nI l.length, h) := by
  obtain ⟨-, b1, b2, x, y, ba, f, -, g2, g3, g4⟩ := g
  refine ⟨pCls_of g2, ?_⟩
  unfold fJ6_length fJ6_coder
  rw [pF_of (k := 0) g2 rfl, vA_s, pArr_of g3, ob_s, pCls_of g2, ckc_s, hS, vI_s, if_neg (by decide), pF_of (k := 1) g2 rfl, vI_s, ck_t (by decide), bnd_s, shr0]
theorem str_at {D : PD} {P : Nat → Prop} {h : PH} {a : Nat} {l : List Nat} (hD : ∃ q, dS D 7 = va_rf q) (hS : dS D 4 = .int 1) (g : strP P h a l) {i : Nat} (hi : i < l.length) (hl : l.length < 2 ^ 31) (h128 : l.getD i 0 + 96 < 128) : fJ6_charAt D a (nI i) h = some (nI (l.getD i 0 + 96), h) := by
  obtain ⟨q, hq⟩ := hD
  obtain ⟨-, b1, b2, x, y, ba, f, -, g2, g3, g4⟩ := g
  obtain ⟨c1, c2⟩ := chr_v _ h128
  unfold fJ6_charAt fJ6_isLatin1
  rw [pCls_of g2, ckc_s, hS, vI_s, jn_s, if_neg (by decide), pF_of (k := 1) g2 rfl, vI_s, if_pos rfl, bnd_s, if_neg (by decide), pF_of (k := 0) g2 rfl, vA_s]
  unfold fJ9_charAt fJ6_checkIndex fJ8_checkIndex
  rw [pArr_of g3, ob_s, hq, vQ_s, jn_s, if_neg (nI_pos (show i < 2 ^ 31 by omega)), if_pos (nI_lt hi (by omega)), bnd_s, bnv_s, pLd_of g3 hi (by omega), ob_s, g4 i hi, c1, ck_t (by rw [c2]; exact decide_eq_true rfl), bnd_s, ck_t (by rw [c2]; exact decide_eq_true rfl)]
section LE
variable {D : PD} {B : Nat} {g : SG} {c : CZ} {h0 : PH}
theorem let_1 : ∀ n, n ≤ 26 → (nI (n + 96) - 97) + 1 = nI n := by decide +kernel
/-- a letter of a name, of a Fact or a Person at a -/
theorem x_letter7 {P : Nat → Prop} {h : PH} {a n : Nat} {l : List Nat} (hD : ∃ q, dS D 7 = va_rf q) (hS : dS D 4 = .int 1) (hp : pF2 h a 7 8 0 = some (.ref n)) (hs : strP P h n l) (hn : nmOk l) {i : Nat} (hi : i ≤ 5) : fX7_letter D a (nI i) h = some (nI (l.getD i 0), h) := by
  obtain ⟨n1, n6, n26⟩ := hn
  obtain ⟨s1, s2⟩ := str_len hS hs
  unfold fX7_letter
  rw [hp, vA_s, s1, ckc_s, s2, bnd_s]
  by_cases ci : l.length ≤ i
  · rw [if_pos (nI_le ci (by omega))]
    have : l.getD i 0 = 0 := by simp [List.getD, List.getElem?_eq_none ci]
    rw [this]
    rfl
  · have hm := (n26 _ (getD_mem (show i < l.length by omega))).2
    rw [if_neg (nI_ge (by omega) (by omega)), hp, vA_s, s1, ckc_s, str_at hD hS hs (show i < l.length by omega) (by omega) (by omega), bnd_s, let_1 _ hm]
theorem x_letter (hD : ∃ q, dS D 7 = va_rf q) (hS : dS D 4 = .int 1) (h : cG B g c h0) (a b i : Int32) : fX0_letter D B a b i (mk B c h0) = some (spLetter g a b i, mk B c h0) := by
  have h1 := h.2.1
  have hF8 := h1.1.1
  have h8 := h1.1.2.1
  have hnm := h.1.2.2.2.2.2.1
  obtain ⟨sa, f0, -, b0, st, fl, pl, tq, fo, po, g1, g2, g3, g4, g5, -⟩ := h1.F0
  unfold fX0_letter spLetter
  rw [x_is, bnd_s, show (0 : Int32).toInt = 0 from by decide, show (5 : Int32).toInt = 5 from by decide]
  cases e3 : sIn i 0 5 with
  | false => rw [if_pos (by decide), if_neg (by simp)]
  | true =>
  rw [if_neg (by decide), x_is, bnd_s, show (0 : Int32).toInt = 0 from by decide, show (1 : Int32).toInt = 1 from by decide]
  cases e1 : sIn a 0 1 with
  | false => rw [if_pos (by decide), if_neg (by simp)]
  | true =>
  obtain ⟨i, rfl, -, hi⟩ := sIn_nat e3 (by decide) (by decide)
  obtain ⟨kd, rfl, -, hkd⟩ := sIn_nat e1 (by decide) (by decide)
  rw [if_neg (by decide), nI_c (show i < 2 ^ 31 by omega), nI_c (show kd < 2 ^ 31 by omega)]
  simp only [jn_s]
  by_cases cb : 0 ≤ b
  · have nb : ¬ b < 0 := fun q => by
      have := Int32.lt_iff_toInt_lt.mp q
      have := Int32.le_iff_toInt_le.mp cb
      omega
    obtain ⟨j, hj, rfl⟩ := nI_of nb
    rw [if_pos cb, nI_c hj]
    have out : ∀ {n : Nat}, n ≤ 8 → ¬ j < n → sPn n (nI j) = false := fun {n} hn hc => by
      cases q : sPn n (nI j) with
      | false => rfl
      | true =>
        obtain ⟨m, hm, e⟩ := sPn_nat q hn
        have := (nI_eq hj (by omega)).mp e
        omega
    rcases (show kd = 0 ∨ kd = 1 by omega) with rfl | rfl
    · have kn : kN (gK g) 0 = kF (gK g) := rfl
      rw [if_pos (show nI 0 = 0 from rfl), f0, vA_s, pF_of (k := 4) g1 rfl, vA_s, l_cls g2, ckc_s, l_size g2, bnd_s, kn]
      by_cases cj : j < kF (gK g)
      · obtain ⟨-, b', n, e, hs⟩ := g4 j cj
        have hp : pF2 (mk B c h0) (fo j) 7 8 0 = some (.ref n) := by
          unfold pF2
          rw [pF_of (k := 0) e rfl]
        have hx := x_letter7 hD hS hp hs (hnm 0 j (by decide) cj) (show i ≤ 5 by omega)
        rw [if_neg (nI_ge cj (by omega)), l_cls g2, ckc_s, l_get g2 cj, bnd_s, qS_s, pCls_of e, if_pos ⟨trivial, sPn_of cj hF8, trivial⟩]
        unfold ck2
        rw [if_pos (Or.inl rfl), hx, bnd_s, if_pos (Or.inl rfl)]
      · rw [if_pos (nI_le (by omega) hj), if_neg (fun q => by rw [out hF8 cj] at q; cases q.2.1)]
    · have kn : kN (gK g) 1 = kP (gK g) := rfl
      rw [if_neg (by decide), f0, vA_s, pF_of (k := 5) g1 rfl, vA_s, l_cls g3, ckc_s, l_size g3, bnd_s, kn]
      by_cases cj : j < kP (gK g)
      · obtain ⟨-, b', n, m, r, w, e, hs⟩ := g5 j cj
        have hp : pF2 (mk B c h0) (po j) 7 8 0 = some (.ref n) := by
          unfold pF2
          have e7 : pF (mk B c h0) (po j) 7 0 = none := by
            unfold pF
            rw [e]
            rfl
          rw [e7, pF_of (k := 0) e rfl]
        have hx := x_letter7 hD hS hp hs (hnm 1 j (by decide) cj) (show i ≤ 5 by omega)
        rw [if_neg (nI_ge cj (by omega)), l_cls g3, ckc_s, l_get g3 cj, bnd_s, qS_s, pCls_of e, if_pos ⟨trivial, sPn_of cj h8, trivial⟩]
        unfold ck2
        rw [if_pos (Or.inr rfl), hx, bnd_s, if_pos (Or.inr rfl)]
      · rw [if_pos (nI_le (by omega) hj), if_neg (fun q => by rw [out h8 cj] at q; cases q.2.1)]
  · rw [if_neg cb, if_neg]
    rintro ⟨-, q, -⟩
    have hk : kN (gK g) kd ≤ 8 := by
      rcases (show kd = 0 ∨ kd = 1 by omega) with rfl | rfl
      · exact hF8
      · exact h8
    obtain ⟨m, hm, rfl⟩ := sPn_nat q hk
    exact cb (Int32.le_iff_toInt_le.mpr (by rw [nI_toInt (by omega), show (0 : Int32).toInt = 0 from by decide]; omega))
end LE
