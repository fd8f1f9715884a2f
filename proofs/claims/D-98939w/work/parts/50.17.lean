/-! PART 17: plain: rows of signs that grow -/
set_option maxRecDepth 100000
theorem shr_0 (x : Int32) : x >>> ((0 : Int32) &&& 31) = x := by
  rw [show (0 : Int32) &&& 31 = 0 from by decide]
  exact Int32.shiftRight_zero
theorem shl_0 (x : Int32) : x <<< ((0 : Int32) &&& 31) = x := by
  rw [show (0 : Int32) &&& 31 = 0 from by decide]
  exact Int32.shiftLeft_zero
theorem fit_bv : ∀ v, v < 128 → fits (kTy 2) (.int (nI v)) = true := by decide +kernel
theorem allFit_of (f : Nat → Int32) (hf : ∀ i, ∃ v, v < 128 ∧ f i = nI v) : ∀ n, allFit 2 f n = true
  | 0 => rfl
  | n + 1 => by
    show (allFit 2 f n && fits (kTy 2) (.int (f n))) = true
    obtain ⟨v, v1, v2⟩ := hf n
    rw [allFit_of f hf n, v2, fit_bv v v1]
    rfl
/-- a row of signs of this call at sb, its bytes at ba -/
def sbW (lo : Nat) (h : PH) (sb ba ln : Nat) (sg : Nat → Nat) (n : Nat) : Prop := (lo ≤ sb ∧ sb < h.1) ∧ (lo ≤ ba ∧ ba < h.1 ∧ ba ≠ sb) ∧ ∃ (x : Int32) (f : Nat → Int32), h.2.2 sb = some (true, .inr (23, [.ref ba, .int 0, .int x, .int (nI n)])) ∧ h.2.2 ba = some (true, .inl (2, ln, .inl f)) ∧ n ≤ ln ∧ 16 ≤ ln ∧ ln ≤ 2 * n + 16 ∧ n ≤ 800 ∧ (∀ i, ∃ v, v < 128 ∧ f i = nI v) ∧ ∀ i, i < n → f i = nI (sg i)
section SJ
variable {B : Nat} {D : PD} {cap : Nat × Nat} {c : CZ} {h : PH}
theorem mk_pCpI {a0 a n0 n1 k : Nat} {b0 : Bool} {f g : Nat → Int32} (ho0 : outB B a0) (ho : outB B a) (h0 : h.2.2 a0 = some (b0, .inl (2, n0, .inl f))) (h1 : h.2.2 a = some (true, .inl (2, n1, .inl g))) (k0 : k ≤ n0) (k1 : k ≤ n1) (k2 : k < 2 ^ 31) (hne : a0 ≠ a) (hel : allFit 2 f k = true) : pCpI (mk B c h) a0 a 2 (nI k) = some (mk B c (pPutE h a (.inl (2, n1, .inl (va_cpy f g 0 0 k))))) := by
  unfold pCpI
  rw [mk_out ho0, mk_out ho, h0, h1]
  show (if (2 : Nat) = 2 ∧ (2 : Nat) = 2 ∧ ¬ nI k < 0 ∧ (nI k).toNatClampNeg ≤ n0 ∧ (nI k).toNatClampNeg ≤ n1 ∧ a0 ≠ a ∧ allFit 2 f (nI k).toNatClampNeg = true then some (pPutE (mk B c h) a (.inl (2, n1, .inl (va_cpy f g 0 0 (nI k).toNatClampNeg)))) else none) = _
  rw [nI_c k2, if_pos ⟨rfl, rfl, nI_pos k2, k0, k1, hne, hel⟩, mk_pE ho]
theorem x_sbAdd {lo sb ba ln n s : Nat} {sg : Nat → Nat} (hS : dS D 4 = .int 1) (hw : hW B h) (hlo : B + 841 ≤ lo) (g : sbW lo h sb ba ln sg n) (hn : n < 800) (hs : s < 128) (r1 : h.1 + 1 ≤ cap.1) (r2 : h.2.1 + (4 * n + 40) ≤ cap.2) :
    ∃ h' ba' ln', fJ15_append D cap sb (nI s) (mk B c h) = some (sb, mk B c h') ∧ sbW lo h' sb ba' ln' (va_up sg n s) (n + 1) ∧ hW B h' ∧ (h.1 ≤ h'.1 ∧ h'.1 ≤ h.1 + 1) ∧ (h.2.1 ≤ h'.2.1 ∧ h'.2.1 + 8 * (n + 1) + 4 * ln ≤ h.2.1 + 8 * n + 4 * ln' + 8) ∧ (ba' = ba ∨ ba' = h.1) ∧ ∀ a, a < h.1 → a ≠ sb → a ≠ ba → h'.2.2 a = h.2.2 a := by
  obtain ⟨⟨a1, a2⟩, ⟨a3, a4, a5⟩, x, f, f1, f2, f3, f4, f5, f6, f8, f7⟩ := g
  have osb : outB B sb := Or.inr (Or.inr (by omega))
  have oba : outB B ba := Or.inr (Or.inr (by omega))
  have m1 : (mk B c h).2.2 sb = some (true, .inr (23, [.ref ba, .int 0, .int x, .int (nI n)])) := by rw [mk_out osb]; exact f1
  have m2 : (mk B c h).2.2 ba = some (true, .inl (2, ln, .inl f)) := by rw [mk_out oba]; exact f2
  -- the sign is put
  have fin : ∀ (h4 : PH) (ba' ln' : Nat) (f' : Nat → Int32), outB B ba' → ba' ≠ sb → lo ≤ ba' → ba' < h4.1 → hW B h4 → sb < h4.1 → h4.2.2 sb = some (true, .inr (23, [.ref ba', .int 0, .int x, .int (nI n)])) → h4.2.2 ba' = some (true, .inl (2, ln', .inl f')) → n < ln' → 16 ≤ ln' → ln' ≤ 2 * n + 18 → (∀ i, ∃ v, v < 128 ∧ f' i = nI v) → (∀ i, i < n → f' i = nI (sg i)) →
      ∃ h', (bnd (fJ9_canEncode (nI s) (mk B c h4)) fun r3 h5 =>
        if (bI r3) = 0 then
          (jn (fun (h3 : PH) => ckc (pCls h3 sb) 23 <| bnd (fJ14_isLatin1 D sb h3) fun r2 h4 => if (bI r2) = 0 then (none : Option (Nat × PH)) else none) fun j45 => j45 h5)
        else
          vA (pF h5 sb 23 0) fun p1 =>
          vI (pF h5 sb 23 3) fun v2 =>
          bnv (pPut h5 sb 23 3 (.int (v2 + 1))) fun h6 =>
          bnv (pSt h6 p1 2 v2 (vp_nar .byte ((Int32.toInt8 (nI s)).toInt32))) fun h7 =>
          some (sb, h7)) = some (sb, mk B c h') ∧ sbW lo h' sb ba' ln' (va_up sg n s) (n + 1) ∧ hW B h' ∧ h'.1 = h4.1 ∧ h'.2.1 = h4.2.1 ∧ ∀ a, a ≠ sb → a ≠ ba' → h'.2.2 a = h4.2.2 a := by
    intro h4 ba' ln' f' o' q1 q2 q3 q4 q5 q6 q7 q8 q9 q10 q11 q12
    have m6 : (mk B c h4).2.2 sb = some (true, .inr (23, [.ref ba', .int 0, .int x, .int (nI n)])) := by rw [mk_out osb]; exact q6
    unfold fJ9_canEncode
    rw [if_neg (show ¬ (255 : Int32) < nI s from nI_nlt (a := 255) (by omega) (by decide)), bnd_s, if_neg (by decide), pF_of (k := 0) m6 rfl, vA_s, pF_of (k := 3) m6 rfl, vI_s, nI_1, mk_pO osb q6 (show 3 < 4 by decide), bnv_s, byt_n s hs, mk_pSt o' (by rw [pE_ne _ q1]; exact q7) (inb_nI q8 (by omega)), bnv_s, nI_c (show n < 2 ^ 31 by omega)]
    refine ⟨_, rfl, ⟨⟨a1, q5⟩, ⟨q2, q3, q1⟩, x, upd f' n (nI s), by rw [pE_ne _ (Ne.symm q1), pE_at]; rfl, pE_at _ _ _, q8, q9, by omega, by omega, fun i => ?_, fun i hi => ?_⟩, (q4.put q5 _).put q3 _, rfl, rfl, fun a b1 b2 => by rw [pE_ne _ b2, pE_ne _ b1]⟩
    · by_cases ci : i = n
      · exact ⟨s, hs, by rw [ci]; simp [upd]⟩
      · obtain ⟨v, v1, v2⟩ := q11 i
        exact ⟨v, v1, by simp [upd, ci, v2]⟩
    · by_cases ci : i = n
      · rw [ci, va_up_self]
        simp [upd]
      · rw [va_up_ne _ _ ci]
        simp only [upd, ci, if_false]
        exact q12 i (by omega)
  unfold fJ15_append fJ14_append fJ14_ensureCapacityInternal
  rw [pCls_of m1, ckc_s, pF_of (k := 3) m1 rfl, vI_s, ckc_s, pF_of (k := 0) m1 rfl, vA_s, pArr_of m2, ob_s, pF_of (k := 1) m1 rfl, vI_s]
  dsimp only
  rw [shr_0, nI_1]
  have lat : ∀ (h4 : PH) (ba' : Nat), h4.2.2 sb = some (true, .inr (23, [.ref ba', .int 0, .int x, .int (nI n)])) → fJ14_isLatin1 D sb (mk B c h4) = some (true, mk B c h4) := by
    intro h4 ba' q
    unfold fJ14_isLatin1
    rw [hS, vI_s, jn_s, if_neg (by decide), pF_of (k := 1) (b := true) (by rw [mk_out osb]; exact q) rfl, vI_s, if_pos rfl]
  by_cases cg : n + 1 ≤ ln
  · have e0 : nI (n + 1) - nI ln ≤ 0 := by
      have : (nI (n + 1) - nI ln).toInt = (n + 1 : Int) - ln := by
        rw [Int32.toInt_sub, nI_toInt (by omega), nI_toInt (by omega)]
        apply Int.bmod_eq_of_le <;> omega
      apply Int32.le_iff_toInt_le.mpr
      rw [this, show (0 : Int32).toInt = 0 from by decide]
      omega
    rw [if_pos e0, bnv_s, pCls_of m1, ckc_s, lat h ba f1, bnd_s]
    simp only [jn_s]
    rw [if_neg (show ¬ bI true = 0 by decide)]
    obtain ⟨h', y1, y2, y3, y4, y5, y6⟩ := fin h ba ln f oba a5 a3 a4 hw a2 f1 f2 (by omega) f4 (by omega) f8 f7
    simp only [jn_s] at y1
    rw [y1, bnd_s]
    exact ⟨h', ba, ln, rfl, y2, y3, by omega, by omega, Or.inl rfl, fun a _ b2 b3 => y6 a b2 b3⟩
  · have cl : ln = n := by omega
    have d1 : nI (n + 1) - nI ln = nI 1 := by rw [cl, nI_sub (by omega), show n + 1 - n = 1 by omega]
    rw [d1, if_neg (by decide), vA_s, ckc_s]
    unfold fJ14_newCapacity fJ10_newLength fJ12_max
    rw [pF_of (k := 0) m1 rfl, vA_s, pArr_of m2, ob_s, pF_of (k := 1) m1 rfl, vI_s, vI_s]
    dsimp only
    rw [shl_0, shl_0, d1, show (2 : Int32) = nI 2 from rfl, nI_add, if_pos (nI_lt (by omega) (by omega)), bnd_s, jn_s, nI_add, if_neg (nI_nle (by omega) (by omega)), if_neg (show ¬ (2147483639 : Int32) < nI (ln + (ln + 2)) from nI_nlt (a := 2147483639) (by omega) (by decide)), bnd_s, if_neg (show ¬ nI (ln + (ln + 2)) = 2147483647 from fun e => by have := (nI_eq (b := 2147483647) (by omega) (by decide)).mp e; omega), pF_of (k := 1) m1 rfl, vI_s, shr_0, bnd_s, pF_of (k := 1) m1 rfl, vI_s, shl_0]
    unfold fJ13_copyOf_3
    rw [pArr_of m2, ob_s]
    dsimp only
    have e5 : ¬ nI (ln + (ln + 2)) = nI ln := fun e => by have := (nI_eq (by omega) (by omega)).mp e; omega
    rw [if_neg e5, ck_t (len_ck2 (by omega)), nI_c (show ln + (ln + 2) < 2 ^ 31 by omega), mk_new hw.1 r1 (by omega), bnd_s]
    have ne1 : ba ≠ h.1 := by omega
    have ne2 : sb ≠ h.1 := by omega
    have on : outB B h.1 := Or.inr (Or.inr hw.1)
    have c2 : (hNew h (.inl (2, ln + (ln + 2), .inl fun _ => 0)) (ln + (ln + 2))).2.2 ba = some (true, .inl (2, ln, .inl f)) := by rw [hN_ne _ _ _ ne1]; exact f2
    rw [pArr_of (b := true) (by rw [mk_out oba]; exact c2), ob_s]
    dsimp only
    unfold fJ12_min
    rw [if_neg (nI_nlt (by omega) (by omega)), bnd_s, mk_pCpI oba on c2 (hN_at _ _ _) (Nat.le_refl _) (by omega) (by omega) ne1 (allFit_of f f8 ln), bnv_s, bnd_s, hN_E]
    have c3 : (hNew h (.inl (2, ln + (ln + 2), .inl (va_cpy f (fun _ => 0) 0 0 ln))) (ln + (ln + 2))).2.2 sb = some (true, .inr (23, [.ref ba, .int 0, .int x, .int (nI n)])) := by rw [hN_ne _ _ _ ne2]; exact f1
    have w3 := hw.new (.inl (2, ln + (ln + 2), .inl (va_cpy f (fun _ => 0) 0 0 ln))) (ln + (ln + 2))
    have d3 := hN_at h (.inl (2, ln + (ln + 2), .inl (va_cpy f (fun _ => 0) 0 0 ln))) (ln + (ln + 2))
    have k3 : ∀ a, a < h.1 → (hNew h (.inl (2, ln + (ln + 2), .inl (va_cpy f (fun _ => 0) 0 0 ln))) (ln + (ln + 2))).2.2 a = h.2.2 a := fun a b1 => hN_ne _ _ _ (by omega)
    have n3 : (hNew h (.inl (2, ln + (ln + 2), .inl (va_cpy f (fun _ => 0) 0 0 ln))) (ln + (ln + 2))).1 = h.1 + 1 := rfl
    have s3 : (hNew h (.inl (2, ln + (ln + 2), .inl (va_cpy f (fun _ => 0) 0 0 ln))) (ln + (ln + 2))).2.1 = h.2.1 + (ln + (ln + 2)) := rfl
    generalize hNew h (.inl (2, ln + (ln + 2), .inl (va_cpy f (fun _ => 0) 0 0 ln))) (ln + (ln + 2)) = h3 at c3 w3 d3 k3 n3 s3
    rw [mk_pO osb c3 (show 0 < 4 by decide), bnv_s, bnv_s, show ([.ref ba, .int 0, .int x, .int (nI n)] : List Value).set 0 (.ref h.1) = [.ref h.1, .int 0, .int x, .int (nI n)] from rfl]
    have e4 : (pPutE h3 sb (.inr (23, [.ref h.1, .int 0, .int x, .int (nI n)]))).2.2 sb = some (true, .inr (23, [.ref h.1, .int 0, .int x, .int (nI n)])) := pE_at _ _ _
    have d4 : (pPutE h3 sb (.inr (23, [.ref h.1, .int 0, .int x, .int (nI n)]))).2.2 h.1 = some (true, .inl (2, ln + (ln + 2), .inl (va_cpy f (fun _ => 0) 0 0 ln))) := by rw [pE_ne _ (Ne.symm ne2)]; exact d3
    have k4 : ∀ a, a < h.1 → a ≠ sb → (pPutE h3 sb (.inr (23, [.ref h.1, .int 0, .int x, .int (nI n)]))).2.2 a = h.2.2 a := fun a b1 b2 => by rw [pE_ne _ b2]; exact k3 a b1
    rw [pCls_of (b := true) (ci := 23) (by rw [mk_out osb]; exact e4), ckc_s, lat _ h.1 e4, bnd_s]
    simp only [jn_s]
    rw [if_neg (show ¬ bI true = 0 by decide)]
    obtain ⟨h', y1, y2, y3, y4, y5, y6⟩ := fin (pPutE h3 sb (.inr (23, [.ref h.1, .int 0, .int x, .int (nI n)]))) h.1 (ln + (ln + 2)) (va_cpy f (fun _ => 0) 0 0 ln) on (Ne.symm ne2) (by omega) (by show h.1 < h3.1; omega) (w3.put (by omega) _) (by show sb < h3.1; omega) e4 d4 (by omega) (by omega) (by omega) (fun i => by
      by_cases ci : i < ln
      · rw [pk_cpy_in (Nat.zero_le _) (by omega), Nat.zero_add, Nat.sub_zero]
        exact f8 i
      · rw [pk_cpy_out (Or.inr (by omega))]
        exact ⟨0, by decide, rfl⟩) (fun i hi => by
      rw [pk_cpy_in (Nat.zero_le _) (by omega), Nat.zero_add, Nat.sub_zero]
      exact f7 i hi)
    simp only [jn_s] at y1
    rw [y1, bnd_s]
    have y4 : h'.1 = h3.1 := y4
    have y5 : h'.2.1 = h3.2.1 := y5
    exact ⟨h', h.1, ln + (ln + 2), rfl, y2, y3, by omega, by omega, Or.inr rfl, fun a b1 b2 b3 => by rw [y6 a b2 (by omega), k4 a b1 b2]⟩
end SJ
