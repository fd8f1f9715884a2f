/-! PART 16: plain: lists that grow -/
set_option maxRecDepth 100000
abbrev qArr (ln : Nat) (f : Nat → Option Nat) : PE := .inl (4, ln, .inr (.inr (.inr (.inr f))))
/-- a list of this call at al, its array at ar -/
def lsW (lo : Nat) (h : PH) (al ar ln : Nat) (ads : Nat → Nat) (n : Nat) : Prop := (lo ≤ al ∧ al < h.1) ∧ (lo ≤ ar ∧ ar < h.1 ∧ ar ≠ al) ∧ ∃ (mc : Int32) (f : Nat → Option Nat), h.2.2 al = some (true, .inr (21, [.int mc, .ref ar, .int (nI n)])) ∧ h.2.2 ar = some (true, qArr ln f) ∧ n ≤ ln ∧ 2 ≤ ln ∧ ln ≤ 2 * n + 4 ∧ n ≤ 800 ∧ ∀ i, i < n → f i = some (ads i)
section SI
variable {B : Nat} {D : PD} {cap : Nat × Nat} {c : CZ} {h : PH}
theorem mk_pStQ {a ln : Nat} (ho : outB B a) {f : Nat → Option Nat} (hc : h.2.2 a = some (true, qArr ln f)) {i : Int32} {v : Option Nat} (hi : inb i ln = true) : pStQ (mk B c h) a 4 i v = some (mk B c (pPutE h a (qArr ln (va_up f i.toNatClampNeg v)))) := by
  unfold pStQ
  rw [mk_out ho c h, hc]
  show (if (4 : Nat) = 4 ∧ inb i ln = true then _ else _) = _
  rw [if_pos ⟨rfl, hi⟩, mk_pE ho]
/-- the list's number of changes, then its array and how many -/
theorem x_lInit {al k : Nat} (hw : hW B h) (hk : 1 ≤ k ∧ k ≤ 100) (hal : al < h.1) (ho : B + 841 ≤ al) (hc : h.2.2 al = some (true, .inr (21, [.int 0, .null, .int 0]))) (r1 : h.1 + 1 ≤ cap.1) (r2 : h.2.1 + k ≤ cap.2) :
    fJ2_init D cap al (nI k) (mk B c h) = some (mk B c (pPutE (hNew h (qArr k fun _ => none) k) al (.inr (21, [.int 0, .ref h.1, .int 0])))) := by
  have oo : outB B al := Or.inr (Or.inr ho)
  unfold fJ2_init fJ1_init fJ0_init
  rw [bnv_s, mk_pO oo hc (by decide), bnv_s, bnv_s]
  have hc1 : (pPutE h al (.inr (21, ([.int 0, .null, .int 0] : List Value).set 0 (.int 0)))).2.2 al = some (true, .inr (21, [.int 0, .null, .int 0])) := by rw [pE_at]; rfl
  have e1 : pPutE h al (.inr (21, ([.int 0, .null, .int 0] : List Value).set 0 (.int 0))) = h := by
    unfold pPutE
    show (h.1, h.2.1, va_up h.2.2 al (some (true, .inr (21, [.int 0, .null, .int 0])))) = h
    rw [← hc]
    have : va_up h.2.2 al (h.2.2 al) = h.2.2 := by
      funext x
      by_cases q : x = al
      · rw [q, va_up_self]
      · rw [va_up_ne _ _ q]
    rw [this]
  rw [e1, if_neg (show ¬ nI k ≤ 0 from nI_nle (by omega) (by omega)), ck_t (len_ck (by omega)), nI_c (show k < 2 ^ 31 by omega), mk_new hw.1 r1 r2, bnd_s, mk_pO oo (by rw [hN_ne _ _ _ (by omega)]; exact hc) (by decide), bnv_s]
  rfl
theorem nI_shr1 : ∀ n, n < 1700 → nI n >>> ((1 : Int32) &&& 31) = nI (n / 2) := by decide +kernel
theorem allEl_of (h : PH) (f : Nat → Option Nat) : ∀ n, (∀ i, i < n → ∃ y, f i = some y ∧ isEl (pCls h y) = true) → allEl h f n = true
  | 0, _ => rfl
  | n + 1, g => by
    show (allEl h f n && (match f n with
      | none => true
      | some y => isEl (pCls h y))) = true
    obtain ⟨y, y1, y2⟩ := g n (Nat.lt_succ_self n)
    rw [allEl_of h f n (fun i hi => g i (by omega)), y1]
    exact y2
theorem pCls_eq {a : Nat} {h h' : PH} (e : h'.2.2 a = h.2.2 a) : pCls h' a = pCls h a := by unfold pCls; rw [e]
theorem mk_eq {a : Nat} {c : CZ} {h h' : PH} (ho : outB B a) (e : h'.2.2 a = h.2.2 a) : (mk B c h').2.2 a = (mk B c h).2.2 a := by rw [mk_out ho, mk_out ho, e]
theorem len_ck2 {m : Nat} (hm : m ≤ 100000) : (!decide (nI m < 0) && decide ((nI m).toNatClampNeg ≤ 100000)) = true := by
  rw [decide_eq_false (nI_pos (by omega)), nI_c (by omega), decide_eq_true hm]
  rfl
theorem mk_pCpQ {a0 a n0 n1 k : Nat} {b0 : Bool} {f g : Nat → Option Nat} (ho0 : outB B a0) (ho : outB B a) (h0 : h.2.2 a0 = some (b0, qArr n0 f)) (h1 : h.2.2 a = some (true, qArr n1 g)) (k0 : k ≤ n0) (k1 : k ≤ n1) (k2 : k < 2 ^ 31) (hne : a0 ≠ a) (hel : allEl (mk B c h) f k = true) : pCpQ (mk B c h) a0 a 4 (nI k) = some (mk B c (pPutE h a (qArr n1 (va_cpy f g 0 0 k)))) := by
  unfold pCpQ
  rw [mk_out ho0, mk_out ho, h0, h1]
  show (if (4 : Nat) = 4 ∧ (4 : Nat) = 4 ∧ ¬ nI k < 0 ∧ (nI k).toNatClampNeg ≤ n0 ∧ (nI k).toNatClampNeg ≤ n1 ∧ a0 ≠ a ∧ allEl (mk B c h) f (nI k).toNatClampNeg = true then some (pPutE (mk B c h) a (.inl (4, n1, .inr (.inr (.inr (.inr (va_cpy f g 0 0 (nI k).toNatClampNeg))))))) else none) = _
  rw [nI_c k2, if_pos ⟨rfl, rfl, nI_pos k2, k0, k1, hne, hel⟩, mk_pE ho]
theorem x_lAdd {lo al ar ln n x : Nat} {ads : Nat → Nat} (hw : hW B h) (hlo : B + 841 ≤ lo) (g : lsW lo h al ar ln ads n) (hn : n < 800) (hx : outB B x ∧ x < h.1 ∧ x ≠ al ∧ x ≠ ar ∧ isEl (pCls (mk B c h) x) = true) (hE : ∀ i, i < n → outB B (ads i) ∧ ads i < h.1 ∧ ads i ≠ al ∧ ads i ≠ ar ∧ isEl (pCls (mk B c h) (ads i)) = true) (r1 : h.1 + 1 ≤ cap.1) (r2 : h.2.1 + (2 * n + 4) ≤ cap.2) :
    ∃ h' ar' ln', fJ2_add D cap al (some x) (mk B c h) = some (true, mk B c h') ∧ lsW lo h' al ar' ln' (va_up ads n x) (n + 1) ∧ hW B h' ∧ (h.1 ≤ h'.1 ∧ h'.1 ≤ h.1 + 1) ∧ (h.2.1 ≤ h'.2.1 ∧ h'.2.1 + 6 * (n + 1) + 3 * ln ≤ h.2.1 + 6 * n + 3 * ln' + 7) ∧ (ar' = ar ∨ ar' = h.1) ∧ ∀ a, a < h.1 → a ≠ al → a ≠ ar → h'.2.2 a = h.2.2 a := by
  obtain ⟨⟨a1, a2⟩, ⟨a3, a4, a5⟩, mc, f, f1, f2, f3, f4, f5, f6, f7⟩ := g
  have oal : outB B al := Or.inr (Or.inr (by omega))
  have oar : outB B ar := Or.inr (Or.inr (by omega))
  unfold fJ2_add
  rw [pF_of (k := 0) (b := true) (by rw [mk_out oal]; exact f1) rfl, vI_s, mk_pO oal f1 (show 0 < 3 by decide), bnv_s, show ([.int mc, .ref ar, .int (nI n)] : List Value).set 0 (.int (mc + 1)) = [.int (mc + 1), .ref ar, .int (nI n)] from rfl]
  have w1 := hw.put a2 (.inr (21, [.int (mc + 1), .ref ar, .int (nI n)]))
  have e1 : (pPutE h al (.inr (21, [.int (mc + 1), .ref ar, .int (nI n)]))).2.2 al = some (true, .inr (21, [.int (mc + 1), .ref ar, .int (nI n)])) := pE_at _ _ _
  have k1 : ∀ a, a ≠ al → (pPutE h al (.inr (21, [.int (mc + 1), .ref ar, .int (nI n)]))).2.2 a = h.2.2 a := fun a ha => pE_ne h ha _
  have n1 : (pPutE h al (.inr (21, [.int (mc + 1), .ref ar, .int (nI n)]))).1 = h.1 := rfl
  have s1 : (pPutE h al (.inr (21, [.int (mc + 1), .ref ar, .int (nI n)]))).2.1 = h.2.1 := rfl
  generalize pPutE h al (.inr (21, [.int (mc + 1), .ref ar, .int (nI n)])) = h1 at w1 e1 k1 n1 s1
  have m1 : (mk B c h1).2.2 al = some (true, .inr (21, [.int (mc + 1), .ref ar, .int (nI n)])) := by rw [mk_out oal]; exact e1
  have f2' : h1.2.2 ar = some (true, qArr ln f) := by rw [k1 ar a5]; exact f2
  have m2 : (mk B c h1).2.2 ar = some (true, qArr ln f) := by rw [mk_out oar]; exact f2'
  rw [pF_of (k := 1) m1 rfl, vA_s, pF_of (k := 2) m1 rfl, vI_s, pCls_of m1, ckc_s]
  unfold fJ2_add_2
  rw [pArr_of m2, ob_s]
  dsimp only
  simp only [jn_s]
  have en : (nI n = nI ln) ↔ n = ln := nI_eq (by omega) (by omega)
  -- the element is put
  have fin : ∀ (h4 : PH) (ar' ln' : Nat) (f' : Nat → Option Nat), outB B ar' → ar' ≠ al → lo ≤ ar' → ar' < h4.1 → hW B h4 → al < h4.1 → h4.2.2 al = some (true, .inr (21, [.int (mc + 1), .ref ar', .int (nI n)])) → h4.2.2 ar' = some (true, qArr ln' f') → n < ln' → 2 ≤ ln' → ln' ≤ 2 * n + 6 → (∀ i, i < n → f' i = some (ads i)) → isEl (pCls (mk B c h4) x) = true →
      ∃ h', (bnv ((qS (some x) fun n1 => ck (isEl (pCls (mk B c h4) n1)) <| bnv (pStQ (mk B c h4) ar' 4 (nI n) (some n1)) fun h2 => bnv (pPut h2 al 21 2 (.int (nI n + 1))) fun h3 => some h3)) fun h2 => some (true, h2)) = some (true, mk B c h') ∧ lsW lo h' al ar' ln' (va_up ads n x) (n + 1) ∧ hW B h' ∧ h'.1 = h4.1 ∧ h'.2.1 = h4.2.1 ∧ ∀ a, a ≠ al → a ≠ ar' → h'.2.2 a = h4.2.2 a := by
    intro h4 ar' ln' f' o' q1 q2 q3 q4 q5 q6 q7 q8 q9 q10 q11 q12
    rw [qS_s, ck_t q12, mk_pStQ o' q7 (inb_nI q8 (by omega)), bnv_s, nI_c (show n < 2 ^ 31 by omega), nI_1, mk_pO oal (by rw [pE_ne _ (Ne.symm q1)]; exact q6) (show 2 < 3 by decide), bnv_s, bnv_s]
    refine ⟨_, rfl, ⟨⟨a1, q5⟩, ⟨q2, q3, q1⟩, mc + 1, va_up f' n (some x), pE_at _ _ _, by rw [pE_ne _ q1, pE_at], q8, q9, by omega, by omega, fun i hi => ?_⟩, (q4.put q3 _).put q5 _, rfl, rfl, fun a b1 b2 => by rw [pE_ne _ b1, pE_ne _ b2]⟩
    by_cases ci : i = n
    · rw [ci, va_up_self, va_up_self]
    · rw [va_up_ne _ _ ci, va_up_ne _ _ ci]
      exact q11 i (by omega)
  by_cases cg : n = ln
  · rw [if_pos (en.mpr cg), pCls_of m1, ckc_s]
    unfold fJ2_grow fJ2_grow_2
    rw [pF_of (k := 2) m1 rfl, vI_s, pCls_of m1, ckc_s, pF_of (k := 1) m1 rfl, vA_s, pArr_of m2, ob_s]
    dsimp only
    rw [jn_s, if_pos (show (0 : Int32) < nI ln from nI_lt (a := 0) (by omega) (by omega))]
    dsimp only
    have enl : fJ10_newLength (nI ln) (nI n + 1 - nI ln) (nI ln >>> ((1 : Int32) &&& 31)) (mk B c h1) = some (nI (ln + (if 1 < ln / 2 then ln / 2 else 1)), mk B c h1) := by
      have d1 : nI n + 1 - nI ln = nI 1 := by rw [nI_1, ← cg, nI_sub (by omega), show n + 1 - n = 1 by omega]
      unfold fJ10_newLength fJ12_max
      rw [d1, nI_shr1 ln (by omega)]
      have mx : (if nI 1 < nI (ln / 2) then some (nI (ln / 2), mk B c h1) else some (nI 1, mk B c h1)) = some (nI (if 1 < ln / 2 then ln / 2 else 1), mk B c h1) := by
        by_cases cm : 1 < ln / 2
        · rw [if_pos (nI_lt cm (by omega)), if_pos cm]
        · rw [if_neg (nI_nlt (by omega) (by omega)), if_neg cm]
      have hb : (if 1 < ln / 2 then ln / 2 else 1) ≤ ln := by split <;> omega
      rw [mx, bnd_s, jn_s, nI_add, if_neg (nI_nle (by omega) (by omega)), if_neg (show ¬ (2147483639 : Int32) < nI (ln + if 1 < ln / 2 then ln / 2 else 1) from nI_nlt (b := ln + if 1 < ln / 2 then ln / 2 else 1) (a := 2147483639) (by omega) (by decide))]
    have hnl : (if 1 < ln / 2 then ln / 2 else 1) ≤ ln ∧ 1 ≤ (if 1 < ln / 2 then ln / 2 else 1) ∧ ln + (if 1 < ln / 2 then ln / 2 else 1) ≤ 2 * n + 4 ∧ 3 * ln ≤ 2 * (ln + (if 1 < ln / 2 then ln / 2 else 1)) + 1 := by split <;> omega
    rw [enl, bnd_s, pF_of (k := 1) m1 rfl, vA_s]
    have hnl2 : ln < ln + (if 1 < ln / 2 then ln / 2 else 1) := by omega
    generalize ln + (if 1 < ln / 2 then ln / 2 else 1) = nl at hnl hnl2
    unfold fJ13_copyOf fJ13_copyOf_2
    rw [pArr_of m2, ob_s, if_pos rfl, ck_t (len_ck2 (by omega)), nI_c (show nl < 2 ^ 31 by omega), mk_new w1.1 (by omega) (by omega), bnd_s]
    have ne1 : ar ≠ h1.1 := by omega
    have ne2 : al ≠ h1.1 := by omega
    have on : outB B h1.1 := Or.inr (Or.inr w1.1)
    have c2 : (hNew h1 (qArr nl fun _ => none) nl).2.2 ar = some (true, qArr ln f) := by rw [hN_ne _ _ _ ne1]; exact f2'
    rw [pArr_of (b := true) (by rw [mk_out oar]; exact c2), ob_s]
    dsimp only
    unfold fJ12_min
    have el : ∀ h' : PH, (∀ a, a < h.1 → a ≠ al → h'.2.2 a = h.2.2 a) → ∀ i, i < n → isEl (pCls (mk B c h') (ads i)) = true := by
      intro h' he i hi
      obtain ⟨p1, p2, p3, p4, p5⟩ := hE i hi
      rw [pCls_eq (mk_eq p1 (he _ p2 p3))]
      exact p5
    rw [if_neg (nI_nlt (by omega) (by omega)), bnd_s, mk_pCpQ oar on c2 (hN_at _ _ _) (Nat.le_refl _) (by omega) (by omega) ne1 (allEl_of _ _ _ (fun i hi => ⟨ads i, f7 i (by omega), el _ (fun a b1 b2 => by rw [hN_ne _ _ _ (by omega), k1 a b2]) i (by omega)⟩)), bnv_s, bnd_s, bnd_s, hN_E]
    have c3 : (hNew h1 (qArr nl (va_cpy f (fun _ => none) 0 0 ln)) nl).2.2 al = some (true, .inr (21, [.int (mc + 1), .ref ar, .int (nI n)])) := by rw [hN_ne _ _ _ ne2]; exact e1
    have w3 := w1.new (qArr nl (va_cpy f (fun _ => none) 0 0 ln)) nl
    have d3 := hN_at h1 (qArr nl (va_cpy f (fun _ => none) 0 0 ln)) nl
    have k3 : ∀ a, a < h.1 → a ≠ al → (hNew h1 (qArr nl (va_cpy f (fun _ => none) 0 0 ln)) nl).2.2 a = h.2.2 a := fun a b1 b2 => by rw [hN_ne _ _ _ (by omega), k1 a b2]
    have n3 : (hNew h1 (qArr nl (va_cpy f (fun _ => none) 0 0 ln)) nl).1 = h.1 + 1 := by show h1.1 + 1 = _; omega
    have s3 : (hNew h1 (qArr nl (va_cpy f (fun _ => none) 0 0 ln)) nl).2.1 = h.2.1 + nl := by show h1.2.1 + nl = _; omega
    generalize hNew h1 (qArr nl (va_cpy f (fun _ => none) 0 0 ln)) nl = h3 at c3 w3 d3 k3 n3 s3
    rw [mk_pO oal c3 (show 1 < 3 by decide), bnv_s, bnd_s, bnd_s, show ([.int (mc + 1), .ref ar, .int (nI n)] : List Value).set 1 (.ref h1.1) = [.int (mc + 1), .ref h1.1, .int (nI n)] from rfl]
    have e4 : (pPutE h3 al (.inr (21, [.int (mc + 1), .ref h1.1, .int (nI n)]))).2.2 al = some (true, .inr (21, [.int (mc + 1), .ref h1.1, .int (nI n)])) := pE_at _ _ _
    have d4 : (pPutE h3 al (.inr (21, [.int (mc + 1), .ref h1.1, .int (nI n)]))).2.2 h1.1 = some (true, qArr nl (va_cpy f (fun _ => none) 0 0 ln)) := by rw [pE_ne _ (Ne.symm ne2)]; exact d3
    have k4 : ∀ a, a < h.1 → a ≠ al → (pPutE h3 al (.inr (21, [.int (mc + 1), .ref h1.1, .int (nI n)]))).2.2 a = h.2.2 a := fun a b1 b2 => by rw [pE_ne _ b2]; exact k3 a b1 b2
    have hx' : isEl (pCls (mk B c (pPutE h3 al (.inr (21, [.int (mc + 1), .ref h1.1, .int (nI n)])))) x) = true := by
      rw [pCls_eq (mk_eq hx.1 (k4 x hx.2.1 hx.2.2.1))]
      exact hx.2.2.2.2
    obtain ⟨h', y1, y2, y3, y4, y5, y6⟩ := fin (pPutE h3 al (.inr (21, [.int (mc + 1), .ref h1.1, .int (nI n)]))) h1.1 nl (va_cpy f (fun _ => none) 0 0 ln) on (Ne.symm ne2) (by omega) (by show h1.1 < h3.1; omega) (w3.put (by omega) _) (by show al < h3.1; omega) e4 d4 (by omega) (by omega) (by omega) (fun i hi => by
      rw [pk_cpy_in (Nat.zero_le _) (by omega), Nat.zero_add, Nat.sub_zero]
      exact f7 i hi) hx'
    have y4 : h'.1 = h3.1 := y4
    have y5 : h'.2.1 = h3.2.1 := y5
    refine ⟨h', h1.1, nl, y1, y2, y3, by omega, by omega, Or.inr n1, fun a b1 b2 b3 => ?_⟩
    rw [y6 a b2 (by omega), k4 a b1 b2]
  · rw [if_neg (fun q => cg (en.mp q))]
    have hx' : isEl (pCls (mk B c h1) x) = true := by
      rw [pCls_eq (mk_eq hx.1 (k1 x hx.2.2.1))]
      exact hx.2.2.2.2
    obtain ⟨h', y1, y2, y3, y4, y5, y6⟩ := fin h1 ar ln f oar a5 a3 (by omega) w1 (by omega) e1 f2' (by omega) f4 (by omega) f7 hx'
    refine ⟨h', ar, ln, y1, y2, y3, by omega, by omega, Or.inl rfl, fun a b1 b2 b3 => ?_⟩
    rw [y6 a b2 b3, k1 a b2]
end SI
