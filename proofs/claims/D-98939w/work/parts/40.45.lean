/-! PART 45: plain: the component: lesson, teaches -/
set_option maxRecDepth 100000
theorem qC_n {β : Type} (n : β) (k : Nat → β) : qC none n k = n := rfl
theorem qC_s {β : Type} (n : β) (k : Nat → β) (a : Nat) : qC (some a) n k = k a := rfl
section LE
variable {D : PD} {B : Nat} {k : SK} {nm : Nat → Nat → List Nat} {c : CZ} {h0 : PH} {w : SW} {s : Nat}
/-- a test of the school -/
theorem sc_test (hx : cSc B k nm c h0) {i : Nat} (hi : i < 3) : ∃ (sa : Nat) (q : Option Nat), pF (mk B c h0) B 0 0 = some (.ref sa) ∧ pF (mk B c h0) sa 1 (6 + i) = some (va_rf q) ∧ ((q = none ∧ kTe k i = none) ∨ ∃ (code : List Int32) (t : Nat), q = some t ∧ kTe k i = some code ∧ tT (outB B) B 64 h0 t code) := by
  obtain ⟨hk, sa, h1, g0, b, st, fl, pl, tq, fo, po, g1, g2, g3, g4, g5, g6⟩ := hx
  refine ⟨sa, tq i, by rw [x0_F0, h1]; rfl, ?_, ?_⟩
  · refine pF_of (b := b) (by rw [mk_out g0 c h0]; exact g1) ?_
    rcases (show i = 0 ∨ i = 1 ∨ i = 2 by omega) with rfl | rfl | rfl <;> rfl
  · rcases g6 i hi with ⟨q1, q2⟩ | ⟨code, t, q1, q2, q3⟩
    · exact Or.inl ⟨q2, q1⟩
    · exact Or.inr ⟨code, t, q2, q1, q3⟩
theorem sCan_iff {p m f : Nat} (hd : ¬ ((wR w m).testBit f = true ∧ (wW w m).testBit f = true)) : sCan w p m f = (!(wR w p).testBit f && ((wR w m).testBit f || ((wW w m).testBit f && !(wW w p).testBit f))) := by
  unfold sCan sIs
  cases (wR w p).testBit f <;> cases (wW w p).testBit f <;> cases h1 : (wR w m).testBit f <;> cases h2 : (wW w m).testBit f <;> first | decide | exact absurd ⟨h1, h2⟩ hd
theorem x_lesson (hD : ∃ q, dS D 7 = va_rf q) (hx : cSc B k nm c h0) (hs : isS s) (hw : wOk k w) (ht : cSt k w s c) {p : Nat} (hp : p < kP k) : ∃ c', fX5_lesson D (B + s) (nI p) (mk B c h0) = some (nI (sNext k w p) - 1, mk B c' h0) ∧ cMo c c' := by
  have h8 := hx.1.2.1
  have hF := hx.1.1
  have hm := (hw.2.2 p hp).1
  have r8 := hw.r8 hx.1 hp
  have w8 := hw.w8 hx.1 hp
  have fin : Ok (fX5_lesson D (B + s) (nI p) (mk B c h0)) (fun r => r.1 = nI (sNext k w p) - 1 ∧ ∃ c', r.2 = mk B c' h0 ∧ cMo c c') := by
    unfold fX5_lesson
    rw [st_F4 hs, vA_s, st_m hs ht hp h8, ob_s]
    by_cases c0 : wM w p = 0
    · rw [c0, if_pos (by decide)]
      refine Ok.of ⟨?_, c, rfl, cMo.rf c⟩
      unfold sNext
      rw [if_pos c0]
      show (-1 : Int32) = nI 0 - 1
      decide
    · rw [if_neg (m1_ne c0 (by omega)), vA_s, st_m hs ht hp h8, ob_s, nI_m1 (by omega)]
      have hmk : wM w p - 1 < kP k := by omega
      have rm8 := hw.r8 hx.1 hmk
      have wm8 := hw.w8 hx.1 hmk
      have hn : sNext k w p = sNxt k w p (kF k) 0 := by unfold sNext; rw [if_neg c0]
      rw [hn]
      refine fx_okN (F := fX5_lesson_L21 D (B + s) (nI p) (nI (wM w p - 1))) (z := fun _ _ => none) (fun g j (b : CZ) => g (nI j) (mk B b h0)) (kF k) (fun j b => cMo c b ∧ sNxt k w p (kF k - j) j = sNxt k w p (kF k) 0) _ ?_ ?_ FU 0 c (Nat.zero_le _) ⟨cMo.rf c, rfl⟩ (FU_gt (by omega))
      · rintro g j b hj ⟨hb, hn2⟩ go
        have xb := hb.sc hx
        have tb := hb.st ht
        rw [show kF k - j = (kF k - (j + 1)) + 1 by omega, sNxt_S] at hn2
        have hd := (hw.2.2 (wM w p - 1) hmk).2.2.2.1 j (by omega)
        rw [sCan_iff hd] at hn2
        have skip : ∀ b', cMo b b' → ¬ ((!(wR w p).testBit j && ((wR w (wM w p - 1)).testBit j || ((wW w (wM w p - 1)).testBit j && !(wW w p).testBit j))) = true ∧ sHo k w 0 p j = true) → Ok (g (nI j + 1) (mk B b' h0)) (fun r => r.1 = nI (sNxt k w p (kF k) 0) - 1 ∧ ∃ c', r.2 = mk B c' h0 ∧ cMo c c') := fun b' hb' hc => by
          rw [if_neg hc] at hn2
          rw [nI_1]
          exact go b' ⟨hb.tr hb', hn2⟩
        have yes : ∀ b', cMo b b' → ((!(wR w p).testBit j && ((wR w (wM w p - 1)).testBit j || ((wW w (wM w p - 1)).testBit j && !(wW w p).testBit j))) = true ∧ sHo k w 0 p j = true) → Ok (some (nI j, mk B b' h0)) (fun r => r.1 = nI (sNxt k w p (kF k) 0) - 1 ∧ ∃ c', r.2 = mk B c' h0 ∧ cMo c c') := fun b' hb' hc => by
          rw [if_pos hc] at hn2
          exact Ok.of ⟨by rw [← hn2]; exact (nI_pred j).symm, b', rfl, hb.tr hb'⟩
        have test : (!(wR w p).testBit j && ((wR w (wM w p - 1)).testBit j || ((wW w (wM w p - 1)).testBit j && !(wW w p).testBit j))) = true → Ok (vA (pF (mk B b h0) (B + s) 5 11) fun p5 => vA (pF (mk B b h0) p5 0 0) fun p6 => vQ (pF (mk B b h0) p6 1 6) fun q1 => qC q1 (some (nI j, mk B b h0)) fun n1 => vA (pF (mk B b h0) (B + s) 5 11) fun p7 => vA (pF (mk B b h0) p7 0 0) fun p8 => vQ (pF (mk B b h0) p8 1 6) fun q2 => qS q2 fun n2 => ckc (pCls (mk B b h0) (B + s)) 5 <| bnd (fX5_holds D (B + s) n2 (nI p) (nI j) (mk B b h0)) fun r3 h6 => if (bI r3) = 0 then g (nI j + 1) h6 else some (nI j, h6)) (fun r => r.1 = nI (sNxt k w p (kF k) 0) - 1 ∧ ∃ c', r.2 = mk B c' h0 ∧ cMo c c') := fun hc => by
          obtain ⟨sa, q, f0, f1, hq⟩ := sc_test xb (i := 0) (by decide)
          rw [st_F11 hs, vA_s, f0, vA_s, f1, vQ_s]
          rcases hq with ⟨rfl, q2⟩ | ⟨code, t, rfl, q2, q3⟩
          · rw [qC_n]
            exact yes b (cMo.rf b) ⟨hc, sHo_none q2⟩
          · rw [qC_s, vA_s, f0, vA_s, f1, vQ_s, qS_s, st_cls hs, ckc_s]
            obtain ⟨b', e1, e2⟩ := x_holds_f hD xb hs hw tb (i := 0) (by decide) hp hj c0 q2 q3
            rw [e1, bnd_s]
            cases hh : sHo k w 0 p j with
            | false =>
              rw [if_pos (by decide)]
              exact skip b' e2 (fun q => by rw [hh] at q; cases q.2)
            | true =>
              rw [if_neg (by decide)]
              exact yes b' e2 ⟨hc, hh⟩
        show Ok (fX5_lesson_L21 D (B + s) (nI p) (nI (wM w p - 1)) g (nI j) (mk B b h0)) _
        unfold fX5_lesson_L21
        rw [st_F11 hs, vA_s, x0_cls, ckc_s, x_facts xb, bnd_s, if_neg (nI_ge hj (by omega)), st_F5 hs, vA_s, st_r hs tb hp h8, ob_s, has_v r8 (by omega), bnd_s]
        simp only [jn_s]
        have no := skip b (cMo.rf b)
        cases v1 : (wR w p).testBit j with
        | true =>
          rw [v1] at no
          rw [if_neg (by decide), if_pos (by decide)]
          exact no (by simp)
        | false =>
          rw [v1] at no test
          rw [if_pos (by decide), st_F5 hs, vA_s, st_r hs tb hmk h8, ob_s, has_v rm8 (by omega), bnd_s]
          cases v2 : (wR w (wM w p - 1)).testBit j with
          | true =>
            rw [v2] at test
            rw [if_neg (by decide), if_neg (by decide)]
            exact test (by simp)
          | false =>
            rw [v2] at no test
            rw [if_pos (by decide), st_F6 hs, vA_s, st_w hs tb hmk h8, ob_s, has_v wm8 (by omega), bnd_s]
            cases v3 : (wW w (wM w p - 1)).testBit j with
            | false =>
              rw [v3] at no
              rw [if_pos (by decide), if_pos (by decide)]
              exact no (by simp)
            | true =>
              rw [v3] at no test
              rw [if_neg (by decide), st_F6 hs, vA_s, st_w hs tb hp h8, ob_s, has_v w8 (by omega), bnd_s]
              cases v4 : (wW w p).testBit j with
              | false =>
                rw [v4] at test
                rw [if_pos (by decide), if_neg (by decide)]
                exact test (by simp)
              | true =>
                rw [v4] at no
                rw [if_neg (by decide), if_pos (by decide)]
                exact no (by simp)
      · rintro g b ⟨hb, hn2⟩
        have xb := hb.sc hx
        show Ok (fX5_lesson_L21 D (B + s) (nI p) (nI (wM w p - 1)) g (nI (kF k)) (mk B b h0)) _
        unfold fX5_lesson_L21
        rw [st_F11 hs, vA_s, x0_cls, ckc_s, x_facts xb, bnd_s, if_pos (nI_le (Nat.le_refl _) (by omega))]
        rw [Nat.sub_self] at hn2
        refine Ok.of ⟨?_, b, rfl, hb⟩
        rw [← hn2]
        show (-1 : Int32) = nI 0 - 1
        decide
  obtain ⟨⟨r, h'⟩, e, q1, c', q2, q3⟩ := fin
  have q2 : h' = mk B c' h0 := q2
  exact ⟨c', by rw [e, q2]; cases q1; rfl, q3⟩
end LE
/-- what teaching changes in the State at s -/
def cTe (s : Nat) (c c' : CZ) : Prop := (∀ o i, o ≠ s + 2 → o ≠ s + 3 → o ≠ s + 36 → ¬ (o = s ∧ i = 10) → cI c' o i = cI c o i) ∧ c'.2.2 = c.2.2 ∧ ∀ o, o ≠ 10 → c'.2.1 o = c.2.1 o
theorem cTe.rf (s : Nat) (c : CZ) : cTe s c c := ⟨fun _ _ _ _ _ _ => rfl, rfl, fun _ _ => rfl⟩
theorem cTe.tr {s : Nat} {a b c : CZ} (h : cTe s a b) (g : cTe s b c) : cTe s a c := ⟨fun o i h1 h2 h3 h4 => (g.1 o i h1 h2 h3 h4).trans (h.1 o i h1 h2 h3 h4), g.2.1.trans h.2.1, fun o ho => (g.2.2 o ho).trans (h.2.2 o ho)⟩
theorem cMo.te {s : Nat} {c c' : CZ} (h : cMo c c') : cTe s c c' := ⟨fun o i _ _ _ _ => h.i o i, h.2.1, h.2.2⟩
theorem cTe.x {s : Nat} (c : CZ) {o i : Nat} (ho : o = s + 2 ∨ o = s + 3 ∨ o = s + 36 ∨ (o = s ∧ i = 10)) (v : Int32) : cTe s c (xI c o i v) := ⟨fun o' i' h1 h2 h3 h4 => by rw [cI_x, if_neg]; rintro ⟨rfl, rfl⟩; rcases ho with h | h | h | h <;> first | exact h1 h | exact h2 h | exact h3 h | exact h4 h, rfl, fun _ _ => rfl⟩
theorem cTe.q {s : Nat} {c c' : CZ} (h : cTe s c c') (o i : Nat) : cQ c' o i = cQ c o i := by unfold cQ; rw [h.2.1]
theorem cTe.sc {s : Nat} {B : Nat} {k : SK} {nm : Nat → Nat → List Nat} {c c' : CZ} {h0 : PH} (h : cTe s c c') (g : cSc B k nm c h0) : cSc B k nm c' h0 := g.of (h.q 0 0)
theorem cTe.rw' {B : Nat} {l : List (Nat × Nat × Nat)} {s : Nat} {c c' : CZ} (h : cTe s c c') (g : cRw B l s c) : cRw B l s c' := by
  obtain ⟨g1, g2, π, g3, g4, g5, g6⟩ := g
  refine ⟨g1, by rw [h.1 s 3 (by omega) (by omega) (by omega) (by omega)]; exact g2, π, g3, g4, fun i hi => by rw [h.q]; exact g5 i hi, fun i hi => ?_⟩
  have p30 := g3 i (by omega)
  rw [h.1 _ 0 (by omega) (by omega) (by omega) (by omega), h.1 _ 1 (by omega) (by omega) (by omega) (by omega), h.1 _ 2 (by omega) (by omega) (by omega) (by omega)]
  exact g6 i hi
theorem s_clr_id : ∀ s, s < 256 → ∀ k, k < 8 → s.testBit k = false → s &&& (255 - 2 ^ k) = s := by decide +kernel
theorem s_clr_or : ∀ s, s < 256 → ∀ k, k < 8 → (s &&& (255 - 2 ^ k)) ||| 2 ^ k = s ||| 2 ^ k := by decide +kernel
/-- who is told it wrongly -/
def sGarS (k : SK) (w : SW) (ill p a : Nat) : Nat := if sLes k w ill p ≠ 0 ∧ sLrn k w p (sLes k w ill p - 1) = 2 then a ||| 2 ^ p else a
def sGar (k : SK) (w : SW) (ill n : Nat) : Nat := itN (sGarS k w ill) n 0 0
theorem sGar_S (k : SK) (w : SW) (ill n : Nat) : sGar k w ill (n + 1) = sGarS k w ill n (sGar k w ill n) := itN_S _ _ _
theorem sGar_lt (k : SK) (w : SW) (ill : Nat) : ∀ n, n ≤ 8 → sGar k w ill n < 256
  | 0, _ => by show 0 < 256; decide
  | n + 1, h => by
    have := sGar_lt k w ill n (by omega)
    rw [sGar_S]
    unfold sGarS
    split
    · exact s_orlt _ this n (by omega)
    · exact this
theorem sGar_bit (k : SK) (w : SW) (ill : Nat) : ∀ n, n ≤ 8 → ∀ p, p < n → (sGar k w ill n).testBit p = decide (sLes k w ill p ≠ 0 ∧ sLrn k w p (sLes k w ill p - 1) = 2)
  | 0, _, p, hp => absurd hp (Nat.not_lt_zero _)
  | n + 1, h, p, hp => by
    have lt := sGar_lt k w ill n (by omega)
    have hi : ∀ q, n ≤ q → q < 8 → (sGar k w ill n).testBit q = false := by
      have : ∀ m, m ≤ n → ∀ q, n ≤ q → q < 8 → (sGar k w ill m).testBit q = false := by
        intro m
        induction m with
        | zero => intro _ q _ _; show (0 : Nat).testBit q = false; simp
        | succ m ih =>
          intro hm q h1 h2
          rw [sGar_S]
          unfold sGarS
          split
          · rw [s_ort _ (sGar_lt k w ill m (by omega)) m (by omega) q h2, ih (by omega) q h1 h2, decide_eq_false (by omega)]
            rfl
          · exact ih (by omega) q h1 h2
      exact this n (Nat.le_refl _)
    rw [sGar_S]
    unfold sGarS
    by_cases e : p = n
    · subst e
      split
      next c => rw [s_ort _ lt p (by omega) p (by omega), decide_eq_true c, decide_eq_true rfl, Bool.or_true]
      next c => rw [decide_eq_false c, hi p (Nat.le_refl _) (by omega)]
    · have ih := sGar_bit k w ill n (by omega) p (by omega)
      split
      · rw [s_ort _ lt n (by omega) p (by omega), ih, decide_eq_false (show ¬ n = p from fun q => e q.symm), Bool.or_false]
      · exact ih
/-- what is taught is not yet known -/
theorem sNxt_can (k : SK) (w : SW) (p : Nat) : ∀ n f, sNxt k w p n f ≠ 0 → sCan w p (wM w p - 1) (sNxt k w p n f - 1) = true
  | 0, f, h => absurd rfl h
  | n + 1, f, h => by
    rw [sNxt_S] at h ⊢
    by_cases c : sCan w p (wM w p - 1) f = true ∧ sHo k w 0 p f = true
    · rw [if_pos c]
      exact c.1
    · rw [if_neg c] at h ⊢
      exact sNxt_can k w p n (f + 1) h
theorem sLes_can {k : SK} {w : SW} {ill p : Nat} (h : sLes k w ill p ≠ 0) : sCan w p (wM w p - 1) (sLes k w ill p - 1) = true := by
  unfold sLes at h ⊢
  by_cases c : ill.testBit p = true
  · rw [if_pos c] at h; exact absurd rfl h
  · rw [if_neg c] at h ⊢
    unfold sNext at h ⊢
    by_cases c2 : wM w p = 0
    · rw [if_pos c2] at h; exact absurd rfl h
    · rw [if_neg c2] at h ⊢
      exact sNxt_can k w p _ _ h
theorem sCan_r {w : SW} {p m f : Nat} (h : sCan w p m f = true) : (wR w p).testBit f = false := by
  have := of_decide_eq_true h
  cases e : (wR w p).testBit f with
  | false => rfl
  | true =>
    exfalso
    apply this.2.1
    unfold sIs
    rw [e, if_pos rfl]
section TE
variable {D : PD} {B : Nat} {k : SK} {nm : Nat → Nat → List Nat} {c : CZ} {h0 : PH} {w : SW} {s : Nat}
/-- who learns it wrongly, as the component asks -/
theorem sLrn_iff (hw : wOk k w) {p f : Nat} (hp : p < kP k) (hm : wM w p ≠ 0) (hf : f < 8) (hr : (wR w p).testBit f = false) : sLrn k w p f = 2 ↔ (wW w p).testBit f = false ∧ ((wW w (wM w p - 1)).testBit f = true ∨ (kTe k 1 ≠ none ∧ sHo k w 1 p f = true)) := by
  have hmm := (hw.2.2 p hp).1
  have hd := (hw.2.2 (wM w p - 1) (by omega)).2.2.2.1 f hf
  have e0 : sIs w p f = 0 ↔ (wW w p).testBit f = false := by
    unfold sIs
    rw [hr]
    cases (wW w p).testBit f <;> decide
  have e2 : sIs w (wM w p - 1) f = 2 ↔ (wW w (wM w p - 1)).testBit f = true := by
    unfold sIs
    cases h1 : (wR w (wM w p - 1)).testBit f <;> cases h2 : (wW w (wM w p - 1)).testBit f <;> first | decide | exact absurd ⟨h1, h2⟩ hd
  rw [← e0, ← e2]
  unfold sLrn
  constructor
  · intro h
    by_cases q : sIs w p f = 0 ∧ (sIs w (wM w p - 1) f = 2 ∨ (kTe k 1 ≠ none ∧ sHo k w 1 p f = true))
    · exact q
    · rw [if_neg q] at h; cases h
  · intro q
    rw [if_pos q]
end TE
