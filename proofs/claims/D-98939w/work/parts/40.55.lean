/-! PART 55: plain: the component ahead: the sources of an error -/
set_option maxRecDepth 100000
theorem s_set_id : ∀ s, s < 256 → ∀ k, k < 8 → s.testBit k = true → s &&& (255 - 2 ^ k) ||| 2 ^ k = s := by decide +kernel
theorem s_clr_set : ∀ s, s < 256 → ∀ k, k < 8 → (s &&& (255 - 2 ^ k) ||| 2 ^ k) &&& (255 - 2 ^ k) = s &&& (255 - 2 ^ k) := by decide +kernel
/-- those who are wrong are set right -/
def sHeaS (w : SW) (f p : Nat) (v : SW) : SW := if sIs w p f = 2 then sMake v p f 1 else v
/-- all but who is right and who is wrong -/
def sAs (v w : SW) : Prop := wY v = wY w ∧ wM v = wM w ∧ wL' v = wL' w ∧ wF v = wF w ∧ wK v = wK w
theorem sAs.rf (w : SW) : sAs w w := ⟨rfl, rfl, rfl, rfl, rfl⟩
theorem sAs.make {v w : SW} (h : sAs v w) (p f a : Nat) : sAs (sMake v p f a) w := h
theorem sSrc_at (w : SW) (s f : Nat) : ∀ n, sAs (itN (sSrcS w s f) n 0 w) w ∧ ∀ q, wR (itN (sSrcS w s f) n 0 w) q = (if q < n ∧ sIs w q f ≠ 0 then (if q = s then wR w q &&& (255 - 2 ^ f) else wR w q &&& (255 - 2 ^ f) ||| 2 ^ f) else wR w q) ∧ wW (itN (sSrcS w s f) n 0 w) q = (if q < n ∧ sIs w q f ≠ 0 then (if q = s then wW w q &&& (255 - 2 ^ f) ||| 2 ^ f else wW w q &&& (255 - 2 ^ f)) else wW w q)
  | 0 => ⟨sAs.rf w, fun q => by rw [if_neg (by omega), if_neg (by omega)]; exact ⟨rfl, rfl⟩⟩
  | n + 1 => by
    obtain ⟨a, b⟩ := sSrc_at w s f n
    rw [itN_S]
    generalize itN (sSrcS w s f) n 0 w = v at a b
    unfold sSrcS
    by_cases c : sIs w n f = 0
    · rw [if_pos c]
      refine ⟨a, fun q => ?_⟩
      rw [(b q).1, (b q).2]
      have d : (q < n ∧ sIs w q f ≠ 0) = (q < n + 1 ∧ sIs w q f ≠ 0) := by
        refine propext ⟨fun x => ⟨by omega, x.2⟩, fun x => ⟨?_, x.2⟩⟩
        by_cases e : q = n
        · subst e; exact absurd c x.2
        · omega
      simp only [d, and_self]
    · rw [if_neg c]
      refine ⟨a.make _ _ _, fun q => ?_⟩
      rw [wR_make, wW_make]
      by_cases e : q = n
      · subst e
        have b1 := (b q).1
        have b2 := (b q).2
        rw [if_neg (by omega)] at b1 b2
        have d : q < q + 1 ∧ sIs w q f ≠ 0 := ⟨by omega, c⟩
        rw [b1, b2]
        by_cases es : q = s
        · have d2 : ¬ 2 = 1 := by decide
          simp only [if_pos d, if_pos es, if_neg d2, if_true, and_self]
        · have d2 : ¬ 1 = 2 := by decide
          simp only [if_pos d, if_neg es, if_neg d2, if_true, and_self]
      · rw [if_neg e, if_neg e, (b q).1, (b q).2]
        have d : (q < n ∧ sIs w q f ≠ 0) = (q < n + 1 ∧ sIs w q f ≠ 0) := propext ⟨fun x => ⟨by omega, x.2⟩, fun x => ⟨by omega, x.2⟩⟩
        simp only [d, and_self]
theorem sHea_at (w : SW) (f : Nat) : ∀ n, sAs (itN (sHeaS w f) n 0 w) w ∧ ∀ q, wR (itN (sHeaS w f) n 0 w) q = (if q < n ∧ sIs w q f = 2 then wR w q &&& (255 - 2 ^ f) ||| 2 ^ f else wR w q) ∧ wW (itN (sHeaS w f) n 0 w) q = (if q < n ∧ sIs w q f = 2 then wW w q &&& (255 - 2 ^ f) else wW w q)
  | 0 => ⟨sAs.rf w, fun q => by rw [if_neg (by omega), if_neg (by omega)]; exact ⟨rfl, rfl⟩⟩
  | n + 1 => by
    obtain ⟨a, b⟩ := sHea_at w f n
    rw [itN_S]
    generalize itN (sHeaS w f) n 0 w = v at a b
    unfold sHeaS
    by_cases c : sIs w n f = 2
    · rw [if_pos c]
      refine ⟨a.make _ _ _, fun q => ?_⟩
      rw [wR_make, wW_make]
      by_cases e : q = n
      · subst e
        have b1 := (b q).1
        have b2 := (b q).2
        rw [if_neg (by omega)] at b1 b2
        have d : q < q + 1 ∧ sIs w q f = 2 := ⟨by omega, c⟩
        have d2 : ¬ 1 = 2 := by decide
        rw [b1, b2]
        simp only [if_pos d, if_neg d2, if_true, and_self]
      · rw [if_neg e, if_neg e, (b q).1, (b q).2]
        have d : (q < n ∧ sIs w q f = 2) = (q < n + 1 ∧ sIs w q f = 2) := propext ⟨fun x => ⟨by omega, x.2⟩, fun x => ⟨by omega, x.2⟩⟩
        simp only [d, and_self]
    · rw [if_neg c]
      refine ⟨a, fun q => ?_⟩
      rw [(b q).1, (b q).2]
      have d : (q < n ∧ sIs w q f = 2) = (q < n + 1 ∧ sIs w q f = 2) := by
        refine propext ⟨fun x => ⟨by omega, x.2⟩, fun x => ⟨?_, x.2⟩⟩
        by_cases e : q = n
        · subst e; exact absurd x.2 c
        · omega
      simp only [d, and_self]
/-- the two ways to take one as the source are one -/
theorem sSrc_hea {k : SK} {w : SW} (hk : kOk k) (hw : wOk k w) {s f : Nat} (hf : f < 8) (hs : sIs w s f ≠ 0) (q : Nat) (hq : q < kP k) :
    wR (itN (sSrcS w s f) (kP k) 0 w) q = (if q = s then wR (itN (sHeaS w f) (kP k) 0 w) q &&& (255 - 2 ^ f) else wR (itN (sHeaS w f) (kP k) 0 w) q) ∧ wW (itN (sSrcS w s f) (kP k) 0 w) q = (if q = s then wW (itN (sHeaS w f) (kP k) 0 w) q ||| 2 ^ f else wW (itN (sHeaS w f) (kP k) 0 w) q) := by
  have a := (sSrc_at w s f (kP k)).2 q
  have b := (sHea_at w f (kP k)).2 q
  have r8 := hw.r8 hk hq
  have w8 := hw.w8 hk hq
  have dj := (hw.2.2 q hq).2.2.2.1 f hf
  rw [a.1, a.2, b.1, b.2]
  by_cases e : q = s
  · subst e
    have d : q < kP k ∧ sIs w q f ≠ 0 := ⟨hq, hs⟩
    by_cases c2 : sIs w q f = 2
    · have d2 : q < kP k ∧ sIs w q f = 2 := ⟨hq, c2⟩
      simp only [if_pos d, if_pos d2, if_true, s_clr_set _ r8 f hf, and_self]
    · have d2 : ¬ (q < kP k ∧ sIs w q f = 2) := fun x => c2 x.2
      simp only [if_pos d, if_neg d2, if_true, s_clr_or _ w8 f hf, and_self]
  · by_cases c2 : sIs w q f = 2
    · have d2 : q < kP k ∧ sIs w q f = 2 := ⟨hq, c2⟩
      have d : q < kP k ∧ sIs w q f ≠ 0 := ⟨hq, by omega⟩
      simp only [if_pos d, if_pos d2, if_neg e, and_self]
    · have d2 : ¬ (q < kP k ∧ sIs w q f = 2) := fun x => c2 x.2
      by_cases c0 : sIs w q f = 0
      · have d : ¬ (q < kP k ∧ sIs w q f ≠ 0) := fun x => x.2 c0
        simp only [if_neg d, if_neg d2, if_neg e, and_self]
      · have l := sIs_lt w q f
        have b1 : (wR w q).testBit f = true := sIs_1.mp (by omega)
        have b2 : (wW w q).testBit f = false := by
          cases h : (wW w q).testBit f with
          | false => rfl
          | true => exact absurd ⟨b1, h⟩ dj
        have d : q < kP k ∧ sIs w q f ≠ 0 := ⟨hq, c0⟩
        simp only [if_pos d, if_neg d2, if_neg e, s_set_id _ r8 f hf b1, s_clr_id _ w8 f hf b2, and_self]
section SO
variable {D : PD} {B : Nat} {g : SG} {c : CZ} {h0 : PH}
theorem cAll.as {k : SK} {v v' : SW} {s : Nat} (h8 : kP k ≤ 8) (h : cAll B k v s c) (hw : wOk k v') (e : sAs v' v) {c' : CZ} (f1 : ∀ o i, ¬ (o = s + 2 ∨ o = s + 3) → cI c' o i = cI c o i) (f2 : c'.2.2 = c.2.2) (f3 : ∀ p, p < kP k → cI c' (s + 2) p = nI (wR v' p) ∧ cI c' (s + 3) p = nI (wW v' p)) : cAll B k v' s c' := by
  obtain ⟨e1, e2, e3, e4, e5⟩ := e
  obtain ⟨-, ht, r1, r2, π, g3, g4, g5, g6⟩ := h
  refine ⟨hw, ⟨?_, ?_, ?_, fun p hp => ?_⟩, ?_, ?_, π, g3, g4, fun i hi => ?_, fun i hi => ?_⟩
  · rw [f1 _ _ (by omega), e1]; exact ht.1
  · rw [f1 _ _ (by omega), show sWho v' (kP k) 0 = sWho v (kP k) 0 by unfold sWho; rw [e4]]; exact ht.2.1
  · rw [f1 _ _ (by omega), show sWho v' (kP k) 1 = sWho v (kP k) 1 by unfold sWho; rw [e4]]; exact ht.2.2.1
  · obtain ⟨z1, z2, z3, z4⟩ := ht.2.2.2 p hp
    rw [f1 _ _ (by omega), f1 (s + 4) _ (by omega), e2, e3]
    exact ⟨z1, (f3 p hp).1, (f3 p hp).2, z4⟩
  · rw [e5]; exact r1
  · rw [f1 _ _ (by omega), e5]; exact r2
  · show c'.2.2 (s + 5) i = _
    rw [f2]; exact g5 i hi
  · rw [e5] at hi ⊢
    have := g3 i (by omega)
    rw [f1 _ _ (by omega), f1 _ _ (by omega), f1 _ _ (by omega)]
    exact g6 i hi
end SO
