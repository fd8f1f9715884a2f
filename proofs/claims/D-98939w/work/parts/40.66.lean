/-! PART 66: plain: the component acts: taken, hear -/
set_option maxRecDepth 100000
theorem nI_32 {n : Nat} (h : n ≤ 1600) : ((32 : Int32) < nI n) ↔ 32 < n := by
  constructor
  · intro q
    by_cases c : 32 < n
    · exact c
    · exact absurd q (nI_nlt (a := 32) (by omega) (by decide))
  · intro q
    exact nI_lt (a := 32) q (by omega)
section HE
variable {D : PD} {B : Nat} {g : SG} {c c' : CZ} {h0 : PH}
theorem x_byteAt {n : Nat} {b : Nat → Nat} (ht : ∀ i, i < n → cI c 6 i = sb (b i)) {i : Nat} (hi : i < n) (hn : n ≤ 1600) (hb : b i < 256) : fX0_byteAt B (nI i) (mk B c h0) = some (nI (b i), mk B c h0) := by
  unfold fX0_byteAt
  rw [x0_F1, vA_s, k_tape.ld c h0 (inb_nI (by omega) (by decide)), ob_s, nI_c (by omega), ht i hi, sb_255 _ hb]
/-- the tape is taken: its bytes lie on for a while -/
theorem x_taken (h : cG B g c h0) : ∃ c', fX0_taken B (mk B c h0) = some (nI (gT g), mk B c' h0) ∧ cG B (uT g 0 (gB g)) c' h0 ∧ (∀ i, i < gT g → cI c' 6 i = sb (gB g i)) := by
  have ht := h.2.2.2.2.2.2.1
  unfold fX0_taken
  rw [x0_F2, vI_s, ht.1, x0_pI _ _ 2 (by decide), bnv_s]
  refine ⟨_, rfl, h.tape (by omega) (fun i hi => absurd hi (Nat.not_lt_zero _)) (fun o i n1 n2 => by rw [cI_x, if_neg n1]) rfl (by rw [cI_x, if_pos ⟨rfl, rfl⟩]; rfl) (fun i hi => absurd hi (Nat.not_lt_zero _)), fun i hi => ?_⟩
  rw [cI_x, if_neg (by omega)]
  exact ht.2 i hi
/-- the rows heard are others -/
theorem cG.heard {l : List (Nat × Nat)} (h : cG B g c h0) (hl : l.length ≤ 16) (hk : hrOk (gK g) l) (eI : ∀ o i, ¬ (o = 0 ∧ i = 13) → o ≠ 88 → o ≠ 89 → cI c' o i = cI c o i) (eL : c'.2 = c.2) (e1 : cI c' 0 13 = nI l.length) (e2 : ∀ i, i < l.length → cI c' 88 i = nI (l.getD i (0, 0)).1 ∧ cI c' 89 i = nI (l.getD i (0, 0)).2) : cG B (uH g l) c' h0 := by
  obtain ⟨k1, k2, k3, k4, k5⟩ := h.core (c' := c') (fun o i q => eI o i (by omega) (by omega) (by omega)) (eI 0 16 (by decide) (by decide) (by decide)) (by rw [eL])
  obtain ⟨⟨o1, o2, o3, o4⟩, h1, h2, h3, h4, h5, h6, h7, h8, h9, h10, h11⟩ := h
  refine ⟨⟨o1, o2, hk, o4⟩, k1, k2, k3, k4, ⟨hl, e1, e2⟩, ⟨by rw [eI _ _ (by decide) (by decide) (by decide)]; exact h6.1, fun i hi => by rw [eI _ _ (by omega) (by decide) (by decide)]; exact h6.2 i hi⟩, fun j hj => by rw [eI _ _ (by omega) (by decide) (by decide)]; exact h7 j hj, ⟨by rw [eI _ _ (by decide) (by decide) (by decide)]; exact h8.1, by rw [eI _ _ (by decide) (by decide) (by decide)]; exact h8.2⟩, ?_, ⟨by rw [eI _ _ (by decide) (by decide) (by decide)]; exact h10.1, fun i hi => by rw [eI _ _ (by omega) (by decide) (by decide)]; exact h10.2 i hi⟩, k5⟩
  show c'.2.1 0 17 = _
  rw [eL]
  exact h9
theorem x_hear (h : cG B g c h0) : ∃ c', fX0_hear B (mk B c h0) = some ((spHear g).1, mk B c' h0) ∧ cG B (spHear g).2 c' h0 := by
  have o4 := h.1.2.2.2.1
  have o5 := h.1.2.2.2.2.1
  have h8 := h.2.1.1.2.1
  obtain ⟨c1, t1, gt, tb⟩ := x_taken h
  have fin : Ok (fX0_hear B (mk B c h0)) (fun r => r.1 = (spHear g).1 ∧ ∃ c', r.2 = mk B c' h0 ∧ cG B (spHear g).2 c' h0) := by
    have xb := gt.2.1
    have xb : cSc B (gK g) (gN g) c1 h0 := xb
    obtain ⟨cn, n1, n2⟩ := x_refuses gt (i := 1) (by decide)
    have n1 : fX0_refuses B 1 (mk B c1 h0) = some (-1, mk B cn h0) := n1
    have no : hrS (gK g) (gT g) (gB g) = false → Ok (ckc (pCls (mk B c1 h0) B) 0 (bnd (fX0_refuses B 1 (mk B c1 h0)) fun r4 h11 => some (r4, h11))) (fun r => r.1 = (spHear g).1 ∧ ∃ c', r.2 = mk B c' h0 ∧ cG B (spHear g).2 c' h0) := fun hc => by
      unfold spHear
      rw [if_neg (by rw [hc]; decide), x0_cls, ckc_s, n1, bnd_s]
      exact Ok.of ⟨rfl, cn, rfl, n2⟩
    unfold fX0_hear
    have dv : nI (gT g) / 2 = nI (gT g / 2) := nI_div (b := 2) (by omega) (by decide) (by decide)
    have md : nI (gT g) - nI (gT g / 2) * 2 = nI (gT g % 2) := by rw [← dv]; exact nI_mod (b := 2) (by omega) (by decide) (by decide)
    rw [x0_cls, ckc_s, t1, bnd_s, dv, md]
    simp only [jn_s]
    generalize hk73 : (fun (x2 : Bool) (h3 : PH) => if (bI x2) = 0 then ckc (pCls h3 B) 0 (bnd (fX0_refuses B 1 h3) fun r4 h11 => some (r4, h11)) else bnv (pPut h3 B 0 13 (.int (nI (gT g / 2)))) fun h4 => fx (fX0_hear_L92 B fun h5 => vI (pF h5 B 0 13) fun v1 => some (v1, h5)) (fun _ _ => none) FU 0 h4) = K
    have kF : hrS (gK g) (gT g) (gB g) = false → Ok (K false (mk B c1 h0)) (fun r => r.1 = (spHear g).1 ∧ ∃ c', r.2 = mk B c' h0 ∧ cG B (spHear g).2 c' h0) := fun hc => by
      rw [← hk73]
      dsimp only
      rw [if_pos (by decide)]
      exact no hc
    have off : hrS (gK g) (gT g) (gB g) = false → Ok (fx (fX0_hear_L29 B (nI (gT g)) K) (fun _ _ _ => none) FU false 0 (mk B c1 h0)) (fun r => r.1 = (spHear g).1 ∧ ∃ c', r.2 = mk B c' h0 ∧ cG B (spHear g).2 c' h0) := fun hc => by
      refine fx_ok (F := fX0_hear_L29 B (nI (gT g)) K) (z := fun _ _ _ => none) (fun s (_ : Unit) => s false 0 (mk B c1 h0)) (fun _ => 0) (fun _ => True) _ ?_ FU () trivial (FU_gt (by decide))
      rintro s - - go
      show Ok (fX0_hear_L29 B (nI (gT g)) K s false 0 (mk B c1 h0)) _
      unfold fX0_hear_L29
      by_cases cc : nI (gT g) ≤ 0
      · rw [if_pos cc]
        exact kF hc
      · rw [if_neg cc, if_pos (by decide)]
        exact kF hc
    by_cases z1 : gT g = 0
    · rw [if_pos (by rw [z1]; decide)]
      refine off ?_
      unfold hrS
      rw [decide_eq_false (by omega)]
      rfl
    rw [if_neg (nI_nle (by omega) (by omega))]
    by_cases z2 : ¬ gT g % 2 = 0
    · rw [if_neg (nI_ne0 (by omega) (by omega))]
      refine off ?_
      unfold hrS
      rw [decide_eq_false (by omega)]
      rfl
    have z2 : gT g % 2 = 0 := by omega
    rw [if_pos (by rw [z2]; rfl)]
    by_cases z3 : 32 < gT g
    · rw [if_pos ((nI_32 o4).mpr z3)]
      refine off ?_
      unfold hrS
      rw [decide_eq_false (by omega)]
      rfl
    rw [if_neg (fun q => z3 ((nI_32 o4).mp q))]
    have hS : ∀ b : Bool, (b = true ↔ ∀ i, i < gT g / 2 → gB g (2 * i) < kP (gK g) ∧ gB g (2 * i + 1) < 3) → b = hrS (gK g) (gT g) (gB g) := fun b hb => by
      have : hrS (gK g) (gT g) (gB g) = true ↔ ∀ i, i < gT g / 2 → gB g (2 * i) < kP (gK g) ∧ gB g (2 * i + 1) < 3 := by
        unfold hrS
        rw [decide_eq_true (by omega), Bool.true_and, List.all_eq_true]
        exact ⟨fun q i hi => of_decide_eq_true (q i (List.mem_range.mpr hi)), fun q i hi => decide_eq_true (q i (List.mem_range.mp hi))⟩
      cases b with
      | true => rw [this.mpr (hb.mp rfl)]
      | false =>
        cases e : hrS (gK g) (gT g) (gB g) with
        | false => rfl
        | true => exact absurd (hb.mpr (this.mp e)) (by decide)
    refine fx_okN (F := fX0_hear_L29 B (nI (gT g)) K) (z := fun _ _ _ => none) (fun s j (b : Bool) => s b (nI (2 * j)) (mk B c1 h0)) (gT g / 2) (fun j b => if b = true then ∀ i, i < j → gB g (2 * i) < kP (gK g) ∧ gB g (2 * i + 1) < 3 else hrS (gK g) (gT g) (gB g) = false) _ ?_ ?_ FU 0 true (Nat.zero_le _) (by rw [if_pos rfl]; exact fun i hi => absurd hi (Nat.not_lt_zero _)) (FU_gt (by omega))
    · rintro s j b hj hb go
      show Ok (fX0_hear_L29 B (nI (gT g)) K s b (nI (2 * j)) (mk B c1 h0)) _
      unfold fX0_hear_L29
      rw [if_neg (nI_ge (by omega) (by omega))]
      cases b with
      | false =>
        rw [if_neg (by decide)] at hb
        rw [if_pos (by decide)]
        exact kF hb
      | true =>
        rw [if_pos rfl] at hb
        have b0 := o5 (2 * j) (by omega)
        have b1 := o5 (2 * j + 1) (by omega)
        rw [if_neg (by decide), x0_cls, ckc_s, x_byteAt tb (show 2 * j < gT g by omega) o4 b0, bnd_s, x0_cls, ckc_s, x_isPerson xb, bnd_s, show (2 : Int32) = nI 2 from rfl, nI_add, nI_1, show 2 * j + 2 = 2 * (j + 1) by omega]
        simp only [jn_s]
        have bad : ¬ (gB g (2 * j) < kP (gK g) ∧ gB g (2 * j + 1) < 3) → Ok (s false (nI (2 * (j + 1))) (mk B c1 h0)) (fun r => r.1 = (spHear g).1 ∧ ∃ c', r.2 = mk B c' h0 ∧ cG B (spHear g).2 c' h0) := fun hc => by
          refine go false ?_
          rw [if_neg (by decide)]
          exact (hS false ⟨fun q => (by cases q), fun q => absurd (q j hj) hc⟩).symm
        cases cp : sPn (kP (gK g)) (nI (gB g (2 * j))) with
        | false =>
          rw [if_pos (by decide)]
          refine bad (fun q => ?_)
          rw [sPn_of q.1 h8] at cp
          cases cp
        | true =>
          obtain ⟨q, hq, e⟩ := sPn_nat cp h8
          have e := (nI_eq (by omega) (by omega)).mp e
          rw [if_neg (by decide), x0_cls, ckc_s, x_byteAt tb (show 2 * j + 1 < gT g by omega) o4 b1, bnd_s]
          by_cases c4 : gB g (2 * j + 1) < 3
          · rw [if_neg (show ¬ (3 : Int32) ≤ nI (gB g (2 * j + 1)) from nI_ge (b := 3) c4 (by decide))]
            refine go true ?_
            rw [if_pos rfl]
            intro i hi
            by_cases ei : i = j
            · rw [ei]; exact ⟨by omega, c4⟩
            · exact hb i (by omega)
          · rw [if_pos (show (3 : Int32) ≤ nI (gB g (2 * j + 1)) from nI_le (a := 3) (by omega) (by omega))]
            exact bad (fun q => c4 q.2)
    · rintro s b hb
      show Ok (fX0_hear_L29 B (nI (gT g)) K s b (nI (2 * (gT g / 2))) (mk B c1 h0)) _
      unfold fX0_hear_L29
      rw [if_pos (nI_le (by omega) (by omega))]
      cases b with
      | false =>
        rw [if_neg (by decide)] at hb
        exact kF hb
      | true =>
        rw [if_pos rfl] at hb
        have hyes := hS true ⟨fun _ => hb, fun _ => rfl⟩
        rw [← hk73]
        dsimp only
        rw [if_neg (by decide), x0_pI _ _ 13 (by decide), bnv_s]
        unfold spHear
        rw [if_pos hyes.symm]
        refine fx_okN (F := fX0_hear_L92 B _) (z := fun _ _ => none) (fun s j (y : CZ) => s (nI j) (mk B y h0)) (gT g / 2) (fun j y => (∀ o i, ¬ (o = 0 ∧ i = 13) → o ≠ 88 → o ≠ 89 → cI y o i = cI c1 o i) ∧ y.2 = c1.2 ∧ cI y 0 13 = nI (gT g / 2) ∧ ∀ i, i < j → cI y 88 i = nI (gB g (2 * i)) ∧ cI y 89 i = nI (gB g (2 * i + 1))) _ ?_ ?_ FU 0 (xI c1 0 13 (nI (gT g / 2))) (Nat.zero_le _) ⟨fun o i a1 a2 a3 => by rw [cI_x, if_neg a1], rfl, by rw [cI_x, if_pos ⟨rfl, rfl⟩], fun i hi => absurd hi (Nat.not_lt_zero _)⟩ (FU_gt (by omega))
        · rintro s2 j y hj ⟨e1, e2, e3, e4⟩ go2
          have b0 := o5 (2 * j) (by omega)
          have b1 := o5 (2 * j + 1) (by omega)
          have ty : ∀ i, i < gT g → cI y 6 i = sb (gB g i) := fun i hi => by rw [e1 6 i (by omega) (by decide) (by decide)]; exact tb i hi
          have ty2 : ∀ i, i < gT g → cI (xI y 88 j (nI (gB g (2 * j)))) 6 i = sb (gB g i) := fun i hi => by rw [cI_x, if_neg (by omega)]; exact ty i hi
          have in16 : inb (nI j) 16 = true := inb_nI (by omega) (by decide)
          show Ok (fX0_hear_L92 B _ s2 (nI j) (mk B y h0)) _
          unfold fX0_hear_L92
          rw [x0_F13, vI_s, e3, if_neg (nI_ge hj (by omega)), x0_F11, vA_s, x0_cls, ckc_s, show (2 : Int32) * nI j = nI (2 * j) from nI_mul 2 j, x_byteAt ty (show 2 * j < gT g by omega) o4 b0, bnd_s, k_hw.st y h0 in16, bnv_s, nI_c (by omega), x0_F12, vA_s, x0_cls, ckc_s, nI_1, x_byteAt ty2 (show 2 * j + 1 < gT g by omega) o4 b1, bnd_s, k_ha.st _ h0 in16, bnv_s, nI_c (by omega), nI_1]
          refine go2 _ ⟨fun o i a1 a2 a3 => ?_, e2, ?_, fun i hi => ?_⟩
          · rw [cI_x, if_neg (fun x => a3 x.1), cI_x, if_neg (fun x => a2 x.1)]; exact e1 o i a1 a2 a3
          · rw [cI_x, if_neg (by omega), cI_x, if_neg (by omega)]; exact e3
          · rw [cI_x, if_neg (by omega), cI_x, cI_x]
            by_cases ei : i = j
            · rw [if_pos ⟨rfl, ei⟩, if_pos ⟨rfl, ei⟩, ei]; exact ⟨rfl, rfl⟩
            · rw [if_neg (fun x => ei x.2), if_neg (fun x => ei x.2), cI_x, if_neg (by omega)]
              exact e4 i (by omega)
        · rintro s2 y ⟨e1, e2, e3, e4⟩
          show Ok (fX0_hear_L92 B _ s2 (nI (gT g / 2)) (mk B y h0)) _
          unfold fX0_hear_L92
          rw [x0_F13, vI_s, e3, if_pos (nI_le (Nat.le_refl _) (by omega))]
          dsimp only
          rw [x0_F13, vI_s, e3]
          have len := hrL_len (gT g) (gB g)
          refine Ok.of ⟨rfl, y, rfl, gt.heard (by rw [len]; omega) (fun i hi => ?_) e1 e2 (by rw [len]; exact e3) (fun i hi => ?_)⟩
          · rw [len] at hi
            rw [hrL_get hi]
            exact hb i hi
          · rw [len] at hi
            rw [hrL_get hi]
            exact e4 i hi
  obtain ⟨⟨r, h'⟩, e, q1, c', q2, q3⟩ := fin
  have q2 : h' = mk B c' h0 := q2
  exact ⟨c', by rw [e, q2]; cases q1; rfl, q3⟩
end HE
