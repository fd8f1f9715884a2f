/-! PART 53: plain: the component ahead: master, gift, law -/
set_option maxRecDepth 100000
theorem sTill_ge {k : SK} {P : SW → Bool} : ∀ {n : Nat} {v : SW} {j m : Nat}, sTill k P n v j = some m → j ≤ m
  | 0, v, j, m, h => by
    have h : (if P v = true then some j else none) = some m := h
    by_cases c : P v = true
    · rw [if_pos c] at h; cases h; omega
    · rw [if_neg c] at h; cases h
  | n + 1, v, j, m, h => by
    rw [sTill_S] at h
    by_cases c : P v = true
    · rw [if_pos c] at h; cases h; omega
    · rw [if_neg c] at h
      by_cases c2 : wY v < 999
      · rw [if_pos c2] at h
        have := sTill_ge h
        omega
      · rw [if_neg c2] at h; cases h
section MA
variable {D : PD} {B : Nat} {g : SG} {c0 c : CZ} {h0 : PH}
/-- how soon one passes with a new master -/
theorem x_mas1 {Q : Int32 × PH → Prop} {K : Int32 → Int32 → PH → Option (Int32 × PH)} (hD : ∃ q, dS D 7 = va_rf q) (hg : cG B g c0 h0) {p m S : Nat} {x3 : Int32} {v0 : SW} (hp : p < kP (gK g)) (hS : S < 2 ^ 31) (hy0 : wY v0 = wY (gW g)) (th : cTr B (gK g) c0 v0 c) (hK : ∀ (c : CZ) (v : SW) (a b : Int32), cTr B (gK g) c0 v c → (match sTill (gK g) (fun v => (wF v p).testBit 0) 40 v0 0 with
      | some n => if n < S then a = nI m ∧ b = nI n else a = x3 ∧ b = nI S
      | none => a = x3 ∧ b = nI S) → Ok (K a b (mk B c h0)) Q) : Ok (fx (fX0_master_L75 D B (nI p) (nI m) K) (fun _ _ _ _ => none) FU x3 (nI S) 0 (mk B c h0)) Q := by
  have h1 := hg.2.1
  have h8 := h1.1.2.1
  have now := hg.2.2.1
  have hy := hg.1.1
  generalize hT : sTill (gK g) (fun v => (wF v p).testBit 0) 40 v0 0 = T at hK
  refine fx_okN (F := fX0_master_L75 D B (nI p) (nI m) K) (z := fun _ _ _ _ => none) (fun s j (a : Bool × SW × CZ) => s (if a.1 = true then nI m else x3) (if a.1 = true then nI (j - 1) else nI S) (nI j) (mk B a.2.2 h0)) 41 (fun j a => cTr B (gK g) c0 a.2.1 a.2.2 ∧ wY a.2.1 = wY (gW g) + j ∧ (if a.1 = true then 1 ≤ j ∧ T = some (j - 1) ∧ j - 1 < S else (if j ≤ 40 ∧ wY (gW g) + j ≤ 999 then sTill (gK g) (fun v => (wF v p).testBit 0) (40 - j) a.2.1 j = T else T = none))) Q ?_ ?_ FU 0 (false, v0, c) (Nat.zero_le _) ⟨th, hy0, by show if false = true then _ else _; rw [if_neg (by decide), if_pos ⟨by decide, by omega⟩]; exact hT⟩ (FU_gt (by decide))
  · rintro s j ⟨f, v, c⟩ hj ⟨hx, hyv, hs⟩ go
    have hx : cTr B (gK g) c0 v c := hx
    have hyv : wY v = wY (gW g) + j := hyv
    have nw := hx.now now
    show Ok (fX0_master_L75 D B (nI p) (nI m) K s (if f = true then nI m else x3) (if f = true then nI (j - 1) else nI S) (nI j) (mk B c h0)) Q
    unfold fX0_master_L75
    rw [x0_cls, ckc_s, x_isAhead nw.1 nw.2.1 _ 0 40 (by decide) (by decide), bnd_s, show (0 : Int32).toInt = 0 from by decide, show (40 : Int32).toInt = 40 from by decide, ah_nat (by omega)]
    simp only [jn_s]
    cases f with
    | true =>
      have hs : 1 ≤ j ∧ T = some (j - 1) ∧ j - 1 < S := by
        have hs : if true = true then _ else _ := hs
        rwa [if_pos rfl] at hs
      rw [if_pos rfl, if_pos rfl]
      have done : Ok (K (nI m) (nI (j - 1)) (mk B c h0)) Q := hK c v _ _ hx (by rw [hs.2.1]; show if j - 1 < S then _ else _; rw [if_pos hs.2.2]; exact ⟨rfl, rfl⟩)
      by_cases cc : j ≤ 40 ∧ wY (gW g) + j ≤ 999
      · rw [decide_eq_true cc, if_neg (by decide), if_pos (nI_le (by omega) (by omega))]
        exact done
      · rw [decide_eq_false cc, if_pos (by decide)]
        exact done
    | false =>
      have hs : if j ≤ 40 ∧ wY (gW g) + j ≤ 999 then sTill (gK g) (fun v => (wF v p).testBit 0) (40 - j) v j = T else T = none := by
        have hs : if false = true then _ else _ := hs
        rwa [if_neg (by decide)] at hs
      rw [if_neg (show ¬ false = true by decide), if_neg (show ¬ false = true by decide)]
      by_cases cc : j ≤ 40 ∧ wY (gW g) + j ≤ 999
      · rw [if_pos cc] at hs
        rw [decide_eq_true cc, if_neg (by decide)]
        by_cases cS : S ≤ j
        · rw [if_pos (nI_le cS (by omega))]
          refine hK c v _ _ hx ?_
          cases hT2 : T with
          | none => exact ⟨rfl, rfl⟩
          | some n =>
            rw [hT2] at hs
            have := sTill_ge hs
            show if n < S then _ else _
            rw [if_neg (by omega)]
            exact ⟨rfl, rfl⟩
        · rw [if_neg (nI_ge (by omega) (by omega))]
          have l0 := sWho_lt v (kP (gK g)) 0 h8
          have bt : (sWho v (kP (gK g)) 0).testBit p = (wF v p).testBit 0 := by rw [sWho_bit _ _ _ h8 p (by omega), decide_eq_true hp, Bool.true_and]
          obtain ⟨c', q1, q2⟩ := hx.years hD hg (n := 1) (by omega)
          have q1 : fX5_years D (B + 51) 1 (mk B c h0) = some (B + 51, mk B c' h0) := q1
          have hy' : wY (sYear (gK g) v 0) = wY (gW g) + (j + 1) := by rw [sYear_Y]; omega
          rw [x0_F10, vA_s, st_F1 is51, vI_s, hx.2.2.1.2.1, has_v l0 (by omega), bnd_s, bt]
          cases cp : (wF v p).testBit 0 with
          | true =>
            rw [sTill_yes (P := fun v => (wF v p).testBit 0) cp] at hs
            rw [if_neg (by decide), x0_F10, vA_s, st_cls is51, ckc_s, q1, bnd_s, nI_1]
            have := go (true, sYear (gK g) v 0, c') ⟨q2, hy', by show if true = true then _ else _; rw [if_pos rfl]; exact ⟨by omega, by rw [← hs]; rfl, by omega⟩⟩
            have this : Ok (s (if true = true then nI m else x3) (if true = true then nI (j + 1 - 1) else nI S) (nI (j + 1)) (mk B c' h0)) Q := this
            rw [if_pos rfl, if_pos rfl, show j + 1 - 1 = j by omega] at this
            exact this
          | false =>
            rw [if_pos (by decide), x0_F10, vA_s, st_cls is51, ckc_s, q1, bnd_s, nI_1]
            have := go (false, sYear (gK g) v 0, c') ⟨q2, hy', by
              show if false = true then _ else _
              rw [if_neg (by decide)]
              show if j + 1 ≤ 40 ∧ wY (gW g) + (j + 1) ≤ 999 then sTill (gK g) (fun v => (wF v p).testBit 0) (40 - (j + 1)) (sYear (gK g) v 0) (j + 1) = T else T = none
              by_cases c40 : j = 40
              · rw [if_neg (by omega), ← hs, c40, Nat.sub_self]
                show (if (wF v p).testBit 0 = true then some 40 else none) = none
                rw [if_neg (by rw [cp]; decide)]
              · rw [show 40 - j = (40 - (j + 1)) + 1 by omega, sTill_S, if_neg (by rw [cp]; decide)] at hs
                by_cases c9 : wY v < 999
                · rw [if_pos c9] at hs
                  rw [if_pos (by omega)]
                  exact hs
                · rw [if_neg c9] at hs
                  rw [if_neg (by omega)]
                  exact hs.symm⟩
            have this : Ok (s (if false = true then nI m else x3) (if false = true then nI (j + 1 - 1) else nI S) (nI (j + 1)) (mk B c' h0)) Q := this
            rw [if_neg (by decide), if_neg (by decide)] at this
            exact this
      · rw [if_neg cc] at hs
        rw [decide_eq_false cc, if_pos (by decide)]
        refine hK c v _ _ hx ?_
        rw [hs]
        exact ⟨rfl, rfl⟩
  · rintro s ⟨f, v, c⟩ ⟨hx, hyv, hs⟩
    have hx : cTr B (gK g) c0 v c := hx
    have nw := hx.now now
    show Ok (fX0_master_L75 D B (nI p) (nI m) K s (if f = true then nI m else x3) (if f = true then nI (41 - 1) else nI S) (nI 41) (mk B c h0)) Q
    unfold fX0_master_L75
    rw [x0_cls, ckc_s, x_isAhead nw.1 nw.2.1 _ 0 40 (by decide) (by decide), bnd_s, show (0 : Int32).toInt = 0 from by decide, show (40 : Int32).toInt = 40 from by decide, ah_nat (by omega), decide_eq_false (by omega), if_pos (by decide)]
    cases f with
    | true =>
      have hs : 1 ≤ 41 ∧ T = some (41 - 1) ∧ 41 - 1 < S := by
        have hs : if true = true then _ else _ := hs
        rwa [if_pos rfl] at hs
      rw [if_pos rfl, if_pos rfl]
      exact hK c v _ _ hx (by rw [hs.2.1]; show if 41 - 1 < S then _ else _; rw [if_pos hs.2.2]; exact ⟨rfl, rfl⟩)
    | false =>
      have hs : if 41 ≤ 40 ∧ wY (gW g) + 41 ≤ 999 then sTill (gK g) (fun v => (wF v p).testBit 0) (40 - 41) v 41 = T else T = none := by
        have hs : if false = true then _ else _ := hs
        rwa [if_neg (by decide)] at hs
      rw [if_neg (by omega)] at hs
      rw [if_neg (by decide), if_neg (by decide)]
      refine hK c v _ _ hx ?_
      rw [hs]
      exact ⟨rfl, rfl⟩
/-- the master of one is written -/
theorem cAll.master {k : SK} {w : SW} {s : Nat} (h8 : kP k ≤ 8) (h : cAll B k w s c) {p m : Nat} (hw : wOk k (uM w p m)) : cAll B k (uM w p m) s (xI c (s + 1) p (nI m - 1)) := by
  obtain ⟨-, ht, hr⟩ := h
  refine ⟨hw, ⟨?_, ?_, ?_, fun q hq => ?_⟩, hr.i (by omega) _⟩
  · rw [cI_x, if_neg (by omega)]; exact ht.1
  · rw [cI_x, if_neg (by omega)]; exact ht.2.1
  · rw [cI_x, if_neg (by omega)]; exact ht.2.2.1
  · obtain ⟨z1, z2, z3, z4⟩ := ht.2.2.2 q hq
    refine ⟨?_, ?_, ?_, ?_⟩
    · rw [cI_x, wM_u]
      by_cases e : q = p
      · rw [if_pos ⟨rfl, e⟩, if_pos e]
      · rw [if_neg (fun x => e x.2), if_neg e]; exact z1
    · rw [cI_x, if_neg (by omega)]; exact z2
    · rw [cI_x, if_neg (by omega)]; exact z3
    · rw [cI_x, if_neg (by omega)]; exact z4
theorem x_master (hD : ∃ q, dS D 7 = va_rf q) (h : cG B g c h0) (a what : Int32) : ∃ c', fX0_master D B a what (mk B c h0) = some ((if sPn (kP (gK g)) a = true ∧ sIn what 0 1 = true then spMaster (gK g) (gW g) a.toNatClampNeg what else -1), mk B c' h0) ∧ cG B g c' h0 := by
  have h1 := h.2.1
  have h8 := h1.1.2.1
  have now := h.2.2.1
  have hw := now.1
  have fin : Ok (fX0_master D B a what (mk B c h0)) (fun r => r.1 = (if sPn (kP (gK g)) a = true ∧ sIn what 0 1 = true then spMaster (gK g) (gW g) a.toNatClampNeg what else -1) ∧ ∃ c', r.2 = mk B c' h0 ∧ cG B g c' h0) := by
    unfold fX0_master
    rw [x0_cls, ckc_s, x_isPerson h1, bnd_s]
    cases e : sPn (kP (gK g)) a with
    | false => exact Ok.of ⟨rfl, c, rfl, h⟩
    | true =>
    obtain ⟨p, hp, rfl⟩ := sPn_nat e h8
    rw [if_neg (by decide), x_is, bnd_s, show (0 : Int32).toInt = 0 from by decide, show (1 : Int32).toInt = 1 from by decide]
    cases e2 : sIn what 0 1 with
    | false => exact Ok.of ⟨rfl, c, rfl, h⟩
    | true =>
    rw [if_neg (by decide), if_pos ⟨rfl, rfl⟩, nI_c (by omega)]
    simp only [jn_s]
    refine fx_okN (F := fX0_master_L29 D B (nI p) _) (z := fun _ _ _ _ => none) (fun s j (b : (Nat × Nat) × CZ) => s (nI b.1.1 - 1) (nI (if b.1.1 = 0 then 100000000 else b.1.2)) (nI j) (mk B b.2 h0)) (kP (gK g)) (fun j b => b.1 = sMas (gK g) (gW g) p j ∧ cFr 51 c b.2 ∧ cPi B 51 b.2) _ ?_ ?_ FU 0 ((0, 41), c) (Nat.zero_le _) ⟨rfl, cFr.rf 51 c, h.2.2.2.1⟩ (FU_gt (by omega))
    · rintro s j ⟨⟨a1, a2⟩, b⟩ hj ⟨ha, hf, hpi⟩ go
      have ha : (a1, a2) = sMas (gK g) (gW g) p j := ha
      have hf : cFr 51 c b := hf
      have hin := sMas_in (gK g) (gW g) p j
      rw [← ha] at hin
      have hin2 : a2 ≤ 41 := hin.2
      have hSm : sMas (gK g) (gW g) p (j + 1) = sMasS (gK g) (gW g) p j (a1, a2) := by rw [ha]; exact itN_S _ _ _
      have xb := hf.sc is51 h1
      have nb := now.fr is14 is51 (by decide) hf
      have hby := x_isBy (B := B) (h0 := h0) (c := b) h1.1 is14 (w := gW g) (fun q hq => (hw.2.2 q hq).1) (fun q hq => (nb.2.1.2.2.2 q hq).1) (a := j + 1) (p := p) (by omega) hp
      rw [nI_pred] at hby
      show Ok (fX0_master_L29 D B (nI p) _ s (nI a1 - 1) (nI (if a1 = 0 then 100000000 else a2)) (nI j) (mk B b h0)) _
      unfold fX0_master_L29
      rw [x0_cls, ckc_s, x_people xb, bnd_s, if_neg (nI_ge hj (by omega)), x0_F9, vA_s, st_cls is14, ckc_s, hby, bnd_s]
      simp only [jn_s]
      unfold sMasS at hSm
      cases cb : sBy (wM (gW g)) 8 (j + 1) p with
      | true =>
        rw [cb, if_pos rfl] at hSm
        rw [if_neg (by decide), nI_1]
        exact go ((a1, a2), b) ⟨hSm.symm, hf, hpi⟩
      | false =>
        rw [cb, if_neg (by decide)] at hSm
        obtain ⟨c1, q1, q2⟩ := x_start h hf hpi
        have wk : wOk (gK g) (uM (gW g) p (j + 1)) := hw.master h1.1 (by omega) (Or.inr cb)
        have in8 : inb (nI p) 8 = true := inb_nI (by omega) (by decide)
        rw [if_pos (by decide), x0_F10, vA_s, x0_F9, vA_s, st_cls is51, ckc_s, q1, bnd_s, st_F4 is51, vA_s, Nat.add_assoc B 51 1, (st_k1 is51).st c1 h0 in8, bnv_s, nI_c (by omega)]
        have am := q2.2.master h8 wk
        rw [nI_pred] at am
        have t2 : cTr B (gK g) c (uM (gW g) p (j + 1)) (xI c1 (51 + 1) p (nI j)) := ⟨q2.1.tr (cFr.x c1 (by omega) _ _), am⟩
        refine x_mas1 (v0 := uM (gW g) p (j + 1)) hD h hp (by split <;> omega) rfl t2 (fun c3 v3 x y t3 hxy => ?_)
        have t3f := t3.1
        have t3p := t3.2.2.2.pi
        rw [nI_1]
        cases hs : sTill (gK g) (fun v => (wF v p).testBit 0) 40 (uM (gW g) p (j + 1)) 0 with
        | none =>
          rw [hs] at hSm hxy
          obtain ⟨rfl, rfl⟩ := hxy
          exact go ((a1, a2), c3) ⟨hSm.symm, t3f, t3p⟩
        | some n =>
          rw [hs] at hSm hxy
          have hle := sTill_le hs
          have hSm : sMas (gK g) (gW g) p (j + 1) = if n < a2 then (j + 1, n) else (a1, a2) := hSm
          have hxy : if n < (if a1 = 0 then 100000000 else a2) then x = nI j ∧ y = nI n else x = nI a1 - 1 ∧ y = nI (if a1 = 0 then 100000000 else a2) := hxy
          have hz : a1 = 0 → a2 = 41 := by
            have key : ∀ n, (sMas (gK g) (gW g) p n).1 = 0 → (sMas (gK g) (gW g) p n).2 = 41 := by
              intro n
              induction n with
              | zero => intro _; rfl
              | succ n ih =>
                intro hq
                have e : sMas (gK g) (gW g) p (n + 1) = sMasS (gK g) (gW g) p n (sMas (gK g) (gW g) p n) := itN_S _ _ _
                rw [e] at hq ⊢
                unfold sMasS at hq ⊢
                split
                next cc => rw [if_pos cc] at hq; exact ih hq
                next cc =>
                  rw [if_neg cc] at hq
                  split
                  next m hm =>
                    rw [hm] at hq
                    have hq : (if m < (sMas (gK g) (gW g) p n).2 then (n + 1, m) else sMas (gK g) (gW g) p n).1 = 0 := hq
                    split
                    next cm => rw [if_pos cm] at hq; exact absurd hq (by show ¬ n + 1 = 0; omega)
                    next cm => rw [if_neg cm] at hq; exact ih hq
                  next hm =>
                    rw [hm] at hq
                    exact ih hq
            intro q
            have := key j
            rw [← ha] at this
            exact this q
          by_cases cn : n < a2
          · rw [if_pos cn] at hSm
            rw [if_pos (by split <;> omega)] at hxy
            obtain ⟨rfl, rfl⟩ := hxy
            have := go ((j + 1, n), c3) ⟨hSm.symm, t3f, t3p⟩
            have this : Ok (s (nI (j + 1) - 1) (nI (if j + 1 = 0 then 100000000 else n)) (nI (j + 1)) (mk B c3 h0)) _ := this
            rw [nI_pred, if_neg (by omega)] at this
            exact this
          · rw [if_neg cn] at hSm
            have hne : a1 ≠ 0 := fun q => by have := hz q; omega
            rw [if_neg hne, if_neg cn] at hxy
            obtain ⟨rfl, rfl⟩ := hxy
            have := go ((a1, a2), c3) ⟨hSm.symm, t3f, t3p⟩
            have this : Ok (s (nI a1 - 1) (nI (if a1 = 0 then 100000000 else a2)) (nI (j + 1)) (mk B c3 h0)) _ := this
            rw [if_neg hne] at this
            exact this
    · rintro s ⟨⟨a1, a2⟩, b⟩ ⟨ha, hf, hpi⟩
      have ha : (a1, a2) = sMas (gK g) (gW g) p (kP (gK g)) := ha
      have hf : cFr 51 c b := hf
      have hin := sMas_in (gK g) (gW g) p (kP (gK g))
      rw [← ha] at hin
      have hin1 : a1 ≤ kP (gK g) := hin.1
      have xb := hf.sc is51 h1
      show Ok (fX0_master_L29 D B (nI p) _ s (nI a1 - 1) (nI (if a1 = 0 then 100000000 else a2)) (nI (kP (gK g))) (mk B b h0)) _
      unfold fX0_master_L29
      rw [x0_cls, ckc_s, x_people xb, bnd_s, if_pos (nI_le (Nat.le_refl _) (by omega))]
      unfold spMaster
      rw [← ha]
      show Ok (if nI a1 - 1 = -1 then some (nI a1 - 1, mk B b h0) else if what = 0 then some (nI a1 - 1, mk B b h0) else some (nI (if a1 = 0 then 100000000 else a2), mk B b h0)) (fun (r : Int32 × PH) => r.1 = (if a1 = 0 ∨ what = 0 then nI a1 - 1 else nI a2) ∧ ∃ c', r.2 = mk B c' h0 ∧ cG B g c' h0)
      have gb := h.fr hf hpi
      by_cases z0 : a1 = 0
      · rw [if_pos (by rw [z0]; decide), if_pos (Or.inl z0)]
        exact Ok.of ⟨rfl, b, rfl, gb⟩
      · rw [if_neg (m1_ne z0 (by omega))]
        by_cases cw : what = 0
        · rw [if_pos cw, if_pos (Or.inr cw)]
          exact Ok.of ⟨rfl, b, rfl, gb⟩
        · rw [if_neg cw, if_neg z0, if_neg (show ¬ (a1 = 0 ∨ what = 0) from fun q => q.elim z0 cw)]
          exact Ok.of ⟨rfl, b, rfl, gb⟩
  obtain ⟨⟨r, h'⟩, e, q1, c', q2, q3⟩ := fin
  have q2 : h' = mk B c' h0 := q2
  exact ⟨c', by rw [e, q2]; cases q1; rfl, q3⟩
end MA
