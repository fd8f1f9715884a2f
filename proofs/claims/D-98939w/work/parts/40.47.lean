/-! PART 47: plain: the component: tells, examines -/
set_option maxRecDepth 100000
/-- what rows told change in the State at s -/
def cTl (s : Nat) (c c' : CZ) : Prop := (∀ o i, ¬ (o = s ∧ i = 3) → (o < s + 6 ∨ s + 36 ≤ o) → cI c' o i = cI c o i) ∧ c'.2.1 = c.2.1 ∧ ∀ o, o ≠ s + 5 → c'.2.2 o = c.2.2 o
theorem cTl.rf (s : Nat) (c : CZ) : cTl s c c := ⟨fun _ _ _ _ => rfl, rfl, fun _ _ => rfl⟩
theorem cTl.tr {s : Nat} {a b c : CZ} (h : cTl s a b) (g : cTl s b c) : cTl s a c := ⟨fun o i h1 h2 => (g.1 o i h1 h2).trans (h.1 o i h1 h2), g.2.1.trans h.2.1, fun o ho => (g.2.2 o ho).trans (h.2.2 o ho)⟩
theorem cTl.q {s : Nat} {c c' : CZ} (h : cTl s c c') {o : Nat} (ho : o ≠ s + 5) (i : Nat) : cQ c' o i = cQ c o i := by unfold cQ; rw [h.2.2 o ho]
theorem cTl.st {k : SK} {w : SW} {s : Nat} {c c' : CZ} (h : cTl s c c') (g : cSt k w s c) : cSt k w s c' := by
  refine ⟨?_, ?_, ?_, fun p hp => ⟨?_, ?_, ?_, ?_⟩⟩
  · rw [h.1 _ _ (by omega) (by omega)]; exact g.1
  · rw [h.1 _ _ (by omega) (by omega)]; exact g.2.1
  · rw [h.1 _ _ (by omega) (by omega)]; exact g.2.2.1
  · rw [h.1 _ _ (by omega) (by omega)]; exact (g.2.2.2 p hp).1
  · rw [h.1 _ _ (by omega) (by omega)]; exact (g.2.2.2 p hp).2.1
  · rw [h.1 _ _ (by omega) (by omega)]; exact (g.2.2.2 p hp).2.2.1
  · rw [h.1 _ _ (by omega) (by omega)]; exact (g.2.2.2 p hp).2.2.2
/-- only the State at s, and the moment, have changed -/
def cFr (s : Nat) (c c' : CZ) : Prop := (∀ o i, o < s ∨ s + 37 ≤ o → cI c' o i = cI c o i) ∧ (∀ o, o ≠ 10 → c'.2.1 o = c.2.1 o) ∧ ∀ o, o ≠ s + 5 → c'.2.2 o = c.2.2 o
theorem cFr.rf (s : Nat) (c : CZ) : cFr s c c := ⟨fun _ _ _ => rfl, fun _ _ => rfl, fun _ _ => rfl⟩
theorem cFr.tr {s : Nat} {a b c : CZ} (h : cFr s a b) (g : cFr s b c) : cFr s a c := ⟨fun o i h1 => (g.1 o i h1).trans (h.1 o i h1), fun o ho => (g.2.1 o ho).trans (h.2.1 o ho), fun o ho => (g.2.2 o ho).trans (h.2.2 o ho)⟩
theorem cMo.fr {s : Nat} {c c' : CZ} (h : cMo c c') : cFr s c c' := ⟨fun o i _ => h.i o i, h.2.2, fun o _ => by rw [h.2.1]⟩
theorem cTe.fr {s : Nat} {c c' : CZ} (h : cTe s c c') : cFr s c c' := ⟨fun o i ho => h.1 o i (by omega) (by omega) (by omega) (by omega), h.2.2, fun o _ => by rw [h.2.1]⟩
theorem cTl.fr {s : Nat} {c c' : CZ} (h : cTl s c c') : cFr s c c' := ⟨fun o i ho => h.1 o i (by omega) (by omega), fun o _ => by rw [h.2.1], h.2.2⟩
theorem cFr.x {s : Nat} (c : CZ) {o : Nat} (ho : s ≤ o ∧ o < s + 37) (i : Nat) (v : Int32) : cFr s c (xI c o i v) := ⟨fun o' i' h => by rw [cI_x, if_neg (by omega)], fun _ _ => rfl, fun _ _ => rfl⟩
theorem cFr.sc {s : Nat} (hs : isS s) {B : Nat} {k : SK} {nm : Nat → Nat → List Nat} {c c' : CZ} {h0 : PH} (h : cFr s c c') (g : cSc B k nm c h0) : cSc B k nm c' h0 := g.of (by
  have : (0 : Nat) ≠ s + 5 := by omega
  show c'.2.2 0 0 = c.2.2 0 0
  rw [h.2.2 0 this])
section TL
variable {B : Nat} {c : CZ} {h0 : PH} {s : Nat}
/-- one row more -/
theorem x_tells2 (hs : isS s) {l : List (Nat × Nat × Nat)} {n y p v : Nat} (hn : n = l.length) (hl : n < 30) (hr : cRw B l s c) (hy : cI c s 0 = nI y) : ∃ c', (vA (pF (mk B c h0) (B + s) 5 8) fun p1 =>
    vI (pF (mk B c h0) (B + s) 5 3) fun v2 =>
    ob (pLdQ (mk B c h0) p1 6 v2) fun q1 =>
    vI (pF (mk B c h0) (B + s) 5 0) fun v3 =>
    qS q1 fun n1 =>
    bnv (pSt (mk B c h0) n1 0 0 v3) fun h2 =>
    vA (pF h2 (B + s) 5 8) fun p2 =>
    vI (pF h2 (B + s) 5 3) fun v4 =>
    ob (pLdQ h2 p2 6 v4) fun q2 =>
    qS q2 fun n2 =>
    bnv (pSt h2 n2 0 1 (nI p)) fun h3 =>
    vA (pF h3 (B + s) 5 8) fun p3 =>
    vI (pF h3 (B + s) 5 3) fun v5 =>
    ob (pLdQ h3 p3 6 v5) fun q3 =>
    qS q3 fun n3 =>
    bnv (pSt h3 n3 0 2 (nI v)) fun h4 =>
    vI (pF h4 (B + s) 5 3) fun v6 =>
    bnv (pPut h4 (B + s) 5 3 (.int (v6 + 1))) fun h5 =>
    some h5) = some (mk B c' h0) ∧ cTl s c c' ∧ cRw B (l ++ [(y, p, v)]) s c' := by
  obtain ⟨r1, r2, π, r3, r4, r5, r6⟩ := hr
  have pn := r3 n hl
  have in30 : inb (nI n) 30 = true := inb_nI hl (by decide)
  have nc : (nI n).toNatClampNeg = n := nI_c (by omega)
  have kr := st_kr (B := B) hs pn
  have i0 : inb (0 : Int32) 3 = true := by decide
  have i1 : inb (1 : Int32) 3 = true := by decide
  have i2 : inb (2 : Int32) 3 = true := by decide
  have t0 : (Int32.toNatClampNeg 0) = 0 := by decide
  have t1 : (Int32.toNatClampNeg 1) = 1 := by decide
  have t2 : (Int32.toNatClampNeg 2) = 2 := by decide
  have c3 : cI c s 3 = nI n := by rw [r2, hn]
  have lq : ∀ x : CZ, cQ x (s + 5) n = some (B + (s + 6 + π n)) → pLdQ (mk B x h0) (B + s + 5) 6 (nI n) = some (some (B + (s + 6 + π n))) := fun x hx => by
    rw [Nat.add_assoc, (st_k5 hs).ld x h0 in30, nc, hx]
  rw [st_F8 hs, vA_s, st_F3 hs, vI_s, c3, lq c (r5 n hl), ob_s, st_F0 hs, vI_s, qS_s, kr.st c h0 i0, bnv_s, t0, hy]
  generalize hz1 : xI c (s + 6 + π n) 0 (nI y) = x1
  have x13 : cI x1 s 3 = nI n := by rw [← hz1, cI_x, if_neg (by omega), c3]
  have x1q : cQ x1 (s + 5) n = some (B + (s + 6 + π n)) := by rw [← hz1, cQ_xI, r5 n hl]
  rw [st_F8 hs, vA_s, st_F3 hs, vI_s, x13, lq x1 x1q, ob_s, qS_s, kr.st x1 h0 i1, bnv_s, t1]
  generalize hz2 : xI x1 (s + 6 + π n) 1 (nI p) = x2
  have x23 : cI x2 s 3 = nI n := by rw [← hz2, cI_x, if_neg (by omega), x13]
  have x2q : cQ x2 (s + 5) n = some (B + (s + 6 + π n)) := by rw [← hz2, cQ_xI, x1q]
  rw [st_F8 hs, vA_s, st_F3 hs, vI_s, x23, lq x2 x2q, ob_s, qS_s, kr.st x2 h0 i2, bnv_s, t2]
  generalize hz3 : xI x2 (s + 6 + π n) 2 (nI v) = x3
  have x33 : cI x3 s 3 = nI n := by rw [← hz3, cI_x, if_neg (by omega), x23]
  rw [st_F3 hs, vI_s, x33, st_p3 hs, bnv_s, nI_1]
  have val : ∀ o i, cI (xI x3 s 3 (nI (n + 1))) o i = if o = s ∧ i = 3 then nI (n + 1) else if o = s + 6 + π n ∧ i = 2 then nI v else if o = s + 6 + π n ∧ i = 1 then nI p else if o = s + 6 + π n ∧ i = 0 then nI y else cI c o i := fun o i => by
    rw [cI_x, ← hz3, cI_x, ← hz2, cI_x, ← hz1, cI_x]
  have q0 : ∀ o i, cQ (xI x3 s 3 (nI (n + 1))) o i = cQ c o i := fun o i => by
    rw [cQ_xI, ← hz3, cQ_xI, ← hz2, cQ_xI, ← hz1, cQ_xI]
  refine ⟨_, rfl, ⟨fun o i h1 h2 => ?_, ?_, fun o ho => ?_⟩, ?_, ?_, π, r3, r4, fun i hi => by rw [q0]; exact r5 i hi, fun i hi => ?_⟩
  · rw [val, if_neg h1, if_neg (by omega), if_neg (by omega), if_neg (by omega)]
  · rw [← hz3, ← hz2, ← hz1]; rfl
  · rw [← hz3, ← hz2, ← hz1]; rfl
  · simp; omega
  · rw [val, if_pos ⟨rfl, rfl⟩]; simp [hn]
  · have hi : i < n + 1 := by simpa [hn] using hi
    by_cases e : i = n
    · have g : (l ++ [(y, p, v)]).getD i (0, 0, 0) = (y, p, v) := by rw [e, hn]; simp
      rw [g, e, val, val, val, if_neg (by omega), if_neg (by omega), if_neg (by omega), if_pos ⟨rfl, rfl⟩, if_neg (by omega), if_neg (by omega), if_pos ⟨rfl, rfl⟩, if_neg (by omega), if_pos ⟨rfl, rfl⟩]
      exact ⟨rfl, rfl, rfl⟩
    · have g : (l ++ [(y, p, v)]).getD i (0, 0, 0) = l.getD i (0, 0, 0) := by
        simp [List.getD, List.getElem?_append_left (show i < l.length by omega)]
      have ne : π i ≠ π n := fun q => e (r4 i n (by omega) hl q)
      have pi := r3 i (by omega)
      rw [g, val, val, val, if_neg (by omega), if_neg (by omega), if_neg (by omega), if_neg (by omega), if_neg (by omega), if_neg (by omega), if_neg (by omega), if_neg (by omega), if_neg (by omega), if_neg (by omega), if_neg (by omega), if_neg (by omega)]
      exact r6 i (by omega)
theorem x_tells (hs : isS s) {w : SW} (p v : Nat) (hr : cRw B (wK w) s c) (hy : cI c s 0 = nI (wY w)) : ∃ c', fX5_tells (B + s) (nI p) (nI v) (mk B c h0) = some (mk B c' h0) ∧ cTl s c c' ∧ cRw B (wK (sTell w p v)) s c' := by
  have fin : Ok (fX5_tells (B + s) (nI p) (nI v) (mk B c h0)) (fun r => ∃ c', r = mk B c' h0 ∧ cTl s c c' ∧ cRw B (wK (sTell w p v)) s c') := by
    unfold fX5_tells
    rw [st_F3 hs, vI_s, hr.2.1, sTell_K]
    simp only [jn_s]
    by_cases c30 : (wK w).length = 30
    · obtain ⟨r1, r2, π, r3, r4, r5, r6⟩ := hr
      have p0 := r3 0 (by decide)
      have lq0 : pLdQ (mk B c h0) (B + s + 5) 6 0 = some (some (B + (s + 6 + π 0))) := by
        rw [Nat.add_assoc, (st_k5 hs).ld c h0 (by decide)]
        exact congrArg some (r5 0 (by decide))
      rw [if_pos (by rw [c30]; rfl), if_pos c30, st_F8 hs, vA_s, lq0, ob_s]
      refine fx_okN (F := fX5_tells_L19 (B + s) _) (z := fun _ _ => none) (fun g j (b : CZ) => g (nI (1 + j)) (mk B b h0)) 29 (fun j b => b.1 = c.1 ∧ b.2.1 = c.2.1 ∧ (∀ o, o ≠ s + 5 → b.2.2 o = c.2.2 o) ∧ ∀ i, i < 30 → cQ b (s + 5) i = some (B + (s + 6 + π (if i < j then i + 1 else i)))) _ ?_ ?_ FU 0 c (Nat.zero_le _) ⟨rfl, rfl, fun _ _ => rfl, fun i hi => by rw [if_neg (Nat.not_lt_zero _)]; exact r5 i hi⟩ (FU_gt (by decide))
      · rintro g j b hj ⟨e1, e2, e3, e4⟩ go
        have pj := r3 (1 + j) (by omega)
        show Ok (fX5_tells_L19 (B + s) _ g (nI (1 + j)) (mk B b h0)) _
        unfold fX5_tells_L19
        have lq : pLdQ (mk B b h0) (B + s + 5) 6 (nI (1 + j)) = some (some (B + (s + 6 + π (1 + j)))) := by
          rw [Nat.add_assoc, (st_k5 hs).ld b h0 (inb_nI (show 1 + j < 30 by omega) (by decide)), nI_c (by omega), e4 _ (by omega), if_neg (by omega)]
        rw [if_neg (show ¬ (30 : Int32) ≤ nI (1 + j) from nI_ge (b := 30) (by omega) (by decide)), st_F8 hs, vA_s, vA_s, lq, ob_s, qS_s, (st_kr hs pj).arr b h0, ob_s, nI_m1 (by omega), show 1 + j - 1 = j by omega, Nat.add_assoc B s 5, (st_k5 hs).st b h0 (inb_nI (show j < 30 by omega) (by decide)), bnv_s, nI_c (by omega), nI_1, Nat.add_assoc 1 j 1]
        refine go _ ⟨e1, e2, fun o ho => by show va_up b.2.2 (s + 5) _ o = _; rw [va_up_ne _ _ ho, e3 o ho], fun i hi => ?_⟩
        rw [cQ_x]
        by_cases e : i = j
        · rw [if_pos ⟨rfl, e⟩, if_pos (by omega), e, Nat.add_comm 1 j]
        · rw [if_neg (fun q => e q.2), e4 i hi]
          by_cases e2 : i < j
          · rw [if_pos e2, if_pos (by omega)]
          · rw [if_neg e2, if_neg (by omega)]
      · rintro g b ⟨e1, e2, e3, e4⟩
        show Ok (fX5_tells_L19 (B + s) _ g (nI (1 + 29)) (mk B b h0)) _
        unfold fX5_tells_L19
        rw [if_pos (by decide)]
        show Ok (vA (pF (mk B b h0) (B + s) 5 8) fun p5 => qS (some (B + (s + 6 + π 0))) fun n4 => ob (pArr (mk B b h0) n4 0) fun b1 => bnv (pStQ (mk B b h0) p5 6 29 (some n4)) fun h7 => vI (pF h7 (B + s) 5 3) fun v7 => bnv (pPut h7 (B + s) 5 3 (.int (v7 - 1))) fun h8 => _) _
        have i29 : inb (29 : Int32) 30 = true := by decide
        have t29 : (Int32.toNatClampNeg 29) = 29 := by decide
        rw [st_F8 hs, vA_s, qS_s, (st_kr hs p0).arr b h0, ob_s, Nat.add_assoc B s 5, (st_k5 hs).st b h0 i29, bnv_s, t29]
        generalize hz1 : xQ' b (s + 5) 29 (some (B + (s + 6 + π 0))) = x1
        have x1I : ∀ o i, cI x1 o i = cI c o i := fun o i => by rw [← hz1]; show b.1 o i = c.1 o i; rw [e1]
        have x13 : cI x1 s 3 = nI 30 := by rw [x1I, r2, c30]
        rw [st_F3 hs, vI_s, x13, st_p3 hs, bnv_s, show nI 30 - 1 = nI 29 from by decide]
        generalize hz2 : xI x1 s 3 (nI 29) = x2
        have x2I : ∀ o i, cI x2 o i = if o = s ∧ i = 3 then nI 29 else cI c o i := fun o i => by rw [← hz2, cI_x, x1I]
        have x2Q : ∀ o i, o ≠ s + 5 → cQ x2 o i = cQ c o i := fun o i ho => by
          rw [← hz2, cQ_xI, ← hz1, cQ_x, if_neg (fun q => ho q.1)]
          show b.2.2 o i = c.2.2 o i
          rw [e3 o ho]
        have tl : cTl s c x2 := ⟨fun o i h1 _ => by rw [x2I, if_neg h1], by rw [← hz2, ← hz1]; exact e2, fun o ho => by funext i; exact x2Q o i ho⟩
        have hr2 : cRw B ((wK w).drop 1) s x2 := by
          refine ⟨by simp; omega, by rw [x2I, if_pos ⟨rfl, rfl⟩]; simp [c30], fun i => if i < 29 then π (i + 1) else π 0, fun i hi => ?_, fun i j hi hj he => ?_, fun i hi => ?_, fun i hi => ?_⟩
          · show (if i < 29 then π (i + 1) else π 0) < 30
            split
            · exact r3 _ (by omega)
            · exact p0
          · have he : (if i < 29 then π (i + 1) else π 0) = (if j < 29 then π (j + 1) else π 0) := he
            by_cases a1 : i < 29 <;> by_cases a2 : j < 29
            · rw [if_pos a1, if_pos a2] at he
              have := r4 _ _ (by omega) (by omega) he
              omega
            · rw [if_pos a1, if_neg a2] at he
              have := r4 _ _ (by omega) (by omega) he
              omega
            · rw [if_neg a1, if_pos a2] at he
              have := r4 _ _ (by omega) (by omega) he
              omega
            · omega
          · show cQ x2 (s + 5) i = some (B + (s + 6 + if i < 29 then π (i + 1) else π 0))
            rw [← hz2, cQ_xI, ← hz1, cQ_x]
            by_cases e : i = 29
            · rw [if_pos ⟨rfl, e⟩, if_neg (by omega)]
            · rw [if_neg (fun q => e q.2), e4 i hi, if_pos (by omega), if_pos (by omega)]
          · have hi : i < 29 := by simpa [c30] using hi
            have hg : ((wK w).drop 1).getD i (0, 0, 0) = (wK w).getD (i + 1) (0, 0, 0) := by
              simp [List.getD, Nat.add_comm]
            show cI x2 (s + 6 + if i < 29 then π (i + 1) else π 0) 0 = _ ∧ cI x2 (s + 6 + if i < 29 then π (i + 1) else π 0) 1 = _ ∧ cI x2 (s + 6 + if i < 29 then π (i + 1) else π 0) 2 = _
            rw [hg, if_pos hi, x2I, x2I, x2I, if_neg (by omega), if_neg (by omega), if_neg (by omega)]
            exact r6 (i + 1) (by omega)
        obtain ⟨c', q1, q2, q3⟩ := x_tells2 (h0 := h0) hs (l := (wK w).drop 1) (n := 29) (y := wY w) (p := p) (v := v) (by simp [c30]) (by decide) hr2 (by rw [x2I, if_neg (by omega)]; exact hy)
        exact ⟨_, q1, c', rfl, tl.tr q2, q3⟩
    · have hl := hr.1
      rw [if_neg (fun (q : nI (wK w).length = 30) => c30 ((nI_eq (b := 30) (by omega) (by decide)).mp q)), if_neg c30]
      obtain ⟨c', q1, q2, q3⟩ := x_tells2 (h0 := h0) hs (y := wY w) (p := p) (v := v) rfl (by omega) hr hy
      have q1' := q1
      exact ⟨_, q1', c', rfl, q2, q3⟩
  obtain ⟨r, e, c', rfl, q1, q2⟩ := fin
  exact ⟨c', e, q1, q2⟩
end TL
theorem sWho_bec {w : SW} {n p b b' : Nat} (hn : n ≤ 8) (hp : p < n) (hf : ∀ q, q < n → wF w q < 4) (hb : b < 2) (hb' : b' < 2) : sWho (sBec w p b) n b' = if b' = b then sWho w n b' ||| 2 ^ p else sWho w n b' := by
  have l1 := sWho_lt (sBec w p b) n b' hn
  have l2 := sWho_lt w n b' hn
  refine set_ext _ l1 _ ?_ (fun j hj => ?_)
  · split
    · exact s_orlt _ l2 p (by omega)
    · exact l2
  · rw [sWho_bit _ _ n hn j hj, wF_bec]
    by_cases e : b' = b
    · rw [if_pos e, s_ort _ l2 p (by omega) j hj, sWho_bit _ _ n hn j hj]
      by_cases ej : j = p
      · rw [if_pos ej, ej, f_t _ (hf p hp) b hb b' hb', decide_eq_true e, decide_eq_true hp, decide_eq_true rfl]
        simp
      · rw [if_neg ej, decide_eq_false (show ¬ p = j from fun q => ej q.symm), Bool.or_false]
    · rw [if_neg e, sWho_bit _ _ n hn j hj]
      by_cases ej : j = p
      · rw [if_pos ej, ej, f_t _ (hf p hp) b hb b' hb', decide_eq_false e, Bool.or_false]
      · rw [if_neg ej]
theorem nI_or (a b : Nat) : nI a ||| nI b = nI (a ||| b) := Int32.toBitVec_inj.mp (by
  show BitVec.ofNat 32 a ||| BitVec.ofNat 32 b = BitVec.ofNat 32 (a ||| b)
  exact BitVec.ofNat_or.symm)
theorem or_256 {a b : Nat} (ha : a < 256) (hb : b < 256) : a ||| b < 256 := Nat.or_lt_two_pow (n := 8) ha hb
