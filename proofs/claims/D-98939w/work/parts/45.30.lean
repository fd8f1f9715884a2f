/-! PART 30: plain: all statements; the Model's loop over them -/
set_option maxRecDepth 100000
section RS1
variable {n : Nat} {b : Nat → Nat}
def rSch (n : Nat) (b : Nat → Nat) : Nat → ST → Nat → Nat → RS (ST × Nat)
  | 0, s, cnt, i => .inr ((s, cnt), i)
  | f + 1, s, cnt, i => if n ≤ sSk n b i then .inr ((s, cnt), sSk n b i) else sbd (rSt1 n b s cnt (sSk n b i)) fun s' e => rSch n b f s' (cnt + 1) e
theorem rNum_ok {lo hi i v e : Nat} (h : rNum n b lo hi i = .inr (v, e)) : lo ≤ v ∧ v ≤ hi := ⟨(rNum_r h).2.2.1, (rNum_r h).2.2.2⟩
theorem rFactS_ok {s s' : ST} {j e e' : Nat} (hs : stOk s) (h : rFactS n b s j e = .inr (s', e')) : stOk s' := by
  unfold rFactS at h
  by_cases c : kF (tK s) = 8
  · rw [if_pos c] at h; cases h
  · rw [if_neg c] at h
    obtain ⟨l, e1, q1, q2⟩ := sbd_inr h
    obtain ⟨u, e2, q3, q4⟩ := sbd_inr q2
    obtain ⟨x, e3, q5, q6⟩ := sbd_inr q4
    have := hs.1.1
    cases q6
    exact hs.addF (by omega) (rNewJ_r q1).1 (rNum_ok q5)
theorem rPersS_ok {s s' : ST} {j e e' : Nat} (hs : stOk s) (h : rPersS n b s j e = .inr (s', e')) : stOk s' := by
  unfold rPersS at h
  by_cases c : kP (tK s) = 8
  · rw [if_pos c] at h; cases h
  · rw [if_neg c] at h
    obtain ⟨l, e1, q1, q2⟩ := sbd_inr h
    obtain ⟨u, e2, q3, q4⟩ := sbd_inr q2
    obtain ⟨x, e3, q5, q6⟩ := sbd_inr q4
    have := hs.1.2.1
    cases q6
    exact hs.addP (by omega) (rNewJ_r q1).1 (rNum_ok q5).2
theorem rBelS_ok {s s' : ST} {r : Bool} {e e' : Nat} (hs : stOk s) (h : rBelS n b s r e = .inr (s', e')) : stOk s' := by
  obtain ⟨p, e1, q1, q2⟩ := sbd_inr h
  obtain ⟨f, e2, q3, q4⟩ := sbd_inr q2
  have p1 : p.1 < kP (tK s) := (rOneJ_r q1).1
  have f1 : f.1 < kF (tK s) := (rOneJ_r q3).1
  by_cases c : (tR s p.1 ||| tW s p.1).testBit f.1 = true
  · rw [if_pos c] at q4; cases q4
  · rw [if_neg c] at q4
    rw [Nat.testBit_or] at c
    have c1 : (tR s p.1).testBit f.1 = false := by cases h : (tR s p.1).testBit f.1 <;> simp_all
    have c2 : (tW s p.1).testBit f.1 = false := by cases h : (tW s p.1).testBit f.1 <;> simp_all
    cases q4
    by_cases cr : r = true
    · rw [if_pos cr]; exact hs.rgt p1 f1 c2
    · rw [if_neg cr]; exact hs.wrg p1 f1 c1
theorem rTauS_ok {s s' : ST} {e e' : Nat} (hs : stOk s) (h : rTauS n b s e = .inr (s', e')) : stOk s' := by
  obtain ⟨p, e1, q1, q2⟩ := sbd_inr h
  have p1 : p.1 < kP (tK s) := (rOneJ_r q1).1
  by_cases c : tM s p.1 = 0
  · rw [if_pos c] at q2
    obtain ⟨u, e2, q3, q4⟩ := sbd_inr q2
    obtain ⟨m, e3, q5, q6⟩ := sbd_inr q4
    have m1 : m.1 < kP (tK s) := (rOneJ_r q5).1
    by_cases c2 : sBy (tM s) 8 (m.1 + 1) p.1 = true
    · rw [if_pos c2] at q6; cases q6
    · rw [if_neg c2] at q6
      cases q6
      refine hs.mst p1 m1 ?_
      cases h : sBy (tM s) 8 (m.1 + 1) p.1 with
      | false => rfl
      | true => exact absurd h c2
  · rw [if_neg c] at q2; cases q2
theorem rTstS_ok {s s' : ST} {i j e e' : Nat} (hs : stOk s) (h : rTstS n b s i j e = .inr (s', e')) : stOk s' := by
  unfold rTstS at h
  cases c : kTe (tK s) i with
  | some x => rw [c] at h; cases h
  | none =>
    rw [c] at h
    obtain ⟨x, e1, q1, q2⟩ := sbd_inr h
    cases q2
    exact hs.tst (rTest_cd q1)
theorem rSetS_ok {s s' : ST} {i hi e e' : Nat} (hs : stOk s) (hv : (i = 0 ∧ hi = 99) ∨ (i = 1 ∧ hi = 9) ∨ (i = 2 ∧ hi = 100)) (h : rSetS n b s i hi e = .inr (s', e')) : stOk s' := by
  obtain ⟨x, e1, q1, q2⟩ := sbd_inr h
  have := (rNum_ok q1).2
  cases q2
  exact hs.set (by omega)
theorem rStmW_ok {s s' : ST} {w : List Nat} {j e e' : Nat} (hs : stOk s) (h : rStmW n b s w j e = .inr (s', e')) : stOk s' := by
  unfold rStmW at h
  by_cases c1 : w = wFact
  · rw [if_pos c1] at h; exact rFactS_ok hs h
  rw [if_neg c1] at h
  by_cases c2 : w = wPers
  · rw [if_pos c2] at h; exact rPersS_ok hs h
  rw [if_neg c2] at h
  by_cases c3 : w = wKnow
  · rw [if_pos c3] at h; exact rBelS_ok hs h
  rw [if_neg c3] at h
  by_cases c4 : w = wErrs
  · rw [if_pos c4] at h; exact rBelS_ok hs h
  rw [if_neg c4] at h
  by_cases c5 : w = wTaug
  · rw [if_pos c5] at h; exact rTauS_ok hs h
  rw [if_neg c5] at h
  by_cases c6 : w = wTake
  · rw [if_pos c6] at h; exact rTstS_ok hs h
  rw [if_neg c6] at h
  by_cases c7 : w = wGarb
  · rw [if_pos c7] at h; exact rTstS_ok hs h
  rw [if_neg c7] at h
  by_cases c8 : w = wSits
  · rw [if_pos c8] at h; exact rTstS_ok hs h
  rw [if_neg c8] at h
  by_cases c9 : w = wPass
  · rw [if_pos c9] at h; exact rSetS_ok hs (by omega) h
  rw [if_neg c9] at h
  by_cases c10 : w = wTrie
  · rw [if_pos c10] at h; exact rSetS_ok hs (by omega) h
  rw [if_neg c10] at h
  by_cases c11 : w = wIll
  · rw [if_pos c11] at h; exact rSetS_ok hs (by omega) h
  rw [if_neg c11] at h
  cases h
theorem rSt1_ok {s s' : ST} {cnt j e : Nat} (hs : stOk s) (h : rSt1 n b s cnt j = .inr (s', e)) : stOk s' ∧ e ≤ n ∧ cnt ≠ 80 := by
  unfold rSt1 at h
  by_cases c : cnt = 80
  · rw [if_pos c] at h; cases h
  · rw [if_neg c] at h
    obtain ⟨x, e1, q1, q2⟩ := sbd_inr h
    obtain ⟨u, e2, q3, q4⟩ := sbd_inr q2
    obtain ⟨v, e3, q5, q6⟩ := sbd_inr q1
    have := rMust_r (by decide) q3
    have g := rStmW_ok hs q6
    cases q4
    exact ⟨g, this.2.1, c⟩
/-- how far a statement reaches at least -/
theorem rSt1_gt {s s' : ST} {cnt j e : Nat} (h : rSt1 n b s cnt j = .inr (s', e)) : ∃ x, rStmt n b s j = .inr (s', x) ∧ x < e := by
  unfold rSt1 at h
  by_cases c : cnt = 80
  · rw [if_pos c] at h; cases h
  · rw [if_neg c] at h
    obtain ⟨x, e1, q1, q2⟩ := sbd_inr h
    obtain ⟨u, e2, q3, q4⟩ := sbd_inr q2
    have := rMust_r (by decide) q3
    cases q4
    exact ⟨e1, q1, this.1⟩
end RS1
