/-! PART 28: plain: tests tied -/
set_option maxRecDepth 100000
section SU
variable {B N n : Nat} {b : Nat → Nat} {D : PD} {cap : Nat × Nat}
theorem tSp.ups {F : Nat → PH → Option ((Nat ⊕ Nat) × PH)} {S : Nat → RS (List Int32)} {d : Nat} {m5 : Int32} {x y w k k' : Nat} (hk : k ≤ k') (g : tSp D cap B N n b F S d m5 x y w k) : tSp D cap B N n b F S d m5 x y w k' := by
  intro c h j hd ha hj h4 h5 r1 r2
  obtain ⟨c', h', g1, g2, g3, g4⟩ := g c h j hd ha hj h4 h5 r1 r2
  refine ⟨c', h', g1, g2, g3, ?_⟩
  cases q : S j with
  | inl gg => rw [q] at g4; exact g4
  | inr pp =>
    obtain ⟨cs, e⟩ := pp
    rw [q] at g4
    obtain ⟨p, u1, u2, u3, u4, u5, u6⟩ := g4
    exact ⟨p, u1, u2, u3, u4.ups hk, u5, u6⟩
theorem y_testO {q : Nat} (hn : n ≤ 1600) {r d m k : Nat} (hp : rPg n b (rFact n b q r)) (A : tSp D cap B N n b (fX2_fact D cap (vSB D cap 10).1 (vSB D cap 10).2 (vTF D cap m).1 (vTF D cap m).2) (rFact n b q r) d (mq q) 40 400 0 k) : tSp D cap B N n b (fX2_test D cap (vSB D cap 10).1 (vSB D cap 10).2 (vTF D cap m).1 (vTF D cap m).2) (rTest n b q r) d (mq q) 20 160 4 (k + 2) :=
  y_tst (x := 20) (y := 160) (by decide) (by decide) hn (rBothO_pg hp) (y_bth (x := 30) (y := 280) (by decide) (by decide) hn hp A)
theorem y_tests {q : Nat} (hq : q < 3) (hS : dS D 4 = .int 1) (hn : n ≤ 1600) : ∀ r d m, d + r = 6 → r < m → tSp D cap B N n b (vTF D cap m).2 (rFact n b q r) d (mq q) 40 400 0 (3 * r + 4) ∧ tSp D cap B N n b (vTF D cap m).1 (rTest n b q r) d (mq q) 20 160 4 (3 * r + 6)
  | 0, d, m, h1, h2 => by
    obtain ⟨m, rfl⟩ : ∃ m', m = m' + 1 := ⟨m - 1, by omega⟩
    have A := y_fact (D := D) (cap := cap) (B := B) (N := N) (n := n) (b := b) (rS := (vSB D cap 10).1) (rB' := (vSB D cap 10).2) (rU := (vTF D cap m).1) (rF := (vTF D cap m).2) (sum := rSum n b q 0) (test := rBad) (fact := rBad) (d := d) (dp := false) (m5 := mq q) (k := 3) (by omega) ⟨fun _ => by omega, fun _ => rfl⟩ (rSum_pg n b q 0) (rBad_pg n b) (rBad_pg n b) (rSum_pw n b q 0) (rSum_lf n b q 0) (y_sums hq hS hn 0 d 11 h1 (by decide)).2 (fun h => by cases h) (fun h => by cases h)
    exact ⟨A, y_testO hn (rFact_pg n b q 0) A⟩
  | r + 1, d, m, h1, h2 => by
    obtain ⟨m, rfl⟩ : ∃ m', m = m' + 1 := ⟨m - 1, by omega⟩
    obtain ⟨I1, I2⟩ := y_tests hq hS hn r (d + 1) m (by omega) (by omega)
    have A := y_fact (D := D) (cap := cap) (B := B) (N := N) (n := n) (b := b) (rS := (vSB D cap 10).1) (rB' := (vSB D cap 10).2) (rU := (vTF D cap m).1) (rF := (vTF D cap m).2) (sum := rSum n b q (r + 1)) (test := rTest n b q r) (fact := rFact n b q r) (d := d) (dp := true) (m5 := mq q) (k := 3 * r + 6) (by omega) ⟨fun h => (by cases h), fun h => absurd h (by omega)⟩ (rSum_pg n b q (r + 1)) (rTest_pg n b q r) (rFact_pg n b q r) (rSum_pw n b q (r + 1)) (rSum_lf n b q (r + 1)) (y_sums hq hS hn (r + 1) d 11 h1 (by omega)).2 (fun _ => I2) (fun _ => I1.ups (by omega))
    exact ⟨A, y_testO hn (rFact_pg n b q (r + 1)) A⟩
end SU
