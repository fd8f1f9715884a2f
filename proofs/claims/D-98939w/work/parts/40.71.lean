/-! PART 71: plain: the component acts: no ring of masters -/
set_option maxRecDepth 100000
section OR
variable {D : PD} {B : Nat} {k : SK} {nm : Nat → Nat → List Nat} {c c' : CZ} {h0 : PH}
theorem sBy_0 (M : Nat → Nat) (p : Nat) : sBy M 8 0 p = false := rfl
theorem x_on2 {Q : Bool × PH → Prop} {K : Bool → PH → Option (Bool × PH)} {b : Nat → Nat} {x : Bool} {y : CZ} (hx : cSc B k nm y h0) (hM : x = true → ∀ p, p < kP k → b (2 + 5 * p) ≤ kP k ∧ cI y 52 p = nI (b (2 + 5 * p)) - 1)
    (hK : ∀ r, (r = true ↔ x = true ∧ ∀ p, p < kP k → sBy (fun q => b (2 + 5 * q)) 8 (b (2 + 5 * p)) p = false) → Ok (K r (mk B y h0)) Q) : Ok (fx (fX0_on_L119 B K) (fun _ _ _ => none) FU x 0 (mk B y h0)) Q := by
  have h8 := hx.1.2.1
  refine fx_okN (F := fX0_on_L119 B K) (z := fun _ _ _ => none) (fun s j (a : Bool) => s a (nI j) (mk B y h0)) (kP k) (fun j a => a = true ↔ x = true ∧ ∀ p, p < j → sBy (fun q => b (2 + 5 * q)) 8 (b (2 + 5 * p)) p = false) Q ?_ ?_ FU 0 x (Nat.zero_le _) ⟨fun q => ⟨q, fun p hp => absurd hp (Nat.not_lt_zero _)⟩, fun q => q.1⟩ (FU_gt (by omega))
  · rintro s j r hj hr go
    have hr : r = true ↔ x = true ∧ ∀ p, p < j → sBy (fun q => b (2 + 5 * q)) 8 (b (2 + 5 * p)) p = false := hr
    show Ok (fX0_on_L119 B K s r (nI j) (mk B y h0)) Q
    unfold fX0_on_L119
    rw [x0_cls, ckc_s, x_people hx, bnd_s, if_neg (nI_ge hj (by omega))]
    cases r with
    | false =>
      rw [if_pos (by decide)]
      exact hK false ⟨(fun q => by cases q), fun q => hr.mpr ⟨q.1, fun p hp => q.2 p (by omega)⟩⟩
    | true =>
      obtain ⟨rx, rp⟩ := hr.mp rfl
      obtain ⟨m1, m2⟩ := hM rx j hj
      have in8 : inb (nI j) 8 = true := inb_nI (by omega) (by decide)
      have ld : pLd (mk B y h0) (B + 51 + 1) 0 (nI j) = some (nI (b (2 + 5 * j)) - 1) := by
        rw [Nat.add_assoc, (st_k1 is51).ld y h0 in8, nI_c (by omega)]
        exact congrArg some m2
      have isb := x_isBy (B := B) (h0 := h0) (c := y) hx.1 is51 (w := onW b) (fun q hq => (hM rx q hq).1) (fun q hq => (hM rx q hq).2) (a := b (2 + 5 * j)) (p := j) m1 hj
      have nxt : ∀ r2 : Bool, r2 = !(sBy (fun q => b (2 + 5 * q)) 8 (b (2 + 5 * j)) j) → Ok (s r2 (nI (j + 1)) (mk B y h0)) Q := fun r2 h2 => by
        refine go r2 ⟨fun q => ⟨rx, fun p hp => ?_⟩, fun q => ?_⟩
        · by_cases ep : p = j
          · subst ep
            rw [q] at h2
            cases e : sBy (fun q => b (2 + 5 * q)) 8 (b (2 + 5 * p)) p with
            | false => rfl
            | true => rw [e] at h2; cases h2
          · exact rp p (by omega)
        · rw [h2, q.2 j (by omega)]; rfl
      rw [if_neg (by decide), x0_F10, vA_s, st_F4 is51, vA_s, ld, ob_s]
      simp only [jn_s, nI_1]
      by_cases z0 : b (2 + 5 * j) = 0
      · rw [if_pos (by rw [z0]; decide)]
        exact nxt true (by rw [z0, sBy_0]; rfl)
      · have isb : fX5_isBy (B + 51) (nI (b (2 + 5 * j)) - 1) (nI j) (mk B y h0) = some (sBy (fun q => b (2 + 5 * q)) 8 (b (2 + 5 * j)) j, mk B y h0) := isb
        rw [if_neg (m1_ne z0 (by omega)), vA_s, vA_s, st_F4 is51, vA_s, ld, ob_s, st_cls is51, ckc_s, isb, bnd_s]
        cases e : sBy (fun q => b (2 + 5 * q)) 8 (b (2 + 5 * j)) j with
        | false =>
          rw [if_pos (by decide)]
          exact nxt true (by rw [e]; rfl)
        | true =>
          rw [if_neg (by decide)]
          exact nxt false (by rw [e]; rfl)
  · rintro s r hr
    show Ok (fX0_on_L119 B K s r (nI (kP k)) (mk B y h0)) Q
    unfold fX0_on_L119
    rw [x0_cls, ckc_s, x_people hx, bnd_s, if_pos (nI_le (Nat.le_refl _) (by omega))]
    exact hK r hr
end OR
