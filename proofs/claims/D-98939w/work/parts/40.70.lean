/-! PART 70: plain: the component acts: all persons taken on -/
set_option maxRecDepth 100000
section ON
variable {D : PD} {B : Nat} {k : SK} {nm : Nat → Nat → List Nat} {c c' : CZ} {h0 : PH}
/-- the first j persons of the tape stand in the State tried; all else is as in c -/
def cOn (b : Nat → Nat) (c : CZ) (j : Nat) (y : CZ) : Prop := (∀ o i, ¬ (o = 51 ∧ (i = 1 ∨ i = 2)) → ¬ (52 ≤ o ∧ o ≤ 55) → cI y o i = cI c o i) ∧ y.2 = c.2 ∧ cI y 51 1 = nI (sWho (onW b) j 0) ∧ cI y 51 2 = nI (sWho (onW b) j 1) ∧ ∀ q, q < j → cI y 52 q = nI (b (2 + 5 * q)) - 1 ∧ cI y 53 q = nI (b (2 + 5 * q + 1)) ∧ cI y 54 q = nI (b (2 + 5 * q + 2)) ∧ cI y 55 q = nI (b (2 + 5 * q + 3))
theorem cOn.sc {b : Nat → Nat} {j : Nat} {y : CZ} (h : cOn b c j y) (hx : cSc B k nm c h0) : cSc B k nm y h0 := hx.q (by rw [h.2.1])
/-- persons are taken on, till one is not to be -/
theorem x_on1 {Q : Bool × PH → Prop} {K : Bool → PH → Option (Bool × PH)} {n : Nat} {b : Nat → Nat} {x : Bool} (hx : cSc B k nm c h0) (hn : n ≤ 1600) (ht : ∀ i, i < n → cI c 6 i = sb (b i)) (hb : ∀ i, i < n → b i < 256) (hpn : x = true → 2 + 5 * kP k < n) (e1 : cI c 51 1 = 0) (e2 : cI c 51 2 = 0)
    (hK : ∀ y j r, j ≤ kP k → cOn b c j y → (r = true → j = kP k) → (r = true ↔ x = true ∧ ∀ p, p < kP k → onP k b p) → Ok (K r (mk B y h0)) Q) : Ok (fx (fX0_on_L88 B K) (fun _ _ _ => none) FU x 0 (mk B c h0)) Q := by
  have h8 := hx.1.2.1
  refine fx_okN (F := fX0_on_L88 B K) (z := fun _ _ _ => none) (fun s j (a : Bool × CZ) => s a.1 (nI j) (mk B a.2 h0)) (kP k) (fun j a => cOn b c j a.2 ∧ (a.1 = true ↔ x = true ∧ ∀ p, p < j → onP k b p)) Q ?_ ?_ FU 0 (x, c) (Nat.zero_le _) ⟨⟨fun _ _ _ _ => rfl, rfl, e1, e2, fun q hq => absurd hq (Nat.not_lt_zero _)⟩, ⟨fun q => ⟨q, fun p hp => absurd hp (Nat.not_lt_zero _)⟩, fun q => q.1⟩⟩ (FU_gt (by omega))
  · rintro s j ⟨r, y⟩ hj ⟨hc, hr⟩ go
    have hc : cOn b c j y := hc
    have hr : r = true ↔ x = true ∧ ∀ p, p < j → onP k b p := hr
    have xy := hc.sc hx
    show Ok (fX0_on_L88 B K s r (nI j) (mk B y h0)) Q
    unfold fX0_on_L88
    rw [x0_cls, ckc_s, x_people xy, bnd_s, if_neg (nI_ge hj (by omega))]
    cases r with
    | false =>
      rw [if_pos (by decide)]
      refine hK y j false (by omega) hc (fun q => by cases q) ⟨(fun q => by cases q), fun q => ?_⟩
      exact hr.mpr ⟨q.1, fun p hp => q.2 p (by omega)⟩
    | true =>
      obtain ⟨rx, rp⟩ := hr.mp rfl
      have := hpn rx
      obtain ⟨y2, q1, q2, q3, q4, q5, q6⟩ := x_personOn (B := B) (h0 := h0) (n := n) (p := j) (b := b) xy hn (fun i hi => by rw [hc.1 6 i (by omega) (by omega)]; exact ht i hi) hb hj (by omega) (sWho_lt (onW b) j 0 (by omega)) (sWho_lt (onW b) j 1 (by omega)) hc.2.2.1 hc.2.2.2.1
      rw [if_neg (by decide), x0_cls, ckc_s, x25, q1, bnd_s, nI_1]
      refine go (decide (onP k b j), y2) ⟨⟨fun o i n1 n2 => ?_, q3.trans hc.2.1, ?_, ?_, fun q hq => ?_⟩, ?_⟩
      · rw [q2 o i n1 (fun w => n2 ⟨w.1, w.2.1⟩)]; exact hc.1 o i n1 n2
      · rw [sWho_S]; exact q4
      · rw [sWho_S]; exact q5
      · by_cases ej : q = j
        · rw [ej]; exact q6
        · rw [q2 52 q (by omega) (by omega), q2 53 q (by omega) (by omega), q2 54 q (by omega) (by omega), q2 55 q (by omega) (by omega)]
          exact hc.2.2.2.2 q (by omega)
      · show decide (onP k b j) = true ↔ _
        constructor
        · intro q
          refine ⟨rx, fun p hp => ?_⟩
          by_cases ej : p = j
          · rw [ej]; exact of_decide_eq_true q
          · exact rp p (by omega)
        · intro q
          exact decide_eq_true (q.2 j (by omega))
  · rintro s ⟨r, y⟩ ⟨hc, hr⟩
    have hc : cOn b c (kP k) y := hc
    show Ok (fX0_on_L88 B K s r (nI (kP k)) (mk B y h0)) Q
    unfold fX0_on_L88
    rw [x0_cls, ckc_s, x_people (hc.sc hx), bnd_s, if_pos (nI_le (Nat.le_refl _) (by omega))]
    exact hK y (kP k) r (Nat.le_refl _) hc (fun _ => rfl) hr
end ON
