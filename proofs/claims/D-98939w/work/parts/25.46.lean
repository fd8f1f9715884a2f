/-! PART 46: plain: Ok (ends well, with ..), loops that keep a relation; the Model's holds -/
set_option maxRecDepth 100000
def Ok {α : Type} (x : Option α) (Q : α → Prop) : Prop := ∃ a, x = some a ∧ Q a
theorem Ok.of {α : Type} {a : α} {Q : α → Prop} (h : Q a) : Ok (some a) Q := ⟨a, rfl, h⟩
theorem Ok.bnd {α σ β : Type} {x : Option (α × σ)} {k : α → σ → Option β} {Q : β → Prop} (P : α × σ → Prop) (h : Ok x P) (g : ∀ a s, P (a, s) → Ok (k a s) Q) : Ok (bnd x k) Q := by
  obtain ⟨⟨a, s⟩, rfl, p⟩ := h
  exact g a s p
theorem Ok.bnv {σ β : Type} {x : Option σ} {k : σ → Option β} {Q : β → Prop} (P : σ → Prop) (h : Ok x P) (g : ∀ s, P s → Ok (k s) Q) : Ok (bnv x k) Q := by
  obtain ⟨s, rfl, p⟩ := h
  exact g s p
theorem Ok.mono {α : Type} {x : Option α} {P Q : α → Prop} (h : Ok x P) (g : ∀ a, P a → Q a) : Ok x Q := by
  obtain ⟨a, e, p⟩ := h
  exact ⟨a, e, g a p⟩
/-- a loop with a measure -/
theorem fx_ok {φ β α : Type} {F : φ → φ} {z : φ} (call : φ → α → Option β) (μ : α → Nat) (I : α → Prop) (Q : β → Prop) (step : ∀ (s : φ) (a : α), I a → (∀ b, I b → μ b < μ a → Ok (call s b) Q) → Ok (call (F s) a) Q) : ∀ (m : Nat) (a : α), I a → μ a < m → Ok (call (fx F z m) a) Q
  | 0, a, _, h => absurd h (Nat.not_lt_zero _)
  | m + 1, a, hi, h => by
    rw [fx_s]
    exact step _ a hi (fun b hb hm => fx_ok call μ I Q step m b hb (by omega))
/-- a count up to n -/
theorem fx_okN {φ β α : Type} {F : φ → φ} {z : φ} (call : φ → Nat → α → Option β) (n : Nat) (I : Nat → α → Prop) (Q : β → Prop) (h1 : ∀ (s : φ) (k : Nat) (a : α), k < n → I k a → (∀ b, I (k + 1) b → Ok (call s (k + 1) b) Q) → Ok (call (F s) k a) Q) (h2 : ∀ (s : φ) (a : α), I n a → Ok (call (F s) n a) Q) : ∀ (m k : Nat) (a : α), k ≤ n → I k a → n - k < m → Ok (call (fx F z m) k a) Q
  | 0, k, a, _, _, h => absurd h (Nat.not_lt_zero _)
  | m + 1, k, a, hk, hi, h => by
    rw [fx_s]
    by_cases c : k < n
    · exact h1 _ k a c hi (fun b hb => fx_okN call n I Q h1 h2 m (k + 1) b c hb (by omega))
    · have e1 : k = n := by omega
      subst e1
      exact h2 _ a hi
theorem nI_m1 {n : Nat} (h : 0 < n) : nI n - 1 = nI (n - 1) := by
  have := nI_pred (n - 1)
  rwa [show n - 1 + 1 = n by omega] at this
theorem nI_le0 {n : Nat} (h : n < 2 ^ 31) : (nI n ≤ 0) ↔ n = 0 := by
  constructor
  · intro q
    by_cases c : n = 0
    · exact c
    · exact absurd q (nI_nle (by omega) h)
  · rintro rfl
    decide
/-- whether test i holds of p and f -/
def sHo (k : SK) (w : SW) (i p f : Nat) : Bool := match kTe k i with
  | none => true
  | some c => decide (sRun (fun j => sPart k w false p f j) id c [] = some [1])
theorem m_holds_loop {k : SK} {w : SW} {z : MS} (h : mOk k w z) {i p f b : Nat} {c : List Int32} {Q : Bool × MS → Prop} {K : MS → Option (Bool × MS)} (hi : i < 3) (hp : p < kP k) (hf : f < 8) (h4 : i < 2 → f < kF k ∧ 0 < wM w p) (hb : b + c.length ≤ 1600) (hd : cDep (alOf (kdOf i)) c 0 = some 1) (hcE : mA z 48 (3 + i) = nI (b + c.length)) (hcC : ∀ j, j < c.length → mA z 49 (1600 + b + j) = c.getD j 0) (h55 : mI z 55 = nI p) (h52 : mI z 52 = nI (kdOf i)) (h100 : mI z 100 = 0)
    (hK : ∀ x v, mEv z x → mB x 99 0 = v → sRun (fun j => sPart k w false p f j) id c [] = some [v] → Ok (K x) Q) : Ok (fx (m_holds_L34 (nI i) (nI f) K) (fun _ _ => none) FU (nI b) z) Q := by
  have o3 : (3 : Int32) + nI i = nI (3 + i) := nI_add 3 i
  have i3 : inb (nI (3 + i)) (mN 48) = true := inb_nI (by show _ < 6; omega) (by decide)
  have n3 : (nI (3 + i)).toNatClampNeg = 3 + i := nI_c (by omega)
  refine fx_okN (F := m_holds_L34 (nI i) (nI f) K) (z := fun _ _ => none) (fun s j x => s (nI (b + j)) x) c.length (fun j x => mEv z x ∧ mI x 55 = nI p ∧ mI x 52 = nI (kdOf i) ∧ ∃ st, mStk st x ∧ st.length ≤ j ∧ cDep (alOf (kdOf i)) (c.drop j) st.length = some 1 ∧ sRun (fun j => sPart k w false p f j) id (c.drop j) st = sRun (fun j => sPart k w false p f j) id c []) Q ?_ ?_ FU 0 z (Nat.zero_le _) ⟨mEv.rf z, h55, h52, [], ⟨h100, fun i hi => absurd hi (Nat.not_lt_zero _)⟩, Nat.le_refl _, hd, rfl⟩ (FU_gt (by omega))
  · rintro s j x hj ⟨he, g55, g52, st, hst, hl, hdd, hr⟩ go
    have hx := he.ok h
    have o16 : (1600 : Int32) + nI (b + j) = nI (1600 + b + j) := by rw [Nat.add_assoc]; exact nI_add 1600 _
    have i16 : inb (nI (1600 + b + j)) (mN 49) = true := inb_nI (by show _ < 3200; omega) (by decide)
    have n16 : (nI (1600 + b + j)).toNatClampNeg = 1600 + b + j := nI_c (by omega)
    have e49 : mA x 49 (1600 + b + j) = c[j] := by
      rw [he.arr, hcC j hj]
      simp [List.getD, hj]
    have e48 : mA x 48 (3 + i) = nI (b + c.length) := by rw [he.arr, hcE]
    have gon : ∀ x', mPl x x' → ∀ st', mStk st' x' → st'.length ≤ j + 1 → cDep (alOf (kdOf i)) (c.drop (j + 1)) st'.length = some 1 → sRun (fun j => sPart k w false p f j) id (c.drop (j + 1)) st' = sRun (fun j => sPart k w false p f j) id c [] → Ok (s (nI (b + j) + 1) x') Q := by
      intro x' hex st' q1 q2 q3 q4
      rw [nI_1, Nat.add_assoc]
      exact go x' ⟨he.tr hex.ev, (hex.1 55 (by decide)).trans g55, (hex.1 52 (by decide)).trans g52, st', q1, q2, q3, q4⟩
    show Ok (m_holds_L34 (nI i) (nI f) K s (nI (b + j)) x) Q
    unfold m_holds_L34
    simp only [o3, ck_t i3, n3, e48, o16, ck_t i16, n16, e49, jn_s]
    rw [if_neg (nI_ge (by omega) (by omega))]
    rw [List.drop_eq_getElem_cons hj] at hdd hr
    generalize c[j] = a at hdd hr ⊢
    generalize sRun (fun j => sPart k w false p f j) id c [] = R at hr gon
    unfold cDep at hdd
    unfold sRun sStep at hr
    by_cases c1 : a < 1000
    · rw [if_pos c1] at hdd hr ⊢
      by_cases c2 : a < 40
      · have c60 : a < 60 := Int32.lt_trans c2 (by decide)
        rw [if_pos c2]
        rw [if_pos c60, if_pos c2] at hdd hr
        by_cases c3 : a = 13
        · rw [if_pos c3] at hdd hr ⊢
          obtain ⟨x', g1, g2, g3⟩ := m_qPuts_v hst (by omega) 1
          rw [g1, bnv_s]
          exact gon x' g3 (1 :: st) g2 (by simpa using hl) hdd hr
        · rw [if_neg c3] at hdd hr ⊢
          by_cases c4 : a = 12
          · rw [if_pos c4] at hdd hr ⊢
            by_cases c5 : 1 ≤ st.length
            · rw [if_pos c5] at hdd
              cases st with
              | nil => exact absurd c5 (by decide)
              | cons t st =>
                have hst1 : mI x 100 = nI (st.length + 1) := hst.1
                have e1 : mI x 100 - 1 = nI st.length := by rw [hst1]; exact nI_pred _
                have hl : st.length + 1 ≤ j := hl
                have i9 : inb (nI st.length) (mN 99) = true := inb_nI (by show _ < 1700; omega) (by decide)
                have t9 : mB x 99 st.length = t := by
                  rw [hst.2 st.length (Nat.lt_succ_self _)]
                  show (t :: st).getD (st.length + 1 - 1 - st.length) 0 = t
                  rw [show st.length + 1 - 1 - st.length = 0 by omega]
                  rfl
                simp only [e1, ck_t i9, nm_s, nI_c (show st.length < 2 ^ 31 by omega), t9]
                refine gon _ (mPl.pile x _ _) ((1 - t) :: st) ⟨hst.1, fun q hq => ?_⟩ (by show st.length + 1 ≤ _; omega) hdd hr
                have hq : q < st.length + 1 := hq
                rw [mB_w]
                show _ = ((1 - t) :: st).getD (st.length + 1 - 1 - q) 0
                by_cases c6 : q = st.length
                · rw [if_pos c6, c6, show st.length + 1 - 1 - st.length = 0 by omega]
                  rfl
                · rw [if_neg c6, hst.2 q hq]
                  show (t :: st).getD (st.length + 1 - 1 - q) 0 = _
                  rw [show st.length + 1 - 1 - q = (st.length - 1 - q) + 1 by omega]
                  rfl
            · rw [if_neg c5] at hdd
              cases hdd
          · rw [if_neg c4] at hdd hr ⊢
            by_cases c7 : 1 ≤ a ∧ a ≤ 11
            · rw [if_pos c7] at hdd
              by_cases c5 : 2 ≤ st.length
              · rw [if_pos c5] at hdd
                match st, hst, hl, hdd, hr, c5 with
                | [], _, _, _, _, c5 => exact absurd c5 (by decide)
                | [_], _, _, _, _, c5 => exact absurd c5 (by simp)
                | t2 :: t1 :: st, hst, hl, hdd, hr, _ =>
                  have hl : st.length + 2 ≤ j := hl
                  obtain ⟨x', g1, g2, g3⟩ := m_qJoins_v hst (by omega) a
                  rw [g1, bnv_s]
                  exact gon x' g3 (sJoin a t1 t2 :: st) g2 (by show st.length + 1 ≤ _; omega) hdd hr
              · rw [if_neg c5] at hdd
                cases hdd
            · rw [if_neg c7] at hdd
              cases hdd
      · rw [if_neg c2]
        by_cases c6 : a < 60
        · rw [if_pos c6, if_neg c2] at hdd hr
          by_cases ca : alOf (kdOf i) (a - 40).toNatClampNeg = true
          · rw [if_pos ca] at hdd
            have hlow : 40 ≤ a.toInt := by
              have := mt Int32.lt_iff_toInt_lt.mpr c2
              have e : (40 : Int32).toInt = 40 := by decide
              omega
            have hhi : a.toInt < 60 := by
              have := Int32.lt_iff_toInt_lt.mp c6
              have e : (60 : Int32).toInt = 60 := by decide
              omega
            obtain ⟨n, hn, rfl⟩ : ∃ n, n < 20 ∧ a = nI (40 + n) := by
              refine ⟨(a.toInt - 40).toNat, by omega, ?_⟩
              apply Int32.toInt_inj.mp
              rw [nI_toInt (by omega)]
              omega
            have e40 : nI (40 + n) - 40 = nI n := by
              rw [Nat.add_comm, ← nI_add]
              exact Int32.add_sub_cancel _ _
            rw [e40] at ca hr ⊢
            rw [nI_c (show n < 2 ^ 31 by omega)] at ca hr
            have hal : n < 9 ∧ (n = 4 ∨ n = 6 → i < 2) := by
              unfold alOf kdOf at ca
              by_cases ci : i = 2
              · rw [if_pos ci, if_neg (by decide), if_pos rfl] at ca
                have := of_decide_eq_true ca
                omega
              · rw [if_neg ci, if_neg (by decide), if_neg (by decide)] at ca
                have := of_decide_eq_true ca
                omega
            have hq2 : mI x 52 = 2 ↔ false = true := by
              rw [g52]
              unfold kdOf
              by_cases ci : i = 2
              · rw [if_pos ci]
                decide
              · rw [if_neg ci]
                decide
            rw [m_qPartOf_v hx hp hf g55 hq2 (by omega) (fun q => (h4 (hal.2 (Or.inl q))).1) (fun q => (h4 (hal.2 (Or.inr q))).2), bnd_s]
            obtain ⟨x', g1, g2, g3⟩ := m_qPuts_v hst (by omega) (sPart k w false p f n)
            rw [g1, bnv_s]
            exact gon x' g3 (_ :: st) g2 (by simpa using hl) hdd hr
          · rw [if_neg ca] at hdd
            cases hdd
        · rw [if_neg c6] at hdd
          have : ¬ (alOf (kdOf i) 12 = true ∧ a = 60) := by
            rintro ⟨q, -⟩
            unfold alOf kdOf at q
            by_cases ci : i = 2
            · rw [if_pos ci] at q
              revert q
              decide
            · rw [if_neg ci] at q
              revert q
              decide
          rw [if_neg this] at hdd
          cases hdd
    · rw [if_neg c1] at hdd hr ⊢
      by_cases c8 : a ≤ 10999
      · rw [if_pos c8] at hdd
        obtain ⟨x', g1, g2, g3⟩ := m_qPuts_v hst (by omega) (a - 1000).toInt64
        rw [g1, bnv_s]
        exact gon x' g3 (_ :: st) g2 (by simpa using hl) hdd hr
      · rw [if_neg c8] at hdd
        cases hdd
  · rintro s x ⟨he, g55, g52, st, hst, hl, hdd, hr⟩
    have e48 : mA x 48 (3 + i) = nI (b + c.length) := by rw [he.arr, hcE]
    show Ok (m_holds_L34 (nI i) (nI f) K s (nI (b + c.length)) x) Q
    unfold m_holds_L34
    simp only [o3, ck_t i3, n3, e48]
    rw [if_pos (nI_le (Nat.le_refl _) (by omega))]
    rw [List.drop_length] at hdd hr
    have hln : st.length = 1 := Option.some.inj hdd
    match st, hln, hst, hr with
    | [v], _, hst, hr =>
      refine hK x v he ?_ hr.symm
      rw [hst.2 0 (by simp)]
      rfl
/-- the school's codes, where they lie -/
theorem mOk.codes {k : SK} {w : SW} {z : MS} (h : mOk k w z) {i : Nat} (hi : i < 3) : (mA z 47 (3 + i) = -1 ∧ kTe k i = none) ∨ (mA z 47 (3 + i) ≠ -1 ∧ ∃ (c : List Int32) (b : Nat), kTe k i = some c ∧ b + c.length ≤ 1600 ∧ mA z 47 (3 + i) = nI b ∧ mA z 48 (3 + i) = nI (b + c.length) ∧ ∀ j, j < c.length → mA z 49 (1600 + b + j) = c.getD j 0) := by
  rcases h.2.2.1.2.2.2.2.2 i hi with ⟨h1, h2⟩ | ⟨c, b, h1, h2, h3, h4, h5⟩
  · exact Or.inl ⟨h2, h1⟩
  · refine Or.inr ⟨?_, c, b, h1, h2, h3, h4, h5⟩
    rw [h3]
    intro q
    have : (nI b).toInt = -1 := by rw [q]; decide
    rw [nI_toInt (by omega)] at this
    omega
theorem m_holds_v {k : SK} {w : SW} {z : MS} (h : mOk k w z) {i p f : Nat} (hi : i < 3) (ht : mA z 47 (3 + i) ≠ -1) (hp : p < kP k) (hf : f < 8) (h4 : i < 2 → f < kF k ∧ 0 < wM w p) : ∃ z', m_holds (nI i) (nI p) (nI f) z = some (sHo k w i p f, z') ∧ mEv z z' := by
  rcases h.codes hi with ⟨q, -⟩ | ⟨-, c, b, h1, h2, h3, h4', h5⟩
  · exact absurd q ht
  have o3 : (3 : Int32) + nI i = nI (3 + i) := nI_add 3 i
  have i3 : inb (nI (3 + i)) (mN 47) = true := inb_nI (by show _ < 6; omega) (by decide)
  have n3 : (nI (3 + i)).toNatClampNeg = 3 + i := nI_c (by omega)
  have key : ∀ b1 : Bool, bI b1 = nI (kdOf i) → Ok (fx (m_holds_L34 (nI i) (nI f) (fun z5 => if (mB z5 99 (Int32.toNatClampNeg 0)) = 1 then some (true, z5) else some (false, z5))) (fun _ _ => none) FU (mA (wI (wI (wI z 55 (nI p)) 52 (bI b1)) 100 0) 47 (3 + i)) (wI (wI (wI z 55 (nI p)) 52 (bI b1)) 100 0)) (fun r => r.1 = sHo k w i p f ∧ mEv z r.2) := by
    intro b1 hb1
    have hev : mEv z (wI (wI (wI z 55 (nI p)) 52 (bI b1)) 100 0) := ((mEv.int z (by simp) _).tr (mEv.int _ (by simp) _)).tr (mEv.int _ (by simp) _)
    rw [hev.arr, h3]
    refine m_holds_loop (hev.ok h) (c := c) hi hp hf h4 h2 (h.1.2.2.2.2.2 i c hi h1) (by rw [hev.arr, h4']) (fun j hj => by rw [hev.arr, h5 j hj]) ?_ ?_ ?_ (fun x v he hv hr => ?_)
    · rw [mI_w, if_neg (by decide), mI_w, if_neg (by decide), mI_w, if_pos rfl]
    · rw [mI_w, if_neg (by decide), mI_w, if_pos rfl, hb1]
    · rw [mI_w, if_pos rfl]
    · show Ok (if (mB x 99 (Int32.toNatClampNeg 0)) = 1 then some (true, x) else some (false, x)) _
      rw [show (Int32.toNatClampNeg 0) = 0 from by decide, hv]
      unfold sHo
      rw [h1]
      show Ok _ fun (r : Bool × MS) => r.1 = decide (_ = _) ∧ _
      rw [hr]
      by_cases cv : v = 1
      · rw [if_pos cv]
        exact Ok.of ⟨by simp [cv], hev.tr he⟩
      · rw [if_neg cv]
        exact Ok.of ⟨by simp [cv], hev.tr he⟩
  have fin : Ok (m_holds (nI i) (nI p) (nI f) z) (fun r => r.1 = sHo k w i p f ∧ mEv z r.2) := by
    unfold m_holds
    simp only [nm_s, jn_s, o3, ck_t i3, n3]
    by_cases ci : i = 2
    · have k1 := key true (by unfold kdOf; rw [if_pos ci]; rfl)
      rw [if_pos (by rw [ci]; rfl)]
      exact k1
    · have k1 := key false (by unfold kdOf; rw [if_neg ci]; rfl)
      rw [if_neg (fun (q : nI i = 2) => ci ((nI_eq (b := 2) (by omega) (by decide)).mp q))]
      exact k1
  obtain ⟨⟨r, z'⟩, e, q1, q2⟩ := fin
  exact ⟨z', by rw [e]; cases q1; rfl, q2⟩
