/-! PART 28: plain: the Model is told tests and settings: one statement -/
set_option maxRecDepth 100000
section RQ
variable {n : Nat} {b : Nat → Nat}
/-- what a statement leaves; a letter right behind a number may be left to the next sign -/
def sPb (n : Nat) (b : Nat → Nat) (z0 : MS) (R : RS ST) (z' : MS) : Prop := mSf z0 z' ∧ match R with
  | .inl g => flt g z' ∨ (mAt n b g.2 z' ∧ mI z' 5 = 0 ∧ g.1 = 1 ∧ isL (rB n b g.2) = true ∧ sSk n b g.2 = g.2)
  | .inr (s, e) => mAt n b e z' ∧ mI z' 5 = 0 ∧ ∃ tot, mSt s tot z' ∧ tot ≤ e
theorem sPo.pb {z0 z' : MS} {R : RS ST} (h : sPo n b z0 R z') : sPb n b z0 R z' := by
  obtain ⟨h1, h2⟩ := h
  refine ⟨h1, ?_⟩
  cases R with
  | inl g => exact Or.inl h2
  | inr p => exact h2
def rTstS (n : Nat) (b : Nat → Nat) (s : ST) (i j e : Nat) : RS ST := match kTe (tK s) i with
  | some _ => .inl (5, j)
  | none => sbd (rTest n b (kdOf i) 6 e) fun c e1 => .inr (sTst s i c, e1)
/-- codes copied -/
theorem codes_L {C : List Int32} {o : Nat} (k : MS → Option MS) (dm : Int32 → MS → Option MS) (ho : o + C.length ≤ 1600) : ∀ (m i : Nat) (z : MS), mI z 94 = nI C.length → (∀ j, j < C.length → mA z 93 j = C.getD j 0) → mI z 50 = nI (o + i) → i ≤ C.length → C.length - i < m → (∀ j, j < i → mA z 49 (o + j) = C.getD j 0) →
    ∃ z', fx (m_codesTold_L89 k) dm m (nI i) z = k z' ∧ (∀ a, a ≠ 50 → mI z' a = mI z a) ∧ mI z' 50 = nI (o + C.length) ∧ (∀ a, a ≠ 49 → mA z' a = mA z a) ∧ (∀ j, (j < o ∨ o + C.length ≤ j) → mA z' 49 j = mA z 49 j) ∧ (∀ j, j < C.length → mA z' 49 (o + j) = C.getD j 0) ∧ z'.2.1 = z.2.1 ∧ z'.2.2.2 = z.2.2.2
  | 0, i, z, _, _, _, _, h, _ => absurd h (Nat.not_lt_zero _)
  | m + 1, i, z, h94, h93, h50, hi, hm, hd => by
    have IH := codes_L k dm ho m
    rw [fx_s]
    generalize fx (m_codesTold_L89 k) dm m = S at IH ⊢
    unfold m_codesTold_L89
    rw [h94]
    by_cases c : i < C.length
    · rw [if_neg (nI_ge c (by omega)), ck_t (inb_nI (by show _ < 1700; omega) (by decide)), h50, ck_t (inb_nI (by show _ < 3200; omega) (by decide)), nm_s, nm_s, nI_c (show o + i < 2 ^ 31 by omega), nI_c (show i < 2 ^ 31 by omega), h93 i c, mI_wA, h50, nI_1, nI_1]
      obtain ⟨z', q1, q2, q3, q4, q5, q6, q7, q8⟩ := IH (i + 1) (wI (wA z 49 (o + i) (C.getD i 0)) 50 (nI (o + i + 1))) (by rw [mI_ne _ (by decide)]; exact h94) (fun j hj => by show mA (wA z 49 (o + i) _) 93 j = _; rw [mA_g, if_neg (by omega)]; exact h93 j hj) (by rw [mI_eq]; rfl) c (by omega) (fun j hj => by
        show mA (wA z 49 (o + i) _) 49 (o + j) = _
        rw [mA_g]
        by_cases e : j = i
        · rw [e, if_pos ⟨rfl, rfl⟩]
        · rw [if_neg (by omega)]; exact hd j (by omega))
      refine ⟨z', q1, fun a ha => ?_, q3, fun a ha => ?_, fun j hj => ?_, q6, q7, q8⟩
      · rw [q2 a ha, mI_ne _ ha]; rfl
      · rw [q4 a ha]
        funext j
        show mA (wA z 49 (o + i) _) a j = _
        rw [mA_g, if_neg (fun g => ha g.1)]
      · rw [q5 j hj]
        show mA (wA z 49 (o + i) _) 49 j = _
        rw [mA_g, if_neg (by omega)]
    · have ei : i = C.length := by omega
      rw [if_pos (nI_le (by omega) (by omega))]
      rw [ei] at h50 hd
      exact ⟨z, rfl, fun _ _ => rfl, h50, fun _ _ => rfl, fun _ _ => rfl, hd, rfl, rfl⟩
theorem m_codesTold_v {s : ST} {tot a i j : Nat} {z0 z : MS} (hi : i < 3) (h : mAt n b a z) (h5 : mI z 5 = 0) (hS : mSt s tot z) (ht : tot ≤ a) (hf : mSf z0 z) :
    ∃ z', m_codesTold (nI i) (nI j) z = some z' ∧ sPb n b z0 (rTstS n b s i j a) z' := by
  have hn := h.1.1
  have han := h.2.2.1
  have S10 := hS.2.2.2.2.2.1 i hi
  unfold m_codesTold rTstS
  simp only [jn_s]
  rw [if_pos h5, ck_t (inb_nI (by show _ < 6; omega) (by decide)), nI_c (show i < 2 ^ 31 by omega)]
  rcases S10 with ⟨t1, t2⟩ | ⟨c, o, t1, t2, t3, t4, t5⟩
  · rw [t1, t2, if_pos rfl, if_pos h5]
    show ∃ z', _ ∧ sPb n b z0 (sbd (rTest n b (kdOf i) 6 a) fun c e1 => .inr (sTst s i c, e1)) z'
    have e2 : (nI i = (2 : Int32)) ↔ i = 2 := nI_eq (b := 2) (by omega) (by decide)
    have go : ∀ (x : Bool), bI x = nI (kdOf i) → ∃ z', (nm (wI z 52 (bI x)) fun z3 =>
        nm (wI z3 94 0) fun z4 =>
        nm (wI z4 96 0) fun z5 =>
        nm (wI z5 97 0) fun z6 =>
        nm (wI z6 98 0) fun z7 =>
        bnv (m_qTest z7) fun z8 =>
        if (mI z8 5) = 0 then
          ck (inb (nI i) (mN 47)) <|
          nm (wA z8 47 i (mI z8 50)) fun z9 =>
          fx (m_codesTold_L89 fun (z10 : MS) =>
            ck (inb (nI i) (mN 48)) <|
            nm (wA z10 48 i (mI z10 50)) fun z11 =>
            some z11) (fun _ _ => none) FU 0 z9
        else
          some z8) = some z' ∧ sPb n b z0 (sbd (rTest n b (kdOf i) 6 a) fun c e1 => .inr (sTst s i c, e1)) z' := by
      intro x hx
      simp only [nm_s]
      rw [hx]
      have hq : kdOf i < 3 := by unfold kdOf; split <;> omega
      have hz7 : ∀ k, k ≠ 52 → k ≠ 94 → k ≠ 96 → k ≠ 97 → k ≠ 98 → mI (wI (wI (wI (wI (wI z 52 (nI (kdOf i))) 94 0) 96 0) 97 0) 98 0) k = mI z k := by
        intro k h1 h2 h3 h4 h5
        rw [mI_ne _ h5, mI_ne _ h4, mI_ne _ h3, mI_ne _ h2, mI_ne _ h1]
      have f7 : mSf z (wI (wI (wI (wI (wI z 52 (nI (kdOf i))) 94 0) 96 0) 97 0) 98 0) := (mSf.int _ rfl _).tr ((mSf.int _ rfl _).tr ((mSf.int _ rfl _).tr ((mSf.int _ rfl _).tr (mSf.int _ rfl _))))
      have Q : mQ n b (kdOf i) (wI (wI (wI (wI (wI z 52 (nI (kdOf i))) 94 0) 96 0) 97 0) 98 0) a [] [] 0 0 (wI (wI (wI (wI (wI z 52 (nI (kdOf i))) 94 0) 96 0) 97 0) 98 0) := by
        refine ⟨h.oth rfl (fun a ha => hz7 a (by omega) (by omega) (by omega) (by omega) (by omega)), ?_, ?_, ⟨?_, fun j hj => absurd hj (Nat.not_lt_zero _), ?_, fun j hj => absurd hj (Nat.not_lt_zero _), ?_, ?_, by decide, by decide⟩, mQf.rf _⟩
        · rw [hz7 5 (by decide) (by decide) (by decide) (by decide) (by decide)]; exact h5
        · rw [mI_ne _ (by decide), mI_ne _ (by decide), mI_ne _ (by decide), mI_ne _ (by decide), mI_eq]
        · rw [mI_ne _ (by decide), mI_ne _ (by decide), mI_ne _ (by decide), mI_eq]; rfl
        · rw [mI_ne _ (by decide), mI_ne _ (by decide), mI_eq]; rfl
        · rw [mI_ne _ (by decide), mI_eq]; rfl
        · rw [mI_eq]; rfl
      have S7 : mSt s tot (wI (wI (wI (wI (wI z 52 (nI (kdOf i))) 94 0) 96 0) 97 0) 98 0) := hS.of (hz7 50 (by decide) (by decide) (by decide) (by decide) (by decide)) (fun _ _ => rfl) rfl
      generalize wI (wI (wI (wI (wI z 52 (nI (kdOf i))) 94 0) 96 0) 97 0) 98 0 = z7 at Q S7 f7
      have T := m_qTest_v hq Q
      -- the codes are copied
      have cop : ∀ (C : List Int32) (e : Nat) (d : Nat) (z8 : MS), mQ n b (kdOf i) z7 e [] C d 0 z8 → a + C.length ≤ e → ∃ z', (if (mI z8 5) = 0 then
          ck (inb (nI i) (mN 47)) <|
          nm (wA z8 47 i (mI z8 50)) fun z9 =>
          fx (m_codesTold_L89 fun (z10 : MS) =>
            ck (inb (nI i) (mN 48)) <|
            nm (wA z10 48 i (mI z10 50)) fun z11 =>
            some z11) (fun _ _ => none) FU 0 z9
        else
          some z8) = some z' ∧ mSf z0 z' ∧ mAt n b e z' ∧ mI z' 5 = 0 ∧ mSt (sTst s i C) (tot + C.length) z' := by
        intro C e d z8 g1 g2
        have hen := g1.1.2.2.1
        have S8 := S7.qf g1.2.2.2.2
        rw [if_pos g1.2.1, ck_t (inb_nI (by show _ < 6; omega) (by decide)), nm_s, S8.2.2.2.2.2.2, show (0 : Int32) = nI 0 from rfl]
        obtain ⟨z', q1, q2, q3, q4, q5, q6, q7, q8⟩ := codes_L (C := C) (o := tot) (fun (z10 : MS) =>
            ck (inb (nI i) (mN 48)) <|
            nm (wA z10 48 i (mI z10 50)) fun z11 =>
            some z11) (fun _ _ => none) (by omega) FU 0 (wA z8 47 i (nI tot)) g1.2.2.2.1.1 (fun j hj => by rw [mA_g, if_neg (by omega)]; exact g1.2.2.2.1.2.1 j hj) S8.2.2.2.2.2.2 (Nat.zero_le _) (FU_gt (by omega)) (fun j hj => absurd hj (Nat.not_lt_zero _))
        rw [q1, ck_t (inb_nI (by show _ < 6; omega) (by decide)), nm_s, q3]
        have aa : ∀ a k, a ≠ 47 → a ≠ 48 → a ≠ 49 → mA (wA z' 48 i (nI (tot + C.length))) a k = mA z8 a k := by
          intro a k h1 h2 h3
          rw [mA_g, if_neg (by omega), q4 a h3, mA_g, if_neg (by omega)]
        have a47 : ∀ k, mA (wA z' 48 i (nI (tot + C.length))) 47 k = if k = i then nI tot else mA z8 47 k := by
          intro k
          rw [mA_g, if_neg (by omega), q4 47 (by decide), mA_g]
          by_cases e : k = i
          · rw [if_pos ⟨rfl, e⟩, if_pos e]
          · rw [if_neg (fun g => e g.2), if_neg e]
        have a48 : ∀ k, mA (wA z' 48 i (nI (tot + C.length))) 48 k = if k = i then nI (tot + C.length) else mA z8 48 k := by
          intro k
          rw [mA_g]
          by_cases e : k = i
          · rw [if_pos ⟨rfl, e⟩, if_pos e]
          · rw [if_neg (fun g => e g.2), if_neg e, q4 48 (by decide), mA_g, if_neg (by omega)]
        have a49 : ∀ k, (k < tot ∨ tot + C.length ≤ k) → mA (wA z' 48 i (nI (tot + C.length))) 49 k = mA z8 49 k := by
          intro k hk
          rw [mA_g, if_neg (by omega), q5 k hk, mA_g, if_neg (by omega)]
        have ii : ∀ k, k ≠ 50 → mI (wA z' 48 i (nI (tot + C.length))) k = mI z8 k := fun k hk => q2 k hk
        refine ⟨_, rfl, ?_, g1.1.oth (by funext k; exact aa 0 k (by decide) (by decide) (by decide)) (fun k hk => ii k (by omega)), by rw [ii 5 (by decide)]; exact g1.2.1, ?_⟩
        · refine hf.tr (f7.tr (g1.2.2.2.2.sf.tr ⟨fun k hk => ii k ?_, q7, fun k m hk => ?_, fun k m _ => ?_⟩))
          · have := of_decide_eq_true hk
            exact this.2.2.2.2.2.1
          · by_cases k47 : k = 47
            · subst k47
              rw [a47, if_neg]
              have : decide (3 ≤ m) = true := hk
              have := of_decide_eq_true this
              omega
            · by_cases k48 : k = 48
              · subst k48
                rw [a48, if_neg]
                have : decide (3 ≤ m) = true := hk
                have := of_decide_eq_true this
                omega
              · by_cases k49 : k = 49
                · subst k49
                  have : decide (1600 ≤ m) = true := hk
                  have := of_decide_eq_true this
                  exact a49 m (by omega)
                · exact aa k m k47 k48 k49
          · show z'.2.2.2 k m = z8.2.2.2 k m
            rw [q8]
            rfl
        · obtain ⟨⟨s1, s2, s3, s4, s5⟩, s6, s7, s8, s9, s10, s11⟩ := S8
          refine ⟨⟨by rw [aa _ _ (by decide) (by decide) (by decide)]; exact s1, by rw [aa _ _ (by decide) (by decide) (by decide)]; exact s2, s3, s4, fun kd k hk hik => ⟨(s5 kd k hk hik).1, ?_⟩⟩, fun f hf => by rw [aa _ _ (by decide) (by decide) (by decide)]; exact s6 f hf, fun f hf => by rw [aa _ _ (by decide) (by decide) (by decide)]; exact s7 f hf, fun f hf => by rw [aa _ _ (by decide) (by decide) (by decide), aa _ _ (by decide) (by decide) (by decide), aa _ _ (by decide) (by decide) (by decide)]; exact s8 f hf, fun f hf => by rw [aa _ _ (by decide) (by decide) (by decide)]; exact s9 f hf, fun k hk => ?_, q3⟩
          · show z'.2.2.2 40 _ = _
            rw [q8]
            exact (s5 kd k hk hik).2
          · have et : kTe (tK (sTst s i C)) k = if k = i then some C else kTe (tK s) k := vu_at _ _ _ _
            rw [et, a47, a48]
            by_cases e : k = i
            · rw [if_pos e, if_pos e, if_pos e]
              exact Or.inr ⟨C, tot, rfl, Nat.le_refl _, rfl, rfl, fun j hj => by rw [mA_g, if_neg (by omega)]; exact q6 j hj⟩
            · rw [if_neg e, if_neg e, if_neg e]
              rcases s10 k hk with ⟨v1, v2⟩ | ⟨c, o, v1, v2, v3, v4, v5⟩
              · exact Or.inl ⟨v1, v2⟩
              · exact Or.inr ⟨c, o, v1, by omega, v3, v4, fun j hj => by rw [a49 _ (by omega)]; exact v5 j hj⟩
      cases qt : rTest n b (kdOf i) 6 a with
      | inl g =>
        rw [qt] at T
        obtain ⟨z8, t1, t2⟩ := T
        rw [t1, bnv_s]
        rcases t2 with t2 | ⟨u1, u2, u3, u4, C', d', u5, u6⟩
        · rw [if_neg t2.ne]
          exact ⟨z8, rfl, hf.tr (f7.tr t2.2.2.2.2.sf), Or.inl ⟨t2.1, t2.2.1, t2.2.2.1⟩⟩
        · obtain ⟨z', v1, v2, v3, v4, -⟩ := cop C' g.2 d' z8 u5 u6
          exact ⟨z', v1, v2, Or.inr ⟨v3, v4, u1, u2, u4⟩⟩
      | inr p =>
        obtain ⟨c, e⟩ := p
        rw [qt] at T
        obtain ⟨z8, t1, t2, t3, t4⟩ := T
        rw [t1, bnv_s]
        obtain ⟨z', v1, v2, v3, v4, v5⟩ := cop c e 0 z8 t2 t3
        exact ⟨z', v1, v2, v3, v4, _, v5, by omega⟩
    by_cases c2 : i = 2
    · rw [if_pos (e2.mpr c2)]
      exact go true (by rw [c2]; rfl)
    · rw [if_neg (fun g => c2 (e2.mp g))]
      exact go false (by unfold kdOf; rw [if_neg c2]; rfl)
  · have F := flt_of z (k := 5) (by decide) j
    rw [t1, t3, if_neg (nI_nm1 (by omega)), show (5 : Int32) = nI 5 from rfl, m_fail_v h5, bnv_s, if_neg F.ne]
    exact ⟨_, rfl, hf.tr (mRd.flt _ _ _).rn.sf, Or.inl F⟩
end RQ
