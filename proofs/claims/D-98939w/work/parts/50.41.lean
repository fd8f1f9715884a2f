/-! PART 41: plain: a question meets a fact -/
set_option maxRecDepth 100000
theorem p52 {a : Int32} (h1 : ¬ a < 40) (h2 : a < 60) (h : (a - 40).toNatClampNeg = 12) : a = 52 := by
  have q1 := mt Int32.lt_iff_toInt_lt.mpr h1
  have q2 := Int32.lt_iff_toInt_lt.mp h2
  have e1 : (40 : Int32).toInt = 40 := by decide
  have e2 : (60 : Int32).toInt = 60 := by decide
  have e : (a - 40).toInt = a.toInt - 40 := by
    rw [Int32.toInt_sub, e1]
    apply Int.bmod_eq_of_le <;> omega
  have e3 : (a - 40).toNatClampNeg = (a - 40).toInt.toNat := rfl
  apply Int32.toInt_inj.mp
  rw [show (52 : Int32).toInt = 52 by decide]
  omega
theorem sRun_same {P P' : Nat → Int64} {B B' : Int64 → Int64} {al : Nat → Bool} (hP : ∀ j, al j = true → j ≠ 12 → P j = P' j) (hB : ∀ x, B x = B' x) : ∀ (c : List Int32) (st : List Int64) (d : Nat), cDep al c st.length = some d → no52 c → sRun P B c st = sRun P' B' c st
  | [], st, d, _, _ => rfl
  | a :: c, st, d, hd, hno => by
    have ih := fun st1 (hd : cDep al c st1.length = some d) => sRun_same hP hB c st1 d hd (fun x hx => hno x (List.mem_cons_of_mem _ hx))
    have step : sStep P B a st = sStep P' B' a st ∧ ∀ st1, sStep P B a st = some st1 → cDep al c st1.length = some d := by
      unfold cDep at hd
      unfold sStep
      by_cases c1 : a < 1000
      · rw [if_pos c1] at hd
        rw [if_pos c1, if_pos c1]
        by_cases c2 : a < 60
        · rw [if_pos c2] at hd
          rw [if_pos c2, if_pos c2]
          by_cases c3 : a < 40
          · rw [if_pos c3] at hd
            rw [if_pos c3, if_pos c3]
            by_cases c4 : a = 13
            · rw [if_pos c4] at hd
              rw [if_pos c4]
              refine ⟨rfl, fun st1 e => ?_⟩
              cases e
              exact hd
            · rw [if_neg c4] at hd
              rw [if_neg c4]
              by_cases c5 : a = 12
              · rw [if_pos c5] at hd
                rw [if_pos c5]
                refine ⟨rfl, fun st1 e => ?_⟩
                cases st with
                | nil => cases e
                | cons x r =>
                  cases e
                  by_cases c6 : 1 ≤ (x :: r).length
                  · rw [if_pos c6] at hd
                    exact hd
                  · rw [if_neg c6] at hd
                    cases hd
              · rw [if_neg c5] at hd
                rw [if_neg c5]
                refine ⟨rfl, fun st1 e => ?_⟩
                by_cases c7 : 1 ≤ a ∧ a ≤ 11
                · rw [if_pos c7] at hd
                  by_cases c6 : 2 ≤ st.length
                  · rw [if_pos c6] at hd
                    match st, e, hd with
                    | y :: x :: r, e, hd =>
                      cases e
                      exact hd
                  · rw [if_neg c6] at hd
                    cases hd
                · rw [if_neg c7] at hd
                  cases hd
          · rw [if_neg c3] at hd
            rw [if_neg c3, if_neg c3]
            by_cases c4 : al (a - 40).toNatClampNeg = true
            · rw [if_pos c4] at hd
              rw [hP _ c4 (fun q => hno a List.mem_cons_self (p52 c3 c2 q))]
              refine ⟨rfl, fun st1 e => ?_⟩
              cases e
              exact hd
            · rw [if_neg c4] at hd
              cases hd
        · rw [if_neg c2] at hd
          rw [if_neg c2, if_neg c2]
          cases st with
          | nil =>
            exact ⟨rfl, fun st1 e => by cases e⟩
          | cons x r =>
            refine ⟨?_, fun st1 e => ?_⟩
            · show some (B x :: r) = some (B' x :: r)
              rw [hB x]
            · have e : some (B x :: r) = some st1 := e
              cases e
              split at hd
              · exact hd
              · cases hd
      · rw [if_neg c1] at hd
        rw [if_neg c1, if_neg c1]
        refine ⟨rfl, fun st1 e => ?_⟩
        cases e
        by_cases c2 : a ≤ 10999
        · rw [if_pos c2] at hd
          exact hd
        · rw [if_neg c2] at hd
          cases hd
    show (match sStep P B a st with
      | some st1 => sRun P B c st1
      | none => none) = (match sStep P' B' a st with
      | some st1 => sRun P' B' c st1
      | none => none)
    rw [← step.1]
    cases e : sStep P B a st with
    | none => rfl
    | some st1 => exact ih st1 (step.2 st1 e)
/-- what the component's question takes -/
def mtS (kd : Nat) (v : Int64) (f : Nat) (L : Int64) (F : Bool) : Int64 × Bool :=
  if 3 ≤ kd then (if F = false then v else if kd = 3 then L + v else if kd = 4 then (if L < v then v else L) else if v < L then v else L, true)
  else if v = 1 then (if kd = 2 then (if 0 < L then L else 0) + 1 else if kd = 0 ∧ F = true then L else (nI f).toInt64, true) else (L, F)
/-- how both answers go together after f facts -/
def qR (kd f : Nat) (a : Int64 × Bool) (L : Int64) (F : Bool) : Prop :=
  if 3 ≤ kd then (f = 0 ∧ F = false ∧ a = (0, true)) ∨ (0 < f ∧ F = true ∧ L = a.1 ∧ a.2 = false)
  else if kd = 2 then ∃ m, m ≤ f ∧ a.1 = lN m ∧ ((m = 0 ∧ F = false ∧ L = -1) ∨ (0 < m ∧ F = true ∧ L = lN m))
  else if kd = 1 then L = a.1
  else L = a.1 ∧ (F = true ↔ a.1 ≠ -1)
theorem qR_0 {kd : Nat} (hk : kd < 6) : qR kd 0 (if 2 ≤ kd then 0 else -1, true) (-1) false := by
  unfold qR
  by_cases c3 : 3 ≤ kd
  · rw [if_pos c3, if_pos (show 2 ≤ kd by omega)]
    exact Or.inl ⟨rfl, rfl, rfl⟩
  · rw [if_neg c3]
    by_cases c2 : kd = 2
    · rw [if_pos c2, if_pos (show 2 ≤ kd by omega)]
      exact ⟨0, Nat.le_refl _, rfl, Or.inl ⟨rfl, rfl, rfl⟩⟩
    · rw [if_neg c2, if_neg (show ¬ 2 ≤ kd by omega)]
      by_cases c1 : kd = 1
      · rw [if_pos c1]
      · rw [if_neg c1]
        exact ⟨rfl, fun h => (by cases h), fun h => absurd rfl h⟩
theorem lN_1q : ∀ m, m < 8 → lN m + 1 = lN (m + 1) ∧ (0 < m → 0 < lN m) := by decide +kernel
theorem nI_64 : ∀ f, f < 8 → (nI f).toInt64 ≠ -1 := by decide +kernel
theorem qR_s {kd f : Nat} (hf : f < 8) {a : Int64 × Bool} {L : Int64} {F : Bool} (h : qR kd f a L F) {v : Int64} (hv : kd < 3 → v = 0 ∨ v = 1) : qR kd (f + 1) (sTk kd v f a) (mtS kd v f L F).1 (mtS kd v f L F).2 := by
  have z1 : ¬ (0 : Int64) = 1 := by decide
  unfold qR at h ⊢
  by_cases c3 : 3 ≤ kd
  · rw [if_pos c3] at h ⊢
    refine Or.inr ⟨by omega, ?_, ?_, rfl⟩
    · unfold mtS; rw [if_pos c3]
    · unfold mtS sTk
      rw [if_pos c3, if_neg (show ¬ kd = 0 by omega), if_neg (show ¬ kd = 1 by omega), if_neg (show ¬ kd = 2 by omega)]
      rcases h with ⟨h1, h2, h3⟩ | ⟨h1, h2, h3, h4⟩
      · rw [h2, if_pos rfl, h3]
        show v = if kd = 3 then 0 + v else if kd = 4 then (if true = true ∨ ¬ v ≤ 0 then v else 0) else (if true = true ∨ ¬ 0 ≤ v then v else 0)
        rw [if_pos (Or.inl rfl), if_pos (Or.inl rfl), Int64.zero_add]
        split
        · rfl
        · split <;> rfl
      · rw [h2, if_neg (by decide), h3, h4]
        show (if kd = 3 then a.1 + v else if kd = 4 then (if a.1 < v then v else a.1) else if v < a.1 then v else a.1) = if kd = 3 then a.1 + v else if kd = 4 then (if false = true ∨ ¬ v ≤ a.1 then v else a.1) else (if false = true ∨ ¬ a.1 ≤ v then v else a.1)
        have lt : ∀ x y : Int64, x < y ↔ (false = true ∨ ¬ y ≤ x) := fun x y => by
          rw [Int64.lt_iff_toInt_lt, Int64.le_iff_toInt_le]
          constructor
          · intro q; exact Or.inr (by omega)
          · rintro (q | q)
            · cases q
            · omega
        by_cases k3 : kd = 3
        · rw [if_pos k3, if_pos k3]
        · rw [if_neg k3, if_neg k3]
          by_cases k4 : kd = 4
          · rw [if_pos k4, if_pos k4]
            by_cases q : a.1 < v
            · rw [if_pos q, if_pos ((lt _ _).mp q)]
            · rw [if_neg q, if_neg (fun z => q ((lt _ _).mpr z))]
          · rw [if_neg k4, if_neg k4]
            by_cases q : v < a.1
            · rw [if_pos q, if_pos ((lt _ _).mp q)]
            · rw [if_neg q, if_neg (fun z => q ((lt _ _).mpr z))]
  · rw [if_neg c3] at h ⊢
    unfold mtS sTk
    rw [if_neg c3]
    have hv := hv (by omega)
    by_cases c2 : kd = 2
    · rw [if_pos c2] at h ⊢
      obtain ⟨m, m1, m2, m3⟩ := h
      rw [if_neg (show ¬ kd = 0 by omega), if_neg (show ¬ kd = 1 by omega), if_pos c2, if_pos c2]
      rcases hv with rfl | rfl
      · rw [if_neg z1, if_neg z1]
        exact ⟨m, by omega, m2, m3⟩
      · rw [if_pos rfl, if_pos rfl]
        obtain ⟨l1, l2⟩ := lN_1q m (by omega)
        refine ⟨m + 1, by omega, by show a.1 + 1 = _; rw [m2, l1], Or.inr ⟨by omega, rfl, ?_⟩⟩
        rcases m3 with ⟨n1, n2, n3⟩ | ⟨n1, n2, n3⟩
        · rw [n3, n1]; decide
        · rw [n3, if_pos (l2 n1)]; exact l1
    · rw [if_neg c2] at h ⊢
      by_cases c1 : kd = 1
      · rw [if_pos c1] at h ⊢
        rw [if_neg (show ¬ kd = 0 by omega), if_pos c1, if_neg c2]
        rcases hv with rfl | rfl
        · rw [if_neg z1, if_neg z1]; exact h
        · rw [if_pos rfl, if_pos rfl, if_neg (fun q => by omega)]
      · rw [if_neg c1] at h ⊢
        have c0 : kd = 0 := by omega
        obtain ⟨h1, h2⟩ := h
        rw [if_pos c0, if_neg c2]
        rcases hv with rfl | rfl
        · rw [if_neg z1, if_neg (fun q => z1 q.1)]; exact ⟨h1, h2⟩
        · rw [if_pos rfl]
          by_cases q : a.1 = -1
          · have eF : F = false := by
              cases F with
              | false => rfl
              | true => exact absurd q (h2.mp rfl)
            rw [if_pos (show (1 : Int64) = 1 ∧ a.1 = -1 from ⟨rfl, q⟩), eF, if_neg (show ¬ (kd = 0 ∧ false = true) from fun z => by cases z.2)]
            exact ⟨rfl, fun _ => nI_64 f hf, fun _ => rfl⟩
          · rw [if_neg (show ¬ ((1 : Int64) = 1 ∧ a.1 = -1) from fun z => q z.2), if_pos (show kd = 0 ∧ F = true from ⟨c0, h2.mpr q⟩)]
            exact ⟨h1, fun _ => q, fun _ => rfl⟩
theorem qR_e {kd f : Nat} {a : Int64 × Bool} {L : Int64} {F : Bool} (h : qR kd f a L F) : (if F = false ∧ 2 ≤ kd then 0 else L) = a.1 := by
  unfold qR at h
  by_cases c3 : 3 ≤ kd
  · rw [if_pos c3] at h
    rcases h with ⟨h1, h2, h3⟩ | ⟨h1, h2, h3, h4⟩
    · rw [if_pos ⟨h2, by omega⟩, h3]
    · rw [if_neg (fun q => by rw [h2] at q; cases q.1), h3]
  · rw [if_neg c3] at h
    by_cases c2 : kd = 2
    · rw [if_pos c2] at h
      obtain ⟨m, m1, m2, ⟨n1, n2, n3⟩ | ⟨n1, n2, n3⟩⟩ := h
      · rw [if_pos ⟨n2, by omega⟩, m2, n1]; rfl
      · rw [if_neg (fun q => by rw [n2] at q; cases q.1), n3, m2]
    · rw [if_neg c2] at h
      rw [if_neg (fun q => by omega)]
      by_cases c1 : kd = 1
      · rw [if_pos c1] at h; exact h
      · rw [if_neg c1] at h; exact h.1
section TJ
variable {B N : Nat} {D : PD} {c : CZ} {h : PH} {p kd t : Nat} {cs : List Int32} {L : Int64} {F : Bool}
theorem quP.put (g : quP B N h p kd t cs L F) (L' : Int64) (F' : Bool) : quP B N (pPutE h p (.inr (20, [.int (nI kd), va_rf (if 3 ≤ kd then none else some t), va_rf (if 3 ≤ kd then some t else none), .long L', .int (bI F')]))) p kd t cs L' F' := by
  obtain ⟨g1, g2, g3, g4⟩ := g
  refine ⟨g1, g2, pE_at _ _ _, ?_⟩
  by_cases c3 : 3 ≤ kd
  · rw [if_pos c3] at g4 ⊢
    exact g4.of (fun a ha => ⟨ha, pE_ne _ ha.2 _⟩)
  · rw [if_neg c3] at g4 ⊢
    exact g4.of (fun a ha => ⟨ha, pE_ne _ ha.2 _⟩)
theorem x_meets {V : Nat → Int64} {Lk : Int64 → Int64} (hN : B + 841 ≤ N) (hD : ∃ q, dS D 7 = va_rf q) (g : quP B N h p kd t cs L F) (hw : hW B h) (hm : moP (mk B c h) (B + 11) V) (hL : ∀ x, fX0_looked B 0 x (mk B c h) = some (Lk x, mk B c h)) (f : Nat) :
    ∃ v h', fX20_meets D p (nI f) (B + 11) (mk B c h) = some (mk B c h') ∧ sRun (fun j => sClip (V j)) (fun x => sClip (Lk x)) cs [] = some [v] ∧ (kd < 3 → v = 0 ∨ v = 1) ∧ quP B N h' p kd t cs (mtS kd v f L F).1 (mtS kd v f L F).2 ∧ h'.1 = h.1 ∧ h'.2.1 = h.2.1 ∧ (∀ a, a ≠ p → h'.2.2 a = h.2.2 a) ∧ hW B h' := by
  have g' := g
  obtain ⟨⟨p1, p2⟩, k6, g3, g4⟩ := g
  have op : outB B p := Or.inr (Or.inr (by omega))
  have m3 : (mk B c h).2.2 p = some (true, .inr (20, [.int (nI kd), va_rf (if 3 ≤ kd then none else some t), va_rf (if 3 ≤ kd then some t else none), .long L, .int (bI F)])) := by rw [mk_out op]; exact g3
  have oa : ∀ a, (iv N h.1 a ∧ a ≠ p) → outB B a ∧ (mk B c h).2.2 a = h.2.2 a := fun a ha => by
    have : outB B a := Or.inr (Or.inr (by have := ha.1.1; omega))
    exact ⟨this, mk_out this c h⟩
  -- the answer is put
  have fin : ∀ (L' : Int64), ∃ h', (bnv (pPut (mk B c h) p 20 3 (.long L')) fun h3 => bnv (pPut h3 p 20 4 (.int (bI true))) fun h4 => some h4) = some (mk B c h') ∧ quP B N h' p kd t cs L' true ∧ h'.1 = h.1 ∧ h'.2.1 = h.2.1 ∧ (∀ a, a ≠ p → h'.2.2 a = h.2.2 a) ∧ hW B h' := by
    intro L'
    rw [mk_pO op g3 (show 3 < 5 by decide), bnv_s, mk_pO op (pE_at _ _ _) (show 4 < 5 by decide), bnv_s, pE_pE]
    exact ⟨_, rfl, g'.put L' true, rfl, rfl, fun a ha => pE_ne _ ha _, hw.put p2 _⟩
  unfold fX20_meets
  rw [pF_of (k := 0) m3 rfl, vI_s]
  by_cases c3 : 3 ≤ kd
  · rw [if_pos c3] at g4
    obtain ⟨v, v1, -, v3⟩ := vT_at hD hm hL (x0_cls c h) 64 (g4.of oa) 64 (Nat.le_refl _)
    have e2 : pF (mk B c h) p 20 2 = some (va_rf (some t)) := by rw [pF_of (k := 2) m3 rfl, if_pos c3]
    have em : mtS kd v f L F = (if F = false then v else if kd = 3 then L + v else if kd = 4 then (if L < v then v else L) else if v < L then v else L, true) := by unfold mtS; rw [if_pos c3]
    rw [if_pos (show (3 : Int32) ≤ nI kd from nI_le (a := 3) c3 (by omega)), e2, vQ_s, qS_s, v1, bnd_s, pF_of (k := 4) m3 rfl, vZ_s]
    simp only [jn_s]
    have out : ∀ (L' : Int64), mtS kd v f L F = (L', true) → ∃ v h', (bnv (pPut (mk B c h) p 20 3 (.long L')) fun h3 => bnv (pPut h3 p 20 4 (.int (bI true))) fun h4 => some h4) = some (mk B c h') ∧ sRun (fun j => sClip (V j)) (fun x => sClip (Lk x)) cs [] = some [v] ∧ (kd < 3 → v = 0 ∨ v = 1) ∧ quP B N h' p kd t cs (mtS kd v f L F).1 (mtS kd v f L F).2 ∧ h'.1 = h.1 ∧ h'.2.1 = h.2.1 ∧ (∀ a, a ≠ p → h'.2.2 a = h.2.2 a) ∧ hW B h' := by
      intro L' eL
      obtain ⟨h', f1, f2, f3, f4, f5, f6⟩ := fin L'
      exact ⟨v, h', f1, v3 [], fun q => absurd q (by omega), by rw [eL]; exact f2, f3, f4, f5, f6⟩
    cases F with
    | false =>
      rw [if_pos rfl] at em
      rw [if_pos (show bI false = 0 by decide)]
      exact out _ em
    | true =>
      rw [if_neg (show ¬ true = false by decide)] at em
      rw [if_neg (show ¬ bI true = 0 by decide), pF_of (k := 0) m3 rfl, vI_s]
      by_cases k3 : kd = 3
      · rw [if_pos k3] at em
        rw [if_pos (show nI kd = (3 : Int32) by rw [k3]; rfl), pF_of (k := 3) m3 rfl, vJ_s]
        exact out _ em
      · rw [if_neg k3] at em
        rw [if_neg (show ¬ nI kd = (3 : Int32) from fun q => k3 ((nI_eq (a := kd) (b := 3) (by omega) (by omega)).mp q)), vI_s]
        by_cases k4 : kd = 4
        · rw [if_pos k4] at em
          rw [if_pos (show nI kd = (4 : Int32) by rw [k4]; rfl), pF_of (k := 3) m3 rfl, vJ_s]
          unfold fJ12_max_2
          by_cases q : L < v
          · rw [if_pos q] at em ⊢
            rw [bnd_s]
            exact out _ em
          · rw [if_neg q] at em ⊢
            rw [bnd_s]
            exact out _ em
        · rw [if_neg k4] at em
          rw [if_neg (show ¬ nI kd = (4 : Int32) from fun q => k4 ((nI_eq (a := kd) (b := 4) (by omega) (by omega)).mp q)), pF_of (k := 3) m3 rfl, vJ_s]
          unfold fJ12_min_2
          by_cases q : v < L
          · rw [if_pos q] at em ⊢
            rw [bnd_s]
            exact out _ em
          · rw [if_neg q] at em ⊢
            rw [bnd_s]
            exact out _ em
  · rw [if_neg c3] at g4
    obtain ⟨v, v1, v3⟩ := tT_at hD hm hL (x0_cls c h) 64 (g4.of oa) 64 (Nat.le_refl _)
    have e1 : pF (mk B c h) p 20 1 = some (va_rf (some t)) := by rw [pF_of (k := 1) m3 rfl, if_neg c3]
    rw [if_neg (show ¬ (3 : Int32) ≤ nI kd from nI_ge (b := 3) (by omega) (by decide)), e1, vQ_s, qS_s, v1, bnd_s]
    have em : mtS kd (b64 v) f L F = if b64 v = 1 then (if kd = 2 then (if 0 < L then L else 0) + 1 else if kd = 0 ∧ F = true then L else (nI f).toInt64, true) else (L, F) := by unfold mtS; rw [if_neg c3]
    cases v with
    | false =>
      rw [if_neg (by decide)] at em
      rw [if_pos (show bI false = 0 by decide)]
      refine ⟨b64 false, h, rfl, v3 [], fun _ => Or.inl rfl, ?_, rfl, rfl, fun _ _ => rfl, hw⟩
      rw [em]
      exact g'
    | true =>
      rw [if_pos (by decide)] at em
      rw [if_neg (show ¬ bI true = 0 by decide), pF_of (k := 0) m3 rfl, vI_s]
      simp only [jn_s]
      have out : ∀ (L' : Int64), mtS kd (b64 true) f L F = (L', true) → ∃ v h', (bnv (pPut (mk B c h) p 20 3 (.long L')) fun h3 => bnv (pPut h3 p 20 4 (.int (bI true))) fun h4 => some h4) = some (mk B c h') ∧ sRun (fun j => sClip (V j)) (fun x => sClip (Lk x)) cs [] = some [v] ∧ (kd < 3 → v = 0 ∨ v = 1) ∧ quP B N h' p kd t cs (mtS kd v f L F).1 (mtS kd v f L F).2 ∧ h'.1 = h.1 ∧ h'.2.1 = h.2.1 ∧ (∀ a, a ≠ p → h'.2.2 a = h.2.2 a) ∧ hW B h' := by
        intro L' eL
        obtain ⟨h', f1, f2, f3, f4, f5, f6⟩ := fin L'
        exact ⟨b64 true, h', f1, v3 [], fun _ => Or.inr rfl, by rw [eL]; exact f2, f3, f4, f5, f6⟩
      by_cases k2 : kd = 2
      · rw [if_pos k2] at em
        rw [if_pos (show nI kd = (2 : Int32) by rw [k2]; rfl), pF_of (k := 3) m3 rfl, vJ_s]
        unfold fJ12_max_2
        by_cases q : 0 < L
        · rw [if_pos q] at em ⊢
          rw [bnd_s]
          exact out _ em
        · rw [if_neg q] at em ⊢
          rw [bnd_s]
          exact out _ em
      · rw [if_neg k2] at em
        rw [if_neg (show ¬ nI kd = (2 : Int32) from fun q => k2 ((nI_eq (a := kd) (b := 2) (by omega) (by omega)).mp q)), vI_s]
        by_cases k0 : kd = 0
        · rw [if_pos (show nI kd = (0 : Int32) by rw [k0]; rfl), pF_of (k := 4) m3 rfl, vZ_s]
          cases F with
          | false =>
            rw [if_neg (fun q => by cases q.2)] at em
            rw [if_pos (show bI false = 0 by decide)]
            exact out _ em
          | true =>
            rw [if_pos ⟨k0, rfl⟩] at em
            rw [if_neg (show ¬ bI true = 0 by decide), pF_of (k := 3) m3 rfl, vJ_s]
            exact out _ em
        · rw [if_neg (fun q => k0 q.1)] at em
          rw [if_neg (show ¬ nI kd = (0 : Int32) from fun q => k0 ((nI_eq (a := kd) (b := 0) (by omega) (by omega)).mp q))]
          exact out _ em
theorem x_answer (hN : B + 841 ≤ N) (g : quP B N h p kd t cs L F) : fX20_answer p (mk B c h) = some (if F = false ∧ 2 ≤ kd then 0 else L, mk B c h) ∧ pCls (mk B c h) p = some 20 := by
  obtain ⟨⟨p1, p2⟩, k6, g3, g4⟩ := g
  have op : outB B p := Or.inr (Or.inr (by omega))
  have m3 : (mk B c h).2.2 p = some (true, .inr (20, [.int (nI kd), va_rf (if 3 ≤ kd then none else some t), va_rf (if 3 ≤ kd then some t else none), .long L, .int (bI F)])) := by rw [mk_out op]; exact g3
  refine ⟨?_, pCls_of m3⟩
  unfold fX20_answer
  rw [pF_of (k := 4) m3 rfl, vZ_s]
  simp only [jn_s]
  cases F with
  | true => rw [if_neg (show ¬ bI true = 0 by decide), pF_of (k := 3) m3 rfl, vJ_s, if_neg (fun q => by cases q.1)]
  | false =>
    rw [if_pos (show bI false = 0 by decide), pF_of (k := 0) m3 rfl, vI_s]
    by_cases k2 : 2 ≤ kd
    · rw [if_pos (show (2 : Int32) ≤ nI kd from nI_le (a := 2) k2 (by omega)), if_pos ⟨rfl, k2⟩]
    · rw [if_neg (show ¬ (2 : Int32) ≤ nI kd from nI_ge (b := 2) (by omega) (by decide)), pF_of (k := 3) m3 rfl, vJ_s, if_neg (fun q => k2 q.2)]
end TJ
