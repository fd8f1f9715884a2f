/-! PART 31: plain: what a word's hash is; switches over words -/
set_option maxRecDepth 100000
def hshT : List Nat → Int32 → Int32
  | [], a => a
  | x :: w, a => hshT w ((31 : Int32) * a + nI x)
def hsh (w : List Nat) : Int32 := hshT w 0
/-- a word read, with or without its hash -/
def wH (h : PH) (p : Nat) (w : List Nat) : Prop := (∃ (x : Int32) (y : Bool), h.2.2 p = some (true, .inr (22, [.ref (p + 1), .int 0, .int x, .int (bI y)])) ∧ (x = 0 ∨ x = hsh w) ∧ (y = true → hsh w = 0)) ∧ (1 ≤ w.length ∧ w.length ≤ 1600 ∧ ∀ x, x ∈ w → x < 128) ∧ ∃ f : Nat → Int32, h.2.2 (p + 1) = some (true, .inl (2, w.length, .inl f)) ∧ ∀ i, i < w.length → f i = nI (w.getD i 0)
theorem wsN.h {h : PH} {p : Nat} {w : List Nat} (g : wsN h p w) (hl : 1 ≤ w.length ∧ w.length ≤ 1600 ∧ ∀ x, x ∈ w → x < 128) : wH h p w := by
  obtain ⟨g1, g2⟩ := g
  exact ⟨⟨0, false, g1, Or.inl rfl, fun h => by cases h⟩, hl, g2⟩
theorem wH.t {h : PH} {p : Nat} {w : List Nat} (g : wH h p w) {P : Nat → Prop} (h1 : P p) (h2 : P (p + 1)) : tP P h p w := by
  obtain ⟨⟨x, y, g1, -⟩, ⟨-, g2, g3⟩, f, g4, g5⟩ := g
  exact ⟨h1, g3, g2, true, true, x, bI y, p + 1, f, h2, g1, g4, g5⟩
theorem wH.gr {h h' : PH} {p : Nat} {w : List Nat} (g : wH h p w) (e1 : h'.2.2 p = h.2.2 p) (e2 : h'.2.2 (p + 1) = h.2.2 (p + 1)) : wH h' p w := by
  obtain ⟨⟨x, y, g1, g0⟩, g3, f, g4, g5⟩ := g
  exact ⟨⟨x, y, by rw [e1]; exact g1, g0⟩, g3, f, by rw [e2]; exact g4, g5⟩
theorem nI_255 : ∀ x, x < 128 → nI x &&& 255 = nI x := by decide +kernel
theorem vZ_s {β : Type} (t : Bool) (k : Bool → Option β) : vZ (some (.int (bI t))) k = k t := by
  unfold vZ
  rw [vI_s]
  cases t with
  | false => rw [if_pos (by decide)]
  | true => rw [if_neg (by decide), if_pos (by decide)]
section SY
variable {B : Nat} {D : PD} {cap : Nat × Nat} {c : CZ} {h : PH}
theorem hash_L {p : Nat} {w : List Nat} {bb : Bool} {f : Nat → Int32} (hl : w.length ≤ 1600) (h8 : ∀ x, x ∈ w → x < 128) (hp : (mk B c h).2.2 p = some (bb, .inl (2, w.length, .inl f))) (hf : ∀ i, i < w.length → f i = nI (w.getD i 0)) (dm : Int32 → Int32 → PH → Option (Int32 × PH)) : ∀ (m i : Nat) (a : Int32), i ≤ w.length → w.length - i < m →
    fx (fJ10_signedHashCode_L8 p 0 (nI w.length)) dm m a (nI i) (mk B c h) = some (hshT (w.drop i) a, mk B c h)
  | 0, i, _, _, hm => absurd hm (Nat.not_lt_zero _)
  | m + 1, i, a, hi, hm => by
    have IH := hash_L hl h8 hp hf dm m
    rw [fx_s]
    generalize fx (fJ10_signedHashCode_L8 p 0 (nI w.length)) dm m = S at IH ⊢
    unfold fJ10_signedHashCode_L8
    rw [show (0 : Int32) + nI w.length = nI w.length from Int32.zero_add _]
    by_cases ci : i < w.length
    · have e1 : w.getD i 0 = w[i] := by simp [List.getD, ci]
      have b1' := h8 _ (List.getElem_mem ci)
      rw [if_neg (nI_ge ci (by omega)), pLd_of hp ci (by omega), ob_s, hf i ci, e1, nI_255 _ b1', nI_1, IH (i + 1) _ ci (by omega), List.drop_eq_getElem_cons ci]
      rfl
    · rw [if_pos (nI_le (by omega) (by omega)), List.drop_eq_nil_of_le (by omega)]
      rfl
theorem x_hash {p : Nat} {w : List Nat} (hS : dS D 4 = .int 1) (hp : B + 841 ≤ p) (g : wH h p w) : ∃ h', fJ6_hashCode D cap p (mk B c h) = some (hsh w, mk B c h') ∧ wH h' p w ∧ h'.1 = h.1 ∧ h'.2.1 = h.2.1 ∧ ∀ a, a ≠ p → h'.2.2 a = h.2.2 a := by
  have g' := g
  obtain ⟨⟨x, y, g1, g2, g3⟩, ⟨l1, l2, l3⟩, f, g4, g5⟩ := g
  have op : outB B p := Or.inr (Or.inr hp)
  have m1 : (mk B c h).2.2 p = some (true, .inr (22, [.ref (p + 1), .int 0, .int x, .int (bI y)])) := by rw [mk_out op]; exact g1
  have m2 : (mk B c h).2.2 (p + 1) = some (true, .inl (2, w.length, .inl f)) := by rw [mk_out (Or.inr (Or.inr (by omega)))]; exact g4
  unfold fJ6_hashCode
  rw [pF_of (k := 2) m1 rfl, vI_s]
  by_cases cx : x = 0
  · rw [if_pos cx, pF_of (k := 3) m1 rfl, vZ_s]
    cases y with
    | true =>
      rw [if_neg (by decide), cx, ← g3 rfl]
      exact ⟨h, rfl, g', rfl, rfl, fun _ _ => rfl⟩
    | false =>
      rw [if_pos (by decide), pCls_of m1, ckc_s]
      unfold fJ6_isLatin1
      rw [hS, vI_s, jn_s, if_neg (by decide), pF_of (k := 1) m1 rfl, vI_s, if_pos rfl, bnd_s, if_neg (by decide), pF_of (k := 0) m1 rfl, vA_s]
      have key : fJ9_hashCode D cap (p + 1) (mk B c h) = some (hsh w, mk B c h) := by
        unfold fJ9_hashCode
        rw [pArr_of m2, ob_s]
        dsimp only
        rw [if_neg (fun q => by have := (nI_eq (a := w.length) (b := 0) (by omega) (by omega)).mp q; omega)]
        by_cases c1 : w.length = 1
        · rw [if_pos (by rw [c1]; rfl), show (0 : Int32) = nI 0 from rfl, pLd_of m2 (show 0 < w.length by omega) (by omega), ob_s, g5 0 (by omega)]
          match w, c1, l3 with
          | [a], _, l3 =>
            have := l3 a List.mem_cons_self
            show some (nI a &&& 255, mk B c h) = some ((31 : Int32) * 0 + nI a, mk B c h)
            rw [nI_255 a this, show (31 : Int32) * 0 = 0 from rfl, Int32.zero_add]
        · rw [if_neg (show ¬ nI w.length = (1 : Int32) from fun q => c1 ((nI_eq (a := w.length) (b := 1) (by omega) (by omega)).mp q))]
          unfold fJ10_vectorizedHashCode fJ10_signedHashCode
          have L := hash_L (B := B) (c := c) l2 l3 m2 g5 (fun _ _ _ => none) FU 0 0 (Nat.zero_le _) (FU_gt (by omega))
          rw [ob_s, if_pos rfl, pArr_of m2, ob_s, show fx (fJ10_signedHashCode_L8 (p + 1) 0 (nI w.length)) (fun _ _ _ => none) FU 0 0 (mk B c h) = _ from L, bnd_s, bnd_s]
          rfl
      rw [key, bnd_s]
      by_cases c0 : hsh w = 0
      · rw [if_pos c0, mk_pO op g1 (show 3 < 4 by decide), bnv_s]
        refine ⟨_, rfl, ⟨⟨x, true, ?_, Or.inl cx, fun _ => c0⟩, ⟨l1, l2, l3⟩, f, by rw [pE_ne _ (by omega)]; exact g4, g5⟩, rfl, rfl, fun a ha => pE_ne _ ha _⟩
        rw [pE_at]
        rfl
      · rw [if_neg c0, mk_pO op g1 (show 2 < 4 by decide), bnv_s]
        refine ⟨_, rfl, ⟨⟨hsh w, false, ?_, Or.inr rfl, fun h => by cases h⟩, ⟨l1, l2, l3⟩, f, by rw [pE_ne _ (by omega)]; exact g4, g5⟩, rfl, rfl, fun a ha => pE_ne _ ha _⟩
        rw [pE_at]
        rfl
  · rw [if_neg cx]
    have ex : x = hsh w := by
      rcases g2 with q | q
      · exact absurd q cx
      · exact q
    rw [ex]
    exact ⟨h, rfl, g', rfl, rfl, fun _ _ => rfl⟩
/-- one case of a switch over words -/
theorem sw_1 {β : Type} {w : List Nat} {p i : Nat} {k : Int32} {y : PH} (hc : pCls y p = some 22) (he : fJ6_equals D p (some (dK D i)) y = some (decide (w = kWd.getD i []), y)) (hk : hsh (kWd.getD i []) = k) (J : Int32 → PH → Option β) (v : Int32) (E : Option β) :
    (if hsh w = k then ckc (pCls y p) 22 <| bnd (fJ6_equals D p (some (dK D i)) y) fun r h => if bI r = 0 then J (-1) h else J v h else E) = if w = kWd.getD i [] then J v y else if hsh w = k then J (-1) y else E := by
  by_cases c : w = kWd.getD i []
  · rw [if_pos c, if_pos (by rw [c]; exact hk), hc, ckc_s, he, bnd_s, decide_eq_true c, if_neg (by decide)]
  · rw [if_neg c]
    by_cases c2 : hsh w = k
    · rw [if_pos c2, if_pos c2, hc, ckc_s, he, bnd_s, decide_eq_false c, if_pos (by decide)]
    · rw [if_neg c2, if_neg c2]
def swP (w : List Nat) : Int32 := if w = wPers then 1 else if w = wTaug then 4 else if w = wErrs then 3 else if w = wFact then 0 else if w = wKnow then 2 else -1
def swM (w : List Nat) : Int32 := if w = wGarb then 1 else if w = wIll then 5 else if w = wPass then 3 else if w = wSits then 2 else if w = wTake then 0 else if w = wTrie then 4 else -1
theorem sw_people {β : Type} {w : List Nat} {p : Nat} {y : PH} (hc : pCls y p = some 22) (he : ∀ i, i < 20 → fJ6_equals D p (some (dK D i)) y = some (decide (w = kWd.getD i []), y)) (K : Int32 → PH → Option β) :
    (jn K fun j132 =>
  if hsh w = (-991716523) then
    ckc (pCls y p) 22 <|
    bnd (fJ6_equals D p (some (dK D 1)) y) fun r19 h44 =>
    if (bI r19) = 0 then
      j132 (-1) h44
    else
      j132 1 h44
  else
    if hsh w = (-880816373) then
      ckc (pCls y p) 22 <|
      bnd (fJ6_equals D p (some (dK D 4)) y) fun r20 h45 =>
      if (bI r20) = 0 then
        j132 (-1) h45
      else
        j132 4 h45
    else
      if hsh w = 3122094 then
        ckc (pCls y p) 22 <|
        bnd (fJ6_equals D p (some (dK D 3)) y) fun r21 h46 =>
        if (bI r21) = 0 then
          j132 (-1) h46
        else
          j132 3 h46
      else
        if hsh w = 3135084 then
          ckc (pCls y p) 22 <|
          bnd (fJ6_equals D p (some (dK D 0)) y) fun r22 h47 =>
          if (bI r22) = 0 then
            j132 (-1) h47
          else
            j132 0 h47
        else
          if hsh w = 102204232 then
            ckc (pCls y p) 22 <|
            bnd (fJ6_equals D p (some (dK D 2)) y) fun r23 h48 =>
            if (bI r23) = 0 then
              j132 (-1) h48
            else
              j132 2 h48
          else
            j132 (-1) y) = K (swP w) y := by
  rw [jn_s, sw_1 hc (he 2 (by decide)) (by decide +kernel), sw_1 hc (he 0 (by decide)) (by decide +kernel), sw_1 hc (he 3 (by decide)) (by decide +kernel), sw_1 hc (he 4 (by decide)) (by decide +kernel), sw_1 hc (he 1 (by decide)) (by decide +kernel)]
  have e0 : kWd.getD 0 [] = wFact := rfl
  have e1 : kWd.getD 1 [] = wPers := rfl
  have e2 : kWd.getD 2 [] = wKnow := rfl
  have e3 : kWd.getD 3 [] = wErrs := rfl
  have e4 : kWd.getD 4 [] = wTaug := rfl
  have f0 : hsh wFact = 3135084 := by decide +kernel
  have f2 : hsh wKnow = 102204232 := by decide +kernel
  have f3 : hsh wErrs = 3122094 := by decide +kernel
  have f4 : hsh wTaug = -880816373 := by decide +kernel
  rw [e0, e1, e2, e3, e4]
  unfold swP
  by_cases c1 : w = wPers
  · rw [if_pos c1, if_pos c1]
  rw [if_neg c1, if_neg c1]
  by_cases c4 : w = wTaug
  · rw [if_pos c4, if_neg (by rw [c4, f4]; decide), if_pos c4]
  rw [if_neg c4, if_neg c4]
  by_cases c3 : w = wErrs
  · rw [if_pos c3, if_pos c3, if_neg (by rw [c3, f3]; decide), if_neg (by rw [c3, f3]; decide)]
  rw [if_neg c3, if_neg c3]
  by_cases c0 : w = wFact
  · rw [if_pos c0, if_pos c0, if_neg (by rw [c0, f0]; decide), if_neg (by rw [c0, f0]; decide), if_neg (by rw [c0, f0]; decide)]
  rw [if_neg c0, if_neg c0]
  by_cases c2 : w = wKnow
  · rw [if_pos c2, if_pos c2, if_neg (by rw [c2, f2]; decide), if_neg (by rw [c2, f2]; decide), if_neg (by rw [c2, f2]; decide), if_neg (by rw [c2, f2]; decide)]
  rw [if_neg c2, if_neg c2]
  split
  · rfl
  · split
    · rfl
    · split
      · rfl
      · split
        · rfl
        · split <;> rfl
theorem sw_more {β : Type} {w : List Nat} {p : Nat} {y : PH} (hc : pCls y p = some 22) (he : ∀ i, i < 20 → fJ6_equals D p (some (dK D i)) y = some (decide (w = kWd.getD i []), y)) (K : Int32 → PH → Option β) :
    (jn K fun j155 =>
  if hsh w = (-1253089405) then
    ckc (pCls y p) 22 <|
    bnd (fJ6_equals D p (some (dK D 9)) y) fun r5 h16 =>
    if (bI r5) = 0 then
      j155 (-1) h16
    else
      j155 1 h16
  else
    if hsh w = 104361 then
      ckc (pCls y p) 22 <|
      bnd (fJ6_equals D p (some (dK D 13)) y) fun r6 h17 =>
      if (bI r6) = 0 then
        j155 (-1) h17
      else
        j155 5 h17
    else
      if hsh w = 3433489 then
        ckc (pCls y p) 22 <|
        bnd (fJ6_equals D p (some (dK D 11)) y) fun r7 h18 =>
        if (bI r7) = 0 then
          j155 (-1) h18
        else
          j155 3 h18
      else
        if hsh w = 3530581 then
          ckc (pCls y p) 22 <|
          bnd (fJ6_equals D p (some (dK D 10)) y) fun r8 h19 =>
          if (bI r8) = 0 then
            j155 (-1) h19
          else
            j155 2 h19
        else
          if hsh w = 110124236 then
            ckc (pCls y p) 22 <|
            bnd (fJ6_equals D p (some (dK D 8)) y) fun r9 h20 =>
            if (bI r9) = 0 then
              j155 (-1) h20
            else
              j155 0 h20
          else
            if hsh w = 110628761 then
              ckc (pCls y p) 22 <|
              bnd (fJ6_equals D p (some (dK D 12)) y) fun r10 h21 =>
              if (bI r10) = 0 then
                j155 (-1) h21
              else
                j155 4 h21
            else
              j155 (-1) y) = K (swM w) y := by
  rw [jn_s, sw_1 hc (he 12 (by decide)) (by decide +kernel), sw_1 hc (he 8 (by decide)) (by decide +kernel), sw_1 hc (he 10 (by decide)) (by decide +kernel), sw_1 hc (he 11 (by decide)) (by decide +kernel), sw_1 hc (he 13 (by decide)) (by decide +kernel), sw_1 hc (he 9 (by decide)) (by decide +kernel)]
  have e9 : kWd.getD 9 [] = wGarb := rfl
  have e13 : kWd.getD 13 [] = wIll := rfl
  have e11 : kWd.getD 11 [] = wPass := rfl
  have e10 : kWd.getD 10 [] = wSits := rfl
  have e8 : kWd.getD 8 [] = wTake := rfl
  have e12 : kWd.getD 12 [] = wTrie := rfl
  have f13 : hsh wIll = 104361 := by decide +kernel
  have f11 : hsh wPass = 3433489 := by decide +kernel
  have f10 : hsh wSits = 3530581 := by decide +kernel
  have f8 : hsh wTake = 110124236 := by decide +kernel
  have f12 : hsh wTrie = 110628761 := by decide +kernel
  rw [e9, e13, e11, e10, e8, e12]
  unfold swM
  by_cases c1 : w = wGarb
  · rw [if_pos c1, if_pos c1]
  rw [if_neg c1, if_neg c1]
  by_cases c4 : w = wIll
  · rw [if_pos c4, if_neg (by rw [c4, f13]; decide), if_pos c4]
  rw [if_neg c4, if_neg c4]
  by_cases c3 : w = wPass
  · rw [if_pos c3, if_pos c3, if_neg (by rw [c3, f11]; decide), if_neg (by rw [c3, f11]; decide)]
  rw [if_neg c3, if_neg c3]
  by_cases c0 : w = wSits
  · rw [if_pos c0, if_pos c0, if_neg (by rw [c0, f10]; decide), if_neg (by rw [c0, f10]; decide), if_neg (by rw [c0, f10]; decide)]
  rw [if_neg c0, if_neg c0]
  by_cases c2 : w = wTake
  · rw [if_pos c2, if_pos c2, if_neg (by rw [c2, f8]; decide), if_neg (by rw [c2, f8]; decide), if_neg (by rw [c2, f8]; decide), if_neg (by rw [c2, f8]; decide)]
  rw [if_neg c2, if_neg c2]
  by_cases c5 : w = wTrie
  · rw [if_pos c5, if_pos c5, if_neg (by rw [c5, f12]; decide), if_neg (by rw [c5, f12]; decide), if_neg (by rw [c5, f12]; decide), if_neg (by rw [c5, f12]; decide), if_neg (by rw [c5, f12]; decide)]
  rw [if_neg c5, if_neg c5]
  split
  · rfl
  · split
    · rfl
    · split
      · rfl
      · split
        · rfl
        · split
          · rfl
          · split <;> rfl
end SY
