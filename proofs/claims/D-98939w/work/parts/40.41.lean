/-! PART 41: plain: lists, texts, trees and schools in a heap -/
set_option maxRecDepth 100000
/-- an ArrayList at al with the elements ads -/
def lstP (P : Nat → Prop) (h : PH) (al : Nat) (ads : Nat → Nat) (n : Nat) : Prop := P al ∧ ∃ (b1 b2 : Bool) (mc : Int32) (ar ln : Nat) (f : Nat → Option Nat), P ar ∧ h.2.2 al = some (b1, .inr (21, [.int mc, .ref ar, .int (nI n)])) ∧ h.2.2 ar = some (b2, .inl (4, ln, .inr (.inr (.inr (.inr f))))) ∧ n ≤ ln ∧ ln ≤ 100000 ∧ ∀ i, i < n → f i = some (ads i)
/-- a StringBuilder at sb with the signs sg -/
def sbP (P : Nat → Prop) (h : PH) (sb : Nat) (sg : Nat → Nat) (n : Nat) : Prop := P sb ∧ ∃ (b1 b2 : Bool) (x : Int32) (ba ln : Nat) (f : Nat → Int32), P ba ∧ h.2.2 sb = some (b1, .inr (23, [.ref ba, .int 0, .int x, .int (nI n)])) ∧ h.2.2 ba = some (b2, .inl (2, ln, .inl f)) ∧ n ≤ ln ∧ ln ≤ 100000 ∧ ∀ i, i < n → f i = nI (sg i)
/-- a String at a with the letters l (1 to 26) -/
def strP (P : Nat → Prop) (h : PH) (a : Nat) (l : List Nat) : Prop := P a ∧ ∃ (b1 b2 : Bool) (x y : Int32) (ba : Nat) (f : Nat → Int32), P ba ∧ h.2.2 a = some (b1, .inr (22, [.ref ba, .int 0, .int x, .int y])) ∧ h.2.2 ba = some (b2, .inl (2, l.length, .inl f)) ∧ ∀ i, i < l.length → f i = nI (l.getD i 0 + 96)
/-- codes of a chain: the first, then each with its sign behind -/
def chC (op : Nat → Int32) (cs : Nat → List Int32) : Nat → List Int32
  | 0 => []
  | 1 => cs 0
  | n + 2 => chC op cs (n + 1) ++ cs (n + 1) ++ [op (n + 1)]
def opC (s : Nat) : Int32 := if s = 43 then 1 else if s = 45 then 2 else if s = 42 then 3 else 4
/-- the object at a is a Value with the codes c -/
def vT (P : Nat → Prop) (B : Nat) : Nat → PH → Nat → List Int32 → Prop
  | 0, _, _, _ => False
  | n + 1, h, a, c => P a ∧ (
    (∃ (b : Bool) (m : Nat), m ≤ 9999 ∧ h.2.2 a = some (b, .inr (16, [.long (nI m).toInt64])) ∧ c = [nI (1000 + m)]) ∨
    (∃ (b : Bool) (j : Nat), j < 12 ∧ h.2.2 a = some (b, .inr (17, [.int (nI j)])) ∧ c = [nI (40 + j)]) ∨
    (∃ (b mo : Bool) (a1 a2 : Nat) (c1 c2 : List Int32), h.2.2 a = some (b, .inr (15, [.int (bI mo), .ref a1, .ref a2])) ∧ vT P B n h a1 c1 ∧ vT P B n h a2 c2 ∧ c = c1 ++ c2 ++ [if mo = true then 6 else 5]) ∨
    (∃ (b : Bool) (a1 : Nat) (c1 : List Int32), h.2.2 a = some (b, .inr (18, [.int 0, .ref a1, .ref B])) ∧ vT P B n h a1 c1 ∧ c = c1 ++ [60]) ∨
    (∃ (b : Bool) (al sb m : Nat) (ads sg : Nat → Nat) (cs : Nat → List Int32), h.2.2 a = some (b, .inr (14, [.ref al, .ref sb])) ∧ 1 ≤ m ∧ lstP P h al ads m ∧ sbP P h sb sg m ∧ (∀ i, i < m → vT P B n h (ads i) (cs i) ∧ (sg i = 42 ∨ sg i = 43 ∨ sg i = 45 ∨ sg i = 47)) ∧ c = chC (fun i => opC (sg i)) cs m))
/-- .. is a Test with the codes c -/
def tT (P : Nat → Prop) (B : Nat) : Nat → PH → Nat → List Int32 → Prop
  | 0, _, _, _ => False
  | n + 1, h, a, c => P a ∧ (
    (∃ b : Bool, h.2.2 a = some (b, .inr (12, [])) ∧ c = [13]) ∨
    (∃ (b : Bool) (a1 : Nat) (c1 : List Int32), h.2.2 a = some (b, .inr (11, [.ref a1])) ∧ tT P B n h a1 c1 ∧ c = c1 ++ [12]) ∨
    (∃ (b : Bool) (a1 a2 s : Nat) (c1 c2 : List Int32), h.2.2 a = some (b, .inr (19, [.ref a1, .ref a2, .int (nI s)])) ∧ (s = 60 ∨ s = 61 ∨ s = 62) ∧ vT P B n h a1 c1 ∧ vT P B n h a2 c2 ∧ c = c1 ++ c2 ++ [if s = 60 then 7 else if s = 62 then 8 else 9]) ∨
    (∃ (b all : Bool) (al m : Nat) (ads : Nat → Nat) (cs : Nat → List Int32), h.2.2 a = some (b, .inr (10, [.ref al, .int (bI all)])) ∧ 1 ≤ m ∧ lstP P h al ads m ∧ (∀ i, i < m → tT P B n h (ads i) (cs i)) ∧ c = chC (fun _ => if all = true then 10 else 11) cs m))
/-- .. is a School -/
def scP (P : Nat → Prop) (B : Nat) (k : SK) (nm : Nat → Nat → List Nat) (h : PH) (sa : Nat) : Prop := P sa ∧ ∃ (b : Bool) (st : Int32) (fl pl : Nat) (tq : Nat → Option Nat) (fo po : Nat → Nat),
  h.2.2 sa = some (b, .inr (1, [.int st, .int (nI (kSe k 0)), .int (nI (kSe k 1)), .int (nI (kSe k 2)), .ref fl, .ref pl, va_rf (tq 0), va_rf (tq 1), va_rf (tq 2)])) ∧ lstP P h fl fo (kF k) ∧ lstP P h pl po (kP k) ∧
  (∀ f, f < kF k → P (fo f) ∧ ∃ (b : Bool) (n : Nat), h.2.2 (fo f) = some (b, .inr (7, [.ref n, .int (nI (kWo k f))])) ∧ strP P h n (nm 0 f)) ∧
  (∀ p, p < kP k → P (po p) ∧ ∃ (b : Bool) (n : Nat) (m r w : Int32), h.2.2 (po p) = some (b, .inr (8, [.ref n, .int (nI (kCa k p)), .int m, .int r, .int w])) ∧ strP P h n (nm 1 p)) ∧
  ∀ i, i < 3 → (kTe k i = none ∧ tq i = none) ∨ ∃ (c : List Int32) (t : Nat), kTe k i = some c ∧ tq i = some t ∧ tT P B 64 h t c
section OF
variable {P P' : Nat → Prop} {B : Nat} {h h' : PH}
theorem lstP.of (e : ∀ a, P a → P' a ∧ h'.2.2 a = h.2.2 a) {al : Nat} {ads : Nat → Nat} {n : Nat} (g : lstP P h al ads n) : lstP P' h' al ads n := by
  obtain ⟨g0, b1, b2, mc, ar, ln, f, g1, g2, g3, g4⟩ := g
  exact ⟨(e al g0).1, b1, b2, mc, ar, ln, f, (e ar g1).1, by rw [(e al g0).2, g2], by rw [(e ar g1).2, g3], g4⟩
theorem sbP.of (e : ∀ a, P a → P' a ∧ h'.2.2 a = h.2.2 a) {sb : Nat} {sg : Nat → Nat} {n : Nat} (g : sbP P h sb sg n) : sbP P' h' sb sg n := by
  obtain ⟨g0, b1, b2, x, ba, ln, f, g1, g2, g3, g4⟩ := g
  exact ⟨(e sb g0).1, b1, b2, x, ba, ln, f, (e ba g1).1, by rw [(e sb g0).2, g2], by rw [(e ba g1).2, g3], g4⟩
theorem strP.of (e : ∀ a, P a → P' a ∧ h'.2.2 a = h.2.2 a) {a : Nat} {l : List Nat} (g : strP P h a l) : strP P' h' a l := by
  obtain ⟨g0, b1, b2, x, y, ba, f, g1, g2, g3, g4⟩ := g
  exact ⟨(e a g0).1, b1, b2, x, y, ba, f, (e ba g1).1, by rw [(e a g0).2, g2], by rw [(e ba g1).2, g3], g4⟩
theorem vT.of (e : ∀ a, P a → P' a ∧ h'.2.2 a = h.2.2 a) : ∀ {n a : Nat} {c : List Int32}, vT P B n h a c → vT P' B n h' a c
  | 0, a, c, g => g
  | n + 1, a, c, g => by
    obtain ⟨g0, g⟩ := g
    obtain ⟨p0, e0⟩ := e a g0
    refine ⟨p0, ?_⟩
    rw [e0]
    rcases g with g | g | ⟨b, mo, a1, a2, c1, c2, g1, g2, g3, g4⟩ | ⟨b, a1, c1, g1, g2, g3⟩ | ⟨b, al, sb, m, ads, sg, cs, g1, g2, g3, g4, g5, g6⟩
    · exact Or.inl g
    · exact Or.inr (Or.inl g)
    · exact Or.inr (Or.inr (Or.inl ⟨b, mo, a1, a2, c1, c2, g1, vT.of e g2, vT.of e g3, g4⟩))
    · exact Or.inr (Or.inr (Or.inr (Or.inl ⟨b, a1, c1, g1, vT.of e g2, g3⟩)))
    · exact Or.inr (Or.inr (Or.inr (Or.inr ⟨b, al, sb, m, ads, sg, cs, g1, g2, g3.of e, g4.of e, fun i hi => ⟨vT.of e (g5 i hi).1, (g5 i hi).2⟩, g6⟩)))
theorem tT.of (e : ∀ a, P a → P' a ∧ h'.2.2 a = h.2.2 a) : ∀ {n a : Nat} {c : List Int32}, tT P B n h a c → tT P' B n h' a c
  | 0, a, c, g => g
  | n + 1, a, c, g => by
    obtain ⟨g0, g⟩ := g
    obtain ⟨p0, e0⟩ := e a g0
    refine ⟨p0, ?_⟩
    rw [e0]
    rcases g with g | ⟨b, a1, c1, g1, g2, g3⟩ | ⟨b, a1, a2, s, c1, c2, g1, g2, g3, g4, g5⟩ | ⟨b, all, al, m, ads, cs, g1, g2, g3, g4, g5⟩
    · exact Or.inl g
    · exact Or.inr (Or.inl ⟨b, a1, c1, g1, tT.of e g2, g3⟩)
    · exact Or.inr (Or.inr (Or.inl ⟨b, a1, a2, s, c1, c2, g1, g2, g3.of e, g4.of e, g5⟩))
    · exact Or.inr (Or.inr (Or.inr ⟨b, all, al, m, ads, cs, g1, g2, g3.of e, fun i hi => tT.of e (g4 i hi), g5⟩))
theorem scP.of (e : ∀ a, P a → P' a ∧ h'.2.2 a = h.2.2 a) {k : SK} {nm : Nat → Nat → List Nat} {sa : Nat} (g : scP P B k nm h sa) : scP P' B k nm h' sa := by
  obtain ⟨g0, b, st, fl, pl, tq, fo, po, g1, g2, g3, g4, g5, g6⟩ := g
  refine ⟨(e sa g0).1, b, st, fl, pl, tq, fo, po, by rw [(e sa g0).2, g1], g2.of e, g3.of e, fun f hf => ?_, fun p hp => ?_, fun i hi => ?_⟩
  · obtain ⟨q0, b, n, q1, q2⟩ := g4 f hf
    exact ⟨(e _ q0).1, b, n, by rw [(e _ q0).2, q1], q2.of e⟩
  · obtain ⟨q0, b, n, m, r, w, q1, q2⟩ := g5 p hp
    exact ⟨(e _ q0).1, b, n, m, r, w, by rw [(e _ q0).2, q1], q2.of e⟩
  · rcases g6 i hi with q | ⟨c, t, q1, q2, q3⟩
    · exact Or.inl q
    · exact Or.inr ⟨c, t, q1, q2, q3.of e⟩
/-- a deeper look sees the same -/
theorem vT.up {n : Nat} : ∀ {a : Nat} {c : List Int32}, vT P B n h a c → vT P B (n + 1) h a c := by
  induction n with
  | zero => intro a c g; exact g.elim
  | succ n ih =>
    rintro a c ⟨g0, g⟩
    refine ⟨g0, ?_⟩
    rcases g with g | g | ⟨b, mo, a1, a2, c1, c2, g1, g2, g3, g4⟩ | ⟨b, a1, c1, g1, g2, g3⟩ | ⟨b, al, sb, m, ads, sg, cs, g1, g2, g3, g4, g5, g6⟩
    · exact Or.inl g
    · exact Or.inr (Or.inl g)
    · exact Or.inr (Or.inr (Or.inl ⟨b, mo, a1, a2, c1, c2, g1, ih g2, ih g3, g4⟩))
    · exact Or.inr (Or.inr (Or.inr (Or.inl ⟨b, a1, c1, g1, ih g2, g3⟩)))
    · exact Or.inr (Or.inr (Or.inr (Or.inr ⟨b, al, sb, m, ads, sg, cs, g1, g2, g3, g4, fun i hi => ⟨ih (g5 i hi).1, (g5 i hi).2⟩, g6⟩)))
theorem vT.ups {n m : Nat} (hm : n ≤ m) {a : Nat} {c : List Int32} (g : vT P B n h a c) : vT P B m h a c := by
  induction m with
  | zero => have e : n = 0 := by omega
            subst e; exact g
  | succ m ih =>
    by_cases e : n = m + 1
    · subst e; exact g
    · exact (ih (by omega)).up
theorem tT.up {n : Nat} : ∀ {a : Nat} {c : List Int32}, tT P B n h a c → tT P B (n + 1) h a c := by
  induction n with
  | zero => intro a c g; exact g.elim
  | succ n ih =>
    rintro a c ⟨g0, g⟩
    refine ⟨g0, ?_⟩
    rcases g with g | ⟨b, a1, c1, g1, g2, g3⟩ | ⟨b, a1, a2, s, c1, c2, g1, g2, g3, g4, g5⟩ | ⟨b, all, al, m, ads, cs, g1, g2, g3, g4, g5⟩
    · exact Or.inl g
    · exact Or.inr (Or.inl ⟨b, a1, c1, g1, ih g2, g3⟩)
    · exact Or.inr (Or.inr (Or.inl ⟨b, a1, a2, s, c1, c2, g1, g2, g3.up, g4.up, g5⟩))
    · exact Or.inr (Or.inr (Or.inr ⟨b, all, al, m, ads, cs, g1, g2, g3, fun i hi => ih (g4 i hi), g5⟩))
theorem tT.ups {n m : Nat} (hm : n ≤ m) {a : Nat} {c : List Int32} (g : tT P B n h a c) : tT P B m h a c := by
  induction m with
  | zero => have e : n = 0 := by omega
            subst e; exact g
  | succ m ih =>
    by_cases e : n = m + 1
    · subst e; exact g
    · exact (ih (by omega)).up
end OF
/-! reading cells -/
theorem pF_of {h : PH} {a ci k : Nat} {b : Bool} {fs : List Value} {v : Value} (e : h.2.2 a = some (b, .inr (ci, fs))) (hv : fs[k]? = some v) : pF h a ci k = some v := by
  unfold pF
  rw [e]
  show (if ci = ci then _ else _) = _
  rw [if_pos rfl, hv]
theorem pCls_of {h : PH} {a ci : Nat} {b : Bool} {fs : List Value} (e : h.2.2 a = some (b, .inr (ci, fs))) : pCls h a = some ci := by
  unfold pCls
  rw [e]
theorem pArr_of {h : PH} {a kd : Nat} {b : Bool} {x : vp_A} (e : h.2.2 a = some (b, .inl (kd, x))) : pArr h a kd = some x := by
  unfold pArr
  rw [e]
  show (if kd = kd then _ else _) = _
  rw [if_pos rfl]
theorem pLd_of {h : PH} {a kd n : Nat} {b : Bool} {f : Nat → Int32} {i : Nat} (e : h.2.2 a = some (b, .inl (kd, n, .inl f))) (hi : i < n) (hn : n < 2 ^ 31) : pLd h a kd (nI i) = some (f i) := by
  unfold pLd
  rw [pArr_of e]
  show (if inb (nI i) n = true then _ else _) = _
  rw [if_pos (inb_nI hi hn), nI_c (by omega)]
theorem pLdQ_of {h : PH} {a kd n : Nat} {b : Bool} {f : Nat → Option Nat} {i : Nat} (e : h.2.2 a = some (b, .inl (kd, n, .inr (.inr (.inr (.inr f)))))) (hi : i < n) (hn : n < 2 ^ 31) : pLdQ h a kd (nI i) = some (f i) := by
  unfold pLdQ
  rw [pArr_of e]
  show (if inb (nI i) n = true then _ else _) = _
  rw [if_pos (inb_nI hi hn), nI_c (by omega)]
theorem l_cls {P : Nat → Prop} {h : PH} {al : Nat} {ads : Nat → Nat} {n : Nat} (g : lstP P h al ads n) : pCls h al = some 21 := by
  obtain ⟨-, b1, b2, mc, ar, ln, f, -, g2, -⟩ := g
  exact pCls_of g2
theorem l_size {P : Nat → Prop} {h : PH} {al : Nat} {ads : Nat → Nat} {n : Nat} (g : lstP P h al ads n) : fJ2_size al h = some (nI n, h) := by
  obtain ⟨-, b1, b2, mc, ar, ln, f, -, g2, -⟩ := g
  unfold fJ2_size
  rw [pF_of (k := 2) g2 rfl, vI_s]
theorem l_get {P : Nat → Prop} {h : PH} {al : Nat} {ads : Nat → Nat} {n : Nat} (g : lstP P h al ads n) {i : Nat} (hi : i < n) : fJ2_get al (nI i) h = some (some (ads i), h) := by
  have gc := l_cls g
  obtain ⟨-, b1, b2, mc, ar, ln, f, -, g2, g3, g4, g5, g6⟩ := g
  unfold fJ2_get fJ11_checkIndex fJ8_checkIndex fJ2_elementData
  rw [pF_of (k := 2) g2 rfl, vI_s, jn_s, if_neg (nI_pos (show i < 2 ^ 31 by omega)), if_pos (nI_lt hi (by omega)), bnd_s, bnd_s, gc, ckc_s, pF_of (k := 1) g2 rfl, vA_s, pLdQ_of g3 (show i < ln by omega) (by omega), ob_s, bnd_s, g6 i hi]
