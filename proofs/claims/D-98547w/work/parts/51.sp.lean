/-! 51.sp: what a town is; who knows whom, who may cut, over a town T and a row R (day, hour, 64 days of meetings, 6 cutters, 8 thanks) -/
def TOK (T : TT) : Prop := (T 0 0 ≤ 8 ∧ T 0 1 ≤ 6) ∧ (∀ p, p < T 0 0 → T 1 p ≤ 3 ∧ T 2 p ≤ 9 ∧ T 3 p ≤ 9) ∧ (∀ p, p < T 0 0 → T 1 p = 3 → 1 ≤ p ∧ T 1 (p - 1) ≠ 3) ∧
  (∀ b, b < T 0 1 → T 4 b ≤ 9 ∧ (1 ≤ T 5 b ∧ T 5 b ≤ 999) ∧ T 6 b ≤ 23 ∧ T 7 b ≤ 23 ∧ 1 ≤ T 8 b ∧ T 8 b ≤ 6) ∧
  (∀ b i, b < T 0 1 → i < T 8 b → T 9 (6 * b + i) < T 0 0) ∧ (∀ b i j, b < T 0 1 → i < T 8 b → j < T 8 b → T 9 (6 * b + i) = T 9 (6 * b + j) → i = j) ∧
  (T 0 3 ≤ 999 ∧ T 0 4 ≤ 23 ∧ T 0 5 ≤ 600)
theorem TOK.n8 {T : TT} (h : TOK T) : T 0 0 ≤ 8 := h.1.1
theorem TOK.n6 {T : TT} (h : TOK T) : T 0 1 ≤ 6 := h.1.2
theorem TOK.p {T : TT} (h : TOK T) {p : Nat} (hp : p < T 0 0) : T 1 p ≤ 3 ∧ T 2 p ≤ 9 ∧ T 3 p ≤ 9 := h.2.1 p hp
theorem TOK.tw {T : TT} (h : TOK T) {p : Nat} (hp : p < T 0 0) (h3 : T 1 p = 3) : 1 ≤ p ∧ T 1 (p - 1) ≠ 3 := h.2.2.1 p hp h3
theorem TOK.l {T : TT} (h : TOK T) {b : Nat} (hb : b < T 0 1) : T 4 b ≤ 9 ∧ (1 ≤ T 5 b ∧ T 5 b ≤ 999) ∧ T 6 b ≤ 23 ∧ T 7 b ≤ 23 ∧ 1 ≤ T 8 b ∧ T 8 b ≤ 6 := h.2.2.2.1 b hb
theorem TOK.e {T : TT} (h : TOK T) {b i : Nat} (hb : b < T 0 1) (hi : i < T 8 b) : T 9 (6 * b + i) < T 0 0 := h.2.2.2.2.1 b i hb hi
theorem TOK.inj {T : TT} (h : TOK T) {b i j : Nat} (hb : b < T 0 1) (hi : i < T 8 b) (hj : j < T 8 b) (e : T 9 (6 * b + i) = T 9 (6 * b + j)) : i = j := h.2.2.2.2.2.1 b i j hb hi hj e
theorem TOK.c {T : TT} (h : TOK T) : T 0 3 ≤ 999 ∧ T 0 4 ≤ 23 ∧ T 0 5 ≤ 600 := h.2.2.2.2.2.2
/-- a twin is another person, whose twin one is -/
theorem twI_c {T : TT} (h : TOK T) {p : Nat} (hp : p < T 0 0) : twI T p = -1 ∨ ∃ q, q < T 0 0 ∧ twI T p = nI q ∧ q ≠ p ∧ twI T q = nI p := by
  have h8 := h.n8
  unfold twI
  rw [if_pos hp]
  by_cases h3 : T 1 p = 3
  · have h4 := h.tw hp h3
    refine Or.inr ⟨p - 1, by omega, by rw [if_pos h3], by omega, ?_⟩
    rw [if_pos (by omega), if_neg h4.2, if_pos ⟨by omega, by rw [show p - 1 + 1 = p by omega]; exact h3⟩, show p - 1 + 1 = p by omega]
  · rw [if_neg h3]
    by_cases h5 : p + 1 < T 0 0 ∧ T 1 (p + 1) = 3
    · refine Or.inr ⟨p + 1, h5.1, by rw [if_pos h5], by omega, ?_⟩
      rw [if_pos h5.1, if_pos h5.2]
      rfl
    · exact Or.inl (by rw [if_neg h5])
def mdR (R : Nat → Int32) (a b : Nat) : Int32 := R (2 + (8 * a + b))
def ld1 (T : TT) (R : Nat → Int32) (a b : Nat) : Int32 := if twI T a = -1 then mdR R a b else mxI (mdR R a b) (mdR R (ix (twI T a)) b)
def ld2 (T : TT) (R : Nat → Int32) (a b : Nat) : Int32 := if twI T b = -1 then ld1 T R a b else mxI (ld1 T R a b) (mdR R a (ix (twI T b)))
def ld3 (T : TT) (R : Nat → Int32) (a b : Nat) : Int32 := if twI T a = -1 then ld2 T R a b else if twI T b = -1 then ld2 T R a b else mxI (ld2 T R a b) (mdR R (ix (twI T a)) (ix (twI T b)))
/-- the day on which two met last, twins meeting for both -/
def lastD (T : TT) (R : Nat → Int32) (a b : Nat) : Int32 := if twI T a = nI b then -100000 else ld3 T R a b
def knB (T : TT) (R : Nat → Int32) (a b : Nat) : Bool := if a = b then true else if T 2 a = T 2 b then true else if twI T a = nI b then true else if T 1 a = 2 then false else if lastD T R a b = -100000 then false else if nI (T 0 3) < R 0 - lastD T R a b then false else true
def et (T : TT) (b i : Nat) : Nat := T 9 (6 * b + i)
def eatB (T : TT) (p b : Nat) : Bool := anyB (fun i => decide (et T b i = p) || decide (twI T p = nI (et T b i))) (T 8 b)
def houB (T : TT) (p b : Nat) : Bool := anyB (fun i => decide (T 2 p = T 2 (et T b i))) (T 8 b)
def kneB (T : TT) (R : Nat → Int32) (p b : Nat) : Bool := anyB (fun i => decide (et T b i ≠ p) && knB T R p (et T b i)) (T 8 b)
def whyI (T : TT) (R : Nat → Int32) (p b : Nat) : Int32 := if eatB T p b = true then 1 else if houB T p b = true then 2 else if kneB T R p b = true then 3 else 0
def may5 (T : TT) (R : Nat → Int32) (b : Nat) : Int32 := if 0 < R 0 then 5 else if R 1 ≤ nI (T 6 b) + nI (T 7 b) then (if R (66 + b) = -1 then 0 else 6) else 5
def mayI (T : TT) (R : Nat → Int32) (p b : Nat) : Int32 := if whyI T R p b = 0 then (if R 0 = 0 then (if nI (T 6 b) ≤ R 1 then may5 T R b else 4) else may5 T R b) else whyI T R p b
def canB (T : TT) (R : Nat → Int32) (p b : Nat) : Bool := decide (whyI T R p b = 0)
theorem et_ne {T : TT} (h : TOK T) {p b : Nat} (he : eatB T p b = false) {i : Nat} (hi : i < T 8 b) : et T b i ≠ p := by
  intro e
  have := anyB_f.mp he i hi
  simp [e] at this
/-- a state of the component beside a row -/
def SRel (T : TT) (S : Mem) (R : Nat → Int32) : Prop := S 3 0 = R 0 ∧ S 4 0 = R 1 ∧ (∀ a b, a < T 0 0 → b < T 0 0 → a ≠ b → S 0 (8 * a + b) = lastD T R a b) ∧ (∀ b, b < 6 → S 1 b = R (66 + b)) ∧ (∀ p, p < 8 → S 2 p = R (72 + p))
/-- the row of the twin's memory -/
def rowM (h : Mem) : Nat → Int32 := fun k => if k = 0 then h 30 0 else if k = 1 then h 31 0 else if k < 66 then h 13 (k - 2) else if k < 72 then h 27 (k - 66) else if k < 80 then h 28 (k - 72) else 0
theorem rowM_md (h : Mem) {i : Nat} (hi : i < 64) : rowM h (2 + i) = h 13 i := by
  unfold rowM
  rw [if_neg (by omega), if_neg (by omega), if_pos (by omega), show 2 + i - 2 = i by omega]
theorem rowM_mdR (h : Mem) {a b : Nat} (ha : a < 8) (hb : b < 8) : mdR (rowM h) a b = h 13 (8 * a + b) := rowM_md h (by omega)
theorem rowM_cut (h : Mem) {b : Nat} (hb : b < 6) : rowM h (66 + b) = h 27 b := by
  unfold rowM
  rw [if_neg (by omega), if_neg (by omega), if_neg (by omega), if_pos (by omega), show 66 + b - 66 = b by omega]
theorem rowM_th (h : Mem) {p : Nat} (hp : p < 8) : rowM h (72 + p) = h 28 p := by
  unfold rowM
  rw [if_neg (by omega), if_neg (by omega), if_neg (by omega), if_neg (by omega), if_pos (by omega), show 72 + p - 72 = p by omega]
/-- the town in the twin's memory (first halves) -/
def TM (T : TT) (h : Mem) : Prop := (h 3 0 = nI (T 0 0) ∧ h 3 1 = nI (T 0 1) ∧ h 3 3 = nI (T 0 3) ∧ h 3 4 = nI (T 0 4) ∧ h 3 5 = nI (T 0 5)) ∧
  (∀ p, p < T 0 0 → h 4 p = nI (T 1 p) ∧ h 5 p = nI (T 2 p) ∧ h 6 p = nI (T 3 p)) ∧
  (∀ b, b < T 0 1 → h 7 b = nI (T 4 b) ∧ h 8 b = nI (T 5 b) ∧ h 9 b = nI (T 6 b) ∧ h 10 b = nI (T 7 b) ∧ h 11 b = nI (T 8 b)) ∧
  (∀ b i, b < T 0 1 → i < T 8 b → h 12 (6 * b + i) = nI (et T b i)) ∧ (∀ k, k < T 0 5 → h 14 k = sgn T k)
theorem TM.n {T : TT} {h : Mem} (hM : TM T h) : h 3 0 = nI (T 0 0) := hM.1.1
theorem TM.m {T : TT} {h : Mem} (hM : TM T h) : h 3 1 = nI (T 0 1) := hM.1.2.1
theorem TM.e {T : TT} {h : Mem} (hM : TM T h) {b i : Nat} (hb : b < T 0 1) (hi : i < T 8 b) : h 12 (6 * b + i) = nI (et T b i) := hM.2.2.2.1 b i hb hi
theorem TM.em {T : TT} {h : Mem} (hM : TM T h) {b : Nat} (hb : b < T 0 1) : h 11 b = nI (T 8 b) := (hM.2.2.1 b hb).2.2.2.2
theorem TM.k {T : TT} {h : Mem} (hM : TM T h) {p : Nat} (hp : p < T 0 0) : h 4 p = nI (T 1 p) := (hM.2.1 p hp).1
theorem TM.h {T : TT} {h : Mem} (hM : TM T h) {p : Nat} (hp : p < T 0 0) : h 5 p = nI (T 2 p) := (hM.2.1 p hp).2.1
/-- only these places matter -/
theorem TM.of {T : TT} {h h1 : Mem} (hM : TM T h) (e : ∀ k, 3 ≤ k → k ≤ 14 → k ≠ 13 → h1 k = h k) : TM T h1 := by
  unfold TM
  rw [e 3 (by omega) (by omega) (by omega), e 4 (by omega) (by omega) (by omega), e 5 (by omega) (by omega) (by omega), e 6 (by omega) (by omega) (by omega), e 7 (by omega) (by omega) (by omega), e 8 (by omega) (by omega) (by omega), e 9 (by omega) (by omega) (by omega), e 10 (by omega) (by omega) (by omega), e 11 (by omega) (by omega) (by omega), e 12 (by omega) (by omega) (by omega), e 14 (by omega) (by omega) (by omega)]
  exact hM
theorem rowM_of {h h1 : Mem} (e : ∀ k, k = 30 ∨ k = 31 ∨ k = 13 ∨ k = 27 ∨ k = 28 → h1 k = h k) : rowM h1 = rowM h := by
  unfold rowM
  rw [e 30 (by omega), e 31 (by omega), e 13 (by omega), e 27 (by omega), e 28 (by omega)]
