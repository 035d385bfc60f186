/-! 63.rel: the component's memory beside the twin's -/
def PRel (T : TT) (S : Mem) (R : Nat → Int32) : Prop := SRel T S R ∧ RowOK R
def BRel (T : TT) (g : Mem) (M : Nat → Mem) (row past : Nat → Int32) (ac se ba : Int32) (sl sa sm bw bl st : Nat → Int32) : Prop :=
  PRel T (sub g 40) row ∧ (∃ n : Nat, n ≤ 40 ∧ g 28 0 = nI n ∧ ac = nI n ∧ ∀ j, j < n → PRel T (M j) (rowA past (80 * j))) ∧
  (∃ s : Nat, s ≤ 6 ∧ g 29 0 = nI s ∧ se = nI s ∧ ∀ j, j < s → g 22 j = sl j ∧ g 23 j = sa j ∧ g 24 j = sm j ∧ ∃ b i : Nat, b < T 0 1 ∧ i < T 8 b ∧ sl j = nI b ∧ sa j = nI i) ∧
  (∃ q : Nat, q ≤ 4 ∧ g 30 0 = nI q ∧ ba = nI q ∧ ∀ j, j < q → g 25 j = bw j ∧ g 26 j = bl j ∧ ∃ p b : Nat, p < T 0 0 ∧ b < T 0 1 ∧ bw j = nI p ∧ bl j = nI b) ∧ (∀ j, j < 3 → g 27 j = st j)
def Rel (T : TT) (hx : Mem) (km : KM) (h : Mem) : Prop := (TOK T ∧ SGOK T ∧ TM T h) ∧ BRel T hx km.1 (rowM h) (h 29) (h 32 0) (h 33 0) (h 34 0) (h 51) (h 52) (h 53) (h 54) (h 55) (h 15) ∧
  (hx 5 0 = h 57 0 ∧ (hx 5 0 = 0 ∨ (hx 5 0 = 1 ∧ BRel T km.2.1 km.2.2 (rowA (h 61) 0) (h 62) (h 58 0) (h 59 0) (h 60 0) (h 63) (h 64) (h 65) (h 66) (h 67) (h 68)))) ∧
  (∃ t : Nat, t ≤ 600 ∧ hx 7 0 = nI t ∧ h 17 0 = nI t ∧ ∀ j, j < t → hx 6 j &&& 255 = h 16 j) ∧ hx 8 0 = h 26 0 ∧
  (hx 14 0 = h 45 0 ∧ (hx 14 0 = 0 ∨ (hx 14 0 = 1 ∧ ∀ b, b < T 0 1 → hx 12 b = h 43 b)))
theorem Rel.T {T : TT} {hx h : Mem} {km : KM} (r : Rel T hx km h) : TOK T := r.1.1
theorem Rel.G {T : TT} {hx h : Mem} {km : KM} (r : Rel T hx km h) : SGOK T := r.1.2.1
theorem Rel.M {T : TT} {hx h : Mem} {km : KM} (r : Rel T hx km h) : TM T h := r.1.2.2
theorem Rel.S {T : TT} {hx h : Mem} {km : KM} (r : Rel T hx km h) : SRel T (sub hx 40) (rowM h) := r.2.1.1.1
theorem Rel.R {T : TT} {hx h : Mem} {km : KM} (r : Rel T hx km h) : RowOK (rowM h) := r.2.1.1.2
/-- places that matter -/
def rlX (k : Nat) : Prop := (5 ≤ k ∧ k ≤ 8) ∨ k = 12 ∨ k = 14 ∨ (22 ≤ k ∧ k ≤ 30) ∨ (40 ≤ k ∧ k ≤ 44)
def rl7 (k : Nat) : Prop := (3 ≤ k ∧ k ≤ 17) ∨ (26 ≤ k ∧ k ≤ 34) ∨ k = 43 ∨ k = 45 ∨ (51 ≤ k ∧ k ≤ 55) ∨ (57 ≤ k ∧ k ≤ 68)
theorem Rel.of {T : TT} {hx h hx1 h1 : Mem} {km : KM} (r : Rel T hx km h) (ex : ∀ k, rlX k → hx1 k = hx k) (e7 : ∀ k, rl7 k → h1 k = h k) : Rel T hx1 km h1 := by
  have eR : rowM h1 = rowM h := rowM_of (fun k hk => e7 k (by unfold rl7; omega))
  have eS : ∀ k, k < 5 → sub hx1 40 k = sub hx 40 k := fun k hk => ex (40 + k) (by unfold rlX; omega)
  unfold Rel
  rw [eR, e7 29 (by unfold rl7; omega), e7 32 (by unfold rl7; omega), e7 33 (by unfold rl7; omega), e7 34 (by unfold rl7; omega), e7 51 (by unfold rl7; omega), e7 52 (by unfold rl7; omega), e7 53 (by unfold rl7; omega), e7 54 (by unfold rl7; omega), e7 55 (by unfold rl7; omega), e7 15 (by unfold rl7; omega), e7 57 (by unfold rl7; omega), e7 61 (by unfold rl7; omega), e7 62 (by unfold rl7; omega), e7 58 (by unfold rl7; omega), e7 59 (by unfold rl7; omega), e7 60 (by unfold rl7; omega), e7 63 (by unfold rl7; omega), e7 64 (by unfold rl7; omega), e7 65 (by unfold rl7; omega), e7 66 (by unfold rl7; omega), e7 67 (by unfold rl7; omega), e7 68 (by unfold rl7; omega), e7 17 (by unfold rl7; omega), e7 16 (by unfold rl7; omega), e7 26 (by unfold rl7; omega), e7 45 (by unfold rl7; omega), e7 43 (by unfold rl7; omega), ex 5 (by unfold rlX; omega), ex 7 (by unfold rlX; omega), ex 6 (by unfold rlX; omega), ex 8 (by unfold rlX; omega), ex 14 (by unfold rlX; omega), ex 12 (by unfold rlX; omega)]
  refine ⟨⟨r.1.1, r.1.2.1, r.1.2.2.of (fun k h1 h2 _ => e7 k (by unfold rl7; omega))⟩, ?_, r.2.2⟩
  unfold BRel
  rw [ex 28 (by unfold rlX; omega), ex 29 (by unfold rlX; omega), ex 30 (by unfold rlX; omega), ex 22 (by unfold rlX; omega), ex 23 (by unfold rlX; omega), ex 24 (by unfold rlX; omega), ex 25 (by unfold rlX; omega), ex 26 (by unfold rlX; omega), ex 27 (by unfold rlX; omega)]
  exact ⟨⟨r.2.1.1.1.of eS, r.2.1.1.2⟩, r.2.1.2⟩
/-- the twin's code alone -/
theorem Rel.c {T : TT} {hx h : Mem} {km : KM} (r : Rel T hx km h) (v : Int32) : Rel T hx km (up2 h 2 0 v) := r.of (fun _ _ => rfl) (fun k hk => up2_other (by unfold rl7 at hk; omega))
theorem code_at (h : Mem) (v : Int32) : up2 h 2 0 v 2 0 = v := up2_at h 2 0 v
/-- an answer of both: what the law compares -/
theorem lgc (a b : Int64) : (lg_cmp a b < 0 ↔ a < b) ∧ (0 < lg_cmp a b ↔ b < a) := by
  unfold lg_cmp
  by_cases h1 : a > b
  · rw [if_pos h1]
    have h1 : b < a := h1
    refine ⟨⟨fun h => absurd h (by decide), fun h => ?_⟩, ⟨fun _ => h1, fun _ => by decide⟩⟩
    rw [Int64.lt_iff_toInt_lt] at h h1
    omega
  · rw [if_neg h1]
    have h1 : ¬ b < a := h1
    by_cases h2 : a = b
    · rw [if_pos h2]
      refine ⟨⟨fun h => absurd h (by decide), fun h => ?_⟩, ⟨fun h => absurd h (by decide), fun h => absurd h h1⟩⟩
      rw [h2] at h
      rw [Int64.lt_iff_toInt_lt] at h
      omega
    · rw [if_neg h2]
      refine ⟨⟨fun _ => ?_, fun _ => by decide⟩, ⟨fun h => absurd h (by decide), fun h => absurd h h1⟩⟩
      rw [Int64.lt_iff_toInt_lt] at h1 ⊢
      have : a.toInt ≠ b.toInt := fun h => h2 (Int64.toInt_inj.mp h)
      omega
theorem t_isIn {h : Mem} {post : Bool → Prop} {x : Int32} {lo hi : Int64} (hp : post (decide (lo ≤ x.toInt64 ∧ x.toInt64 ≤ hi))) : wpX7_isIn post h x.toInt64 lo hi := by
  unfold wpX7_isIn
  try dsimp only
  rw [(lgc _ _).1]
  refine ⟨fun e => ?_, fun e => ?_⟩
  · rw [decide_eq_false (fun h => by have := h.1; rw [Int64.le_iff_toInt_le] at this; rw [Int64.lt_iff_toInt_lt] at e; omega)] at hp
    exact hp
  · by_cases e2 : hi < x.toInt64
    · rw [if_pos ((lgc _ _).2.mpr e2)]
      rw [decide_eq_false (fun h => by have := h.2; rw [Int64.le_iff_toInt_le] at this; rw [Int64.lt_iff_toInt_lt] at e2; omega)] at hp
      exact hp
    · rw [if_neg (fun h => e2 ((lgc _ _).2.mp h))]
      rw [decide_eq_true ⟨by rw [Int64.le_iff_toInt_le]; rw [Int64.lt_iff_toInt_lt] at e; omega, by rw [Int64.le_iff_toInt_le]; rw [Int64.lt_iff_toInt_lt] at e2; omega⟩] at hp
      exact hp
/-- in range: told by numbers -/
theorem isIn_n {x : Int32} {n : Nat} (hn : n ≤ 1000) : ((0 : Int64) ≤ x.toInt64 ∧ x.toInt64 ≤ ((nI n) - (1 : Int32)).toInt64) ↔ ∃ i, i < n ∧ x = nI i := by
  rw [Int64.le_iff_toInt_le, Int64.le_iff_toInt_le, Int32.toInt_toInt64, Int32.toInt_toInt64]
  have e : (nI n - (1 : Int32)).toInt = (n : Int) - 1 := by
    rw [show (1 : Int32) = nI 1 from rfl]
    exact pk_sub_toInt (by omega) (by decide)
  rw [e]
  have z : (0 : Int64).toInt = 0 := rfl
  rw [z]
  constructor
  · rintro ⟨h1, h2⟩
    obtain ⟨j, hj, ej⟩ := nI_of (x := x) (by rw [lt_II]; have : (0 : Int32).toInt = 0 := rfl; omega)
    refine ⟨j, ?_, ej⟩
    rw [ej, nI_toInt hj] at h2
    omega
  · rintro ⟨i, hi, rfl⟩
    rw [nI_toInt (by omega)]
    omega
section RL
variable {T : TT} {h : Mem}
theorem t_isPerson (hT : TOK T) (hM : TM T h) {post : Bool → Prop} {x : Int32} (hy : ∀ p, p < T 0 0 → x = nI p → post true) (hn : (∀ p, p < T 0 0 → ¬ x = nI p) → post false) : wpX7_isPerson post h x := by
  have h8 := hT.n8
  unfold wpX7_isPerson
  refine t_isIn ?_
  rw [hM.n]
  by_cases c : ∃ i, i < T 0 0 ∧ x = nI i
  · rw [decide_eq_true ((isIn_n (by omega)).mpr c)]
    obtain ⟨i, h1, h2⟩ := c
    exact hy i h1 h2
  · rw [decide_eq_false (fun e => c ((isIn_n (by omega)).mp e))]
    exact hn (fun p hp e => c ⟨p, hp, e⟩)
theorem t_isLoaf (hT : TOK T) (hM : TM T h) {post : Bool → Prop} {x : Int32} (hy : ∀ p, p < T 0 1 → x = nI p → post true) (hn : (∀ p, p < T 0 1 → ¬ x = nI p) → post false) : wpX7_isLoaf post h x := by
  have h6 := hT.n6
  unfold wpX7_isLoaf
  refine t_isIn ?_
  rw [hM.m]
  by_cases c : ∃ i, i < T 0 1 ∧ x = nI i
  · rw [decide_eq_true ((isIn_n (by omega)).mpr c)]
    obtain ⟨i, h1, h2⟩ := c
    exact hy i h1 h2
  · rw [decide_eq_false (fun e => c ((isIn_n (by omega)).mp e))]
    exact hn (fun p hp e => c ⟨p, hp, e⟩)
end RL
theorem c_within {h : Mem} {post : Bool → Prop} {x a b : Int32} (hp : post (decide (a ≤ x ∧ x ≤ b))) : wpX1_within post h x a b := by
  unfold wpX1_within
  by_cases c1 : x < a
  · rw [if_pos c1]
    rw [decide_eq_false (fun h => by have := h.1; rw [le_II] at this; rw [lt_II] at c1; omega)] at hp
    exact hp
  · rw [if_neg c1]
    by_cases c2 : b < x
    · rw [if_pos c2]
      rw [decide_eq_false (fun h => by have := h.2; rw [le_II] at this; rw [lt_II] at c2; omega)] at hp
      exact hp
    · rw [if_neg c2]
      rw [decide_eq_true ⟨by rw [le_II]; rw [lt_II] at c1; omega, by rw [le_II]; rw [lt_II] at c2; omega⟩] at hp
      exact hp
theorem isIn_w (x a b : Int32) : (a.toInt64 ≤ x.toInt64 ∧ x.toInt64 ≤ b.toInt64) ↔ (a ≤ x ∧ x ≤ b) := by
  rw [Int64.le_iff_toInt_le, Int64.le_iff_toInt_le, Int32.toInt_toInt64, Int32.toInt_toInt64, Int32.toInt_toInt64, le_II, le_II]
theorem t_isInL {h : Mem} {post : Bool → Prop} {x a b : Int32} {lo hi : Int64} (e1 : lo = a.toInt64) (e2 : hi = b.toInt64) (hp : post (decide (a ≤ x ∧ x ≤ b))) : wpX7_isIn post h x.toInt64 lo hi := by
  subst e1 e2
  refine t_isIn ?_
  rw [show decide (a.toInt64 ≤ x.toInt64 ∧ x.toInt64 ≤ b.toInt64) = decide (a ≤ x ∧ x ≤ b) from decide_eq_decide.mpr (isIn_w x a b)]
  exact hp
