/-! 78.tk: takeOver; a new town related -/
section S14
variable {T : TT} {hx h : Mem} {km : KM} {R : Nat → Int32}
def haM (h : Mem) (k n c : Nat) : Mem := fun j => if j = k then (fun i => if i < c then h k (n + i) else h k i) else h j
theorem haM_o {h : Mem} {k n c j : Nat} (hj : j ≠ k) : haM h k n c j = h j := if_neg hj
theorem haM_v {h : Mem} {k n c i : Nat} (hi : i < c) : haM h k n c k i = h k (n + i) := by
  unfold haM
  rw [if_pos rfl]
  exact if_pos hi
theorem haM_w {h : Mem} {k n c i : Nat} (hi : c ≤ i) : haM h k n c k i = h k i := by
  unfold haM
  rw [if_pos rfl]
  exact if_neg (by omega)
theorem haM_0 (h : Mem) (k n : Nat) : haM h k n 0 = h := by
  funext j
  by_cases e : j = k
  · subst e
    funext i
    exact haM_w (Nat.zero_le _)
  · exact haM_o e
theorem haM_s (h : Mem) (k n c : Nat) : up2 (haM h k n c) k c (h k (n + c)) = haM h k n (c + 1) := by
  funext j
  by_cases e : j = k
  · subst e
    funext i
    by_cases c1 : i = c
    · subst c1
      rw [up2_at, haM_v (by omega)]
    · rw [up2_ne _ _ _ c1]
      by_cases c2 : i < c
      · rw [haM_v c2, haM_v (by omega)]
      · rw [haM_w (by omega), haM_w (by omega)]
  · rw [up2_other e, haM_o e, haM_o e]
theorem t_takeHalf {h : Mem} {post : Mem → Prop} {k n : Nat} (hm : mlen k = 2 * n) (hn : n ≤ 600) (hp : post (haM h k n n)) : wpX7_takeHalf post h k := by
  unfold wpX7_takeHalf
  have hv : nI (mlen k) / (2 : Int32) = nI n := by
    rw [hm, show (2 : Int32) = nI 2 from rfl, pk_div (by omega) (by decide) (by decide)]
    congr 1
    omega
  refine LW_nat (fun i => (haM h k n i, nI i)) n (fun _ => True) (by rw [haM_0]; rfl) trivial (fun K i hi _ kk => ?_)
  unfold wpBX7_takeHalf_2
  try dsimp only
  rw [hv, nI_add]
  refine pk_le n i (fun q => ?_) (fun q => ?_)
  · have e : i = n := by omega
    subst e
    exact hp
  · rw [ixn (by omega), ixn (by omega), haM_w (by omega), nI_1]
    refine ⟨pk_in (n + i) (mlen k) (by omega), pk_in i (mlen k) (by omega), fun h4 e4 => ?_⟩
    rw [e4, haM_s]
    exact kk q trivial
/-- the twin's new town, in one -/
def tk1 (h : Mem) : Mem := haM (haM (haM (haM (haM (haM (haM (haM (haM (haM (haM (haM h 3 6 6) 4 8 8) 5 8 8) 6 8 8) 7 6 6) 8 6 6) 9 6 6) 10 6 6) 11 6 6) 12 36 36) 13 64 64) 14 600 600
theorem tk1_o {h : Mem} {k : Nat} (hk : ¬ (3 ≤ k ∧ k ≤ 14)) : tk1 h k = h k := by
  unfold tk1
  rw [haM_o (by omega), haM_o (by omega), haM_o (by omega), haM_o (by omega), haM_o (by omega), haM_o (by omega), haM_o (by omega), haM_o (by omega), haM_o (by omega), haM_o (by omega), haM_o (by omega), haM_o (by omega)]
theorem tk1_v {h : Mem} {k n i : Nat} (hk : (k = 3 ∧ n = 6) ∨ (4 ≤ k ∧ k ≤ 6 ∧ n = 8) ∨ (7 ≤ k ∧ k ≤ 11 ∧ n = 6) ∨ (k = 12 ∧ n = 36) ∨ (k = 13 ∧ n = 64) ∨ (k = 14 ∧ n = 600)) (hi : i < n) : tk1 h k i = h k (n + i) := by
  unfold tk1
  have : k = 3 ∨ k = 4 ∨ k = 5 ∨ k = 6 ∨ k = 7 ∨ k = 8 ∨ k = 9 ∨ k = 10 ∨ k = 11 ∨ k = 12 ∨ k = 13 ∨ k = 14 := by omega
  rcases this with e | e | e | e | e | e | e | e | e | e | e | e <;> subst e
  · have en : n = 6 := by omega
    subst en
    rw [haM_o (by decide), haM_o (by decide), haM_o (by decide), haM_o (by decide), haM_o (by decide), haM_o (by decide), haM_o (by decide), haM_o (by decide), haM_o (by decide), haM_o (by decide), haM_o (by decide), haM_v hi]
  · have en : n = 8 := by omega
    subst en
    rw [haM_o (by decide), haM_o (by decide), haM_o (by decide), haM_o (by decide), haM_o (by decide), haM_o (by decide), haM_o (by decide), haM_o (by decide), haM_o (by decide), haM_o (by decide), haM_v hi, haM_o (by decide)]
  · have en : n = 8 := by omega
    subst en
    rw [haM_o (by decide), haM_o (by decide), haM_o (by decide), haM_o (by decide), haM_o (by decide), haM_o (by decide), haM_o (by decide), haM_o (by decide), haM_o (by decide), haM_v hi, haM_o (by decide), haM_o (by decide)]
  · have en : n = 8 := by omega
    subst en
    rw [haM_o (by decide), haM_o (by decide), haM_o (by decide), haM_o (by decide), haM_o (by decide), haM_o (by decide), haM_o (by decide), haM_o (by decide), haM_v hi, haM_o (by decide), haM_o (by decide), haM_o (by decide)]
  · have en : n = 6 := by omega
    subst en
    rw [haM_o (by decide), haM_o (by decide), haM_o (by decide), haM_o (by decide), haM_o (by decide), haM_o (by decide), haM_o (by decide), haM_v hi, haM_o (by decide), haM_o (by decide), haM_o (by decide), haM_o (by decide)]
  · have en : n = 6 := by omega
    subst en
    rw [haM_o (by decide), haM_o (by decide), haM_o (by decide), haM_o (by decide), haM_o (by decide), haM_o (by decide), haM_v hi, haM_o (by decide), haM_o (by decide), haM_o (by decide), haM_o (by decide), haM_o (by decide)]
  · have en : n = 6 := by omega
    subst en
    rw [haM_o (by decide), haM_o (by decide), haM_o (by decide), haM_o (by decide), haM_o (by decide), haM_v hi, haM_o (by decide), haM_o (by decide), haM_o (by decide), haM_o (by decide), haM_o (by decide), haM_o (by decide)]
  · have en : n = 6 := by omega
    subst en
    rw [haM_o (by decide), haM_o (by decide), haM_o (by decide), haM_o (by decide), haM_v hi, haM_o (by decide), haM_o (by decide), haM_o (by decide), haM_o (by decide), haM_o (by decide), haM_o (by decide), haM_o (by decide)]
  · have en : n = 6 := by omega
    subst en
    rw [haM_o (by decide), haM_o (by decide), haM_o (by decide), haM_v hi, haM_o (by decide), haM_o (by decide), haM_o (by decide), haM_o (by decide), haM_o (by decide), haM_o (by decide), haM_o (by decide), haM_o (by decide)]
  · have en : n = 36 := by omega
    subst en
    rw [haM_o (by decide), haM_o (by decide), haM_v hi, haM_o (by decide), haM_o (by decide), haM_o (by decide), haM_o (by decide), haM_o (by decide), haM_o (by decide), haM_o (by decide), haM_o (by decide), haM_o (by decide)]
  · have en : n = 64 := by omega
    subst en
    rw [haM_o (by decide), haM_v hi, haM_o (by decide), haM_o (by decide), haM_o (by decide), haM_o (by decide), haM_o (by decide), haM_o (by decide), haM_o (by decide), haM_o (by decide), haM_o (by decide), haM_o (by decide)]
  · have en : n = 600 := by omega
    subst en
    rw [haM_v hi, haM_o (by decide), haM_o (by decide), haM_o (by decide), haM_o (by decide), haM_o (by decide), haM_o (by decide), haM_o (by decide), haM_o (by decide), haM_o (by decide), haM_o (by decide), haM_o (by decide)]
/-- what takeOver leaves -/
def TkO (h h' : Mem) : Prop := (∀ k, ¬ (k = 27 ∨ k = 28 ∨ (30 ≤ k ∧ k ≤ 34) ∨ k = 45 ∨ k = 57) → h' k = tk1 h k) ∧ (∀ b, b < 6 → h' 27 b = -1) ∧ (∀ p, p < 8 → h' 28 p = 0) ∧ h' 30 0 = 0 ∧ h' 31 0 = 0 ∧ h' 32 0 = 0 ∧ h' 33 0 = 0 ∧ h' 34 0 = 0 ∧ h' 45 0 = 0 ∧ h' 57 0 = 0
theorem t_takeOver {post : Mem → Prop} (hp : ∀ h', TkO h h' → post h') : wpX7_takeOver post h := by
  unfold wpX7_takeOver
  refine t_takeHalf (n := 6) rfl (by decide) (t_takeHalf (n := 8) rfl (by decide) (t_takeHalf (n := 8) rfl (by decide) (t_takeHalf (n := 8) rfl (by decide) (t_takeHalf (n := 6) rfl (by decide) (t_takeHalf (n := 6) rfl (by decide) (t_takeHalf (n := 6) rfl (by decide) (t_takeHalf (n := 6) rfl (by decide) (t_takeHalf (n := 6) rfl (by decide) (t_takeHalf (n := 36) rfl (by decide) (t_takeHalf (n := 64) rfl (by decide) (t_takeHalf (n := 600) rfl (by decide) (fun h25 e25 h26 e26 => ?_))))))))))))
  have o26 : ∀ k, k ≠ 30 → k ≠ 31 → h26 k = tk1 h k := fun k a b => by rw [e26, up2_other b, e25, up2_other a]; rfl
  have v30 : h26 30 0 = 0 := by rw [e26, up2_other (by decide), e25, up2_at]
  have v31 : h26 31 0 = 0 := by rw [e26, up2_at]
  clear e25 e26
  refine LW_ix (τ := Mem × Nat) (fun t => (t.1, nI t.2)) (fun t => t.2 ≤ 6 ∧ (∀ k, k ≠ 27 → t.1 k = h26 k) ∧ ∀ b, b < t.2 → t.1 27 b = -1) (fun t => 6 - t.2) (fun K t ht k => ?_) (h26, 0) ⟨Nat.zero_le _, fun _ _ => rfl, fun b hb => absurd hb (Nat.not_lt_zero _)⟩
  obtain ⟨x, i⟩ := t
  obtain ⟨hi, ho, hv⟩ := ht
  dsimp only at hi ho hv
  unfold wpBX7_takeOver_96
  try dsimp only
  rw [show (6 : Int32) = nI 6 from rfl]
  refine pk_le 6 i (fun q => ?_) (fun q => ?_)
  rotate_left
  · rw [ixn (by omega), nI_1]
    refine ⟨pk_in i 6 (by omega), fun h38 e38 => k (h38, i + 1) ⟨by show i + 1 ≤ 6; omega, fun k hk => ?_, fun b hb => ?_⟩ (by show 6 - (i + 1) < 6 - i; omega)⟩
    · show h38 k = _
      rw [e38, up2_other hk]; exact ho k hk
    · show h38 27 b = -1
      rw [e38]
      by_cases c : b = i
      · rw [c, up2_at]
      · rw [up2_ne _ _ _ c]; exact hv b (by have : b < i + 1 := hb; omega)
  have ei : i = 6 := by omega
  subst ei
  refine LW_ix (τ := Mem × Nat) (fun t => (t.1, nI t.2)) (fun t => t.2 ≤ 8 ∧ (∀ k, k ≠ 28 → t.1 k = x k) ∧ ∀ b, b < t.2 → t.1 28 b = 0) (fun t => 8 - t.2) (fun K t ht k => ?_) (x, 0) ⟨Nat.zero_le _, fun _ _ => rfl, fun b hb => absurd hb (Nat.not_lt_zero _)⟩
  obtain ⟨y, i⟩ := t
  obtain ⟨hi, hy, hw⟩ := ht
  dsimp only at hi hy hw
  unfold wpBX7_takeOver_117
  try dsimp only
  rw [show (8 : Int32) = nI 8 from rfl]
  refine pk_le 8 i (fun q => ?_) (fun q => ?_)
  rotate_left
  · rw [ixn (by omega), nI_1]
    refine ⟨pk_in i 8 (by omega), fun h38 e38 => k (h38, i + 1) ⟨by show i + 1 ≤ 8; omega, fun k hk => ?_, fun b hb => ?_⟩ (by show 8 - (i + 1) < 8 - i; omega)⟩
    · show h38 k = _
      rw [e38, up2_other hk]; exact hy k hk
    · show h38 28 b = 0
      rw [e38]
      by_cases c : b = i
      · rw [c, up2_at]
      · rw [up2_ne _ _ _ c]; exact hw b (by have : b < i + 1 := hb; omega)
  have ei : i = 8 := by omega
  subst ei
  intro h29 e29 h30 e30 h31 e31 h32 e32 h33 e33
  refine hp h33 ⟨fun k hk => ?_, fun b hb => ?_, fun p hp => ?_, ?_, ?_, ?_, ?_, ?_, ?_, ?_⟩
  · rw [e33, up2_other (by omega), e32, up2_other (by omega), e31, up2_other (by omega), e30, up2_other (by omega), e29, up2_other (by omega), hy k (by omega), ho k (by omega), o26 k (by omega) (by omega)]
  · rw [e33, up2_other (by decide), e32, up2_other (by decide), e31, up2_other (by decide), e30, up2_other (by decide), e29, up2_other (by decide), hy 27 (by decide), hv b hb]
  · rw [e33, up2_other (by decide), e32, up2_other (by decide), e31, up2_other (by decide), e30, up2_other (by decide), e29, up2_other (by decide), hw p hp]
  · rw [e33, up2_other (by decide), e32, up2_other (by decide), e31, up2_other (by decide), e30, up2_other (by decide), e29, up2_other (by decide), hy 30 (by decide), ho 30 (by decide), v30]
  · rw [e33, up2_other (by decide), e32, up2_other (by decide), e31, up2_other (by decide), e30, up2_other (by decide), e29, up2_other (by decide), hy 31 (by decide), ho 31 (by decide), v31]
  · rw [e33, up2_other (by decide), e32, up2_other (by decide), e31, up2_other (by decide), e30, up2_other (by decide), e29, up2_at]
  · rw [e33, up2_other (by decide), e32, up2_other (by decide), e31, up2_other (by decide), e30, up2_at]
  · rw [e33, up2_other (by decide), e32, up2_other (by decide), e31, up2_at]
  · rw [e33, up2_other (by decide), e32, up2_at]
  · rw [e33, up2_at]
/-- the town that waits in the second halves -/
def TH (T : TT) (h : Mem) : Prop := (h 3 6 = nI (T 0 0) ∧ h 3 7 = nI (T 0 1) ∧ h 3 9 = nI (T 0 3) ∧ h 3 10 = nI (T 0 4) ∧ h 3 11 = nI (T 0 5)) ∧
  (∀ p, p < T 0 0 → h 4 (8 + p) = nI (T 1 p) ∧ h 5 (8 + p) = nI (T 2 p) ∧ h 6 (8 + p) = nI (T 3 p)) ∧
  (∀ b, b < T 0 1 → h 7 (6 + b) = nI (T 4 b) ∧ h 8 (6 + b) = nI (T 5 b) ∧ h 9 (6 + b) = nI (T 6 b) ∧ h 10 (6 + b) = nI (T 7 b) ∧ h 11 (6 + b) = nI (T 8 b)) ∧
  (∀ b i, b < T 0 1 → i < T 8 b → h 12 (36 + (6 * b + i)) = nI (et T b i)) ∧ (∀ k, k < T 0 5 → h 14 (600 + k) = sgn T k) ∧ (∀ a b, a < 8 → b < 8 → h 13 (64 + (8 * a + b)) = AGv T a b)
theorem TM.tk {h' : Mem} (hT : TOK T) (t : TH T h) (o : TkO h h') : TM T h' := by
  have h8 := hT.n8
  have h6 := hT.n6
  have hc := hT.c
  obtain ⟨⟨a1, a2, a3, a4, a5⟩, b, c, d, e, _⟩ := t
  have g : ∀ k, 3 ≤ k → k ≤ 14 → h' k = tk1 h k := fun k h1 h2 => o.1 k (by omega)
  refine ⟨⟨?_, ?_, ?_, ?_, ?_⟩, fun p hp => ?_, fun q hq => ?_, fun q i hq hi => ?_, fun k hk => ?_⟩
  · rw [g 3 (by decide) (by decide), tk1_v (n := 6) (by omega) (by decide)]; exact a1
  · rw [g 3 (by decide) (by decide), tk1_v (n := 6) (by omega) (by decide)]; exact a2
  · rw [g 3 (by decide) (by decide), tk1_v (n := 6) (by omega) (by decide)]; exact a3
  · rw [g 3 (by decide) (by decide), tk1_v (n := 6) (by omega) (by decide)]; exact a4
  · rw [g 3 (by decide) (by decide), tk1_v (n := 6) (by omega) (by decide)]; exact a5
  · rw [g 4 (by decide) (by decide), g 5 (by decide) (by decide), g 6 (by decide) (by decide), tk1_v (n := 8) (by omega) (by omega), tk1_v (n := 8) (by omega) (by omega), tk1_v (n := 8) (by omega) (by omega)]
    exact b p hp
  · rw [g 7 (by decide) (by decide), g 8 (by decide) (by decide), g 9 (by decide) (by decide), g 10 (by decide) (by decide), g 11 (by decide) (by decide), tk1_v (n := 6) (by omega) (by omega), tk1_v (n := 6) (by omega) (by omega), tk1_v (n := 6) (by omega) (by omega), tk1_v (n := 6) (by omega) (by omega), tk1_v (n := 6) (by omega) (by omega)]
    exact c q hq
  · have hl := hT.l hq
    rw [g 12 (by decide) (by decide), tk1_v (n := 36) (by omega) (by omega)]
    exact d q i hq hi
  · rw [g 14 (by decide) (by decide), tk1_v (n := 600) (by omega) (by omega)]
    exact e k hk
theorem row_tk {h' : Mem} (hT : TOK T) (hA : AGOK T) (t : TH T h) (o : TkO h h') : (∀ k, k < 80 → rowM h' k = bgR T (T 0 0) k) ∧ RowOK (rowM h') := by
  have m : ∀ a b, a < 8 → b < 8 → mdR (rowM h') a b = AGv T a b := fun a b ha hb => by
    rw [rowM_mdR h' ha hb, o.1 13 (by decide), tk1_v (n := 64) (by omega) (by omega)]
    exact t.2.2.2.2.2 a b ha hb
  have e0 : rowM h' 0 = 0 := (rowM_0 h').trans o.2.2.2.1
  have e1 : rowM h' 1 = 0 := by
    unfold rowM
    rw [if_neg (by decide), if_pos rfl]
    exact o.2.2.2.2.1
  have en : ∀ a b, a < 8 → b < 8 → AGv T a b ≤ 0 := fun a b ha hb => by
    unfold AGv
    rcases hA.1 a b ha hb with c | ⟨n, hn, c⟩
    · rw [if_pos c]; decide
    · rw [if_neg (by rw [c]; exact nIm1 (by omega)), c]
      have : ∀ n, n < 1000 → -(nI n) ≤ 0 := by decide +kernel
      exact this n (by omega)
  refine ⟨bgR_v hT hA m (fun i hi => ?_), fun a b ha hb => ?_, fun a b ha hb => ?_, 0, 0, e0, by decide, e1, by decide⟩
  · unfold row0
    by_cases c : i < 2
    · rw [if_pos c]
      by_cases c2 : i = 0
      · rw [c2]; exact e0
      · rw [show i = 1 by omega]; exact e1
    · rw [if_neg c, if_neg (by omega)]
      by_cases c2 : i < 72
      · rw [if_pos c2]
        have g := rowM_cut h' (b := i - 66) (by omega)
        rw [show 66 + (i - 66) = i by omega] at g
        rw [g]
        exact o.2.1 _ (by omega)
      · rw [if_neg c2]
        have g := rowM_th h' (p := i - 72) (by omega)
        rw [show 72 + (i - 72) = i by omega] at g
        rw [g]
        exact o.2.2.1 _ (by omega)
  · rw [m a b ha hb, m b a hb ha]
    unfold AGv
    rw [hA.2.1 a b ha hb]
  · rw [m a b ha hb, e0]
    exact en a b ha hb
/-- a new town on both sides -/
theorem Rel.town {T' : TT} {h1 h' hx' : Mem} (hT : TOK T') (hG : SGOK T') (hA : AGOK T') (t : TH T' h1) (o : TkO h1 h') (r : Rel T hx km h)
    (e15 : ∀ j, j < 3 → h1 15 j = h 15 j) (e17 : h1 17 0 = 0) (e26 : h1 26 0 = -1)
    (hS : SRel T' (sub hx' 40) (bgR T' (T' 0 0))) (x27 : ∀ j, j < 3 → hx' 27 j = hx 27 j) (x28 : hx' 28 0 = 0) (x29 : hx' 29 0 = 0) (x30 : hx' 30 0 = 0) (x5 : hx' 5 0 = 0) (x7 : hx' 7 0 = 0) (x8 : hx' 8 0 = -1) (x14 : hx' 14 0 = 0) : Rel T' hx' km h' := by
  have hR := row_tk hT hA t o
  have a : ∀ k, ¬ (k = 27 ∨ k = 28 ∨ (30 ≤ k ∧ k ≤ 34) ∨ k = 45 ∨ k = 57) → ¬ (3 ≤ k ∧ k ≤ 14) → h' k = h1 k := fun k h1' h2' => (o.1 k h1').trans (tk1_o h2')
  refine ⟨⟨hT, hG, TM.tk hT t o⟩, ⟨⟨hS.cgR hT hR.1, hR.2⟩, ⟨0, by decide, x28, o.2.2.2.2.2.1, fun j hj => absurd hj (Nat.not_lt_zero _)⟩, ⟨0, by decide, x29, o.2.2.2.2.2.2.1, fun j hj => absurd hj (Nat.not_lt_zero _)⟩, ⟨0, by decide, x30, o.2.2.2.2.2.2.2.1, fun j hj => absurd hj (Nat.not_lt_zero _)⟩, fun j hj => ?_⟩, ⟨by rw [x5, o.2.2.2.2.2.2.2.2.2], Or.inl x5⟩, ⟨0, by decide, x7, ?_, fun j hj => absurd hj (Nat.not_lt_zero _)⟩, ?_, by rw [x14, o.2.2.2.2.2.2.2.2.1], Or.inl x14⟩
  · rw [x27 j hj, a 15 (by decide) (by decide), e15 j hj]
    exact r.2.1.2.2.2.2 j hj
  · rw [a 17 (by decide) (by decide)]; exact e17
  · rw [x8, a 26 (by decide) (by decide)]; exact e26.symm
end S14
