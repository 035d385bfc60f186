/-! 60.ns: by noon: the search of rows, both sides -/
def arI (T : TT) (R : Nat → Int32) (p b : Nat) : Int32 := mxI (R 1) (nI (T 6 b)) + abI (nI (T 4 b) - nI (T 2 p))
def unI (T : TT) (b : Nat) : Int32 := mnI (nI (T 0 4)) (nI (T 6 b) + nI (T 7 b))
def chB (c : Nat → Int32) (n p b : Nat) : Bool := decide (b < n) && decide (c b = nI p)
/-- whether one cuts in time all that he is chosen for -/
def feB (T : TT) (R : Nat → Int32) (c : Nat → Int32) (n p : Nat) : Bool := tT (arI T R p) (unI T) n 24 0 (chB c n p)
theorem ab_sym : ∀ x, x < 10 → ∀ y, y < 10 → abI (nI x - nI y) = abI (nI y - nI x) := by decide +kernel
theorem ab_n : ∀ x, x < 10 → ∀ y, y < 10 → abI (nI x - nI y) = nI (x - y + (y - x)) := by decide +kernel
theorem clr_d : ∀ q, q < 6 → ∀ m, m < 64 → nI m &&& (((1 : Int32) <<< (nI q &&& 31)) ^^^ (-1 : Int32)) = nI (m &&& (63 ^^^ 2 ^ q)) := by decide +kernel
theorem clr_b : ∀ q, q < 6 → ∀ m, m < 64 → ∀ i, i < 6 → (m &&& (63 ^^^ 2 ^ q)).testBit i = (m.testBit i && decide (i ≠ q)) := by decide +kernel
theorem clr_M (L : Nat → Bool) {n q : Nat} (hn : n ≤ 6) (hq : q < 6) : nI (mN L n) &&& (((1 : Int32) <<< (nI q &&& 31)) ^^^ (-1 : Int32)) = nI (mN (fun k => L k && decide (k ≠ q)) n) := by
  have hl := mN_lt L n
  have h6 : 2 ^ n ≤ 64 := Nat.pow_le_pow_right (by decide) (show n ≤ 6 from hn)
  rw [clr_d q hq _ (by omega)]
  congr 1
  apply Nat.eq_of_testBit_eq
  intro i
  rw [mN_bit]
  by_cases hi : i < 6
  · rw [clr_b q hq _ (by omega) i hi, mN_bit, Bool.and_assoc]
  · rw [decide_eq_false (show ¬ i < n by omega), Bool.false_and]
    exact Nat.testBit_lt_two_pow (Nat.lt_of_le_of_lt Nat.and_le_left (Nat.lt_of_lt_of_le (show mN L n < 64 by omega) (by have := Nat.pow_le_pow_right (show 2 > 0 by decide) (show 6 ≤ i by omega); omega)))
theorem mN_any {L : Nat → Bool} {n : Nat} : (mN L n = 0) ↔ anyB L n = false := by rw [mN_0, anyB_f]
theorem mN_ext {L : Nat → Bool} {n m : Nat} (hn : n ≤ m) (h : ∀ i, n ≤ i → L i = false) : mN L m = mN L n := by
  induction m with
  | zero => rw [show n = 0 by omega]
  | succ m ih =>
    by_cases c : n = m + 1
    · rw [c]
    · show (if L m = true then _ else mN L m) = _
      rw [if_neg (by rw [h m (by omega)]; decide)]
      exact ih (by omega)
section NS
variable {T : TT} {R : Nat → Int32}
theorem c_arrives (hT : TOK T) {h : Mem} (e1 : h 44 0 = R 1) {post : Int32 → Prop} {p b : Nat} (hp : p < T 0 0) (hb : b < T 0 1) (hq : post (arI T R p b)) : wpX1_arrives post h T (nI b) (nI p) := by
  unfold wpX1_arrives
  try dsimp only
  refine ⟨b, rfl, hb, c_house hp ?_⟩
  rw [e1]
  exact hq
theorem c_latest {h : Mem} {post : Int32 → Prop} {b : Nat} (hb : b < T 0 1) (hq : post (unI T b)) : wpX1_latest post h T (nI b) := ⟨b, rfl, hb, hq⟩
theorem c_isInTime (hT : TOK T) {h : Mem} (e1 : h 44 0 = R 1) {post : Bool → Prop} {p : Nat} (hp : p < T 0 0) (hq : post (feB T R (h 11) (T 0 1) p)) : wpX1_isInTime post h T (nI p) := by
  have h6 := hT.n6
  have hq : post (cT (arI T R p) (unI T) (T 0 1) 24 0 (chB (h 11) (T 0 1) p)) := by rw [cT_tT _ _ _ (by omega)]; exact hq
  have p10' : 2 ^ T 0 1 ≤ 64 := Nat.pow_le_pow_right (by decide) (show T 0 1 ≤ 6 from h6)
  unfold wpX1_isInTime
  refine LW_nat (fun i => (nI (mN (chB (h 11) (T 0 1) p) i), nI i)) (T 0 1) (fun _ => True) rfl trivial (fun K i hi _ k => ?_)
  unfold wpBX1_isInTime_4 wpX1_loaves
  try dsimp only
  refine pk_le (T 0 1) i (fun q => ?_) (fun q => ?_)
  · have e : i = T 0 1 := by omega
    subst e
    clear k
    refine LW_ix (τ := Nat × (Nat → Bool)) (fun t => (nI (mN t.2 (T 0 1)), nI t.1)) (fun t => t.1 ≤ 24 ∧ post (cT (arI T R p) (unI T) (T 0 1) (24 - t.1) t.1 t.2)) (fun t => 24 - t.1) (fun K t ht k => ?_) (0, chB (h 11) (T 0 1) p) ⟨Nat.zero_le _, hq⟩
    obtain ⟨w, L⟩ := t
    obtain ⟨hw, ht⟩ := ht
    have hw : w ≤ 24 := hw
    have hml := mN_lt L (T 0 1)
    unfold wpBX1_isInTime_36 wpBX1_isInTime_149
    try dsimp only
    refine pk_le 24 w (fun q2 => ?_) (fun q2 => pk_e0 (mN L (T 0 1)) (fun c => ?_) (fun c => ?_))
    · have e : w = 24 := by omega
      subst e
      have ht : post (!anyB L (T 0 1)) := ht
      cases c : anyB L (T 0 1) with
      | true =>
        rw [if_neg (fun e => by rw [mN_any.mp ((nI_eq (by omega) (by decide)).mp (e.trans (show (0 : Int32) = nI 0 from rfl)))] at c; cases c)]
        rw [c] at ht; exact ht
      | false =>
        rw [if_pos (by rw [mN_any.mpr c]; rfl)]
        rw [c] at ht; exact ht
    · have ht : post (cT (arI T R p) (unI T) (T 0 1) (24 - w) w L) := ht
      rw [show 24 - w = (23 - w) + 1 by omega] at ht
      have ht : post (if anyB L (T 0 1) = true then _ else true) := ht
      rw [if_neg (by rw [mN_any.mp c]; decide)] at ht
      rw [c]
      exact ht
    · have ht : post (cT (arI T R p) (unI T) (T 0 1) (24 - w) w L) := ht
      rw [show 24 - w = (23 - w) + 1 by omega] at ht
      have ht : post (if anyB L (T 0 1) = true then (if beN (arI T R p) (unI T) L w (T 0 1) = 0 then cT (arI T R p) (unI T) (T 0 1) (23 - w) (w + 1) L else if nI w ≤ unI T (beN (arI T R p) (unI T) L w (T 0 1) - 1) then cT (arI T R p) (unI T) (T 0 1) (23 - w) (w + 1) (rm1 L (beN (arI T R p) (unI T) L w (T 0 1))) else false) else true) := ht
      rw [if_pos (by
        cases c2 : anyB L (T 0 1) with
        | true => rfl
        | false => exact absurd (mN_any.mpr c2) c)] at ht
      refine LW_nat (fun j => (encO (beN (arI T R p) (unI T) L w j), nI j)) (T 0 1) (fun _ => True) rfl trivial (fun K2 j hj _ k2 => ?_)
      have bl : ∀ j, beN (arI T R p) (unI T) L w j ≤ j := fun j => by
        rcases beN_sp (arI T R p) (unI T) L w j with ⟨e, _⟩ | ⟨q, e, h2, _⟩ <;> omega
      unfold wpBX1_isInTime_52 wpX1_loaves
      try dsimp only
      refine pk_le (T 0 1) j (fun q3 => ?_) (fun q3 => ?_)
      · have e : j = T 0 1 := by omega
        subst e
        by_cases c3 : beN (arI T R p) (unI T) L w (T 0 1) = 0
        · rw [if_pos c3] at ht
          rw [show encO (beN (arI T R p) (unI T) L w (T 0 1)) = -1 from if_pos c3, nI_1]
          exact ⟨fun _ => k (w + 1, L) ⟨by show w + 1 ≤ 24; omega, by show post (cT _ _ _ (24 - (w + 1)) (w + 1) L); rw [show 24 - (w + 1) = 23 - w by omega]; exact ht⟩ (by show 24 - (w + 1) < 24 - w; omega), fun h9 => absurd rfl h9⟩
        · have := bl (T 0 1)
          rw [if_neg c3] at ht
          rw [show encO (beN (arI T R p) (unI T) L w (T 0 1)) = nI (beN (arI T R p) (unI T) L w (T 0 1) - 1) from if_neg c3]
          refine ⟨fun h9 => absurd h9 (nIm1 (by omega)), fun _ => c_latest (by omega) ⟨fun c4 => ?_, fun c4 => ?_⟩⟩
          · rw [if_pos c4] at ht
            rw [clr_M L h6 (by omega), nI_1]
            refine k (w + 1, fun k => L k && decide (k ≠ beN (arI T R p) (unI T) L w (T 0 1) - 1)) ⟨by show w + 1 ≤ 24; omega, ?_⟩ (by show 24 - (w + 1) < 24 - w; omega)
            show post (cT _ _ _ (24 - (w + 1)) (w + 1) _)
            rw [show 24 - (w + 1) = 23 - w by omega]
            unfold rm1 at ht
            rw [if_neg c3] at ht
            exact ht
          · rw [if_neg c4] at ht
            exact ht
      · have k2 : K2 (encO (be1 (arI T R p) (unI T) L w j (beN (arI T R p) (unI T) L w j)), nI (j + 1)) := k2 q3 trivial
        have := bl j
        rw [nI_1]
        unfold be1 at k2
        rw [bit_I1 (mN L (T 0 1)) (by omega) j (by omega), mN_bit, decide_eq_true q3, Bool.true_and]
        refine ⟨fun c4 => c_arrives hT e1 hp q3 ⟨fun c5 => ?_, fun c5 => ?_⟩, fun c4 => ?_⟩
        · rw [if_pos c4, if_pos c5] at k2
          exact k2
        · rw [if_pos c4, if_neg c5] at k2
          by_cases c3 : beN (arI T R p) (unI T) L w j = 0
          · rw [show encO (beN (arI T R p) (unI T) L w j) = -1 from if_pos c3]
            rw [if_pos c3] at k2
            unfold wpBX1_isInTime_103
            try dsimp only
            rw [nI_1]
            exact ⟨fun _ => k2, fun h9 => absurd rfl h9⟩
          · rw [if_neg c3] at k2
            have e9 : encO (beN (arI T R p) (unI T) L w j) = nI (beN (arI T R p) (unI T) L w j - 1) := if_neg c3
            rw [e9]
            refine ⟨fun h9 => absurd h9 (nIm1 (by omega)), fun _ => c_latest q3 (c_latest (by omega) ?_)⟩
            by_cases c6 : unI T (beN (arI T R p) (unI T) L w j - 1) ≤ unI T j
            · rw [if_pos c6]
              rw [if_pos c6, e9] at k2
              exact k2
            · rw [if_neg c6]
              rw [if_neg c6] at k2
              exact k2
        · rw [if_neg c4] at k2
          exact k2
  · have k := k q trivial
    rw [← mN_Is (chB (h 11) (T 0 1) p) (by omega) q, ← nI_1] at k
    rw [ixn (by omega)]
    refine ⟨pk_in i 6 (by omega), ?_⟩
    by_cases c : h 11 i = nI p
    · rw [if_pos c]
      rw [if_pos (by unfold chB; rw [decide_eq_true q, decide_eq_true c]; rfl)] at k
      exact k
    · rw [if_neg c]
      rw [if_neg (by unfold chB; rw [decide_eq_false c, Bool.and_false]; decide)] at k
      exact k
theorem t_from (hT : TOK T) {h : Mem} (hM : TM T h) {post : Int32 → Prop} {p b : Nat} (hp : p < T 0 0) (hb : b < T 0 1) (hq : post (arI T (rowM h) p b)) : wpX7_from post h (nI p) (nI b) := by
  have h8 := hT.n8
  have h6 := hT.n6
  have h1 := hT.p hp
  have h2 := hT.l hb
  unfold wpX7_from
  try dsimp only
  rw [ixn (by omega), ixn (by omega), hM.h hp, (hM.2.2.1 b hb).1, (hM.2.2.1 b hb).2.2.1, ab_sym _ (by omega) _ (by omega)]
  exact ⟨pk_in b 12 (by omega), pk_in p 16 (by omega), pk_in b 12 (by omega), hq⟩
theorem t_until (hT : TOK T) {h : Mem} (hM : TM T h) {post : Int32 → Prop} {b : Nat} (hb : b < T 0 1) (hq : post (unI T b)) : wpX7_until post h (nI b) := by
  have h6 := hT.n6
  unfold wpX7_until
  try dsimp only
  rw [ixn (by omega), (hM.2.2.1 b hb).2.2.1, (hM.2.2.1 b hb).2.2.2.1, hM.1.2.2.2.1]
  exact ⟨pk_in b 12 (by omega), pk_in b 12 (by omega), hq⟩
theorem t_isInTime (hT : TOK T) {h : Mem} (hM : TM T h) {post : Bool → Prop} {p n : Nat} (hp : p < T 0 0) (hn : n ≤ T 0 1) (hq : post (feB T (rowM h) (h 42) n p)) : wpX7_isInTime post h (nI p) (nI n) := by
  have h8 := hT.n8
  have h6 := hT.n6
  have p10' : 2 ^ n ≤ 64 := Nat.pow_le_pow_right (by decide) (show n ≤ 6 by omega)
  unfold wpX7_isInTime
  refine LW_nat (fun i => (nI (mN (chB (h 42) n p) i), nI i)) n (fun _ => True) rfl trivial (fun K i hi _ k => ?_)
  unfold wpBX7_isInTime_5
  try dsimp only
  refine pk_le n i (fun q => ?_) (fun q => ?_)
  · have e : i = n := by omega
    subst e
    clear k
    refine LW_ix (τ := Nat × (Nat → Bool)) (fun t => (nI (mN t.2 i), nI t.1)) (fun t => t.1 ≤ 24 ∧ post (tT (arI T (rowM h) p) (unI T) i (24 - t.1) t.1 t.2)) (fun t => 24 - t.1) (fun K t ht k => ?_) (0, chB (h 42) i p) ⟨Nat.zero_le _, hq⟩
    obtain ⟨w, L⟩ := t
    obtain ⟨hw, ht⟩ := ht
    have hw : w ≤ 24 := hw
    have hml := mN_lt L i
    unfold wpBX7_isInTime_38 wpBX7_isInTime_150
    try dsimp only
    refine pk_le 24 w (fun q2 => ?_) (fun q2 => pk_e0 (mN L i) (fun c => ?_) (fun c => ?_))
    · have e : w = 24 := by omega
      subst e
      have ht : post (!anyB L i) := ht
      cases c : anyB L i with
      | true =>
        rw [if_neg (fun e => by rw [mN_any.mp ((nI_eq (by omega) (by decide)).mp (e.trans (show (0 : Int32) = nI 0 from rfl)))] at c; cases c)]
        rw [c] at ht; exact ht
      | false =>
        rw [if_pos (by rw [mN_any.mpr c]; rfl)]
        rw [c] at ht; exact ht
    · have ht : post (tT (arI T (rowM h) p) (unI T) i (24 - w) w L) := ht
      rw [show 24 - w = (23 - w) + 1 by omega] at ht
      have ht : post (if anyB L i = true then _ else true) := ht
      rw [if_neg (by rw [mN_any.mp c]; decide)] at ht
      rw [c]
      exact ht
    · have ht : post (tT (arI T (rowM h) p) (unI T) i (24 - w) w L) := ht
      rw [show 24 - w = (23 - w) + 1 by omega] at ht
      have ht : post (if anyB L i = true then (if lateB (unI T) L w i = true then false else tT (arI T (rowM h) p) (unI T) i (23 - w) (w + 1) (rm1 L (beN (arI T (rowM h) p) (unI T) L w i))) else true) := ht
      rw [if_pos (by
        cases c2 : anyB L i with
        | true => rfl
        | false => exact absurd (mN_any.mpr c2) c)] at ht
      refine LW_nat (fun j => (encO (beN (arI T (rowM h) p) (unI T) L w j), nI j)) i (fun j => ∀ b, b < j → L b = true → nI w ≤ unI T b) rfl (fun b h => absurd h (Nat.not_lt_zero _)) (fun K2 j hj hI k2 => ?_)
      have bl : ∀ j, beN (arI T (rowM h) p) (unI T) L w j ≤ j := fun j => by
        rcases beN_sp (arI T (rowM h) p) (unI T) L w j with ⟨e, _⟩ | ⟨q, e, h2, _⟩ <;> omega
      unfold wpBX7_isInTime_55
      try dsimp only
      refine pk_le i j (fun q3 => ?_) (fun q3 => ?_)
      · have e : j = i := by omega
        subst e
        rw [if_neg (fun h9 => by
          obtain ⟨b, h1, h2, h3⟩ := late_t.mp h9
          exact h3 (hI b h1 h2))] at ht
        have e9 : (if encO (beN (arI T (rowM h) p) (unI T) L w j) = (-1 : Int32) then nI (mN L j) else nI (mN L j) &&& (((1 : Int32) <<< (encO (beN (arI T (rowM h) p) (unI T) L w j) &&& 31)) ^^^ (-1 : Int32))) = nI (mN (rm1 L (beN (arI T (rowM h) p) (unI T) L w j)) j) := by
          have := bl j
          unfold rm1
          by_cases c3 : beN (arI T (rowM h) p) (unI T) L w j = 0
          · rw [show encO (beN (arI T (rowM h) p) (unI T) L w j) = -1 from if_pos c3, if_pos rfl, if_pos c3]
          · rw [show encO (beN (arI T (rowM h) p) (unI T) L w j) = nI (beN (arI T (rowM h) p) (unI T) L w j - 1) from if_neg c3, if_neg (nIm1 (by omega)), if_neg c3, clr_M L (by omega) (by omega)]
        rw [e9, nI_1]
        exact k (w + 1, _) ⟨by show w + 1 ≤ 24; omega, by show post (tT _ _ _ (24 - (w + 1)) (w + 1) _); rw [show 24 - (w + 1) = 23 - w by omega]; exact ht⟩ (by show 24 - (w + 1) < 24 - w; omega)
      · have k2 : (L j = true → nI w ≤ unI T j) → K2 (encO (be1 (arI T (rowM h) p) (unI T) L w j (beN (arI T (rowM h) p) (unI T) L w j)), nI (j + 1)) := fun e => k2 q3 (fun b hb hL => by
          by_cases eb : b = j
          · subst eb; exact e hL
          · exact hI b (by omega) hL)
        have := bl j
        unfold be1 at k2
        refine t_isOf (by omega) (by omega) ?_
        rw [mN_bit, decide_eq_true q3, Bool.true_and, nI_1]
        refine ⟨fun c4 => t_until hT hM (by omega) ⟨fun c5 => t_from hT hM hp (by omega) ⟨fun c6 => ?_, fun c6 => ?_⟩, fun c5 => ?_⟩, fun c4 => ?_⟩
        · have k2 := k2 (fun _ => c5)
          rw [if_pos c4, if_pos c6] at k2
          exact k2
        · have k2 := k2 (fun _ => c5)
          rw [if_pos c4, if_neg c6] at k2
          by_cases c3 : beN (arI T (rowM h) p) (unI T) L w j = 0
          · rw [show encO (beN (arI T (rowM h) p) (unI T) L w j) = -1 from if_pos c3]
            rw [if_pos c3] at k2
            unfold wpBX7_isInTime_119
            try dsimp only
            rw [nI_1]
            exact ⟨fun _ => k2, fun h9 => absurd rfl h9⟩
          · rw [if_neg c3] at k2
            have e9 : encO (beN (arI T (rowM h) p) (unI T) L w j) = nI (beN (arI T (rowM h) p) (unI T) L w j - 1) := if_neg c3
            rw [e9]
            refine ⟨fun h9 => absurd h9 (nIm1 (by omega)), fun _ => t_until hT hM (by omega) (t_until hT hM (by omega) ?_)⟩
            by_cases c7 : unI T (beN (arI T (rowM h) p) (unI T) L w j - 1) ≤ unI T j
            · rw [if_pos c7]
              rw [if_pos c7, e9] at k2
              exact k2
            · rw [if_neg c7]
              rw [if_neg c7] at k2
              exact k2
        · rw [if_pos (late_t.mpr ⟨j, q3, c4, c5⟩)] at ht
          exact ht
        · have k2 := k2 (fun h9 => absurd h9 c4)
          rw [if_neg c4] at k2
          exact k2
  · have k := k q trivial
    rw [← mN_Is (chB (h 42) n p) (by omega) q, ← nI_1] at k
    rw [ixn (by omega)]
    refine ⟨pk_in i 6 (by omega), ?_⟩
    by_cases c : h 42 i = nI p
    · rw [if_pos c]
      rw [if_pos (by unfold chB; rw [decide_eq_true q, decide_eq_true c]; rfl)] at k
      exact k
    · rw [if_neg c]
      rw [if_neg (by unfold chB; rw [decide_eq_false c, Bool.and_false]; decide)] at k
      exact k
/-- the component's search -/
def dsN (T : TT) (p b : Nat) : Nat := T 4 b - T 2 p + (T 2 p - T 4 b)
def alB (T : TT) (R : Nat → Int32) (c : Nat → Int32) : Bool := allB (fun p => feB T R c (T 0 1) p) (T 0 0)
def cS (T : TT) (R : Nat → Int32) : Nat → Nat → Nat → Mem → Mem
  | 0, _, _, h => h
  | d + 1, l, car, h => if h 13 0 ≠ -1 ∧ ¬ nI car < h 13 0 then h else if l = T 0 1 then (if alB T R (h 11) = true then cpM (up2 h 13 0 (nI car)) 12 11 6 else h)
      else if R (66 + l) = -1 then it (fun p h => if canB T R p l = true then cS T R d (l + 1) (car + dsN T p l) (up2 h 11 l (nI p)) else h) (T 0 0) (up2 h 11 l (-1)) else cS T R d (l + 1) car (up2 h 11 l (-1))
theorem cpM_o {h : Mem} {k : Nat} (hk : k ≠ 12) : cpM h 12 11 6 k = h k := by rw [cpM_eq]; exact setp_other hk
theorem cS_o {k : Nat} (hk : k ≠ 11 ∧ k ≠ 12 ∧ k ≠ 13) : ∀ (d l car : Nat) (h : Mem), cS T R d l car h k = h k := by
  intro d
  induction d with
  | zero => intro l car h; rfl
  | succ d ih =>
    intro l car h
    unfold cS
    split
    · rfl
    split
    · split
      · rw [cpM_o hk.2.1, up2_other hk.2.2]
      · rfl
    split
    · refine (it_pl (fun p h' _ => ?_)).trans (up2_other hk.1)
      split
      · rw [ih, up2_other hk.1]
      · rfl
    · rw [ih, up2_other hk.1]
theorem SRel.of {S S1 : Mem} (hS : SRel T S R) (e : ∀ k, k < 5 → S1 k = S k) : SRel T S1 R := by
  unfold SRel
  rw [e 0 (by omega), e 1 (by omega), e 2 (by omega), e 3 (by omega), e 4 (by omega)]
  exact hS
theorem c_chooses (hT : TOK T) {post : Mem → Prop} : ∀ (d l car : Nat) (h : Mem), SRel T (sub h 40) R → l ≤ T 0 1 → T 0 1 < d + l → car + 9 * (T 0 1 - l) ≤ 1000 → post (cS T R d l car h) → ∀ d2, d ≤ d2 → wpX1_chooses d2 post h T (nI l) (nI car) := by
  have h8 := hT.n8
  have h6 := hT.n6
  intro d
  induction d generalizing post with
  | zero => intro l car h _ h1 h2; omega
  | succ d ih =>
    intro l car h hS hl hd hc hp0 d2 hd2
    obtain ⟨d2, rfl⟩ : ∃ e, d2 = e + 1 := ⟨d2 - 1, by omega⟩
    show wpRX1_chooses (wpX1_chooses d2) post h T (nI l) (nI car)
    unfold cS at hp0
    have body : post (if l = T 0 1 then (if alB T R (h 11) = true then cpM (up2 h 13 0 (nI car)) 12 11 6 else h)
      else if R (66 + l) = -1 then it (fun p h => if canB T R p l = true then cS T R d (l + 1) (car + dsN T p l) (up2 h 11 l (nI p)) else h) (T 0 0) (up2 h 11 l (-1)) else cS T R d (l + 1) car (up2 h 11 l (-1))) → wpBX1_chooses_17 (wpX1_chooses d2) post T (nI l) (nI car) h := by
      intro hp
      unfold wpBX1_chooses_17 wpX1_loaves
      try dsimp only
      refine pk_eq l (T 0 1) (fun e => ?_) (fun e => ?_)
      · rw [if_pos e] at hp
        subst e
        refine LW_nat (fun i => nI i) (T 0 0) (fun i => ∀ p, p < i → feB T R (h 11) (T 0 1) p = true) rfl (fun p h => absurd h (Nat.not_lt_zero _)) (fun K i hi hI k => ?_)
        unfold wpBX1_chooses_27 wpX1_people
        try dsimp only
        refine pk_le (T 0 0) i (fun q => ?_) (fun q => ?_)
        · rw [if_pos (show alB T R (h 11) = true from allB_t.mpr (fun p hp => hI p (by omega)))] at hp
          intro h23 e23 h24 e24
          rw [e24, e23]
          exact hp
        · refine c_isInTime hT (show h 44 0 = R 1 from hS.2.1) q (bo (fun c => ?_) (fun c => ?_))
          · rw [nI_1]
            exact k q (fun p hp => by
              by_cases ep : p = i
              · subst ep; exact c
              · exact hI p (by omega))
          · rw [if_neg (by rw [show alB T R (h 11) = false from allB_f q c]; decide)] at hp
            exact hp
      · rw [if_neg e] at hp
        rw [ixn (by omega)]
        refine ⟨pk_in l 6 (by omega), fun h5 e5 => ⟨pk_in l 6 (by omega), ?_⟩⟩
        have hS5 : SRel T (sub h5 40) R := hS.of (fun k hk => by show h5 (40 + k) = h (40 + k); rw [e5, up2_other (by omega)])
        rw [show h5 41 l = R (66 + l) from hS5.2.2.2.1 l (by omega), nI_1]
        refine ⟨fun e => ?_, fun e => ?_⟩
        · rw [if_pos e, ← e5] at hp
          refine c_whoCan hT hS5 (by omega) ?_
          have hml := mN_lt (fun p => canB T R p l) (T 0 0)
          have hm10 := p10 (show T 0 0 ≤ 10 by omega)
          refine LW_nat (fun i => (it (fun p h => if canB T R p l = true then cS T R d (l + 1) (car + dsN T p l) (up2 h 11 l (nI p)) else h) i h5, nI i)) (T 0 0) (fun _ => True) rfl trivial (fun K i hi _ k => ?_)
          unfold wpBX1_chooses_116 wpX1_people
          try dsimp only
          refine pk_le (T 0 0) i (fun q => ?_) (fun q => ?_)
          · have e : i = T 0 0 := by omega
            subst e
            exact hp
          · have k := k q trivial
            have hpi := hT.p q
            have hlb := hT.l (show l < T 0 1 by omega)
            have hS6 : SRel T (sub (it (fun p h => if canB T R p l = true then cS T R d (l + 1) (car + dsN T p l) (up2 h 11 l (nI p)) else h) i h5) 40) R := hS5.of (fun k hk => it_pl (k := 40 + k) (fun p h' _ => by
              split
              · rw [cS_o (by omega), up2_other (by omega)]
              · rfl))
            revert k
            show K (if canB T R i l = true then cS T R d (l + 1) (car + dsN T i l) (up2 (it (fun p h => if canB T R p l = true then cS T R d (l + 1) (car + dsN T p l) (up2 h 11 l (nI p)) else h) i h5) 11 l (nI i)) else (it (fun p h => if canB T R p l = true then cS T R d (l + 1) (car + dsN T p l) (up2 h 11 l (nI p)) else h) i h5), nI (i + 1)) → _
            generalize (it (fun p h => if canB T R p l = true then cS T R d (l + 1) (car + dsN T p l) (up2 h 11 l (nI p)) else h) i h5) = h9 at hS6
            intro k
            rw [bit_I0 _ (by omega) i (by omega), mN_bit, decide_eq_true q, Bool.true_and, nI_1]
            refine ⟨fun c => ?_, fun c => ?_⟩
            · rw [if_neg (by rw [c]; decide)] at k
              exact k
            · have c : canB T R i l = true := by
                cases c2 : canB T R i l with
                | true => rfl
                | false => exact absurd c2 c
              rw [if_pos c] at k
              rw [ixn (by omega)]
              refine ⟨pk_in l 6 (by omega), fun h13 e13 => ⟨l, rfl, by omega, c_house q ?_⟩⟩
              rw [ab_n _ (by omega) _ (by omega), nI_add, nI_1]
              have hds : dsN T i l ≤ 9 := by unfold dsN; omega
              refine ih (l + 1) (car + dsN T i l) h13 (hS6.of (fun k hk => by show h13 (40 + k) = h9 (40 + k); rw [e13, up2_other (by omega)])) (by omega) (by omega) (by omega) ?_ d2 (by omega)
              rw [e13]
              exact k
        · rw [if_neg e, ← e5] at hp
          exact ih (l + 1) car h5 hS5 (by omega) (by omega) (by omega) hp d2 (by omega)
    unfold wpRX1_chooses
    by_cases c1 : h 13 0 = -1
    · rw [if_neg (fun h9 => h9.1 c1)] at hp0
      exact ⟨fun _ => body hp0, fun h9 => absurd c1 h9⟩
    · refine ⟨fun h9 => absurd h9 c1, fun _ => ⟨fun c2 => ?_, fun c2 => ?_⟩⟩
      · rw [if_neg (fun h9 => h9.2 c2)] at hp0
        exact body hp0
      · rw [if_pos ⟨c1, c2⟩] at hp0
        exact hp0
/-- the twin's search -/
def cp43 (h : Mem) : Mem := it (fun i h => up2 h 43 i (h 42 i)) 6 h
theorem cp43_o {h : Mem} {k : Nat} (hk : k ≠ 43) : cp43 h k = h k := it_pl (fun i h' _ => up2_other hk)
theorem cp43_v {h : Mem} {j : Nat} (hj : j < 6) : cp43 h 43 j = h 42 j := by
  have g : ∀ n, n ≤ 6 → ∀ j, j < n → it (fun i h => up2 h 43 i (h 42 i)) n h 43 j = h 42 j := by
    intro n
    induction n with
    | zero => intro _ j hj; omega
    | succ n ih =>
      intro hn j hj
      show up2 (it (fun i h => up2 h 43 i (h 42 i)) n h) 43 n _ 43 j = _
      have e42 : it (fun i h => up2 h 43 i (h 42 i)) n h 42 = h 42 := it_pl (fun i h' _ => up2_other (by decide))
      by_cases ej : j = n
      · subst ej
        rw [up2_at, e42]
      · rw [up2_ne _ _ _ ej]
        exact ih (by omega) j (by omega)
  exact g 6 (Nat.le_refl _) j hj
def tS (T : TT) (R : Nat → Int32) : Nat → Nat → Nat → Mem → Mem
  | 0, _, _, h => h
  | d + 1, l, car, h => if h 46 0 ≠ 0 ∧ ¬ nI car < h 44 0 then h else if l = T 0 1 then cp43 (up2 (up2 h 46 0 1) 44 0 (nI car))
      else if R (66 + l) = -1 then (if R 0 = 0 then it (fun p h => if canB T R p l = true then (if feB T R (up2 h 42 l (nI p) 42) (l + 1) p = true then tS T R d (l + 1) (car + dsN T p l) (up2 h 42 l (nI p)) else up2 h 42 l (nI p)) else h) (T 0 0) (up2 h 42 l (-1)) else up2 h 42 l (-1)) else tS T R d (l + 1) car (up2 h 42 l (-1))
theorem tS_o {k : Nat} (hk : k ≠ 42 ∧ k ≠ 43 ∧ k ≠ 44 ∧ k ≠ 46) : ∀ (d l car : Nat) (h : Mem), tS T R d l car h k = h k := by
  intro d
  induction d with
  | zero => intro l car h; rfl
  | succ d ih =>
    intro l car h
    unfold tS
    split
    · rfl
    split
    · rw [cp43_o hk.2.1, up2_other hk.2.2.1, up2_other hk.2.2.2]
    split
    · split
      · refine (it_pl (fun p h' _ => ?_)).trans (up2_other hk.1)
        split
        · split
          · rw [ih, up2_other hk.1]
          · rw [up2_other hk.1]
        · rfl
      · rw [up2_other hk.1]
    · rw [ih, up2_other hk.1]
theorem t_rowOn (hT : TOK T) {post : Mem → Prop} : ∀ (d l car : Nat) (h : Mem), TM T h → rowM h = R → l ≤ T 0 1 → T 0 1 < d + l → car + 9 * (T 0 1 - l) ≤ 1000 → post (tS T R d l car h) → ∀ d2, d ≤ d2 → wpX7_rowOn d2 post h (nI l) (nI car) := by
  have h8 := hT.n8
  have h6 := hT.n6
  intro d
  induction d generalizing post with
  | zero => intro l car h _ _ h1 h2; omega
  | succ d ih =>
    intro l car h hM hR hl hd hc hp0 d2 hd2
    obtain ⟨d2, rfl⟩ : ∃ e, d2 = e + 1 := ⟨d2 - 1, by omega⟩
    show wpRX7_rowOn (wpX7_rowOn d2) post h (nI l) (nI car)
    unfold tS at hp0
    have hMo : ∀ {h' : Mem}, (∀ k, k < 42 → h' k = h k) → TM T h' ∧ rowM h' = R := fun e => ⟨hM.of (fun k _ h2 _ => e k (by omega)), (rowM_of (fun k hk => e k (by omega))).trans hR⟩
    have body : post (if l = T 0 1 then cp43 (up2 (up2 h 46 0 1) 44 0 (nI car))
      else if R (66 + l) = -1 then (if R 0 = 0 then it (fun p h => if canB T R p l = true then (if feB T R (up2 h 42 l (nI p) 42) (l + 1) p = true then tS T R d (l + 1) (car + dsN T p l) (up2 h 42 l (nI p)) else up2 h 42 l (nI p)) else h) (T 0 0) (up2 h 42 l (-1)) else up2 h 42 l (-1)) else tS T R d (l + 1) car (up2 h 42 l (-1))) → wpBX7_rowOn_16 (wpX7_rowOn d2) post (nI l) (nI car) h := by
      intro hp
      unfold wpBX7_rowOn_16
      try dsimp only
      rw [hM.m]
      refine pk_eq l (T 0 1) (fun e => ?_) (fun e => ?_)
      · rw [if_pos e] at hp
        intro h24 e24 h25 e25
        refine LW_nat (fun i => (it (fun i h => up2 h 43 i (h 42 i)) i h25, nI i)) 6 (fun _ => True) rfl trivial (fun K i hi _ k => ?_)
        unfold wpBX7_rowOn_38
        try dsimp only
        refine pk_le 6 i (fun q => ?_) (fun q => ?_)
        · have e : i = 6 := by omega
          subst e
          rw [e25, e24]
          exact hp
        · rw [ixn (by omega)]
          refine ⟨pk_in i 6 q, pk_in i 6 q, fun h29 e29 => ?_⟩
          rw [nI_1, e29]
          exact k q trivial
      · rw [if_neg e] at hp
        rw [ixn (by omega)]
        refine ⟨pk_in l 6 (by omega), fun h4 e4 => ⟨pk_in l 6 (by omega), ?_⟩⟩
        obtain ⟨hM4, hR4⟩ := hMo (h' := h4) (fun k hk => by (try dsimp only); rw [e4, up2_other (by omega)])
        rw [show h4 27 l = R (66 + l) by rw [← hR4, rowM_cut h4 (by omega)], nI_1]
        refine ⟨fun e => ?_, fun e => ?_⟩
        · rw [if_pos e, ← e4] at hp
          by_cases c0 : R 0 = 0
          · rw [if_pos c0] at hp
            refine LW_nat (fun i => (it (fun p h => if canB T R p l = true then (if feB T R (up2 h 42 l (nI p) 42) (l + 1) p = true then tS T R d (l + 1) (car + dsN T p l) (up2 h 42 l (nI p)) else up2 h 42 l (nI p)) else h) i h4, nI i)) (T 0 0) (fun _ => True) rfl trivial (fun K i hi _ k => ?_)
            have o9 : ∀ k, k < 42 → it (fun p h => if canB T R p l = true then (if feB T R (up2 h 42 l (nI p) 42) (l + 1) p = true then tS T R d (l + 1) (car + dsN T p l) (up2 h 42 l (nI p)) else up2 h 42 l (nI p)) else h) i h4 k = h k := fun k hk => (it_pl (fun p h' _ => by
              split
              · split
                · rw [tS_o (by omega), up2_other (by omega)]
                · rw [up2_other (by omega)]
              · rfl)).trans (by (try dsimp only); rw [e4, up2_other (by omega)])
            revert k
            show ((i < T 0 0 → True → K (if canB T R i l = true then (if feB T R (up2 (it (fun p h => if canB T R p l = true then (if feB T R (up2 h 42 l (nI p) 42) (l + 1) p = true then tS T R d (l + 1) (car + dsN T p l) (up2 h 42 l (nI p)) else up2 h 42 l (nI p)) else h) i h4) 42 l (nI i) 42) (l + 1) i = true then tS T R d (l + 1) (car + dsN T i l) (up2 (it (fun p h => if canB T R p l = true then (if feB T R (up2 h 42 l (nI p) 42) (l + 1) p = true then tS T R d (l + 1) (car + dsN T p l) (up2 h 42 l (nI p)) else up2 h 42 l (nI p)) else h) i h4) 42 l (nI i)) else up2 (it (fun p h => if canB T R p l = true then (if feB T R (up2 h 42 l (nI p) 42) (l + 1) p = true then tS T R d (l + 1) (car + dsN T p l) (up2 h 42 l (nI p)) else up2 h 42 l (nI p)) else h) i h4) 42 l (nI i)) else (it (fun p h => if canB T R p l = true then (if feB T R (up2 h 42 l (nI p) 42) (l + 1) p = true then tS T R d (l + 1) (car + dsN T p l) (up2 h 42 l (nI p)) else up2 h 42 l (nI p)) else h) i h4), nI (i + 1))) → _)
            have hp : i = T 0 0 → post (it (fun p h => if canB T R p l = true then (if feB T R (up2 h 42 l (nI p) 42) (l + 1) p = true then tS T R d (l + 1) (car + dsN T p l) (up2 h 42 l (nI p)) else up2 h 42 l (nI p)) else h) i h4) := fun e => by rw [e]; exact hp
            generalize (it (fun p h => if canB T R p l = true then (if feB T R (up2 h 42 l (nI p) 42) (l + 1) p = true then tS T R d (l + 1) (car + dsN T p l) (up2 h 42 l (nI p)) else up2 h 42 l (nI p)) else h) i h4) = h9 at o9 hp
            intro k
            obtain ⟨hM9, hR9⟩ := hMo o9
            show wpBX7_rowOn_91 (wpX7_rowOn d2) post (nI l) (nI car) (fun h x3 => K (h, x3)) h9 (nI i)
            unfold wpBX7_rowOn_91
            try dsimp only
            rw [hM9.n, show h9 30 0 = R 0 by rw [← hR9]; rfl]
            refine pk_le (T 0 0) i (fun q => hp (by omega)) (fun q => ⟨fun _ => t_canCut hT hM9 q (by omega) (bo (fun c => ?_) (fun c => ?_)), fun h9 => absurd c0 h9⟩)
            · have k := k q trivial
              rw [hR9] at c
              rw [if_pos c] at k
              rw [ixn (by omega), ixn (by omega)]
              refine ⟨pk_in l 6 (by omega), fun h13 e13 => ?_⟩
              obtain ⟨hM13, hR13⟩ := hMo (h' := h13) (fun k hk => by (try dsimp only); rw [e13, up2_other (by omega)]; exact o9 k hk)
              rw [← e13] at k
              rw [nI_1 l, nI_1 i]
              refine t_isInTime hT hM13 q (by omega) (bo (fun c2 => ?_) (fun c2 => ?_))
              · rw [hR13] at c2
                rw [if_pos c2] at k
                have hpi := hT.p q
                have hlb := hT.l (show l < T 0 1 by omega)
                have hds : dsN T i l ≤ 9 := by unfold dsN; omega
                rw [hM13.h q, (hM13.2.2.1 l (by omega)).1, ab_sym _ (by omega) _ (by omega), ab_n _ (by omega) _ (by omega), nI_add]
                exact ⟨pk_in i 16 (by omega), pk_in l 12 (by omega), ih (l + 1) (car + dsN T i l) h13 hM13 hR13 (by omega) (by omega) (by omega) k d2 (by omega)⟩
              · rw [hR13] at c2
                rw [if_neg (by rw [c2]; decide)] at k
                exact k
            · have k := k q trivial
              rw [hR9] at c
              rw [if_neg (by rw [c]; decide)] at k
              rw [nI_1]
              exact k
          · rw [if_neg c0] at hp
            refine LW_nat (fun i => (h4, nI i)) 0 (fun _ => True) rfl trivial (fun K i hi _ k => ?_)
            have ei : i = 0 := by omega
            subst ei
            unfold wpBX7_rowOn_91
            try dsimp only
            rw [hM4.n, show h4 30 0 = R 0 by rw [← hR4]; rfl]
            exact ⟨fun _ => hp, fun _ => ⟨fun h9 => absurd h9 c0, fun _ => hp⟩⟩
        · rw [if_neg e, ← e4] at hp
          exact ih (l + 1) car h4 hM4 hR4 (by omega) (by omega) (by omega) hp d2 (by omega)
    unfold wpRX7_rowOn
    by_cases c1 : h 46 0 = 0
    · rw [if_neg (fun h9 => h9.1 c1)] at hp0
      exact ⟨fun _ => body hp0, fun h9 => absurd c1 h9⟩
    · refine ⟨fun h9 => absurd h9 c1, fun _ => ⟨fun c2 => ?_, fun c2 => ?_⟩⟩
      · rw [if_neg (fun h9 => h9.2 c2)] at hp0
        exact body hp0
      · rw [if_pos ⟨c1, c2⟩] at hp0
        exact hp0
end NS
