/-! 56.qm: the same questions, asked of the twin -/
section QM
variable {T : TT} {h : Mem}
theorem t_bitsOf {post : Int32 → Prop} {m : Nat} (hm : m < 1024) (hp : post (nI (pcN m))) : wpX7_bitsOf post h (nI m) := by
  unfold wpX7_bitsOf
  refine LW_ix (τ := Nat × Nat) (fun t => (nI t.1, nI t.2)) (fun t => t.2 < 1024 ∧ t.1 + pcN t.2 = pcN m) (fun t => t.2) (fun K t ht k => ?_) (0, m) ⟨hm, Nat.zero_add _⟩
  have hl := pcN_le m
  unfold wpBX7_bitsOf_4
  try dsimp only
  refine pk_e0 t.2 (fun e => ?_) (fun e => ?_)
  · have h2 := ht.2
    rw [e, pcN_0] at h2
    rw [show t.1 = pcN m from h2]
    exact hp
  · obtain ⟨h1, h2, h3⟩ := kern_I t.2 ht.1 e
    rw [h1, nI_1]
    have h4 := ht.2
    exact k (t.1 + 1, t.2 &&& (t.2 - 1)) ⟨by have := ht.1; omega, by show t.1 + 1 + pcN (t.2 &&& (t.2 - 1)) = pcN m; omega⟩ h3
theorem t_knownBoth (hT : TOK T) (hM : TM T h) {post : Int32 → Prop} (hp : post (coupI T (rowM h))) : wpX7_knownBoth post h := by
  have h8 := hT.n8
  unfold wpX7_knownBoth
  refine LW_nat (fun i => (it (coup2 T (rowM h)) i 0, nI i)) (T 0 0) (fun _ => True) rfl trivial (fun K i hi _ k => ?_)
  unfold wpBX7_knownBoth_4
  try dsimp only
  rw [hM.n]
  refine pk_le (T 0 0) i (fun q => ?_) (fun q => ?_)
  · have e : i = T 0 0 := by omega
    subst e
    exact hp
  · have k := k q trivial
    rw [nI_1]
    refine LW_nat (fun j => (it (coup1 T (rowM h) i) j (it (coup2 T (rowM h)) i 0), nI (i + 1 + j))) (T 0 0 - (i + 1)) (fun _ => True) rfl trivial (fun K2 j hj _ k2 => ?_)
    unfold wpBX7_knownBoth_18
    try dsimp only
    rw [hM.n]
    refine pk_le (T 0 0) (i + 1 + j) (fun q2 => ?_) (fun q2 => ?_)
    · have e : j = T 0 0 - (i + 1) := by omega
      subst e
      rw [nI_1]
      exact k
    · have kk : K2 (coup1 T (rowM h) i j (it (coup1 T (rowM h) i) j (it (coup2 T (rowM h)) i 0)), nI (i + 1 + j + 1)) := k2 (by omega) trivial
      unfold wpBX7_knownBoth_51 wpBX7_knownBoth_52
      try dsimp only
      rw [nI_1, addI0]
      unfold coup1 at kk
      unfold bkB at kk
      refine t_isKnown hT hM q q2 (bo (fun e => t_isKnown hT hM q2 q ?_) (fun e => ?_))
      · rw [e, Bool.true_and] at kk
        cases e2 : knB T (rowM h) (i + 1 + j) i with
        | true => rw [if_pos rfl]; rw [e2, if_pos rfl] at kk; exact kk
        | false => rw [if_neg (by decide), addI0]; rw [e2, if_neg (by decide)] at kk; exact kk
      · rw [e, Bool.false_and, if_neg (by decide)] at kk
        exact kk
theorem t_kn_loop (hT : TOK T) (hM : TM T h) {post : Int32 → Mem → Prop} {a2 : Int32} {p : Nat} (hpn : p < T 0 0) (hp : post (nI (mN (knmB T (rowM h) p) (T 0 0))) h) : ∃ n, wpLX7_person_99 post (nI p) a2 h n ((0 : Int32), (0 : Int32)) := by
  have h8 := hT.n8
  refine LW_nat (fun i => (nI (mN (knmB T (rowM h) p) i), nI i)) (T 0 0) (fun _ => True) rfl trivial (fun K i hi _ k => ?_)
  unfold wpBX7_person_99
  try dsimp only
  rw [hM.n]
  refine pk_le (T 0 0) i (fun q => ?_) (fun q => ?_)
  · have e : i = T 0 0 := by omega
    subst e
    exact hp
  · have k := k q trivial
    rw [← mN_Is (knmB T (rowM h) p) (by omega) q, ← nI_1] at k
    refine pk_eq i p (fun e => ?_) (fun e => t_isKnown hT hM hpn q ?_)
    · rw [if_neg (by unfold knmB; rw [decide_eq_false (fun e2 => e2 e), Bool.false_and]; decide)] at k
      exact k
    · rw [show knmB T (rowM h) p i = knB T (rowM h) p i by unfold knmB; rw [decide_eq_true e]; rfl] at k
      exact k
theorem t_answering (hT : TOK T) (hM : TM T h) {post : Int32 → Prop} {b : Nat} {x : Int32} (hb : b < T 0 1) (hp : post (nI (mN (fun p => decide (mayI T (rowM h) p b = x)) (T 0 0)))) : wpX7_answering post h (nI b) x := by
  have h8 := hT.n8
  unfold wpX7_answering
  refine LW_nat (fun i => (nI (mN (fun p => decide (mayI T (rowM h) p b = x)) i), nI i)) (T 0 0) (fun _ => True) rfl trivial (fun K i hi _ k => ?_)
  unfold wpBX7_answering_5
  try dsimp only
  rw [hM.n]
  refine pk_le (T 0 0) i (fun q => ?_) (fun q => ?_)
  · have e : i = T 0 0 := by omega
    subst e
    exact hp
  · have k := k q trivial
    rw [← mN_Is (fun p => decide (mayI T (rowM h) p b = x)) (by omega) q, ← nI_1] at k
    refine t_mayNow hT hM q hb ?_
    by_cases c : mayI T (rowM h) i b = x
    · rw [if_pos c]
      rw [if_pos (by exact decide_eq_true c)] at k
      exact k
    · rw [if_neg c]
      rw [if_neg (by rw [decide_eq_false c]; decide)] at k
      exact k
theorem t_familiar (hT : TOK T) (hM : TM T h) {post : Int32 → Mem → Prop} (hp : post (nI (mN (famB T (rowM h)) (T 0 0))) h) : ∃ n, wpLX7_familiar_9 post h n ((0 : Int32), (0 : Int32)) := by
  have h8 := hT.n8
  refine LW_nat (fun i => (nI (mN (famB T (rowM h)) i), nI i)) (T 0 0) (fun _ => True) rfl trivial (fun K i hi _ k => ?_)
  unfold wpBX7_familiar_9
  try dsimp only
  rw [hM.n]
  refine pk_le (T 0 0) i (fun q => ?_) (fun q => ?_)
  · have e : i = T 0 0 := by omega
    subst e
    exact hp
  · have k := k q trivial
    rw [← mN_Is (famB T (rowM h)) (by omega) q, ← nI_1] at k
    refine LW_nat (fun j => (b2i (allB (fun q => knB T (rowM h) i q) j), nI j)) (T 0 0) (fun _ => True) rfl trivial (fun K2 j hj _ k2 => ?_)
    unfold wpBX7_familiar_24
    try dsimp only
    rw [hM.n]
    refine pk_le (T 0 0) j (fun q2 => ?_) (fun q2 => ?_)
    · have e : j = T 0 0 := by omega
      subst e
      unfold wpBX7_familiar_73
      try dsimp only
      cases e : famB T (rowM h) i with
      | true =>
        rw [if_neg (by rw [show allB (fun q => knB T (rowM h) i q) (T 0 0) = true from e]; decide)]
        rw [e, if_pos rfl] at k
        exact k
      | false =>
        rw [if_pos (by rw [show allB (fun q => knB T (rowM h) i q) (T 0 0) = false from e]; rfl), orI0]
        rw [e, if_neg (by decide)] at k
        exact k
    · have k2 : K2 (b2i (allB (fun q => knB T (rowM h) i q) (j + 1)), nI (j + 1)) := k2 q2 trivial
      rw [allB_s] at k2
      refine bo0 (fun e0 => ?_) (fun e1 => t_isKnown hT hM q q2 ?_)
      · unfold wpBX7_familiar_53
        rw [e0] at k2
        rw [nI_1]
        exact k2
      · rw [e1, Bool.true_and] at k2
        rw [nI_1]
        cases e5 : knB T (rowM h) i j <;> (rw [e5] at k2; exact k2)
theorem t_areStrangers (hT : TOK T) (hM : TM T h) {post : Bool → Prop} {s : Nat} (hs : s < 1024) (hp : post (strB T (rowM h) s)) : wpX7_areStrangers post h (nI s) := by
  have h8 := hT.n8
  unfold wpX7_areStrangers
  refine LW_nat (fun i => nI i) (T 0 0) (fun i => ∀ a, a < i → st2B T (rowM h) s a = true) rfl (fun j h => absurd h (Nat.not_lt_zero _)) (fun K i hi hI k => ?_)
  unfold wpBX7_areStrangers_2
  try dsimp only
  rw [hM.n]
  refine pk_le (T 0 0) i (fun q => ?_) (fun q => ?_)
  · rw [show strB T (rowM h) s = true from allB_t.mpr (fun a ha => hI a (by omega))] at hp
    exact hp
  · have k : st2B T (rowM h) s i = true → K (nI (i + 1)) := fun e => k q (fun a ha => by
      by_cases ea : a = i
      · subst ea; exact e
      · exact hI a (by omega))
    refine LW_nat (fun j => nI j) (T 0 0) (fun j => s.testBit i = true → ∀ b, b < j → st1B T (rowM h) s i b = true) rfl (fun _ j h => absurd h (Nat.not_lt_zero _)) (fun K2 j hj hJ k2 => ?_)
    unfold wpBX7_areStrangers_14
    try dsimp only
    rw [hM.n]
    refine pk_le (T 0 0) j (fun q2 => ?_) (fun q2 => ?_)
    · rw [nI_1]
      refine k ?_
      unfold st2B
      cases e : s.testBit i with
      | false => rfl
      | true => rw [allB_t.mpr (fun b hb => hJ e b (by omega))]; rfl
    · have k2 : (s.testBit i = true → st1B T (rowM h) s i j = true) → K2 (nI j + 1) := fun e => by
        rw [nI_1]
        exact k2 q2 (fun e0 b hb => by
          by_cases eb : b = j
          · subst eb; exact e e0
          · exact hJ e0 b (by omega))
      refine pk_eq i j (fun e => ?_) (fun e => t_isOf hs (by omega) (bo (fun e1 => t_isOf hs (by omega) (bo (fun e2 => t_isKnown hT hM q q2 (bo (fun e3 => ?_) (fun e3 => ?_))) (fun e2 => ?_))) (fun e1 => ?_)))
      · exact k2 (fun _ => by unfold st1B; rw [decide_eq_true e]; rfl)
      · have f1 : st1B T (rowM h) s i j = false := by unfold st1B; rw [decide_eq_false e, e2, e3]; rfl
        have f2 : st2B T (rowM h) s i = false := by unfold st2B; rw [e1, allB_f q2 f1]; rfl
        rw [show strB T (rowM h) s = false from allB_f q f2] at hp
        exact hp
      · exact k2 (fun _ => by unfold st1B; rw [e3]; simp)
      · exact k2 (fun _ => by unfold st1B; rw [e2]; simp)
      · exact k2 (fun e4 => by rw [e1] at e4; cases e4)
theorem t_ring (hT : TOK T) (hM : TM T h) {post : Int32 → Mem → Prop} (hp : post (nI (rgN T (rowM h) (2 ^ T 0 0))) h) : ∃ n, wpLX7_ring_9 post h n ((0 : Int32), (0 : Int32)) := by
  have h8 := hT.n8
  have h2 : 2 ^ T 0 0 ≤ 256 := Nat.pow_le_pow_right (by decide) (show T 0 0 ≤ 8 from h8)
  refine LW_nat (fun i => (nI (rgN T (rowM h) i), nI i)) (2 ^ T 0 0) (fun _ => True) rfl trivial (fun K i hi _ k => ?_)
  unfold wpBX7_ring_9
  try dsimp only
  rw [hM.n, sh1_I _ (by omega)]
  have hl := rgN_lt T (rowM h) i
  refine pk_le (2 ^ T 0 0) i (fun q => ?_) (fun q => ?_)
  · have e : i = 2 ^ T 0 0 := by omega
    subst e
    exact hp
  · have k : K (nI (rg1 T (rowM h) i (rgN T (rowM h) i)), nI (i + 1)) := k q trivial
    have p1 := pcN_le (rgN T (rowM h) i)
    have p2 := pcN_le i
    refine t_bitsOf (by omega) (t_bitsOf (by omega) (pk_le (pcN i) (pcN (rgN T (rowM h) i)) (fun c => ?_) (fun c => t_areStrangers hT hM (by omega) ?_)))
    · rw [nI_1]
      rw [show rg1 T (rowM h) i (rgN T (rowM h) i) = rgN T (rowM h) i from if_neg (fun h => by omega)] at k
      exact k
    · rw [nI_1]
      cases e : strB T (rowM h) i with
      | true => rw [if_pos rfl]; rw [show rg1 T (rowM h) i (rgN T (rowM h) i) = i from if_pos ⟨c, e⟩] at k; exact k
      | false => rw [if_neg (by decide)]; rw [show rg1 T (rowM h) i (rgN T (rowM h) i) = rgN T (rowM h) i from if_neg (fun h => by rw [e] at h; cases h.2)] at k; exact k
/-- the loaves that somebody can cut -/
def cbB (T : TT) (R : Nat → Int32) (all : Bool) (b : Nat) : Bool := (all || decide (R (66 + b) = -1)) && decide (mN (fun p => canB T R p b) (T 0 0) ≠ 0)
theorem t_cuttable (hT : TOK T) (hM : TM T h) {post : Int32 → Prop} {all : Bool} (hp : post (nI (mN (cbB T (rowM h) all) (T 0 1)))) : wpX7_cuttable post h (b2i all) := by
  have h8 := hT.n8
  have h6 := hT.n6
  unfold wpX7_cuttable
  refine LW_nat (fun i => (nI (mN (cbB T (rowM h) all) i), nI i)) (T 0 1) (fun _ => True) rfl trivial (fun K i hi _ k => ?_)
  unfold wpBX7_cuttable_4
  try dsimp only
  rw [hM.m]
  refine pk_le (T 0 1) i (fun q => ?_) (fun q => ?_)
  · have e : i = T 0 1 := by omega
    subst e
    exact hp
  · have k := k q trivial
    rw [← mN_Is (cbB T (rowM h) all) (by omega) q, ← nI_1] at k
    have hm := mN_lt (fun p => canB T (rowM h) p i) (T 0 0)
    have hm2 := p10 (show T 0 0 ≤ 10 by omega)
    have sub : (all || decide (rowM h (66 + i) = -1)) = true → wpBX7_cuttable_28 post (b2i all) (fun x2 x3 => K (x2, x3)) h (nI (mN (cbB T (rowM h) all) i)) (nI i) := by
      intro c
      unfold wpBX7_cuttable_28
      try dsimp only
      refine t_cutters hT hM q ?_
      by_cases c2 : mN (fun p => canB T (rowM h) p i) (T 0 0) = 0
      · rw [if_pos (by rw [c2]; rfl)]
        rw [if_neg (by unfold cbB; rw [show decide (mN (fun p => canB T (rowM h) p i) (T 0 0) ≠ 0) = false from decide_eq_false (fun h => h c2), Bool.and_false]; decide)] at k
        exact k
      · rw [if_neg (fun e => c2 ((nI_eq (by omega) (by decide)).mp (e.trans (show (0 : Int32) = nI 0 from rfl))))]
        rw [if_pos (by unfold cbB; rw [c, decide_eq_true c2]; rfl)] at k
        exact k
    refine bo0 (fun e => ?_) (fun e => sub (by rw [e]; rfl))
    rw [ixn (by omega), ← rowM_cut h (by omega)]
    refine ⟨pk_in i 6 (by omega), fun e2 => sub (by rw [decide_eq_true e2, Bool.or_true]), fun e2 => ?_⟩
    rw [if_neg (by unfold cbB; rw [e, decide_eq_false e2, Bool.false_or, Bool.false_and]; decide)] at k
    exact k
theorem t_peopleIn (hT : TOK T) (hM : TM T h) {post : Int32 → Prop} {s : Nat} (hs : s < 1024) (hp : post (nI (mN (fun p => s.testBit (T 2 p)) (T 0 0)))) : wpX7_peopleIn post h (nI s) := by
  have h8 := hT.n8
  unfold wpX7_peopleIn
  refine LW_nat (fun i => (nI (mN (fun p => s.testBit (T 2 p)) i), nI i)) (T 0 0) (fun _ => True) rfl trivial (fun K i hi _ k => ?_)
  unfold wpBX7_peopleIn_4
  try dsimp only
  rw [hM.n]
  refine pk_le (T 0 0) i (fun q => ?_) (fun q => ?_)
  · have e : i = T 0 0 := by omega
    subst e
    exact hp
  · have k := k q trivial
    have hpi := hT.p q
    rw [← mN_Is (fun p => s.testBit (T 2 p)) (by omega) q, ← nI_1] at k
    rw [ixn (by omega), hM.h q]
    exact ⟨pk_in i 16 (by omega), t_isOf hs (by omega) k⟩
theorem door7 {R : Nat → Int32} (hT : TOK T) (s b : Nat) : ((mN (fun p => canB T R p b) (T 0 0)) &&& (mN (fun p => s.testBit (T 2 p)) (T 0 0)) = 0) ↔ anyB (fun p => canB T R p b && s.testBit (T 2 p)) (T 0 0) = false := by
  have h8 := hT.n8
  have hm := mN_lt (fun p => canB T R p b) (T 0 0)
  have hm2 := p10 (show T 0 0 ≤ 10 by omega)
  rw [and0 (by omega), anyB_f]
  constructor
  · intro h i hi
    have := h i (by omega)
    rw [mN_bit, mN_bit, decide_eq_true hi] at this
    exact this
  · intro h p _
    rw [mN_bit, mN_bit]
    by_cases hp : p < T 0 0
    · rw [decide_eq_true hp]
      exact h p hp
    · rw [decide_eq_false hp]
      rfl
theorem t_doors (hT : TOK T) (hM : TM T h) {post : Int32 → Mem → Prop} (hp : post (encO (drN T (rowM h) 1024)) h) : ∃ n, wpLX7_doors_9 post h n ((-1 : Int32), (0 : Int32)) := by
  have h8 := hT.n8
  have h6 := hT.n6
  refine LW_nat (fun i => (encO (drN T (rowM h) i), nI i)) 1024 (fun _ => True) rfl trivial (fun K i hi _ k => ?_)
  unfold wpBX7_doors_9
  try dsimp only
  have hl := drN_lt T (rowM h) i
  refine pk_le 1024 i (fun q => ?_) (fun q => ?_)
  · have e : i = 1024 := by omega
    subst e
    exact hp
  · have k : K (encO (dr1 T (rowM h) i (drN T (rowM h) i)), nI (i + 1)) := k q trivial
    -- the loop from a flag
    have loop : ∀ c : Bool, (c = true ↔ (drN T (rowM h) i = 0 ∨ pcN i < pcN (drN T (rowM h) i - 1))) → ∃ n, wpLX7_doors_41 post (fun x1 x2 => K (x1, x2)) h (encO (drN T (rowM h) i)) (nI i) n (b2i c, (0 : Int32)) := by
      intro c hc
      have fin : ∀ d : Bool, d = (c && doorB T (rowM h) i) → wpBX7_doors_103 post (fun x1 x2 => K (x1, x2)) h (encO (drN T (rowM h) i)) (nI i) (b2i d) := by
        intro d hd
        unfold wpBX7_doors_103
        try dsimp only
        rw [nI_1]
        cases e : d with
        | true =>
          rw [e] at hd
          have hd := hd.symm
          rw [Bool.and_eq_true] at hd
          rw [if_neg (by decide)]
          rw [show dr1 T (rowM h) i (drN T (rowM h) i) = i + 1 from if_pos ⟨hc.mp hd.1, hd.2⟩] at k
          exact k
        | false =>
          rw [e] at hd
          rw [if_pos (show b2i false = 0 from rfl)]
          rw [show dr1 T (rowM h) i (drN T (rowM h) i) = drN T (rowM h) i from if_neg (fun h => by rw [hc.mpr h.1, h.2] at hd; cases hd)] at k
          exact k
      refine LW_nat (fun j => (b2i (c && allB (door1 T (rowM h) i) j), nI j)) (T 0 1) (fun _ => True) (by rw [allB_0, Bool.and_true]; rfl) trivial (fun K2 j hj _ k2 => ?_)
      unfold wpBX7_doors_41
      try dsimp only
      rw [hM.m]
      refine pk_le (T 0 1) j (fun q2 => ?_) (fun q2 => ?_)
      · have e : j = T 0 1 := by omega
        subst e
        exact fin _ rfl
      · have k2 : K2 (b2i (c && allB (door1 T (rowM h) i) (j + 1)), nI (j + 1)) := k2 q2 trivial
        rw [allB_s, ← Bool.and_assoc] at k2
        refine bo0 (fun e0 => ?_) (fun e1 => ?_)
        · refine fin _ ?_
          rw [e0]
          cases ec : c with
          | false => rfl
          | true =>
            rw [ec, Bool.true_and] at e0
            cases e : doorB T (rowM h) i with
            | false => rfl
            | true => rw [allB_t.mpr (fun w hw => allB_t.mp e w (by omega))] at e0; cases e0
        · rw [e1, Bool.true_and] at k2
          have hm := mN_lt (fun p => canB T (rowM h) p j) (T 0 0)
          have hm2 := p10 (show T 0 0 ≤ 10 by omega)
          have d91 : door1 T (rowM h) i j = true → wpBX7_doors_91 post (fun x1 x2 => K (x1, x2)) (fun x3 x4 => K2 (x3, x4)) h (encO (drN T (rowM h) i)) (nI i) (nI j) := by
            intro e
            unfold wpBX7_doors_91
            try dsimp only
            rw [e] at k2
            rw [nI_1]
            exact k2
          rw [ixn (by omega), ← rowM_cut h (by omega)]
          refine ⟨pk_in j 6 (by omega), fun c1 => t_cutters hT hM q2 (pk_e0 _ (fun c2 => ?_) (fun c2 => ?_)), fun c1 => ?_⟩
          · exact d91 (by unfold door1; rw [decide_eq_true c2]; simp)
          · refine t_cutters hT hM q2 (t_peopleIn hT hM q ?_)
            rw [andI, nI_1]
            unfold door1 at k2
            rw [decide_eq_false (fun h => h c1), decide_eq_false c2, Bool.false_or, Bool.false_or] at k2
            have na : (mN (fun p => canB T (rowM h) p j) (T 0 0)) &&& (mN (fun p => i.testBit (T 2 p)) (T 0 0)) < 1024 := Nat.lt_of_le_of_lt Nat.and_le_left (by omega)
            cases c3 : anyB (fun p => canB T (rowM h) p j && i.testBit (T 2 p)) (T 0 0) with
            | false =>
              rw [if_pos (by rw [(door7 hT i j).mpr c3]; rfl)]
              rw [c3] at k2
              exact k2
            | true =>
              rw [if_neg (fun e => by rw [(door7 hT i j).mp ((nI_eq (by omega) (by decide)).mp (e.trans (show (0 : Int32) = nI 0 from rfl)))] at c3; cases c3)]
              rw [c3] at k2
              exact k2
          · exact d91 (by unfold door1; rw [decide_eq_true c1]; rfl)
    refine ⟨fun e => ?_, fun e => ?_⟩
    · unfold wpBX7_doors_32
      refine loop true ⟨fun _ => Or.inl ?_, fun _ => rfl⟩
      unfold encO at e
      by_cases c : drN T (rowM h) i = 0
      · exact c
      · rw [if_neg c] at e
        exact absurd e (nIm1 (by omega))
    · have c : drN T (rowM h) i ≠ 0 := fun h => e (by unfold encO; rw [if_pos h])
      have e2 : encO (drN T (rowM h) i) = nI (drN T (rowM h) i - 1) := if_neg c
      have p1 := pcN_le (drN T (rowM h) i - 1)
      have p2 := pcN_le i
      rw [e2]
      refine t_bitsOf q (t_bitsOf (by omega) ?_)
      rw [← e2]
      by_cases c3 : pcN i < pcN (drN T (rowM h) i - 1)
      · rw [if_neg (nI_ge c3 (by omega))]
        exact loop true ⟨fun _ => Or.inr c3, fun _ => rfl⟩
      · rw [if_pos (nI_le (by omega) (by omega))]
        exact loop false ⟨fun h => (by cases h), fun h => absurd h (fun h => h.elim c c3)⟩
end QM
