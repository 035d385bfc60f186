/-! 69.sf: safe on both sides -/
section S5
variable {T : TT} {hx h : Mem} {km : KM} {R : Nat → Int32}
theorem like_SRel {S S0 : Mem} (hT : TOK T) (hS : SRel T S R) : SRel T (likeM S0 S) R := by
  have h8 := hT.n8
  refine ⟨hS.1, hS.2.1, fun a b ha hb hab => ?_, fun b hb => ?_, fun p hp => ?_⟩
  · rw [← hS.2.2.1 a b ha hb hab]
    show va_cpy _ _ 0 0 64 (8 * a + b) = _
    unfold va_cpy
    rw [if_pos (by omega), show 0 + (8 * a + b - 0) = 8 * a + b by omega]
  · rw [← hS.2.2.2.1 b hb]
    show va_cpy _ _ 0 0 6 b = _
    unfold va_cpy
    rw [if_pos (by omega), show 0 + (b - 0) = b by omega]
  · rw [← hS.2.2.2.2 p hp]
    show va_cpy _ _ 0 0 8 p = _
    unfold va_cpy
    rw [if_pos (by omega), show 0 + (p - 0) = p by omega]
def okS1 (T : TT) (R : Nat → Int32) (c b : Nat) : Bool := !(cbB T R false b) || cbB T (fairR (T 0 0) (fun i => c.testBit i) R) false b
def okS (T : TT) (R : Nat → Int32) (c : Nat) : Bool := allB (okS1 T R c) (T 0 1)
def sf1 (T : TT) (R : Nat → Int32) (c : Nat) (x : Int32) : Int32 := if pcN c < 2 then x else if x = -1 ∨ bitc x < nI (pcN c) then (if okS T R c = true then nI c else x) else x
def sfI (T : TT) (R : Nat → Int32) (c : Nat) : Int32 := it (sf1 T R) c (-1)
theorem sfI_s (T : TT) (R : Nat → Int32) (c : Nat) : sfI T R (c + 1) = sf1 T R c (sfI T R c) := rfl
theorem sfI_v (T : TT) (R : Nat → Int32) (n : Nat) : ∀ c, c ≤ n → sfI T R c = -1 ∨ ∃ m, m < n ∧ sfI T R c = nI m := by
  intro c
  induction c with
  | zero => intro _; exact Or.inl rfl
  | succ c ih =>
    intro hc
    have g := ih (by omega)
    rw [sfI_s]
    unfold sf1
    by_cases c1 : pcN c < 2
    · rw [if_pos c1]; exact g
    rw [if_neg c1]
    by_cases c2 : sfI T R c = -1 ∨ bitc (sfI T R c) < nI (pcN c)
    · rw [if_pos c2]
      by_cases c3 : okS T R c = true
      · rw [if_pos c3]; exact Or.inr ⟨c, by omega, rfl⟩
      · rw [if_neg c3]; exact g
    · rw [if_neg c2]; exact g
theorem setR_cut (R : Nat → Int32) {a b : Nat} {v : Int32} (ha : a < 8) (hb : b < 8) (i : Nat) : setR R a b v (66 + i) = R (66 + i) := by
  unfold setR
  try dsimp only
  repeat rw [if_neg (by omega)]
theorem fairR_cut {n : Nat} (hn : n ≤ 8) (f : Nat → Bool) (R : Nat → Int32) (i : Nat) : fairR n f R (66 + i) = R (66 + i) := by
  refine it_rel (fun (R1 R2 : Nat → Int32) => R1 (66 + i) = R2 (66 + i)) (f := fairR2 n f) (g := fun _ R => R) rfl (fun a R1 R2 ha e => ?_) |>.trans ?_
  · refine Eq.trans ?_ e
    refine (it_rel (fun (R1 R2 : Nat → Int32) => R1 (66 + i) = R2 (66 + i)) (f := fairR1 f a) (g := fun _ R => R) (a := R1) (b := R1) (n := n - (a + 1)) rfl (fun k R3 R4 hk e => ?_)).trans ?_
    · unfold fairR1
      by_cases c : f a = true ∧ f (a + 1 + k) = true
      · rw [if_pos c]
        unfold meetR
        rw [setR_cut _ (by omega) (by omega)]
        exact e
      · rw [if_neg c]; exact e
    · have : ∀ m, it (fun (_ : Nat) (R : Nat → Int32) => R) m R1 = R1 := fun m => by
        induction m with
        | zero => rfl
        | succ m ih => exact ih
      rw [this]
  · have : ∀ m, it (fun (_ : Nat) (R : Nat → Int32) => R) m R = R := fun m => by
      induction m with
      | zero => rfl
      | succ m ih => exact ih
    rw [this]
theorem mN_ne0 {f : Nat → Bool} {n : Nat} : mN f n ≠ 0 ↔ ∃ i, i < n ∧ f i = true := by
  constructor
  · intro h
    apply Classical.byContradiction
    intro g
    apply h
    apply Nat.eq_of_testBit_eq
    intro w
    rw [mN_bit, Nat.zero_testBit]
    by_cases c : w < n
    · rw [decide_eq_true c, Bool.true_and]
      cases e : f w with
      | false => rfl
      | true => exact absurd ⟨w, c, e⟩ g
    · rw [decide_eq_false c, Bool.false_and]
  · rintro ⟨i, hi, e⟩ h
    have g := mN_bit f n i
    rw [h, Nat.zero_testBit, decide_eq_true hi, e] at g
    cases g
theorem andn_I : ∀ a, a < 64 → ∀ b, b < 64 → ((nI a &&& (nI b ^^^ (-1 : Int32))) = 0 ↔ a &&& b = a) := by decide +kernel
theorem okS_and (T : TT) (hT : TOK T) (R : Nat → Int32) (c : Nat) : ((nI (mN (cbB T R false) (T 0 1)) &&& (nI (mN (cbB T (fairR (T 0 0) (fun i => c.testBit i) R) false) (T 0 1)) ^^^ (-1 : Int32))) = 0) ↔ okS T R c = true := by
  have h6 := hT.n6
  have l1 := mN_lt (cbB T R false) (T 0 1)
  have l2 := mN_lt (cbB T (fairR (T 0 0) (fun i => c.testBit i) R) false) (T 0 1)
  have p6 : 2 ^ T 0 1 ≤ 64 := Nat.pow_le_pow_right (by decide) h6
  rw [andn_I _ (by omega) _ (by omega)]
  unfold okS
  rw [allB_t]
  constructor
  · intro e i hi
    have g := mN_bit (cbB T R false) (T 0 1) i
    rw [← e, Nat.testBit_and, mN_bit, mN_bit, decide_eq_true hi, Bool.true_and, Bool.true_and] at g
    unfold okS1
    cases e1 : cbB T R false i with
    | false => rfl
    | true =>
      rw [e1, Bool.true_and] at g
      rw [g]; rfl
  · intro e
    apply Nat.eq_of_testBit_eq
    intro w
    rw [Nat.testBit_and, mN_bit, mN_bit]
    by_cases c1 : w < T 0 1
    · have g := e w c1
      unfold okS1 at g
      rw [decide_eq_true c1, Bool.true_and, Bool.true_and]
      cases e1 : cbB T R false w with
      | false => rfl
      | true =>
        rw [e1] at g
        rw [show cbB T (fairR (T 0 0) (fun i => c.testBit i) R) false w = true from g]
        rfl
    · rw [decide_eq_false c1]; rfl
theorem c_safe (hT : TOK T) (hS : SRel T (sub hx 40) R) (hR : RowOK R) {post : Int32 → Mem → Prop} (hp : ∀ hx', (∀ k, k < 50 → hx' k = hx k) → post (sfI T R (2 ^ T 0 0)) hx') : wpX1_safe post hx T := by
  have h8 := hT.n8
  have h6 := hT.n6
  have p8 := p10 (show T 0 0 ≤ 10 by omega)
  unfold wpX1_safe
  refine LW_ix (τ := Mem × Nat) (fun t => (t.1, sfI T R t.2, nI t.2)) (fun t => t.2 ≤ 2 ^ T 0 0 ∧ ∀ k, k < 50 → t.1 k = hx k) (fun t => 2 ^ T 0 0 - t.2) (fun K t ht k => ?_) (hx, 0) ⟨Nat.zero_le _, fun k _ => rfl⟩
  obtain ⟨x, c⟩ := t
  obtain ⟨hc, hk⟩ := ht
  dsimp only at hc hk
  unfold wpBX1_safe_4 wpX1_people
  try dsimp only
  rw [sh1_I _ (by omega)]
  refine pk_le (2 ^ T 0 0) c (fun q => ?_) (fun q => ?_)
  · have e : c = 2 ^ T 0 0 := by omega
    subst e
    exact hp x hk
  have hpl := pcN_le c
  have nx : ∀ x', (∀ k, k < 50 → x' k = hx k) → K (x', sf1 T R c (sfI T R c), nI (c + 1)) := fun x' hk' => k (x', c + 1) ⟨q, hk'⟩ (by show 2 ^ T 0 0 - (c + 1) < 2 ^ T 0 0 - c; omega)
  unfold sf1 at nx
  rw [bitc_I c (by omega), nI_1]
  have c40 : (∀ x', (∀ k, k < 50 → x' k = hx k) → K (x', (if okS T R c = true then nI c else sfI T R c), nI (c + 1))) → wpBX1_safe_40 post T (fun h x1 x2 => K (h, x1, x2)) x (sfI T R c) (nI c) := by
    intro g
    unfold wpBX1_safe_40
    try dsimp only
    intro x6 e6
    have hS0 : SRel T (sub x 40) R := hS.of (fun k hk2 => hk (40 + k) (by omega))
    have hS6 : SRel T (sub x6 50) R := (like_SRel hT hS0).of (S := likeM (sub x 50) (sub x 40)) (fun k hk2 => by rw [e6]; exact sub_put _ _ _ hk2)
    have hf := fair_rel hT (f := fun i => c.testBit i) hS6 hR
    refine c_fair hT (by omega) (fun x8 e8 => ?_)
    have hk8 : ∀ k, k < 50 → x8 k = hx k := fun k hk2 => by rw [e8, put5_o (by omega), e6, put5_o (by omega)]; exact hk k hk2
    have hS8 : SRel T (sub x8 50) (fairR (T 0 0) (fun i => c.testBit i) R) := hf.1.of (fun k hk2 => by rw [e8]; exact sub_put _ _ _ hk2)
    have hS4 : SRel T (sub x8 40) R := hS.of (fun k hk2 => hk8 (40 + k) (by omega))
    refine LW_nat (fun i => ((if allB (okS1 T R c) i = true then (1 : Int32) else 0), nI i)) (T 0 1) (fun _ => True) rfl trivial (fun K2 i hi _ k2 => ?_)
    unfold wpBX1_safe_69 wpX1_loaves
    try dsimp only
    refine pk_le (T 0 1) i (fun q2 => ?_) (fun q2 => ?_)
    · have e : i = T 0 1 := by omega
      subst e
      have g := g x8 hk8
      rw [nI_1]
      unfold okS at g
      by_cases c3 : allB (okS1 T R c) (T 0 1) = true
      · rw [if_pos c3, if_neg (show ¬ (1 : Int32) = 0 by decide)]
        rw [if_pos c3] at g
        exact g
      · rw [if_neg c3, if_pos rfl]
        rw [if_neg c3] at g
        exact g
    · have k2 : K2 ((if allB (okS1 T R c) (i + 1) = true then (1 : Int32) else 0), nI (i + 1)) := k2 q2 trivial
      rw [allB_s] at k2
      unfold wpBX1_safe_133 wpBX1_safe_129
      rw [nI_1]
      by_cases c3 : allB (okS1 T R c) i = true
      · rw [c3, Bool.true_and] at k2
        rw [if_pos c3]
        refine ⟨fun e => absurd e (by decide), fun _ => ?_⟩
        rw [ixn (by omega)]
        have ec : x8 41 i = R (66 + i) := hS4.2.2.2.1 i (by omega)
        rw [ec]
        refine ⟨pk_in i 6 (by omega), fun c4 => ?_, fun c4 => ?_⟩
        · refine c_whoCan hT hS4 q2 ?_
          have hml := mN_lt (fun p => canB T R p i) (T 0 0)
          refine ⟨fun c5 => ?_, fun c5 => c_whoCan hT hS8 q2 ?_⟩
          · have c5 : mN (fun p => canB T R p i) (T 0 0) = 0 := (nI_eq (by omega) (by decide)).mp c5
            have o : okS1 T R c i = true := by
              unfold okS1 cbB
              rw [decide_eq_false (show ¬ mN (fun p => canB T R p i) (T 0 0) ≠ 0 from fun h => h c5), Bool.and_false]; rfl
            rw [o, if_pos rfl] at k2
            exact k2
          · have c5 : mN (fun p => canB T R p i) (T 0 0) ≠ 0 := fun h => c5 (by rw [h]; rfl)
            have hml2 := mN_lt (fun p => canB T (fairR (T 0 0) (fun i => c.testBit i) R) p i) (T 0 0)
            have o : okS1 T R c i = decide (mN (fun p => canB T (fairR (T 0 0) (fun i => c.testBit i) R) p i) (T 0 0) ≠ 0) := by
              unfold okS1 cbB
              rw [decide_eq_true c5, fairR_cut (by omega), decide_eq_true c4, Bool.or_true, Bool.true_and, Bool.true_and]; rfl
            rw [o] at k2
            by_cases c6 : mN (fun p => canB T (fairR (T 0 0) (fun i => c.testBit i) R) p i) (T 0 0) = 0
            · rw [if_neg (by rw [decide_eq_false (fun h => h c6)]; decide)] at k2
              rw [if_pos (by rw [c6]; rfl)]
              exact k2
            · rw [if_pos (decide_eq_true c6)] at k2
              rw [if_neg (show ¬ nI (mN (fun p => canB T (fairR (T 0 0) (fun i => c.testBit i) R) p i) (T 0 0)) = 0 from fun h => c6 ((nI_eq (by omega) (by decide)).mp h))]
              exact k2
        · have o : okS1 T R c i = true := by
            unfold okS1 cbB
            rw [decide_eq_false c4]; rfl
          rw [o, if_pos rfl] at k2
          exact k2
      · have c3' : allB (okS1 T R c) i = false := Bool.eq_false_iff.mpr c3
        rw [c3', Bool.false_and] at k2
        rw [if_neg c3]
        refine ⟨fun _ => k2, fun e => absurd rfl e⟩
  refine pk_lt (pcN c) 2 (fun c1 => ?_) (fun c1 => ?_)
  · rw [if_pos c1] at nx
    exact nx x hk
  · rw [if_neg (by omega)] at nx
    refine ⟨fun c2 => ?_, fun c2 => ⟨fun c3 => ?_, fun c3 => ?_⟩⟩
    · refine c40 ?_
      rw [if_pos (Or.inl c2)] at nx
      exact nx
    · refine c40 ?_
      rw [if_pos (Or.inr c3)] at nx
      exact nx
    · rw [if_neg (fun h => h.elim c2 c3)] at nx
      exact nx x hk
theorem rowM_z (h : Mem) {i : Nat} (hi : 80 ≤ i) : rowM h i = 0 := by
  unfold rowM
  rw [if_neg (by omega), if_neg (by omega), if_neg (by omega), if_neg (by omega), if_neg (by omega)]
theorem t_safe (hT : TOK T) (hM : TM T h) {Q : Int32 → Mem → Prop} (hQ : ∀ h', (∀ k, k ≠ 2 → k ≠ 13 → k ≠ 27 → k ≠ 28 → k ≠ 30 → k ≠ 31 → k ≠ 48 → h' k = h k) → rowM h' = rowM h → Q (sfI T (rowM h) (2 ^ T 0 0)) h') : wpX7_safe Q h := by
  have h8 := hT.n8
  have h6 := hT.n6
  have p8 := p10 (show T 0 0 ≤ 10 by omega)
  unfold wpX7_safe
  intro h1 e1
  have hM1 : TM T h1 := hM.of (fun k h1 h2 _ => by rw [e1, up2_other (by omega)])
  have hR1 : rowM h1 = rowM h := by rw [e1, eRow]
  refine t_cuttable (all := false) hT hM1 (t_pack (k := 48) (a := 0) ⟨by decide, by decide, by decide, by decide, by decide⟩ (by decide) (by decide) ?_)
  rw [hR1]
  refine LW_ix (τ := Mem × Nat) (fun t => (t.1, sfI T (rowM h) t.2, nI t.2)) (fun t => t.2 ≤ 2 ^ T 0 0 ∧ (∀ k, k ≠ 2 → k ≠ 13 → k ≠ 27 → k ≠ 28 → k ≠ 30 → k ≠ 31 → k ≠ 48 → t.1 k = h k) ∧ rowM t.1 = rowM h ∧ rowA (t.1 48) 0 = rowM h) (fun t => 2 ^ T 0 0 - t.2) (fun K t ht k => ?_) (packP h1 48 0 80, 0) ⟨Nat.zero_le _, fun k a _ _ _ _ _ b => ?_, ?_, ?_⟩
  rotate_left
  · show packP h1 48 0 80 k = h k
    rw [packP_o b, e1, up2_other a]
  · show rowM (packP h1 48 0 80) = rowM h
    rw [rowM_pack ⟨by decide, by decide, by decide, by decide, by decide⟩, hR1]
  · show rowA (packP h1 48 0 80 48) 0 = rowM h
    rw [rowA_pack, hR1]
  obtain ⟨x, c⟩ := t
  obtain ⟨hc, hk, hr, ha⟩ := ht
  dsimp only at hc hk hr ha
  have hMx : TM T x := hM.of (fun k h1 h2 h3 => hk k (by omega) (by omega) (by omega) (by omega) (by omega) (by omega) (by omega))
  unfold wpBX7_safe_24
  try dsimp only
  rw [hMx.n, sh1_I _ (by omega)]
  refine pk_le (2 ^ T 0 0) c (fun q => ?_) (fun q => ?_)
  · have e : c = 2 ^ T 0 0 := by omega
    subst e
    exact hQ x hk hr
  have hpl := pcN_le c
  have nx : ∀ x', (∀ k, k ≠ 2 → k ≠ 13 → k ≠ 27 → k ≠ 28 → k ≠ 30 → k ≠ 31 → k ≠ 48 → x' k = h k) → rowM x' = rowM h → rowA (x' 48) 0 = rowM h → K (x', sf1 T (rowM h) c (sfI T (rowM h) c), nI (c + 1)) := fun x' a b d => k (x', c + 1) ⟨q, a, b, d⟩ (by show 2 ^ T 0 0 - (c + 1) < 2 ^ T 0 0 - c; omega)
  unfold sf1 at nx
  have c63 : (∀ x', (∀ k, k ≠ 2 → k ≠ 13 → k ≠ 27 → k ≠ 28 → k ≠ 30 → k ≠ 31 → k ≠ 48 → x' k = h k) → rowM x' = rowM h → rowA (x' 48) 0 = rowM h → K (x', (if okS T (rowM h) c = true then nI c else sfI T (rowM h) c), nI (c + 1))) → wpBX7_safe_63 Q (fun h x2 x3 => K (h, x2, x3)) x (nI (mN (cbB T (rowM h) false) (T 0 1))) (sfI T (rowM h) c) (nI c) := by
    intro g
    unfold wpBX7_safe_63
    try dsimp only
    refine t_fairOf hT hMx.n (by omega) ?_
    have hM12 : TM T (fair7 (T 0 0) (fun i => c.testBit i) x) := hMx.of (fun k h1 h2 h3 => fair7_o h3)
    refine t_cuttable (all := false) hT hM12 ?_
    rw [rowM_fair (by omega), hr]
    unfold wpBX7_safe_82
    try dsimp only
    have e0 : unM (fair7 (T 0 0) (fun i => c.testBit i) x) 48 0 64 6 8 48 = x 48 := by rw [unM_o (by decide), fair7_o (by decide)]
    refine t_unpack (k := 48) (a := 0) ⟨by decide, by decide, by decide, by decide, by decide⟩ (by decide) (by decide) ?_
    have g := g (unM (fair7 (T 0 0) (fun i => c.testBit i) x) 48 0 64 6 8) (fun k a b d e f i j => by rw [unM_o ⟨f, i, b, d, e⟩, fair7_o b]; exact hk k a b d e f i j) (by rw [rowM_un, fair7_o (by decide)]; exact ha) (by rw [e0]; exact ha)
    rw [nI_1]
    by_cases c3 : okS T (rowM h) c = true
    · rw [if_pos ((okS_and T hT (rowM h) c).mpr c3)]
      rw [if_pos c3] at g
      exact g
    · rw [if_neg (fun h => c3 ((okS_and T hT _ c).mp h))]
      rw [if_neg c3] at g
      exact g
  refine t_bitsOf (by omega) ?_
  rw [nI_1]
  refine pk_lt (pcN c) 2 (fun c1 => ?_) (fun c1 => ?_)
  · rw [if_pos c1] at nx
    exact nx x hk hr ha
  · rw [if_neg (by omega)] at nx
    refine ⟨fun c2 => ?_, fun c2 => ?_⟩
    · refine c63 ?_
      rw [if_pos (Or.inl c2)] at nx
      exact nx
    · obtain ⟨m, hm, em⟩ := (sfI_v T (rowM h) c c (Nat.le_refl _)).resolve_left c2
      refine t_bitsOf (by omega) ?_
      rw [em]
      refine t_bitsOf (by omega) ?_
      rw [← bitc_I m (by omega), ← em]
      refine ⟨fun c3 => ?_, fun c3 => ?_⟩
      · refine c63 ?_
        rw [if_pos (Or.inr c3)] at nx
        exact nx
      · rw [if_neg (fun h => h.elim c2 c3)] at nx
        exact nx x hk hr ha
theorem s_safe {P : Int32 → Mem → Prop} (r : Rel T hx km h) (hP : ∀ v hx', LkN T (fun Q => wpX7_safe Q h) v hx' km → P v hx') : wpX1_safe P hx T := by
  refine c_safe r.T r.S r.R (fun hx' e => hP _ _ (fun Q hQ => t_safe r.T r.M (fun h' e7 eR => hQ _ ?_)))
  exact r.of2 (fun k hk => e k (by unfold rlX at hk; omega)) (fun k hk a b c d f => e7 k (by unfold rl7 at hk; omega) a b c d f (by unfold rl7 at hk; omega)) eR
end S5
