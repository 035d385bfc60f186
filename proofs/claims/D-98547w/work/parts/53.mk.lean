/-! 53.mk: the twin's readers answer as 51.sp says -/
section MK
variable {T : TT} {h : Mem}
theorem t_twinOf (hT : TOK T) (hM : TM T h) {post : Int32 → Prop} {p : Nat} (hp : p < T 0 0) (hq : post (twI T p)) : wpX7_twinOf post h (nI p) := by
  have h8 := hT.n8
  have h3 := hT.p hp
  unfold twI at hq
  rw [if_pos hp] at hq
  unfold wpX7_twinOf
  rw [ixn (by omega), hM.k hp, hM.n, nI_1, ixn (by omega)]
  refine ⟨pk_in p 16 (by omega), pk_eq (T 1 p) 3 (fun e => ?_) (fun e => ?_)⟩
  · have h4 := hT.tw hp e
    rw [if_pos e] at hq
    rw [show nI p - 1 = nI (p - 1) from pk_sub h4.1]
    exact hq
  · rw [if_neg e] at hq
    refine pk_le (T 0 0) (p + 1) (fun e2 => ?_) (fun e2 => ?_)
    · rw [if_neg (by omega)] at hq
      exact hq
    · have h5 := hT.p e2
      refine ⟨pk_in (p + 1) 16 (by omega), ?_⟩
      rw [hM.k e2]
      by_cases e3 : T 1 (p + 1) = 3
      · rw [if_pos ⟨e2, e3⟩] at hq
        rw [e3]
        exact hq
      · rw [if_neg (fun e4 => e3 e4.2)] at hq
        rw [if_neg (show ¬ nI (T 1 (p + 1)) = (3 : Int32) from fun e4 => e3 ((nI_eq (by omega) (by omega)).mp e4))]
        exact hq
theorem twI_8 (hT : TOK T) {p : Nat} (hp : p < T 0 0) (h1 : ¬ twI T p = -1) : ∃ q, q < T 0 0 ∧ twI T p = nI q ∧ q ≠ p ∧ twI T q = nI p := (twI_c hT hp).resolve_left h1
theorem t_lastDay (hT : TOK T) (hM : TM T h) {post : Int32 → Prop} {a b : Nat} (ha : a < T 0 0) (hb : b < T 0 0) (hq : post (lastD T (rowM h) a b)) : wpX7_lastDay post h (nI a) (nI b) := by
  have h8 := hT.n8
  have fin : ∀ x : Int32, x = ld2 T (rowM h) a b → ¬ twI T a = nI b → wpBX7_lastDay_79 post (nI a) (nI b) h x (twI T a) (twI T b) := by
    intro x ex hn
    unfold lastD at hq
    rw [if_neg hn] at hq
    unfold ld3 at hq
    rw [← ex] at hq
    unfold wpBX7_lastDay_79
    refine ⟨fun e => by rw [if_pos e] at hq; exact hq, fun e => ?_⟩
    rw [if_neg e] at hq
    refine ⟨fun e2 => by rw [if_pos e2] at hq; exact hq, fun e2 => ?_⟩
    rw [if_neg e2] at hq
    obtain ⟨c, hc, ec, _, _⟩ := twI_8 hT ha e
    obtain ⟨d, hd, ed, _, _⟩ := twI_8 hT hb e2
    rw [ec, ed] at hq ⊢
    unfold wpX7_couple
    rw [ixn (by omega), ixn (by omega), rowM_mdR h (by omega) (by omega)] at hq
    rw [e8, ixn (by omega)]
    exact ⟨pk_in (8 * c + d) 128 (by omega), hq⟩
  have fin2 : ∀ x : Int32, x = ld1 T (rowM h) a b → ¬ twI T a = nI b → wpBX7_lastDay_57 post (nI a) (nI b) h x (twI T a) (twI T b) := by
    intro x ex hn
    unfold wpBX7_lastDay_57
    refine ⟨fun e => fin x (by unfold ld2; rw [if_pos e, ex]) hn, fun e => ?_⟩
    obtain ⟨d, hd, ed, _, _⟩ := twI_8 hT hb e
    have e9 : ix ((8 : Int32) * nI a + twI T b) = 8 * a + d := by rw [ed, e8, ixn (by omega)]
    unfold wpX7_couple
    dsimp only
    rw [e9]
    refine ⟨by rw [ed, e8]; exact pk_in (8 * a + d) 128 (by omega), fin _ ?_ hn⟩
    unfold ld2
    rw [if_neg e, ex, ed, ixn (by omega), rowM_mdR h (by omega) (by omega)]
  unfold wpX7_lastDay
  show vp_in ((8 : Int32) * nI a + nI b) 128 ∧ _
  rw [e8, ixn (by omega)]
  refine ⟨pk_in (8 * a + b) 128 (by omega), t_twinOf hT hM ha (t_twinOf hT hM hb ⟨fun e => ?_, fun e => ⟨fun e2 => ?_, fun e2 => ?_⟩⟩)⟩
  · unfold lastD at hq
    rw [if_pos e] at hq
    exact hq
  · refine fin2 _ ?_ e
    unfold ld1
    rw [if_pos e2, rowM_mdR h (by omega) (by omega)]
  · obtain ⟨c, hc, ec, _, _⟩ := twI_8 hT ha e2
    have e9 : ix ((8 : Int32) * twI T a + nI b) = 8 * c + b := by rw [ec, e8, ixn (by omega)]
    unfold wpX7_couple
    dsimp only
    rw [e9]
    refine ⟨by rw [ec, e8]; exact pk_in (8 * c + b) 128 (by omega), fin2 _ ?_ e⟩
    unfold ld1
    rw [if_neg e2, ec, ixn (by omega), rowM_mdR h (by omega) (by omega), rowM_mdR h (by omega) (by omega)]
theorem t_isKnown (hT : TOK T) (hM : TM T h) {post : Bool → Prop} {a b : Nat} (ha : a < T 0 0) (hb : b < T 0 0) (hq : post (knB T (rowM h) a b)) : wpX7_isKnown post h (nI a) (nI b) := by
  have h8 := hT.n8
  have hpa := hT.p ha
  have hpb := hT.p hb
  unfold wpX7_isKnown
  unfold knB at hq
  refine pk_eq a b (fun e => ?_) (fun e => ?_)
  · rw [if_pos e] at hq; exact hq
  rw [if_neg e] at hq
  rw [ixn (by omega), ixn (by omega), hM.h ha, hM.h hb, hM.k ha, hM.1.2.2.1]
  refine ⟨pk_in a 16 (by omega), pk_in b 16 (by omega), pk_eq (T 2 a) (T 2 b) (fun e2 => ?_) (fun e2 => ?_)⟩
  · rw [if_pos e2] at hq; exact hq
  rw [if_neg e2] at hq
  refine t_twinOf hT hM ha ⟨fun e3 => ?_, fun e3 => ⟨pk_in a 16 (by omega), pk_eq (T 1 a) 2 (fun e4 => ?_) (fun e4 => ?_)⟩⟩
  · rw [if_pos e3] at hq; exact hq
  · rw [if_neg e3, if_pos e4] at hq; exact hq
  rw [if_neg e3, if_neg e4] at hq
  refine t_lastDay hT hM ha hb ⟨fun e5 => ?_, fun e5 => ?_⟩
  · rw [if_pos e5] at hq; exact hq
  rw [if_neg e5] at hq
  exact t_lastDay hT hM ha hb hq
theorem t_isOf {post : Bool → Prop} {m p : Nat} (hm : m < 1024) (hp : p < 10) (hq : post (m.testBit p)) : wpX7_isOf post h (nI m) (nI p) := by
  unfold wpX7_isOf
  cases e : m.testBit p with
  | true => rw [if_pos ((bit_I1 m hm p hp).mpr e)]; rw [e] at hq; exact hq
  | false =>
    rw [if_neg (fun e2 => by rw [(bit_I1 m hm p hp).mp e2] at e; cases e)]; rw [e] at hq; exact hq
/-- those who eat, as a mask -/
def eaN (T : TT) (b : Nat) : Nat → Nat
  | 0 => 0
  | n + 1 => eaN T b n ||| 2 ^ et T b n
theorem or_p : ∀ p, p < 8 → ∀ x, x < 256 → nI x ||| ((1 : Int32) <<< (nI p &&& 31)) = nI (x ||| 2 ^ p) ∧ x ||| 2 ^ p < 256 := by decide +kernel
theorem eaN_lt (hT : TOK T) {b n : Nat} (hb : b < T 0 1) (hn : n ≤ T 8 b) : eaN T b n < 256 := by
  have h8 := hT.n8
  induction n with
  | zero => show 0 < 256; omega
  | succ n ih =>
    have he : et T b n < T 0 0 := hT.e hb (by omega)
    exact (or_p (et T b n) (by omega) _ (ih (by omega))).2
theorem eaN_bit {b n p : Nat} : (eaN T b n).testBit p = anyB (fun i => decide (et T b i = p)) n := by
  induction n with
  | zero => exact Nat.zero_testBit p
  | succ n ih =>
    show (eaN T b n ||| 2 ^ et T b n).testBit p = (anyB _ n || _)
    rw [Nat.testBit_or, ih, Nat.testBit_two_pow]
theorem t_eatersOf (hT : TOK T) (hM : TM T h) {post : Int32 → Prop} {b : Nat} (hb : b < T 0 1) (hq : post (nI (eaN T b (T 8 b)))) : wpX7_eatersOf post h (nI b) := by
  have h8 := hT.n8
  have h6 := hT.n6
  have hl := hT.l hb
  unfold wpX7_eatersOf
  refine LW_nat (fun i => (nI (eaN T b i), nI i)) (T 8 b) (fun _ => True) rfl trivial (fun K i hi _ k => ?_)
  unfold wpBX7_eatersOf_4
  rw [ixn (by omega), hM.em hb, e6, ixn (by omega)]
  refine ⟨pk_in b 12 (by omega), pk_le (T 8 b) i (fun q => ?_) (fun q => ?_)⟩
  · have e : i = T 8 b := by omega
    subst e
    exact hq
  · have he : et T b i < T 0 0 := hT.e hb q
    rw [hM.e hb q, (or_p (et T b i) (by omega) _ (eaN_lt hT hb hi)).1, nI_1]
    exact ⟨pk_in (6 * b + i) 72 (by omega), k q trivial⟩
theorem eatB_eq (hT : TOK T) {p b : Nat} (hb : b < T 0 1) (hp : p < T 0 0) : eatB T p b = ((eaN T b (T 8 b)).testBit p || (if twI T p = -1 then false else (eaN T b (T 8 b)).testBit (ix (twI T p)))) := by
  have h8 := hT.n8
  rw [eaN_bit, Bool.eq_iff_iff, Bool.or_eq_true, anyB_t]
  unfold eatB
  rw [anyB_t]
  constructor
  · rintro ⟨i, hi, e⟩
    rw [Bool.or_eq_true] at e
    rcases e with e | e
    · exact Or.inl ⟨i, hi, e⟩
    · have e := of_decide_eq_true e
      have he : et T b i < T 0 0 := hT.e hb hi
      refine Or.inr ?_
      rw [if_neg (by rw [e]; exact nIm1 (by omega)), eaN_bit, e, ixn (by omega)]
      exact anyB_t.mpr ⟨i, hi, decide_eq_true rfl⟩
  · rintro (⟨i, hi, e⟩ | e)
    · exact ⟨i, hi, by rw [e]; rfl⟩
    · by_cases e1 : twI T p = -1
      · rw [if_pos e1] at e; cases e
      · rw [if_neg e1, eaN_bit] at e
        obtain ⟨q, hq, eq, _, _⟩ := twI_8 hT hp e1
        obtain ⟨i, hi, e⟩ := anyB_t.mp e
        have e := of_decide_eq_true e
        rw [eq, ixn (by omega)] at e
        refine ⟨i, hi, ?_⟩
        rw [show decide (twI T p = nI (et T b i)) = true from decide_eq_true (by rw [e]; exact eq)]
        simp
theorem t_eats (hT : TOK T) (hM : TM T h) {post : Bool → Prop} {p b : Nat} (hp : p < T 0 0) (hb : b < T 0 1) (hq : post (eatB T p b)) : wpX7_eats post h (nI p) (nI b) := by
  have h8 := hT.n8
  have hl := eaN_lt hT hb (Nat.le_refl (T 8 b))
  rw [eatB_eq hT hb hp] at hq
  unfold wpX7_eats
  refine t_eatersOf hT hM hb (t_isOf (by omega) (by omega) ⟨fun e => ?_, fun e => ?_⟩)
  · rw [e] at hq; exact hq
  · rw [Bool.eq_false_iff.mpr e, Bool.false_or] at hq
    refine t_twinOf hT hM hp ⟨fun e1 => by rw [if_pos e1] at hq; exact hq, fun e1 => ?_⟩
    rw [if_neg e1] at hq
    obtain ⟨q, h9, eq, _, _⟩ := twI_8 hT hp e1
    refine t_twinOf hT hM hp ?_
    rw [eq, ixn (by omega)] at hq
    rw [eq]
    refine t_isOf (by omega) (by omega) ?_
    cases e2 : (eaN T b (T 8 b)).testBit q <;> (rw [e2] at hq; exact hq)
theorem t_knowsEater (hT : TOK T) (hM : TM T h) {post : Bool → Prop} {p b : Nat} (hp : p < T 0 0) (hb : b < T 0 1) (hq : post (kneB T (rowM h) p b)) : wpX7_knowsEater post h (nI p) (nI b) := by
  have h8 := hT.n8
  have h6 := hT.n6
  have hl := hT.l hb
  unfold wpX7_knowsEater
  refine LW_nat (fun i => nI i) (T 8 b) (fun i => ∀ j, j < i → (decide (et T b j ≠ p) && knB T (rowM h) p (et T b j)) = false) rfl (fun j h => absurd h (Nat.not_lt_zero _)) (fun K i hi hI k => ?_)
  unfold wpBX7_knowsEater_2
  rw [ixn (by omega), hM.em hb, e6, ixn (by omega)]
  refine ⟨pk_in b 12 (by omega), pk_le (T 8 b) i (fun q => ?_) (fun q => ?_)⟩
  · rw [show kneB T (rowM h) p b = false from anyB_f.mpr (fun j hj => hI j (by omega))] at hq
    exact hq
  · have he : et T b i < T 0 0 := hT.e hb q
    have nx : (decide (et T b i ≠ p) && knB T (rowM h) p (et T b i)) = false → K (nI i + 1) := fun e => by
      rw [nI_1]
      refine k q (fun j hj => ?_)
      by_cases ej : j = i
      · subst ej; exact e
      · exact hI j (by omega)
    rw [hM.e hb q]
    refine ⟨pk_in (6 * b + i) 72 (by omega), pk_eq (et T b i) p (fun e => ?_) (fun e => ?_)⟩
    · exact nx (by rw [decide_eq_false (fun e2 => e2 e)]; rfl)
    · refine t_isKnown hT hM hp he ⟨fun e2 => ?_, fun e2 => ?_⟩
      · rw [show kneB T (rowM h) p b = true from anyB_t.mpr ⟨i, q, by rw [show knB T (rowM h) p (et T b i) = true from e2, decide_eq_true e]; rfl⟩] at hq
        exact hq
      · exact nx (by rw [Bool.eq_false_iff.mpr e2]; simp)
theorem t_mayNow (hT : TOK T) (hM : TM T h) {post : Int32 → Prop} {p b : Nat} (hp : p < T 0 0) (hb : b < T 0 1) (hq : post (mayI T (rowM h) p b)) : wpX7_mayNow post h (nI p) (nI b) := by
  have h8 := hT.n8
  have h6 := hT.n6
  have hl := hT.l hb
  have hlb := hM.2.2.1 b hb
  unfold wpX7_mayNow
  refine t_eats hT hM hp hb ⟨fun e => ?_, fun e => ?_⟩
  · unfold mayI whyI at hq
    rw [e] at hq
    exact hq
  · have eE : eatB T p b = false := Bool.eq_false_iff.mpr e
    refine LW_nat (fun i => nI i) (T 8 b) (fun i => ∀ j, j < i → ¬ T 2 p = T 2 (et T b j)) rfl (fun j h => absurd h (Nat.not_lt_zero _)) (fun K i hi hI k => ?_)
    unfold wpBX7_mayNow_13
    rw [ixn (by omega), hM.em hb, e6, ixn (by omega)]
    refine ⟨pk_in b 12 (by omega), pk_le (T 8 b) i (fun q => ?_) (fun q => ?_)⟩
    · have eH : houB T p b = false := anyB_f.mpr (fun j hj => decide_eq_false (hI j (by omega)))
      refine t_knowsEater hT hM hp hb ⟨fun e2 => ?_, fun e2 => ?_⟩
      · unfold mayI whyI at hq
        rw [eE, eH, e2] at hq
        exact hq
      · have e0 : whyI T (rowM h) p b = 0 := by
          unfold whyI
          rw [eE, eH, Bool.eq_false_iff.mpr e2]
          rfl
        unfold mayI at hq
        rw [e0, if_pos rfl] at hq
        have m5 : post (may5 T (rowM h) b) → wpBX7_mayNow_89 post (nI p) (nI b) h := by
          intro hq
          unfold may5 at hq
          rw [rowM_cut h (by omega)] at hq
          unfold wpBX7_mayNow_89
          rw [ixn (by omega), hlb.2.2.1, hlb.2.2.2.1]
          refine ⟨fun e => by rw [if_pos (show 0 < rowM h 0 from e)] at hq; exact hq, fun e => ⟨pk_in b 12 (by omega), pk_in b 12 (by omega), fun e2 => ?_, fun e2 => ?_⟩⟩
          · rw [if_neg (show ¬ 0 < rowM h 0 from e), if_pos (show rowM h 1 ≤ _ from e2)] at hq
            exact ⟨pk_in b 6 (by omega), hq⟩
          · rw [if_neg (show ¬ 0 < rowM h 0 from e), if_neg (show ¬ rowM h 1 ≤ _ from e2)] at hq
            exact hq
        rw [hlb.2.2.1]
        refine ⟨fun e3 => ⟨pk_in b 12 (by omega), fun e4 => ?_, fun e4 => ?_⟩, fun e3 => ?_⟩
        · rw [if_pos (show rowM h 0 = 0 from e3), if_pos (show _ ≤ rowM h 1 from e4)] at hq
          exact m5 hq
        · rw [if_pos (show rowM h 0 = 0 from e3), if_neg (show ¬ _ ≤ rowM h 1 from e4)] at hq
          exact hq
        · rw [if_neg (show ¬ rowM h 0 = 0 from e3)] at hq
          exact m5 hq
    · have he : et T b i < T 0 0 := hT.e hb q
      have h2p := hT.p hp
      have h2e := hT.p he
      rw [hM.e hb q, ixn (by omega), ixn (by omega), hM.h he, hM.h hp]
      refine ⟨pk_in (6 * b + i) 72 (by omega), pk_in (et T b i) 16 (by omega), pk_in p 16 (by omega), pk_eq (T 2 (et T b i)) (T 2 p) (fun e2 => ?_) (fun e2 => ?_)⟩
      · unfold mayI whyI at hq
        rw [eE, show houB T p b = true from anyB_t.mpr ⟨i, q, decide_eq_true e2.symm⟩] at hq
        exact hq
      · rw [nI_1]
        refine k q (fun j hj => ?_)
        by_cases ej : j = i
        · subst ej; exact fun e3 => e2 e3.symm
        · exact hI j (by omega)
theorem whyI_c (T : TT) (R : Nat → Int32) (p b : Nat) : whyI T R p b = 0 ∨ whyI T R p b = 1 ∨ whyI T R p b = 2 ∨ whyI T R p b = 3 := by
  unfold whyI
  split
  · exact Or.inr (Or.inl rfl)
  split
  · exact Or.inr (Or.inr (Or.inl rfl))
  split
  · exact Or.inr (Or.inr (Or.inr rfl))
  · exact Or.inl rfl
theorem may5_c (T : TT) (R : Nat → Int32) (b : Nat) : may5 T R b = 0 ∨ may5 T R b = 5 ∨ may5 T R b = 6 := by
  unfold may5
  split
  · exact Or.inr (Or.inl rfl)
  split
  · split
    · exact Or.inl rfl
    · exact Or.inr (Or.inr rfl)
  · exact Or.inr (Or.inl rfl)
theorem canB_may (T : TT) (R : Nat → Int32) (p b : Nat) : (if mayI T R p b = 0 then true else (if mayI T R p b ≤ (3 : Int32) then false else true)) = canB T R p b := by
  unfold canB mayI
  by_cases h0 : whyI T R p b = 0
  · rw [if_pos h0, decide_eq_true h0]
    split
    · split
      · rcases may5_c T R b with e | e | e <;> (rw [e]; decide)
      · decide
    · rcases may5_c T R b with e | e | e <;> (rw [e]; decide)
  · rw [if_neg h0, decide_eq_false h0]
    rcases whyI_c T R p b with e | e | e | e
    · exact absurd e h0
    all_goals (rw [e]; decide)
theorem t_canCut (hT : TOK T) (hM : TM T h) {post : Bool → Prop} {p b : Nat} (hp : p < T 0 0) (hb : b < T 0 1) (hq : post (canB T (rowM h) p b)) : wpX7_canCut post h (nI p) (nI b) := by
  unfold wpX7_canCut
  refine t_mayNow hT hM hp hb ?_
  rw [canB_may]
  exact hq
theorem t_cutters (hT : TOK T) (hM : TM T h) {post : Int32 → Prop} {b : Nat} (hb : b < T 0 1) (hq : post (nI (mN (fun p => canB T (rowM h) p b) (T 0 0)))) : wpX7_cutters post h (nI b) := by
  have h8 := hT.n8
  unfold wpX7_cutters
  refine LW_nat (fun i => (nI (mN (fun p => canB T (rowM h) p b) i), nI i)) (T 0 0) (fun _ => True) rfl trivial (fun K i hi _ k => ?_)
  unfold wpBX7_cutters_4
  rw [hM.n]
  refine pk_le (T 0 0) i (fun q => ?_) (fun q => ?_)
  · have e : i = T 0 0 := by omega
    subst e
    exact hq
  · refine t_canCut hT hM q hb ?_
    have k1 := k q trivial
    rw [← mN_Is (fun p => canB T (rowM h) p b) (by omega) q, ← nI_1] at k1
    exact k1
end MK
