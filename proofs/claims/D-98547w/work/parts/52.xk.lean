/-! 52.xk: the component's readers answer as 51.sp says -/
section XK
variable {T : TT} {S h : Mem} {R : Nat → Int32}
theorem c_house {post : Int32 → Prop} {a : Nat} (ha : a < T 0 0) (hp : post (nI (T 2 a))) : wpX2_house post h T (nI a) := ⟨a, rfl, ha, hp⟩
theorem c_knows (hT : TOK T) (hS : SRel T S R) {post : Bool → Prop} {a b : Nat} (ha : a < T 0 0) (hb : b < T 0 0) (hp : post (knB T R a b)) : wpX6_knows post S T (nI a) (nI b) := by
  have h8 := hT.n8
  have hpa := hT.p ha
  have hpb := hT.p hb
  unfold wpX6_knows
  unfold knB at hp
  refine pk_eq a b (fun e => ?_) (fun e => ?_)
  · rw [if_pos e] at hp; exact hp
  rw [if_neg e] at hp
  refine c_house ha (c_house hb ?_)
  refine pk_eq (T 2 a) (T 2 b) (fun e2 => ?_) (fun e2 => ?_)
  · rw [if_pos e2] at hp; exact hp
  rw [if_neg e2] at hp
  rw [ixn (by omega), e8, ixn (by omega), hS.2.2.1 a b ha hb e, hS.1]
  refine ⟨pk_in a 8 (by omega), fun e3 => ?_, fun e3 => ?_⟩
  · rw [if_pos e3] at hp; exact hp
  rw [if_neg e3] at hp
  refine ⟨pk_in (8 * a + b) 64 (by omega), a, rfl, ha, fun e4 => ?_, fun e4 => ?_⟩
  · rw [if_neg (by intro e5; rw [e5] at e4; exact absurd e4 (by decide))] at hp
    exact hp
  · rw [if_pos (by unfold kknows at e4; simpa using e4)] at hp
    exact hp
theorem c_isEater (hT : TOK T) {post : Bool → Prop} {b : Nat} {x : Int32} (hb : b < T 0 1) (hp : post (anyB (fun i => decide (nI (et T b i) = x)) (T 8 b))) : wpX10_isEater post h T b x := by
  have hl := hT.l hb
  unfold wpX10_isEater
  refine LW_nat (fun i => nI i) (T 8 b) (fun i => ∀ j, j < i → ¬ nI (et T b j) = x) rfl (fun j h => absurd h (Nat.not_lt_zero _)) (fun K i hi hI k => ?_)
  unfold wpBX10_isEater_2
  refine pk_le (T 8 b) i (fun q => ?_) (fun q => ?_)
  · rw [show anyB (fun i => decide (nI (et T b i) = x)) (T 8 b) = false from anyB_f.mpr (fun j hj => decide_eq_false (hI j (by omega)))] at hp
    exact hp
  · rw [ixn (by omega)]
    refine ⟨pk_in i (T 8 b) q, fun e => ?_, fun e => ?_⟩
    · rw [show anyB (fun i => decide (nI (et T b i) = x)) (T 8 b) = true from anyB_t.mpr ⟨i, q, decide_eq_true e⟩] at hp
      exact hp
    · rw [nI_1]
      refine k q (fun j hj => ?_)
      by_cases ej : j = i
      · subst ej; exact e
      · exact hI j (by omega)
theorem c_why (hT : TOK T) (hS : SRel T S R) {post : Int32 → Prop} {a b : Nat} (ha : a < T 0 0) (hb : b < T 0 1) (hp : post (whyI T R a b)) : wpX6_why post S T (nI a) b := by
  have h8 := hT.n8
  have hl := hT.l hb
  have loop : eatB T a b = false → ∃ n, wpLX6_why_36 post T (nI a) b S n (0 : Int32) := by
    intro hE
    unfold whyI at hp
    rw [hE, if_neg (by decide)] at hp
    refine LW_nat (fun i => nI i) (T 8 b) (fun i => ∀ j, j < i → ¬ T 2 a = T 2 (et T b j)) rfl (fun j h => absurd h (Nat.not_lt_zero _)) (fun K i hi hI k => ?_)
    unfold wpBX6_why_36
    refine pk_le (T 8 b) i (fun q => ?_) (fun q => ?_)
    · rw [if_neg (by rw [show houB T a b = false from anyB_f.mpr (fun j hj => decide_eq_false (hI j (by omega)))]; decide)] at hp
      refine LW_nat (fun i => nI i) (T 8 b) (fun i => ∀ j, j < i → knB T R a (et T b j) = false) rfl (fun j h => absurd h (Nat.not_lt_zero _)) (fun K i hi hI k => ?_)
      unfold wpBX6_why_76
      refine pk_le (T 8 b) i (fun q => ?_) (fun q => ?_)
      · rw [if_neg (by rw [show kneB T R a b = false from anyB_f.mpr (fun j hj => by rw [hI j (by omega)]; simp)]; decide)] at hp
        exact hp
      · have he := hT.e hb q
        rw [ixn (by omega)]
        refine ⟨pk_in i (T 8 b) q, c_knows hT hS ha he ⟨fun e => ?_, fun e => ?_⟩⟩
        · rw [if_pos (show kneB T R a b = true from anyB_t.mpr ⟨i, q, by rw [show knB T R a (et T b i) = true from e, decide_eq_true (et_ne hT hE q)]; rfl⟩)] at hp
          exact hp
        · rw [nI_1]
          refine k q (fun j hj => ?_)
          by_cases ej : j = i
          · subst ej; exact Bool.eq_false_iff.mpr e
          · exact hI j (by omega)
    · have he := hT.e hb q
      have h2a := hT.p ha
      have h2e := hT.p he
      rw [ixn (by omega)]
      refine c_house ha ⟨pk_in i (T 8 b) q, c_house he ?_⟩
      refine pk_eq (T 2 a) (T 2 (T 9 (6 * b + i))) (fun e => ?_) (fun e => ?_)
      · rw [if_pos (show houB T a b = true from anyB_t.mpr ⟨i, q, decide_eq_true e⟩)] at hp
        exact hp
      · rw [nI_1]
        refine k q (fun j hj => ?_)
        by_cases ej : j = i
        · subst ej; exact e
        · exact hI j (by omega)
  have eat1 : eatB T a b = true → post 1 := by
    intro hE
    unfold whyI at hp
    rw [if_pos hE] at hp
    exact hp
  have hin : ∀ i, i < T 8 b → (nI (et T b i) = nI a ↔ et T b i = a) := fun i hi => by
    have he := hT.e hb hi
    exact nI_eq (by unfold et; omega) (by omega)
  unfold wpX6_why
  refine c_isEater hT hb ⟨fun e => ?_, fun e => ?_⟩
  · obtain ⟨i, hi, e⟩ := anyB_t.mp e
    refine eat1 (anyB_t.mpr ⟨i, hi, ?_⟩)
    rw [decide_eq_true ((hin i hi).mp (of_decide_eq_true e))]
    rfl
  · have e1 : ∀ i, i < T 8 b → et T b i ≠ a := fun i hi e2 => e (anyB_t.mpr ⟨i, hi, decide_eq_true ((hin i hi).mpr e2)⟩)
    rw [ixn (by omega)]
    refine ⟨pk_in a 8 (by omega), fun e2 => ?_, fun e2 => ?_⟩
    · refine loop (anyB_f.mpr (fun i hi => ?_))
      rw [decide_eq_false (e1 i hi), decide_eq_false (by rw [e2]; intro e3; exact nIm1 (by have := hT.e hb hi; unfold et; omega) e3.symm)]
      rfl
    · refine c_isEater hT hb ⟨fun e => ?_, fun e => ?_⟩
      · obtain ⟨i, hi, e⟩ := anyB_t.mp e
        refine eat1 (anyB_t.mpr ⟨i, hi, ?_⟩)
        rw [decide_eq_true (of_decide_eq_true e).symm]
        simp
      · refine loop (anyB_f.mpr (fun i hi => ?_))
        rw [decide_eq_false (e1 i hi), decide_eq_false (fun e3 => e (anyB_t.mpr ⟨i, hi, decide_eq_true e3.symm⟩))]
        rfl
theorem c_may (hT : TOK T) (hS : SRel T S R) {post : Int32 → Prop} {a b : Nat} (ha : a < T 0 0) (hb : b < T 0 1) (hp : post (mayI T R a b)) : wpX6_may post S T (nI a) (nI b) := by
  have h8 := hT.n8
  have h6 := hT.n6
  unfold wpX6_may
  refine ⟨b, rfl, hb, c_why hT hS ha hb ?_⟩
  have m5 : post (may5 T R b) → wpBX6_may_52 post T (nI a) (nI b) S b := by
    intro hp
    unfold wpBX6_may_52
    unfold may5 at hp
    rw [hS.1, hS.2.1, ixn (by omega), hS.2.2.2.1 b (by omega)]
    refine ⟨fun e => by rw [if_pos e] at hp; exact hp, fun e => ?_⟩
    rw [if_neg e] at hp
    refine ⟨fun e => ?_, fun e => by rw [if_neg e] at hp; exact hp⟩
    rw [if_pos e] at hp
    exact ⟨pk_in b 6 (by omega), hp⟩
  unfold mayI at hp
  refine ⟨fun e => ?_, fun e => by rw [if_neg e] at hp; exact hp⟩
  rw [if_pos e] at hp
  rw [hS.1, hS.2.1]
  refine ⟨fun e => ?_, fun e => by rw [if_neg e] at hp; exact m5 hp⟩
  rw [if_pos e] at hp
  exact ⟨fun e => by rw [if_pos e] at hp; exact m5 hp, fun e => by rw [if_neg e] at hp; exact hp⟩
theorem c_whoCan (hT : TOK T) (hS : SRel T S R) {post : Int32 → Prop} {b : Nat} (hb : b < T 0 1) (hp : post (nI (mN (fun p => canB T R p b) (T 0 0)))) : wpX6_whoCan post S T (nI b) := by
  have h8 := hT.n8
  unfold wpX6_whoCan
  refine LW_nat (fun i => (nI (mN (fun p => canB T R p b) i), nI i)) (T 0 0) (fun _ => True) rfl trivial (fun K i hi _ k => ?_)
  unfold wpBX6_whoCan_5
  refine pk_le (T 0 0) i (fun q => ?_) (fun q => ?_)
  · have e : i = T 0 0 := by omega
    subst e
    exact hp
  · refine ⟨b, rfl, hb, c_why hT hS q hb ?_⟩
    have k1 := k q trivial
    rw [← mN_Is (fun p => canB T R p b) (by omega) q, ← nI_1] at k1
    have e : (if whyI T R i b = 0 then nI (mN (fun p => canB T R p b) i) ||| ((1 : Int32) <<< (nI i &&& 31)) else nI (mN (fun p => canB T R p b) i)) = (if (fun p => canB T R p b) i = true then nI (mN (fun p => canB T R p b) i) ||| ((1 : Int32) <<< (nI i &&& 31)) else nI (mN (fun p => canB T R p b) i)) := by
      by_cases c : whyI T R i b = 0
      · rw [if_pos c, if_pos (by show canB T R i b = true; exact decide_eq_true c)]
      · rw [if_neg c, if_neg (by show ¬ canB T R i b = true; rw [show canB T R i b = false from decide_eq_false c]; decide)]
    show K (if whyI T R i b = 0 then _ else _, _)
    rw [e]
    exact k1
def bkB (T : TT) (R : Nat → Int32) (a b : Nat) : Bool := knB T R a b && knB T R b a
end XK
