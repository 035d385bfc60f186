/-! 71.sl: see, balk, slice: on both sides -/
section S7
variable {T : TT} {hx h : Mem} {km : KM} {o : Int64}
theorem in_m1 {x : Int32} {n : Nat} (hn : n ≤ 1000) : ((-1 : Int32) ≤ x ∧ x ≤ nI n - (1 : Int32)) ↔ (¬ x < -1 ∧ ¬ nI n ≤ x) := by
  have e : (nI n - (1 : Int32)).toInt = (n : Int) - 1 := by
    rw [show (1 : Int32) = nI 1 from rfl]
    exact pk_sub_toInt (by omega) (by decide)
  rw [le_II, le_II, lt_II, le_II, e, nI_toInt (by omega)]
  have z : (-1 : Int32).toInt = -1 := rfl
  rw [z]
  omega
theorem in_0 {x : Int32} {n : Nat} (hn : n ≤ 1000) : ((0 : Int32) ≤ x ∧ x ≤ nI n - (1 : Int32)) ↔ (¬ x < 0 ∧ ¬ nI n ≤ x) := by
  have e : (nI n - (1 : Int32)).toInt = (n : Int) - 1 := by
    rw [show (1 : Int32) = nI 1 from rfl]
    exact pk_sub_toInt (by omega) (by decide)
  rw [le_II, le_II, lt_II, le_II, e, nI_toInt (by omega)]
  have z : (0 : Int32).toInt = 0 := rfl
  rw [z]
  omega
/-- a number in range -/
theorem in_k {x : Int32} {n : Nat} (h1 : ¬ x < 0) (h2 : ¬ nI n ≤ x) (hn : n ≤ 1000) : ∃ i, i < n ∧ x = nI i := by
  rw [lt_II] at h1
  rw [le_II, nI_toInt (by omega)] at h2
  have z : (0 : Int32).toInt = 0 := rfl
  rw [z] at h1
  obtain ⟨j, hj, ej⟩ := nI_of (x := x) (by rw [lt_II, z]; exact h1)
  refine ⟨j, ?_, ej⟩
  rw [ej, nI_toInt hj] at h2
  omega
theorem s_balk {P : LPT} {a1 a2 : Int32} (r : Rel T hx km h) (hP : ∀ k v hx', LkI T (fun Q => wpX7_balk Q h a1 a2) k v hx' km → P k v hx' km) : wpX0_balk P T hx km o a1 a2 := by
  have hT := r.T
  have h8 := hT.n8
  have h6 := hT.n6
  have r1 := r.c 0
  have r2 := r1.c 1
  have hM1 : TM T (up2 h 2 0 0) := r1.M
  have bad1 : (∀ p, p < T 0 0 → ¬ a1 = nI p) → P 1 o hx km := fun c => hP 1 _ _ (fun Q hQ => by
    unfold wpX7_balk wpBX7_balk_21
    intro h1 e1
    subst e1
    exact t_isPerson hT hM1 (fun p hp e => absurd e (c p hp)) (fun _ => bo_f rfl (t_fail (hQ _ _ r2 (code_at _ 1) (fun h => absurd h (by decide))))))
  have bad2 : ∀ q, q < T 0 0 → a1 = nI q → (∀ p, p < T 0 1 → ¬ a2 = nI p) → P 1 o hx km := fun q hq eq c => hP 1 _ _ (fun Q hQ => by
    unfold wpX7_balk wpBX7_balk_21
    intro h1 e1
    subst e1
    exact t_isPerson hT hM1 (fun _ _ _ => bo_t rfl (t_isLoaf hT hM1 (fun p hp e => absurd e (c p hp)) (fun _ => bo_f rfl (t_fail (hQ _ _ r2 (code_at _ 1) (fun h => absurd h (by decide))))))) (fun c9 => absurd eq (c9 q hq)))
  unfold wpX0_balk wpX1_balk
  refine ⟨fun p hp ep => ⟨fun b hb eb => ?_, fun c => ⟨rfl, bad2 p hp ep c⟩⟩, fun c => ⟨rfl, bad1 c⟩⟩
  subst ep eb
  clear bad1 bad2
  have r4 := r1.2.1
  obtain ⟨b1, b2, b3, ⟨q, hq, g30, hba, h25⟩, b5⟩ := r4
  rw [g30]
  refine pk_eq q 4 (fun e => ?_) (fun e => ?_)
  · refine c_refuses (w := 2) (by omega) (hP 0 _ _ (fun Q hQ => ?_))
    unfold wpX7_balk
    intro h1 e1
    subst e1
    refine t_isPerson hT hM1 (fun _ _ _ => bo_t rfl (t_isLoaf hT hM1 (fun _ _ _ => bo_t rfl ?_) (fun c => absurd rfl (c b hb)))) (fun c => absurd rfl (c p hp))
    rw [hba, e]
    refine sw_t rfl (t_refuse (w := 2) (by omega) (hQ _ _ (r1.refuse (w := 2) (by omega)) ?_ (fun _ => rfl)))
    rw [up2_other (by decide)]
    exact code_at h 0
  · rw [ixn (by omega)]
    refine ⟨pk_in q 4 (by omega), fun h5 e5 => ⟨pk_in q 4 (by omega), fun h7 e7 h8' e8 => hP 0 _ _ (fun Q hQ => ?_)⟩⟩
    unfold wpX7_balk
    intro h1 e1
    subst e1
    refine t_isPerson hT hM1 (fun _ _ _ => bo_t rfl (t_isLoaf hT hM1 (fun _ _ _ => bo_t rfl ?_) (fun c => absurd rfl (c b hb)))) (fun c => absurd rfl (c p hp))
    have o2 : ∀ k, k ≠ 54 → k ≠ 55 → k ≠ 34 → ∀ v1 v2 v3, up2 (up2 (up2 (up2 h 2 0 0) 54 q v1) 55 q v2) 34 0 v3 k = up2 h 2 0 0 k := fun k a b c v1 v2 v3 => by rw [up2_other c, up2_other b, up2_other a]
    refine sw_f (by rw [hba]; exact fun h => e ((nI_eq (by omega) (by decide)).mp h)) ?_
    rw [hba, ixn (by omega)]
    refine ⟨pk_in q 4 (by omega), fun h12 e12 => ?_⟩
    have e34 : h12 34 0 = nI q := by rw [e12, up2_other (by decide)]; exact hba
    rw [e34, ixn (by omega)]
    refine ⟨pk_in q 4 (by omega), fun h14 e14 h15 e15 => ?_⟩
    have f34 : h14 34 0 = nI q := by rw [e14, up2_other (by decide)]; exact e34
    have f30 : h7 30 0 = nI q := by rw [e7, up2_other (by decide), e5, up2_other (by decide)]; exact g30
    rw [f34, nI_1] at e15
    rw [f30, nI_1] at e8
    have i8 : h8' 30 0 = nI (q + 1) := by rw [e8, up2_at]
    have i15 : h15 34 0 = nI (q + 1) := by rw [e15, up2_at]
    have ox : ∀ k, k ≠ 25 → k ≠ 26 → k ≠ 30 → h8' k = hx k := fun k a b c => by rw [e8, up2_other c, e7, up2_other b, e5, up2_other a]
    have o7 : ∀ k, k ≠ 54 → k ≠ 55 → k ≠ 34 → h15 k = up2 h 2 0 0 k := fun k a b c => by rw [e15, up2_other c, e14, up2_other b, e12, up2_other a]
    rw [i15]
    refine hQ _ _ ?_ (by rw [o7 2 (by decide) (by decide) (by decide)]; exact code_at h 0) (fun _ => by rw [i8])
    have m1 : ∀ j, j < q + 1 → h8' 25 j = h15 54 j ∧ h8' 26 j = h15 55 j ∧ ∃ p b : Nat, p < T 0 0 ∧ b < T 0 1 ∧ h15 54 j = nI p ∧ h15 55 j = nI b := fun j hj => by
      rw [e8, up2_other (show (25 : Nat) ≠ 30 by decide), up2_other (show (26 : Nat) ≠ 30 by decide), e15, up2_other (show (54 : Nat) ≠ 34 by decide), up2_other (show (55 : Nat) ≠ 34 by decide), e7, e14, up2_other (show (25 : Nat) ≠ 26 by decide), up2_other (show (54 : Nat) ≠ 55 by decide), e5, e12]
      by_cases ej : j = q
      · rw [ej, up2_at, up2_at, up2_at, up2_at]
        exact ⟨rfl, rfl, p, b, hp, hb, rfl, rfl⟩
      · rw [up2_ne _ _ _ ej, up2_ne _ _ _ ej, up2_ne _ _ _ ej, up2_ne _ _ _ ej, up2_other (show (26 : Nat) ≠ 25 by decide), up2_other (show (55 : Nat) ≠ 54 by decide)]
        exact h25 j (by omega)
    have eR : rowM h15 = rowM (up2 h 2 0 0) := rowM_of (fun k hk => o7 k (by omega) (by omega) (by omega))
    refine r1.bk rfl (fun k hk => ox k (by omega) (by omega) (by omega)) (fun k hk => o7 k (by omega) (by omega) (by omega)) ?_
    rw [eR, o7 29 (by decide) (by decide) (by decide), o7 32 (by decide) (by decide) (by decide), o7 33 (by decide) (by decide) (by decide), o7 51 (by decide) (by decide) (by decide), o7 52 (by decide) (by decide) (by decide), o7 53 (by decide) (by decide) (by decide), o7 15 (by decide) (by decide) (by decide)]
    unfold BRel
    rw [ox 28 (by decide) (by decide) (by decide), ox 29 (by decide) (by decide) (by decide), ox 22 (by decide) (by decide) (by decide), ox 23 (by decide) (by decide) (by decide), ox 24 (by decide) (by decide) (by decide), ox 27 (by decide) (by decide) (by decide)]
    exact ⟨⟨b1.1.of (fun k hk => ox (40 + k) (by omega) (by omega) (by omega)), b1.2⟩, b2, b3, ⟨q + 1, by omega, i8, i15, m1⟩, b5⟩
theorem s_see {P : LPT} {a1 a2 a3 : Int32} (r : Rel T hx km h) (hP : ∀ k v hx', LkI T (fun Q => wpX7_see Q h a1 a2 a3) k v hx' km → P k v hx' km) : wpX0_see P T hx km o a1 a2 a3 := by
  have hT := r.T
  have h8 := hT.n8
  have h6 := hT.n6
  have r1 := r.c 0
  have r2 := r1.c 1
  have hM1 : TM T (up2 h 2 0 0) := r1.M
  have bad1 : (∀ p, p < T 0 1 → ¬ a1 = nI p) → P 1 o hx km := fun c => hP 1 _ _ (fun Q hQ => by
    unfold wpX7_see
    intro h1 e1
    subst e1
    exact t_isLoaf hT hM1 (fun p hp e => absurd e (c p hp)) (fun _ => bo_f rfl (t_fail (hQ _ _ r2 (code_at _ 1) (fun h => absurd h (by decide))))))
  unfold wpX0_see wpX1_see
  refine ⟨fun b hb eb => ?_, fun c => ⟨rfl, bad1 c⟩⟩
  subst eb
  clear bad1
  have hl := hT.l hb
  have r4 := r1.2.1
  obtain ⟨b1, b2, ⟨s, hs, g29, hse, h22⟩, b4, b5⟩ := r4
  -- the twin, up to its choice
  have tw : ∀ Q : Int32 → Mem → Prop, ((s = 6 ∨ a2 < 0 ∨ nI (T 8 b) ≤ a2 ∨ ¬ (0 ≤ a3 ∧ a3 ≤ 999) → Q (-1) (up2 (up2 h 2 0 0) 15 2 (up2 h 2 0 0 15 2 + 1))) ∧ (s ≠ 6 ∧ ¬ a2 < 0 ∧ ¬ nI (T 8 b) ≤ a2 ∧ (0 ≤ a3 ∧ a3 ≤ 999) → Q (nI (s + 1)) (up2 (up2 (up2 (up2 (up2 h 2 0 0) 51 s (nI b)) 52 s a2) 53 s a3) 33 0 (nI (s + 1))))) → wpX7_see Q h (nI b) a2 a3 := by
    intro Q hQ
    unfold wpX7_see wpBX7_see_58
    intro h1 e1
    subst e1
    have h11 : up2 h 2 0 0 11 b = nI (T 8 b) := (hM1.2.2.1 b hb).2.2.2.2
    refine t_isLoaf hT hM1 (fun _ _ _ => bo_t rfl ?_) (fun c => absurd rfl (c b hb))
    rw [hse, show ix (nI b) = b from ixn (by omega), h11]
    refine pk_eq s 6 (fun e => t_refuse (w := 2) (by omega) (hQ.1 (Or.inl e))) (fun e => ⟨pk_in b 12 (by omega), ?_⟩)
    refine t_isInL (a := 0) (b := nI (T 8 b) - 1) rfl rfl ?_
    rw [decide_eq_decide.mpr (in_0 (x := a2) (n := T 8 b) (by omega))]
    by_cases c1 : ¬ a2 < 0 ∧ ¬ nI (T 8 b) ≤ a2
    · refine bo_t (decide_eq_true c1) (t_isInL (a := 0) (b := 999) rfl rfl ?_)
      by_cases c2 : 0 ≤ a3 ∧ a3 ≤ 999
      · refine bo_t (decide_eq_true c2) ?_
        rw [ixn (by omega)]
        refine ⟨pk_in s 6 (by omega), fun h16 e16 => ?_⟩
        have f1 : h16 33 0 = nI s := by rw [e16, up2_other (by decide)]; exact hse
        rw [f1, ixn (by omega)]
        refine ⟨pk_in s 6 (by omega), fun h18 e18 => ?_⟩
        have f2 : h18 33 0 = nI s := by rw [e18, up2_other (by decide)]; exact f1
        rw [f2, ixn (by omega)]
        refine ⟨pk_in s 6 (by omega), fun h20 e20 h21 e21 => ?_⟩
        have f3 : h20 33 0 = nI s := by rw [e20, up2_other (by decide)]; exact f2
        rw [f3, nI_1] at e21
        have g := hQ.2 ⟨e, c1.1, c1.2, c2⟩
        rw [← e16, ← e18, ← e20, ← e21] at g
        rw [show h21 33 0 = nI (s + 1) by rw [e21, up2_at]]
        exact g
      · exact bo_f (decide_eq_false c2) (t_refuse (w := 2) (by omega) (hQ.1 (Or.inr (Or.inr (Or.inr c2)))))
    · refine bo_f (decide_eq_false c1) (t_refuse (w := 2) (by omega) (hQ.1 (Or.inr ?_)))
      by_cases c3 : a2 < 0
      · exact Or.inl c3
      · exact Or.inr (Or.inl (Classical.byContradiction (fun h => c1 ⟨c3, h⟩)))
  have no : s = 6 ∨ a2 < 0 ∨ nI (T 8 b) ≤ a2 ∨ ¬ (0 ≤ a3 ∧ a3 ≤ 999) → wpBX1_see_48 (fun r h' => P 0 r.toInt64 h' km) T (fun j => (j = 0 ∧ P 1 o hx km)) (nI b) a2 a3 hx := fun c => by
    unfold wpBX1_see_48
    refine c_refuses (w := 2) (by omega) (hP 0 _ _ (fun Q hQ => tw Q ⟨fun _ => hQ _ _ (r1.refuse (w := 2) (by omega)) (by rw [up2_other (by decide)]; exact code_at h 0) (fun _ => rfl), fun g => ?_⟩))
    rcases c with e | e | e | e
    · exact absurd e g.1
    · exact absurd e g.2.1
    · exact absurd e g.2.2.1
    · exact absurd g.2.2.2 e
  rw [g29]
  refine pk_eq s 6 (fun e => no (Or.inl e)) (fun e => ⟨fun c => no (Or.inr (Or.inl c)), fun c1 => ⟨fun c => no (Or.inr (Or.inr (Or.inl c))), fun c2 => c_within ?_⟩⟩)
  by_cases c3 : 0 ≤ a3 ∧ a3 ≤ 999
  · refine bo_t (decide_eq_true c3) ?_
    rw [ixn (by omega)]
    refine ⟨pk_in s 6 (by omega), fun h10 e10 => ⟨pk_in s 6 (by omega), fun h12 e12 => ⟨pk_in s 6 (by omega), fun h14 e14 h15' e15 => hP 0 _ _ (fun Q hQ => tw Q ⟨fun g => ?_, fun _ => ?_⟩)⟩⟩⟩
    · rcases g with e9 | e9 | e9 | e9
      · exact absurd e9 e
      · exact absurd e9 c1
      · exact absurd e9 c2
      · exact absurd c3 e9
    have f29 : h14 29 0 = nI s := by rw [e14, up2_other (by decide), e12, up2_other (by decide), e10, up2_other (by decide)]; exact g29
    rw [f29, nI_1] at e15
    have i15 : h15' 29 0 = nI (s + 1) := by rw [e15, up2_at]
    generalize eh : up2 (up2 (up2 (up2 (up2 h 2 0 0) 51 s (nI b)) 52 s a2) 53 s a3) 33 0 (nI (s + 1)) = h7 at hQ ⊢
    have i7 : h7 33 0 = nI (s + 1) := by rw [← eh, up2_at]
    have ox : ∀ k, k ≠ 22 → k ≠ 23 → k ≠ 24 → k ≠ 29 → h15' k = hx k := fun k a b c d => by rw [e15, up2_other d, e14, up2_other c, e12, up2_other b, e10, up2_other a]
    have o7 : ∀ k, k ≠ 51 → k ≠ 52 → k ≠ 53 → k ≠ 33 → h7 k = up2 h 2 0 0 k := fun k a b c d => by rw [← eh, up2_other d, up2_other c, up2_other b, up2_other a]
    refine hQ _ _ ?_ (by rw [o7 2 (by decide) (by decide) (by decide) (by decide)]; exact code_at h 0) (fun _ => by rw [i15])
    obtain ⟨i, hi, ei⟩ := in_k c1 c2 (by omega)
    have m1 : ∀ j, j < s + 1 → h15' 22 j = h7 51 j ∧ h15' 23 j = h7 52 j ∧ h15' 24 j = h7 53 j ∧ ∃ b i : Nat, b < T 0 1 ∧ i < T 8 b ∧ h7 51 j = nI b ∧ h7 52 j = nI i := fun j hj => by
      rw [e15, up2_other (show (22 : Nat) ≠ 29 by decide), up2_other (show (23 : Nat) ≠ 29 by decide), up2_other (show (24 : Nat) ≠ 29 by decide), ← eh, up2_other (show (51 : Nat) ≠ 33 by decide), up2_other (show (52 : Nat) ≠ 33 by decide), up2_other (show (53 : Nat) ≠ 33 by decide), e14, e12, e10]
      rw [up2_other (show (22 : Nat) ≠ 24 by decide), up2_other (show (22 : Nat) ≠ 23 by decide), up2_other (show (23 : Nat) ≠ 24 by decide), up2_other (show (51 : Nat) ≠ 53 by decide), up2_other (show (51 : Nat) ≠ 52 by decide), up2_other (show (52 : Nat) ≠ 53 by decide)]
      by_cases ej : j = s
      · rw [ej, up2_at, up2_at, up2_at, up2_at, up2_at, up2_at]
        exact ⟨rfl, rfl, rfl, b, i, hb, hi, rfl, ei⟩
      · rw [up2_ne _ _ _ ej, up2_ne _ _ _ ej, up2_ne _ _ _ ej, up2_ne _ _ _ ej, up2_ne _ _ _ ej, up2_ne _ _ _ ej, up2_other (show (23 : Nat) ≠ 22 by decide), up2_other (show (24 : Nat) ≠ 23 by decide), up2_other (show (24 : Nat) ≠ 22 by decide), up2_other (show (52 : Nat) ≠ 51 by decide), up2_other (show (53 : Nat) ≠ 52 by decide), up2_other (show (53 : Nat) ≠ 51 by decide)]
        exact h22 j (by omega)
    have eR : rowM h7 = rowM (up2 h 2 0 0) := rowM_of (fun k hk => o7 k (by omega) (by omega) (by omega) (by omega))
    refine r1.bk rfl (fun k hk => ox k (by omega) (by omega) (by omega) (by omega)) (fun k hk => o7 k (by omega) (by omega) (by omega) (by omega)) ?_
    rw [eR, o7 29 (by decide) (by decide) (by decide) (by decide), o7 32 (by decide) (by decide) (by decide) (by decide), o7 34 (by decide) (by decide) (by decide) (by decide), o7 54 (by decide) (by decide) (by decide) (by decide), o7 55 (by decide) (by decide) (by decide) (by decide), o7 15 (by decide) (by decide) (by decide) (by decide)]
    unfold BRel
    rw [ox 28 (by decide) (by decide) (by decide) (by decide), ox 30 (by decide) (by decide) (by decide) (by decide), ox 25 (by decide) (by decide) (by decide) (by decide), ox 26 (by decide) (by decide) (by decide) (by decide), ox 27 (by decide) (by decide) (by decide) (by decide)]
    exact ⟨⟨b1.1.of (fun k hk => ox (40 + k) (by omega) (by omega) (by omega) (by omega)), b1.2⟩, b2, ⟨s + 1, by omega, i15, i7, m1⟩, b4, b5⟩
  · exact bo_f (decide_eq_false c3) (no (Or.inr (Or.inr (Or.inr c3))))
theorem s_slice {P : LPT} {a1 a2 a3 : Int32} (r : Rel T hx km h) (hP : ∀ k v hx', LkI T (fun Q => wpX7_slice Q h a1 a2 a3) k v hx' km → P k v hx' km) : wpX0_slice P T hx km o a1 a2 a3 := by
  have hT := r.T
  have h8 := hT.n8
  have h6 := hT.n6
  have r1 := r.c 0
  have r2 := r1.c 1
  have hM1 : TM T (up2 h 2 0 0) := r1.M
  have bad1 : (∀ p, p < T 0 0 → ¬ a1 = nI p) → P 1 o hx km := fun c => hP 1 _ _ (fun Q hQ => by
    unfold wpX7_slice wpBX7_slice_41
    intro h1 e1
    subst e1
    exact t_isPerson hT hM1 (fun p hp e => absurd e (c p hp)) (fun _ => bo_f rfl (t_fail (hQ _ _ r2 (code_at _ 1) (fun h => absurd h (by decide))))))
  have bad2 : ∀ q, q < T 0 0 → a1 = nI q → (∀ p, p < T 0 1 → ¬ a2 = nI p) → P 1 o hx km := fun q hq eq c => hP 1 _ _ (fun Q hQ => by
    unfold wpX7_slice wpBX7_slice_41
    intro h1 e1
    subst e1
    exact t_isPerson hT hM1 (fun _ _ _ => bo_t rfl (t_isLoaf hT hM1 (fun p hp e => absurd e (c p hp)) (fun _ => bo_f rfl (t_fail (hQ _ _ r2 (code_at _ 1) (fun h => absurd h (by decide))))))) (fun c9 => absurd eq (c9 q hq)))
  unfold wpX0_slice wpX1_slice
  refine ⟨fun p hp ep => ⟨fun b hb eb => ?_, fun c => ⟨rfl, bad2 p hp ep c⟩⟩, fun c => ⟨rfl, bad1 c⟩⟩
  subst ep eb
  clear bad1 bad2
  have hl := hT.l hb
  have h11 : up2 h 2 0 0 11 b = nI (T 8 b) := (hM1.2.2.1 b hb).2.2.2.2
  have tw : ∀ Q : Int32 → Mem → Prop, ((¬ (¬ a3 < -1 ∧ ¬ nI (T 8 b) ≤ a3) → Q 0 (up2 (up2 h 2 0 0) 2 0 1)) ∧ ((¬ a3 < -1 ∧ ¬ nI (T 8 b) ≤ a3) → ∀ h', Sh7 (up2 h 2 0 0) h' → (∀ k, k < T 8 b → h' 39 k = nI (finG T p b (rowM h (72 + p)) k)) → h' 41 0 = crI T p b (rowM h (72 + p)) → ((a3 = -1 → Q (h' 41 0) h') ∧ (¬ a3 = -1 → (vp_in a3 (mlen 39) ∧ Q (h' 39 (ix a3)) h'))))) → wpX7_slice Q h (nI p) (nI b) a3 := by
    intro Q hQ
    unfold wpX7_slice wpBX7_slice_41
    intro h1 e1
    subst e1
    refine t_isPerson hT hM1 (fun _ _ _ => bo_t rfl (t_isLoaf hT hM1 (fun _ _ _ => bo_t rfl ?_) (fun c => absurd rfl (c b hb)))) (fun c => absurd rfl (c p hp))
    rw [show ix (nI b) = b from ixn (by omega), h11]
    refine ⟨pk_in b 12 (by omega), t_isInL (a := -1) (b := nI (T 8 b) - 1) rfl rfl ?_⟩
    rw [decide_eq_decide.mpr (in_m1 (x := a3) (n := T 8 b) (by omega))]
    by_cases c1 : ¬ a3 < -1 ∧ ¬ nI (T 8 b) ≤ a3
    · refine bo_t (decide_eq_true c1) (t_tellSlices hT r.G hM1 hp hb (th := rowM h (72 + p)) (by rw [← rowM_th (up2 h 2 0 0) (show p < 8 by omega), eRow]) (fun h' s7 e39 e41 _ _ => hQ.2 c1 h' s7 e39 e41))
    · exact bo_f (decide_eq_false c1) (t_fail (hQ.1 c1))
  have relO : ∀ {hx' h' : Mem}, ShO hx hx' → Sh7 (up2 h 2 0 0) h' → Rel T hx' km h' := fun ho h7 => r1.of (fun k hk => ho k (by unfold rlX at hk; omega) (by unfold rlX at hk; omega) (by unfold rlX at hk; omega)) (fun k hk => h7 k (by unfold rl7 at hk; omega))
  have th : hx 42 p = rowM h (72 + p) := r.S.2.2.2.2 p (by omega)
  have no : ¬ (¬ a3 < -1 ∧ ¬ nI (T 8 b) ≤ a3) → P 1 o hx km := fun c => hP 1 _ _ (fun Q hQ => tw Q ⟨fun _ => hQ _ _ r2 (code_at _ 1) (fun h => absurd h (by decide)), fun g => absurd g c⟩)
  refine ⟨fun c => ?_, fun c1 => ?_⟩
  · unfold wpBX1_slice_32 wpBX1_slice_33
    exact ⟨fun g => absurd rfl g, fun _ => ⟨rfl, no (fun g => g.1 c)⟩⟩
  · unfold wpBX1_slice_33
    by_cases c2 : nI (T 8 b) ≤ a3
    · rw [if_pos c2]
      exact ⟨fun g => absurd rfl g, fun _ => ⟨rfl, no (fun g => g.2 c2)⟩⟩
    · rw [if_neg c2]
      refine ⟨fun _ => c_shares hT hp hb th (fun hx' ho e10 => ⟨fun e => ?_, fun e => ?_⟩), fun g => absurd g (by decide)⟩
      · refine hP 0 _ _ (fun Q hQ => tw Q ⟨fun g => absurd ⟨c1, c2⟩ g, fun _ h' h7 e39 e41 => ⟨fun _ => ?_, fun g => absurd e g⟩⟩)
        refine hQ _ _ (relO ho h7) ((congrFun (h7 2 (by decide)) 0).trans (code_at h 0)) (fun _ => by rw [e41])
      · have c3 : ¬ a3 < 0 := fun c => by
          rw [lt_II] at c c1
          have z : (0 : Int32).toInt = 0 := rfl
          have z1 : (-1 : Int32).toInt = -1 := rfl
          rw [z] at c
          rw [z1] at c1
          exact e (Int32.toInt_inj.mp (by rw [z1]; omega))
        obtain ⟨i, hi, ei⟩ := in_k c3 c2 (by omega)
        subst ei
        rw [ixn (by omega)]
        refine ⟨pk_in i 6 (by omega), hP 0 _ _ (fun Q hQ => tw Q ⟨fun g => absurd ⟨c1, c2⟩ g, fun _ h' h7 e39 e41 => ⟨fun g => absurd g e, fun _ => ?_⟩⟩)⟩
        rw [ixn (by omega)]
        refine ⟨pk_in i 6 (by omega), hQ _ _ (relO ho h7) ((congrFun (h7 2 (by decide)) 0).trans (code_at h 0)) (fun _ => by rw [e10 i hi, e39 i hi])⟩
end S7
