/-! 95.rbt: a town refused: both sides stay related -/
theorem TM.of2 {T : TT} {h h' : Mem} (hT : TOK T) (m : TM T h) (e : ∀ k i, 3 ≤ k → k ≤ 14 → i < haf k → h' k i = h k i) : TM T h' := by
  have h8 := hT.n8
  have h6 := hT.n6
  have hc := hT.c
  obtain ⟨⟨a1, a2, a3, a4, a5⟩, b, c, d, g⟩ := m
  have e3 : ∀ i, i < 6 → h' 3 i = h 3 i := fun i hi => e 3 i (by decide) (by decide) hi
  refine ⟨⟨by rw [e3 0 (by decide)]; exact a1, by rw [e3 1 (by decide)]; exact a2, by rw [e3 3 (by decide)]; exact a3, by rw [e3 4 (by decide)]; exact a4, by rw [e3 5 (by decide)]; exact a5⟩, fun p hp => ?_, fun x hx => ?_, fun x i hx hi => ?_, fun k hk => ?_⟩
  · rw [e 4 p (by decide) (by decide) (by show p < 8; omega), e 5 p (by decide) (by decide) (by show p < 8; omega), e 6 p (by decide) (by decide) (by show p < 8; omega)]
    exact b p hp
  · rw [e 7 x (by decide) (by decide) (by show x < 6; omega), e 8 x (by decide) (by decide) (by show x < 6; omega), e 9 x (by decide) (by decide) (by show x < 6; omega), e 10 x (by decide) (by decide) (by show x < 6; omega), e 11 x (by decide) (by decide) (by show x < 6; omega)]
    exact c x hx
  · have hl := hT.l hx
    rw [e 12 _ (by decide) (by decide) (by show 6 * x + i < 36; omega)]
    exact d x i hx hi
  · rw [e 14 k (by decide) (by decide) (by show k < 600; omega)]
    exact g k hk
theorem Rel.badTown {T : TT} {hx hx' h h' : Mem} {km : KM} {v : Int32} (r : Rel T hx km h) (z : TZ h h') (e26 : h' 26 0 = v) (e15 : h' 15 0 = h 15 0 + 1) (e15' : ∀ j, j ≠ 0 → h' 15 j = h 15 j)
    (ex : ∀ k, rlX k → k ≠ 7 → k ≠ 8 → k ≠ 27 → hx' k = hx k) (x7 : hx' 7 0 = 0) (x8 : hx' 8 0 = v) (x27 : hx' 27 0 = hx 27 0 + 1) (x27' : ∀ j, j ≠ 0 → hx' 27 j = hx 27 j) : Rel T hx' km h' := by
  obtain ⟨z1, z2, z3⟩ := z
  have o : ∀ k, k ≠ 2 → k ≠ 15 → ¬ (17 ≤ k ∧ k ≤ 26) → ¬ (3 ≤ k ∧ k ≤ 14) → h' k = h k := fun k a b c d => by rw [z1 k b c d, up2_other a]
  have eR : rowM h' = rowM h := by
    funext k
    unfold rowM
    rw [o 30 (by decide) (by decide) (by decide) (by decide), o 31 (by decide) (by decide) (by decide) (by decide), o 27 (by decide) (by decide) (by decide) (by decide), o 28 (by decide) (by decide) (by decide) (by decide)]
    by_cases c0 : k = 0
    · rw [if_pos c0, if_pos c0]
    rw [if_neg c0, if_neg c0]
    by_cases c1 : k = 1
    · rw [if_pos c1, if_pos c1]
    rw [if_neg c1, if_neg c1]
    by_cases c2 : k < 66
    · rw [if_pos c2, if_pos c2]
      exact z2 13 _ (by decide) (by decide) (by show k - 2 < 64; omega)
    · rw [if_neg c2, if_neg c2]
  have b := r.2.1
  have i := r.2.2.1
  have hp := r.2.2.2.2.2
  have eS : ∀ k, k < 5 → sub hx' 40 k = sub hx 40 k := fun k hk => ex (40 + k) (by unfold rlX; omega) (by omega) (by omega) (by omega)
  refine ⟨⟨r.T, r.G, r.M.of2 r.T z2⟩, ?_, ?_, ⟨0, by decide, x7, z3, fun j hj => absurd hj (Nat.not_lt_zero _)⟩, by rw [x8, e26], ?_⟩
  · rw [eR, o 29 (by decide) (by decide) (by decide) (by decide), o 32 (by decide) (by decide) (by decide) (by decide), o 33 (by decide) (by decide) (by decide) (by decide), o 34 (by decide) (by decide) (by decide) (by decide), o 51 (by decide) (by decide) (by decide) (by decide), o 52 (by decide) (by decide) (by decide) (by decide), o 53 (by decide) (by decide) (by decide) (by decide), o 54 (by decide) (by decide) (by decide) (by decide), o 55 (by decide) (by decide) (by decide) (by decide)]
    unfold BRel at b ⊢
    rw [ex 28 (by unfold rlX; omega) (by decide) (by decide) (by decide), ex 29 (by unfold rlX; omega) (by decide) (by decide) (by decide), ex 30 (by unfold rlX; omega) (by decide) (by decide) (by decide), ex 22 (by unfold rlX; omega) (by decide) (by decide) (by decide), ex 23 (by unfold rlX; omega) (by decide) (by decide) (by decide), ex 24 (by unfold rlX; omega) (by decide) (by decide) (by decide), ex 25 (by unfold rlX; omega) (by decide) (by decide) (by decide), ex 26 (by unfold rlX; omega) (by decide) (by decide) (by decide)]
    refine ⟨⟨b.1.1.of eS, b.1.2⟩, b.2.1, b.2.2.1, b.2.2.2.1, fun j hj => ?_⟩
    have g := b.2.2.2.2 j hj
    by_cases c : j = 0
    · subst c
      rw [x27, e15, g]
    · rw [x27' j c, e15' j c, g]
  · rw [ex 5 (by unfold rlX; omega) (by decide) (by decide) (by decide), o 57 (by decide) (by decide) (by decide) (by decide), o 58 (by decide) (by decide) (by decide) (by decide), o 59 (by decide) (by decide) (by decide) (by decide), o 60 (by decide) (by decide) (by decide) (by decide), o 61 (by decide) (by decide) (by decide) (by decide), o 62 (by decide) (by decide) (by decide) (by decide), o 63 (by decide) (by decide) (by decide) (by decide), o 64 (by decide) (by decide) (by decide) (by decide), o 65 (by decide) (by decide) (by decide) (by decide), o 66 (by decide) (by decide) (by decide) (by decide), o 67 (by decide) (by decide) (by decide) (by decide), o 68 (by decide) (by decide) (by decide) (by decide)]
    exact i
  · rw [ex 14 (by unfold rlX; omega) (by decide) (by decide) (by decide), ex 12 (by unfold rlX; omega) (by decide) (by decide) (by decide), o 45 (by decide) (by decide) (by decide) (by decide), o 43 (by decide) (by decide) (by decide) (by decide)]
    exact hp
