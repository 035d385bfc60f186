/-! 88.piv: what is read is a town -/
section PIV
variable {tp : Nat → Nat} {n : Nat}
theorem tok_putP {T : TT} {k hs hg : Nat} (h : TOK T) (hn : T 0 0 ≠ 8) (hk : k ≤ 3) (hc : ¬ (k = 3 ∧ (T 0 0 = 0 ∨ T 1 (T 0 0 - 1) = 3))) (h9 : hs ≤ 9) (g9 : hg ≤ 9) : TOK (putP T k hs hg) := by
  have q0 : putP T k hs hg 0 0 = T 0 0 + 1 := if_pos ⟨rfl, rfl⟩
  have q1 : ∀ b, b ≠ 0 → putP T k hs hg 0 b = T 0 b := fun b hb => by
    unfold putP
    rw [if_neg (by omega), if_neg (by omega), if_neg (by omega), if_neg (by omega)]
  have q4 : ∀ a b, 4 ≤ a → putP T k hs hg a b = T a b := fun a b hb => by
    unfold putP
    rw [if_neg (by omega), if_neg (by omega), if_neg (by omega), if_neg (by omega)]
  have r1 : ∀ b, putP T k hs hg 1 b = if b = T 0 0 then k else T 1 b := fun b => by
    unfold putP
    by_cases c : b = T 0 0
    · rw [if_neg (by omega), if_pos ⟨rfl, c⟩, if_pos c]
    · rw [if_neg (by omega), if_neg (by omega), if_neg (by omega), if_neg (by omega), if_neg c]
  have r2 : ∀ b, putP T k hs hg 2 b = if b = T 0 0 then hs else T 2 b := fun b => by
    unfold putP
    by_cases c : b = T 0 0
    · rw [if_neg (by omega), if_neg (by omega), if_pos ⟨rfl, c⟩, if_pos c]
    · rw [if_neg (by omega), if_neg (by omega), if_neg (by omega), if_neg (by omega), if_neg c]
  have r3 : ∀ b, putP T k hs hg 3 b = if b = T 0 0 then hg else T 3 b := fun b => by
    unfold putP
    by_cases c : b = T 0 0
    · rw [if_neg (by omega), if_neg (by omega), if_neg (by omega), if_pos ⟨rfl, c⟩, if_pos c]
    · rw [if_neg (by omega), if_neg (by omega), if_neg (by omega), if_neg (by omega), if_neg c]
  obtain ⟨⟨a1, a2⟩, b, c, d, e, f, g⟩ := h
  refine ⟨⟨by rw [q0]; omega, by rw [q1 1 (by decide)]; exact a2⟩, fun p hp => ?_, fun p hp h3 => ?_, fun x hx => ?_, fun x i hx hi => ?_, fun x i j hx hi hj he => ?_, ?_⟩
  · rw [q0] at hp
    rw [r1, r2, r3]
    by_cases e : p = T 0 0
    · rw [if_pos e, if_pos e, if_pos e]; exact ⟨hk, h9, g9⟩
    · rw [if_neg e, if_neg e, if_neg e]; exact b p (by omega)
  · rw [q0] at hp
    rw [r1] at h3 ⊢
    by_cases e : p = T 0 0
    · rw [if_pos e] at h3
      have z : T 0 0 ≠ 0 := fun h => hc ⟨h3, Or.inl h⟩
      refine ⟨by omega, ?_⟩
      rw [if_neg (by omega), e]
      exact fun h => hc ⟨h3, Or.inr h⟩
    · rw [if_neg e] at h3
      have w := c p (by omega) h3
      refine ⟨w.1, ?_⟩
      rw [if_neg (by omega)]
      exact w.2
  · rw [q1 1 (by decide)] at hx
    rw [q4 4 _ (by decide), q4 5 _ (by decide), q4 6 _ (by decide), q4 7 _ (by decide), q4 8 _ (by decide)]
    exact d x hx
  · rw [q1 1 (by decide)] at hx
    rw [q4 8 _ (by decide)] at hi
    rw [q4 9 _ (by decide), q0]
    have := e x i hx hi
    omega
  · rw [q1 1 (by decide)] at hx
    rw [q4 8 _ (by decide)] at hi hj
    rw [q4 9 _ (by decide), q4 9 _ (by decide)] at he
    exact f x i j hx hi hj he
  · rw [q1 3 (by decide), q1 4 (by decide), q1 5 (by decide)]
    exact g
theorem mok_putP {T : TT} {k hs hg : Nat} (h : MOK T) (hn : T 0 0 ≤ 8) : MOK (putP T k hs hg) := by
  have q0 : putP T k hs hg 0 0 = T 0 0 + 1 := if_pos ⟨rfl, rfl⟩
  have q2 : putP T k hs hg 0 2 = T 0 2 := by
    unfold putP
    rw [if_neg (by omega), if_neg (by omega), if_neg (by omega), if_neg (by omega)]
  have q11 : ∀ b, putP T k hs hg 11 b = T 11 b := fun b => by
    unfold putP
    rw [if_neg (by omega), if_neg (by omega), if_neg (by omega), if_neg (by omega)]
  refine ⟨fun a b ha hb => ?_, by rw [q2]; exact h.2⟩
  rw [q11, q11, q0]
  have g := h.1 a b ha hb
  exact ⟨g.1, g.2.1, fun c => g.2.2 (by omega)⟩
theorem tok_putM {T : TT} {a b ago : Nat} (h : TOK T) : TOK (putM T a b ago) := by
  have q : ∀ i j, i ≠ 11 → ¬ (i = 0 ∧ j = 2) → putM T a b ago i j = T i j := fun i j c d => putM_o d c
  obtain ⟨⟨a1, a2⟩, bb, c, d, e, f, g⟩ := h
  refine ⟨⟨by rw [q 0 0 (by decide) (by decide)]; exact a1, by rw [q 0 1 (by decide) (by decide)]; exact a2⟩, fun p hp => ?_, fun p hp h3 => ?_, fun x hx => ?_, fun x i hx hi => ?_, fun x i j hx hi hj he => ?_, ?_⟩
  · rw [q 0 0 (by decide) (by decide)] at hp
    rw [q 1 _ (by decide) (by omega), q 2 _ (by decide) (by omega), q 3 _ (by decide) (by omega)]
    exact bb p hp
  · rw [q 0 0 (by decide) (by decide)] at hp
    rw [q 1 _ (by decide) (by omega)] at h3 ⊢
    exact c p hp h3
  · rw [q 0 1 (by decide) (by decide)] at hx
    rw [q 4 _ (by decide) (by omega), q 5 _ (by decide) (by omega), q 6 _ (by decide) (by omega), q 7 _ (by decide) (by omega), q 8 _ (by decide) (by omega)]
    exact d x hx
  · rw [q 0 1 (by decide) (by decide)] at hx
    rw [q 8 _ (by decide) (by omega)] at hi
    rw [q 9 _ (by decide) (by omega), q 0 0 (by decide) (by decide)]
    exact e x i hx hi
  · rw [q 0 1 (by decide) (by decide)] at hx
    rw [q 8 _ (by decide) (by omega)] at hi hj
    rw [q 9 _ (by decide) (by omega), q 9 _ (by decide) (by omega)] at he
    exact f x i j hx hi hj he
  · rw [q 0 3 (by decide) (by decide), q 0 4 (by decide) (by decide), q 0 5 (by decide) (by decide)]
    exact g
theorem mok_putM {T : TT} {a b ago : Nat} (h : MOK T) (h2 : T 0 2 ≠ 16) (ha : a < T 0 0) (hb : b < T 0 0) (h8 : T 0 0 ≤ 8) (hab : a ≠ b) (hg : ago ≤ 999) : MOK (putM T a b ago) := by
  have q0 : putM T a b ago 0 0 = T 0 0 := putM_o (by decide) (by decide)
  have q2 : putM T a b ago 0 2 = T 0 2 + 1 := if_pos ⟨rfl, rfl⟩
  refine ⟨fun x y hx hy => ?_, by rw [q2]; have := h.2; omega⟩
  rw [putM_11, putM_11, q0]
  have g := h.1 x y hx hy
  have gab := (h.1 a b (by omega) (by omega)).1
  by_cases c : 8 * x + y = 8 * a + b ∨ 8 * x + y = 8 * b + a
  · rw [if_pos c, if_pos (show 8 * y + x = 8 * a + b ∨ 8 * y + x = 8 * b + a by omega)]
    refine ⟨?_, rfl, fun w => by omega⟩
    by_cases e : T 11 (8 * a + b) = 0
    · rw [if_pos e]; omega
    · rw [if_neg e]; omega
  · rw [if_neg c, if_neg (show ¬ (8 * y + x = 8 * a + b ∨ 8 * y + x = 8 * b + a) by omega)]
    exact g
end PIV
