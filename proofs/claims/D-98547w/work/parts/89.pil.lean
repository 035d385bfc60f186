/-! 89.pil: what is read is a town: loaves -/
section PIL
variable {tp : Nat → Nat} {n : Nat}
def InjL (es : List Nat) : Prop := ∀ i j, i < es.length → j < es.length → es.getD i 0 = es.getD j 0 → i = j
theorem getD_mem {es : List Nat} {i : Nat} (hi : i < es.length) : es.getD i 0 ∈ es := by
  rw [List.getD_eq_getElem?_getD, List.getElem?_eq_getElem hi]
  exact List.getElem_mem hi
theorem getD_app {es : List Nat} {v i : Nat} (hi : i < es.length) : (es ++ [v]).getD i 0 = es.getD i 0 := by
  rw [List.getD_eq_getElem?_getD, List.getD_eq_getElem?_getD, List.getElem?_append_left hi]
theorem getD_last (es : List Nat) (v : Nat) : (es ++ [v]).getD es.length 0 = v := by simp
theorem InjL.app {es : List Nat} {v : Nat} (h : InjL es) (hv : ¬ v ∈ es) : InjL (es ++ [v]) := by
  intro i j hi hj e
  rw [List.length_append] at hi hj
  have hi : i < es.length + 1 := hi
  have hj : j < es.length + 1 := hj
  by_cases ci : i = es.length
  · by_cases cj : j = es.length
    · omega
    · rw [ci, getD_last, getD_app (by omega)] at e
      exact absurd (e ▸ getD_mem (show j < es.length by omega)) hv
  · by_cases cj : j = es.length
    · rw [cj, getD_last, getD_app (by omega)] at e
      exact absurd (e ▸ getD_mem (show i < es.length by omega)) hv
    · rw [getD_app (by omega), getD_app (by omega)] at e
      exact h i j (by omega) (by omega) e
theorem eat_ok {many : Nat} : ∀ f s es x, s ≤ n → pEat tp n many f s es = .ok x → (∀ v, v ∈ es → v < many) → InjL es → es.length ≤ 6 → (∀ v, v ∈ x.2 → v < many) ∧ InjL x.2 ∧ x.2.length ≤ 6 ∧ es.length ≤ x.2.length ∧ (ty tp n s = 2 → 1 ≤ x.2.length) ∧ s ≤ x.1 ∧ x.1 ≤ n := by
  intro f
  induction f with
  | zero => intro s es x _ h; cases h
  | succ f ih =>
    intro s es x hs h h1 h2 h3
    unfold pEat at h
    by_cases c : ty tp n s = 2
    · rw [if_pos c] at h
      by_cases c2 : es.length = 6
      · rw [if_pos c2] at h; cases h
      rw [if_neg c2] at h
      obtain ⟨v, ev, h⟩ := eR_ok h
      by_cases c3 : v ∈ es
      · rw [if_pos c3] at h; cases h
      rw [if_neg c3] at h
      have el : (es ++ [v]).length = es.length + 1 := by rw [List.length_append]; rfl
      have nl := nxt_le (tp := tp) hs
      have g := ih _ _ _ nl.2 h (fun w hw => by
        rw [List.mem_append] at hw
        rcases hw with hw | hw
        · exact h1 w hw
        · have : w = v := by simpa using hw
          rw [this]; exact pn_lt ev) (h2.app c3) (by omega)
      exact ⟨g.1, g.2.1, g.2.2.1, by omega, fun _ => by omega, by omega, g.2.2.2.2.2.2⟩
    · rw [if_neg c] at h
      injection h with h
      subst h
      exact ⟨h1, h2, h3, Nat.le_refl _, fun h => absurd h c, Nat.le_refl _, hs⟩
theorem tok_putL {T : TT} {a b c d : Nat} {es : List Nat} (h : TOK T) (hn : T 0 1 ≠ 6) (ha : a ≤ 9) (hb : 1 ≤ b ∧ b ≤ 999) (hc : c ≤ 23) (hd : d ≤ 23) (he : ∀ v, v ∈ es → v < T 0 0) (hi : InjL es) (hl : 1 ≤ es.length ∧ es.length ≤ 6) : TOK (putL T a b c d es) := by
  have q0 : ∀ i j, ¬ (i = 0 ∧ j = 1) → ¬ (4 ≤ i ∧ i ≤ 9) → putL T a b c d es i j = T i j := fun i j e f => by
    unfold putL
    rw [if_neg e, if_neg (by omega), if_neg (by omega), if_neg (by omega), if_neg (by omega), if_neg (by omega), if_neg (by omega)]
  have q1 : putL T a b c d es 0 1 = T 0 1 + 1 := if_pos ⟨rfl, rfl⟩
  have qk : ∀ i j, i ≠ 9 → i ≠ 0 → j ≠ T 0 1 → putL T a b c d es i j = T i j := fun i j e f g => by
    unfold putL
    rw [if_neg (by omega), if_neg (by omega), if_neg (by omega), if_neg (by omega), if_neg (by omega), if_neg (by omega), if_neg (by omega)]
  have q4 : putL T a b c d es 4 (T 0 1) = a := by unfold putL; rw [if_neg (by omega), if_pos ⟨rfl, rfl⟩]
  have q5 : putL T a b c d es 5 (T 0 1) = b := by unfold putL; rw [if_neg (by omega), if_neg (by omega), if_pos ⟨rfl, rfl⟩]
  have q6 : putL T a b c d es 6 (T 0 1) = c := by unfold putL; rw [if_neg (by omega), if_neg (by omega), if_neg (by omega), if_pos ⟨rfl, rfl⟩]
  have q7 : putL T a b c d es 7 (T 0 1) = d := by unfold putL; rw [if_neg (by omega), if_neg (by omega), if_neg (by omega), if_neg (by omega), if_pos ⟨rfl, rfl⟩]
  have q8 : putL T a b c d es 8 (T 0 1) = es.length := by unfold putL; rw [if_neg (by omega), if_neg (by omega), if_neg (by omega), if_neg (by omega), if_neg (by omega), if_pos ⟨rfl, rfl⟩]
  have q9 : ∀ j, j < 6 → putL T a b c d es 9 (6 * T 0 1 + j) = es.getD j 0 := fun j hj => by
    unfold putL
    rw [if_neg (by omega), if_neg (by omega), if_neg (by omega), if_neg (by omega), if_neg (by omega), if_neg (by omega), if_pos ⟨rfl, by omega, by omega⟩, show 6 * T 0 1 + j - 6 * T 0 1 = j by omega]
  have q9o : ∀ j, (j < 6 * T 0 1) → putL T a b c d es 9 j = T 9 j := fun j hj => by
    unfold putL
    rw [if_neg (by omega), if_neg (by omega), if_neg (by omega), if_neg (by omega), if_neg (by omega), if_neg (by omega), if_neg (by omega)]
  have hT := h
  obtain ⟨⟨a1, a2⟩, bb, cc, dd, e, f, g⟩ := h
  refine ⟨⟨by rw [q0 0 0 (by decide) (by decide)]; exact a1, by rw [q1]; omega⟩, fun p hp => ?_, fun p hp h3 => ?_, fun x hx => ?_, fun x i hx hi => ?_, fun x i j hx hi2 hj he2 => ?_, ?_⟩
  · rw [q0 0 0 (by decide) (by decide)] at hp
    rw [q0 1 _ (by omega) (by decide), q0 2 _ (by omega) (by decide), q0 3 _ (by omega) (by decide)]
    exact bb p hp
  · rw [q0 0 0 (by decide) (by decide)] at hp
    rw [q0 1 _ (by omega) (by decide)] at h3 ⊢
    exact cc p hp h3
  · rw [q1] at hx
    by_cases ex : x = T 0 1
    · subst ex
      rw [q4, q5, q6, q7, q8]
      exact ⟨ha, hb, hc, hd, hl⟩
    · rw [qk 4 _ (by decide) (by decide) ex, qk 5 _ (by decide) (by decide) ex, qk 6 _ (by decide) (by decide) ex, qk 7 _ (by decide) (by decide) ex, qk 8 _ (by decide) (by decide) ex]
      exact dd x (by omega)
  · rw [q1] at hx
    rw [q0 0 0 (by decide) (by decide)]
    by_cases ex : x = T 0 1
    · subst ex
      rw [q8] at hi
      rw [q9 i (by omega)]
      exact he _ (getD_mem hi)
    · rw [qk 8 _ (by decide) (by decide) ex] at hi
      have := (hT.l (show x < T 0 1 by omega)).2.2.2.2.2
      rw [q9o _ (by omega)]
      exact e x i (by omega) hi
  · rw [q1] at hx
    by_cases ex : x = T 0 1
    · subst ex
      rw [q8] at hi2 hj
      rw [q9 i (by omega), q9 j (by omega)] at he2
      exact hi i j hi2 hj he2
    · rw [qk 8 _ (by decide) (by decide) ex] at hi2 hj
      have := (hT.l (show x < T 0 1 by omega)).2.2.2.2.2
      rw [q9o _ (by omega), q9o _ (by omega)] at he2
      exact f x i j (by omega) hi2 hj he2
  · rw [q0 0 3 (by decide) (by decide), q0 0 4 (by decide) (by decide), q0 0 5 (by decide) (by decide)]
    exact g
theorem mok_putL {T : TT} {a b c d : Nat} {es : List Nat} (h : MOK T) : MOK (putL T a b c d es) := by
  have q0 : ∀ i j, ¬ (i = 0 ∧ j = 1) → ¬ (4 ≤ i ∧ i ≤ 9) → putL T a b c d es i j = T i j := fun i j e f => by
    unfold putL
    rw [if_neg e, if_neg (by omega), if_neg (by omega), if_neg (by omega), if_neg (by omega), if_neg (by omega), if_neg (by omega)]
  refine ⟨fun x y hx hy => ?_, by rw [q0 0 2 (by decide) (by decide)]; exact h.2⟩
  rw [q0 11 _ (by omega) (by decide), q0 11 _ (by omega) (by decide), q0 0 0 (by decide) (by decide)]
  exact h.1 x y hx hy
end PIL
