/-! 91.piv2: a line keeps all that a town owes -/
section PV2
variable {tp : Nat → Nat} {n : Nat}
def IV (T : TT) (done : Nat) : Prop := (TOK T ∧ MOK T ∧ SGOK T) ∧ (4 &&& done = 0 → T 0 5 = 0)
theorem sg_same {T T' : TT} (h5 : T' 0 5 = T 0 5) (h10 : ∀ k, T' 10 k = T 10 k) (h : SGOK T) : SGOK T' := by
  have e : sgns T' = sgns T := by
    unfold sgns
    rw [h5]
    congr 1
    funext k
    unfold sgn
    rw [h10]
  unfold SGOK
  rw [h5, e]
  exact h
theorem sgns_putC (T : TT) (cs : List Nat) : sgns (putC T cs) = cs.map sgN := by
  have e5 : putC T cs 0 5 = cs.length := if_pos ⟨rfl, rfl⟩
  unfold sgns
  rw [e5]
  refine List.ext_getElem (by simp) (fun i h1 h2 => ?_)
  have hi : i < cs.length := by simpa using h2
  have e : putC T cs 10 i = cs.getD i 0 := by
    unfold putC
    rw [if_neg (by omega), if_pos ⟨rfl, hi⟩]
  rw [List.getElem_map, List.getElem_map, List.getElem_range]
  unfold sgn
  rw [e, List.getD_eq_getElem?_getD, List.getElem?_eq_getElem hi]
  rfl
theorem sg_putC {T : TT} {w : List Nat} (g : GW 31 w) : SGOK (putC T w) := by
  refine Or.inr ?_
  rw [sgns_putC]
  have := g 0 [] (by omega) rfl
  rw [List.append_nil] at this
  exact this
theorem tok_fld {T : TT} {j v : Nat} (h : TOK T) (hj : (j = 3 ∧ v ≤ 999) ∨ (j = 4 ∧ v ≤ 23)) : TOK (fld T j v) := by
  have q : ∀ a b, ¬ (a = 0 ∧ b = j) → fld T j v a b = T a b := fun a b g => if_neg g
  have qj : fld T j v 0 j = v := if_pos ⟨rfl, rfl⟩
  obtain ⟨⟨a1, a2⟩, bb, c, d, e, f, g⟩ := h
  refine ⟨⟨by rw [q 0 0 (by omega)]; exact a1, by rw [q 0 1 (by omega)]; exact a2⟩, fun p hp => ?_, fun p hp h3 => ?_, fun x hx => ?_, fun x i hx hi => ?_, fun x i j hx hi hj he => ?_, ?_⟩
  · rw [q 0 0 (by omega)] at hp
    rw [q 1 _ (by omega), q 2 _ (by omega), q 3 _ (by omega)]
    exact bb p hp
  · rw [q 0 0 (by omega)] at hp
    rw [q 1 _ (by omega)] at h3 ⊢
    exact c p hp h3
  · rw [q 0 1 (by omega)] at hx
    rw [q 4 _ (by omega), q 5 _ (by omega), q 6 _ (by omega), q 7 _ (by omega), q 8 _ (by omega)]
    exact d x hx
  · rw [q 0 1 (by omega)] at hx
    rw [q 8 _ (by omega)] at hi
    rw [q 9 _ (by omega), q 0 0 (by omega)]
    exact e x i hx hi
  · rw [q 0 1 (by omega)] at hx
    rw [q 8 _ (by omega)] at hi hj
    rw [q 9 _ (by omega), q 9 _ (by omega)] at he
    exact f x i j hx hi hj he
  · rw [q 0 5 (by omega)]
    rcases hj with ⟨e, w⟩ | ⟨e, w⟩
    · subst e; rw [qj, q 0 4 (by omega)]; exact ⟨w, g.2⟩
    · subst e; rw [qj, q 0 3 (by omega)]; exact ⟨g.1, w, g.2.2⟩
theorem tok_putC {T : TT} {cs : List Nat} (h : TOK T) (hl : cs.length ≤ 600) : TOK (putC T cs) := by
  have q : ∀ a b, a ≠ 10 → ¬ (a = 0 ∧ b = 5) → putC T cs a b = T a b := fun a b g1 g => by
    unfold putC
    rw [if_neg g, if_neg (fun h => g1 h.1)]
  have q5 : putC T cs 0 5 = cs.length := if_pos ⟨rfl, rfl⟩
  obtain ⟨⟨a1, a2⟩, bb, c, d, e, f, g⟩ := h
  refine ⟨⟨by rw [q 0 0 (by omega) (by omega)]; exact a1, by rw [q 0 1 (by omega) (by omega)]; exact a2⟩, fun p hp => ?_, fun p hp h3 => ?_, fun x hx => ?_, fun x i hx hi => ?_, fun x i j hx hi hj he => ?_, ?_⟩
  · rw [q 0 0 (by omega) (by omega)] at hp
    rw [q 1 _ (by omega) (by omega), q 2 _ (by omega) (by omega), q 3 _ (by omega) (by omega)]
    exact bb p hp
  · rw [q 0 0 (by omega) (by omega)] at hp
    rw [q 1 _ (by omega) (by omega)] at h3 ⊢
    exact c p hp h3
  · rw [q 0 1 (by omega) (by omega)] at hx
    rw [q 4 _ (by omega) (by omega), q 5 _ (by omega) (by omega), q 6 _ (by omega) (by omega), q 7 _ (by omega) (by omega), q 8 _ (by omega) (by omega)]
    exact d x hx
  · rw [q 0 1 (by omega) (by omega)] at hx
    rw [q 8 _ (by omega) (by omega)] at hi
    rw [q 9 _ (by omega) (by omega), q 0 0 (by omega) (by omega)]
    exact e x i hx hi
  · rw [q 0 1 (by omega) (by omega)] at hx
    rw [q 8 _ (by omega) (by omega)] at hi hj
    rw [q 9 _ (by omega) (by omega), q 9 _ (by omega) (by omega)] at he
    exact f x i j hx hi hj he
  · rw [q5, q 0 3 (by omega) (by omega), q 0 4 (by omega) (by omega)]
    exact ⟨g.1, g.2.1, hl⟩
theorem mok_same {T T' : TT} (h0 : T' 0 0 = T 0 0) (h2 : T' 0 2 = T 0 2) (h11 : ∀ k, T' 11 k = T 11 k) (h : MOK T) : MOK T' := by
  refine ⟨fun a b ha hb => ?_, by rw [h2]; exact h.2⟩
  rw [h11, h11, h0]
  exact h.1 a b ha hb
theorem nuP_ok {lo hi s : Nat} {x : Nat × Nat} (h : nuP tp n lo hi s = .ok x) : lo ≤ x.1 ∧ x.1 ≤ hi ∧ x.2 = nxt tp n s := by
  unfold nuP at h
  obtain ⟨v, ev, h⟩ := eR_ok h
  injection h with h
  subst h
  have g := nnS_le ev
  exact ⟨g.1, g.2, rfl⟩
end PV2
