/-! 92.liv: a line keeps all that a town owes, and goes on -/
section LIV
variable {tp : Nat → Nat} {n : Nat}
theorem or4 : ∀ k, k < 8 → ∀ d, d < 8 → 4 &&& (d ||| k) = 0 → 4 &&& d = 0 ∧ k ≠ 4 := by decide +kernel
theorem body_IV {s : Nat} {T : TT} {done : Nat} {x : Nat × TT} (hs : s ≤ n) (hn : n ≤ 600) (h : IV T done) (hd : done < 8) (e : pBody tp n s T done = .ok x) : IV x.2 (done ||| lkS tp n s) ∧ s ≤ x.1 ∧ x.1 ≤ n := by
  obtain ⟨⟨hT, hM, hG⟩, h5⟩ := h
  have h8 := hT.n8
  have lv := lk_v (tp := tp) (n := n) s
  have nl := nxt_le (tp := tp) hs
  unfold pBody at e
  by_cases c : lkS tp n s &&& done ≠ 0
  · rw [if_pos c] at e; cases e
  rw [if_neg c] at e
  have keep : T 0 5 = 0 ∨ ¬ T 0 5 = 0 := Classical.em _
  have i5 : ∀ T' : TT, T' 0 5 = T 0 5 → (4 &&& (done ||| lkS tp n s) = 0 → T' 0 5 = 0) := fun T' e w => by
    rw [e]
    exact h5 (or4 _ (by omega) _ hd w).1
  by_cases c1 : lkS tp n s = 1
  · rw [if_pos c1] at e
    obtain ⟨y, ey, e⟩ := eR_ok e
    injection e with e
    subst e
    have g := nuP_ok ey
    have n2 := nxt_le (tp := tp) nl.2
    refine ⟨⟨⟨tok_fld hT (Or.inl ⟨rfl, g.2.1⟩), mok_same rfl rfl (fun _ => rfl) hM, sg_same rfl (fun _ => rfl) hG⟩, i5 _ rfl⟩, ?_⟩
    show s ≤ y.2 ∧ y.2 ≤ n
    rw [g.2.2]; omega
  rw [if_neg c1] at e
  by_cases c2 : lkS tp n s = 2
  · rw [if_pos c2] at e
    obtain ⟨y, ey, e⟩ := eR_ok e
    injection e with e
    subst e
    have g := nuP_ok ey
    have n2 := nxt_le (tp := tp) nl.2
    refine ⟨⟨⟨tok_fld hT (Or.inr ⟨rfl, g.2.1⟩), mok_same rfl rfl (fun _ => rfl) hM, sg_same rfl (fun _ => rfl) hG⟩, i5 _ rfl⟩, ?_⟩
    show s ≤ y.2 ∧ y.2 ≤ n
    rw [g.2.2]; omega
  rw [if_neg c2] at e
  by_cases c4 : lkS tp n s = 4
  · rw [if_pos c4] at e
    obtain ⟨y, ey, e⟩ := eR_ok e
    injection e with e
    subst e
    have mo := Mo.ex (tp := tp) (n := n) 9 0 _ _ _ nl.2 ey
    obtain ⟨⟨w, ew, gw⟩, lw⟩ := gx_ex (tp := tp) (n := n) 9 0 rfl (by decide) _ _ _ nl.2 ey
    have ew : y.2 = w := by rw [ew]; rfl
    have lw : y.2.length + nxt tp n s ≤ 0 + y.1 := lw
    refine ⟨⟨⟨tok_putC hT (by omega), mok_same rfl rfl (fun _ => rfl) hM, ?_⟩, fun z => absurd c4 (or4 _ (by omega) _ hd z).2⟩, ?_⟩
    · show SGOK (putC T y.2)
      rw [ew]
      exact sg_putC gw
    · show s ≤ y.1 ∧ y.1 ≤ n
      omega
  rw [if_neg c4] at e
  cases ew : whS tp n 0 s with
  | some w =>
    rw [ew] at e
    have hw : w < 4 := fst1_lt ew
    have e : pPers tp n w s T = .ok x := e
    unfold pPers at e
    by_cases c5 : T 0 0 = 8
    · rw [if_pos c5] at e; cases e
    rw [if_neg c5] at e
    by_cases c6 : w = 3 ∧ (T 0 0 = 0 ∨ T 1 (T 0 0 - 1) = 3)
    · rw [if_pos c6] at e; cases e
    rw [if_neg c6] at e
    obtain ⟨y, ey, e⟩ := eR_ok e
    obtain ⟨z, ez, e⟩ := eR_ok e
    injection e with e
    subst e
    have gy := nuP_ok ey
    have gz := nuP_ok ez
    have n2 := nxt_le (tp := tp) nl.2
    have n3 := nxt_le (tp := tp) (s := y.2) (n := n) (by rw [gy.2.2]; exact n2.2)
    refine ⟨⟨⟨tok_putP hT c5 (by omega) c6 gy.2.1 gz.2.1, mok_putP hM (by omega), sg_same rfl (fun _ => rfl) hG⟩, i5 _ rfl⟩, ?_⟩
    show s ≤ z.2 ∧ z.2 ≤ n
    rw [gz.2.2]
    have := gy.2.2
    omega
  | none =>
    rw [ew] at e
    have e : (if wdS tp n 1 s = true then pLoaf tp n s T else if wdS tp n 2 s = true then pMet tp n s T else .error (1, s) : LN) = .ok x := e
    by_cases d1 : wdS tp n 1 s = true
    · rw [if_pos d1] at e
      unfold pLoaf at e
      by_cases c5 : T 0 1 = 6
      · rw [if_pos c5] at e; cases e
      rw [if_neg c5] at e
      obtain ⟨a, ea, e⟩ := eR_ok e
      obtain ⟨b, eb, e⟩ := eR_ok e
      obtain ⟨c, ec, e⟩ := eR_ok e
      obtain ⟨d, ed, e⟩ := eR_ok e
      by_cases c7 : ty tp n d.2 = 2
      · rw [if_pos c7] at e
        obtain ⟨w, ew2, e⟩ := eR_ok e
        injection e with e
        subst e
        have ga := nuP_ok ea
        have gb := nuP_ok eb
        have gc := nuP_ok ec
        have gd := nuP_ok ed
        have m1 := nxt_le (tp := tp) nl.2
        have m2 := nxt_le (tp := tp) (s := a.2) (n := n) (by rw [ga.2.2]; exact m1.2)
        have m3 := nxt_le (tp := tp) (s := b.2) (n := n) (by rw [gb.2.2]; exact m2.2)
        have m4 := nxt_le (tp := tp) (s := c.2) (n := n) (by rw [gc.2.2]; exact m3.2)
        have g := eat_ok (tp := tp) (n := n) 7 _ _ _ (by rw [gd.2.2]; exact m4.2) ew2 (fun v hv => by cases hv) (fun i j hi => absurd hi (Nat.not_lt_zero _)) (by decide)
        refine ⟨⟨⟨tok_putL hT c5 ga.2.1 ⟨gb.1, gb.2.1⟩ gc.2.1 gd.2.1 g.1 g.2.1 ⟨g.2.2.2.2.1 c7, g.2.2.1⟩, mok_putL hM, sg_same rfl (fun _ => rfl) hG⟩, i5 _ rfl⟩, ?_⟩
        show s ≤ w.1 ∧ w.1 ≤ n
        have := ga.2.2
        have := gb.2.2
        have := gc.2.2
        have := gd.2.2
        have := g.2.2.2.2.2
        omega
      · rw [if_neg c7] at e; cases e
    rw [if_neg d1] at e
    by_cases d2 : wdS tp n 2 s = true
    · rw [if_pos d2] at e
      unfold pMet at e
      by_cases c5 : T 0 2 = 16
      · rw [if_pos c5] at e; cases e
      rw [if_neg c5] at e
      obtain ⟨a, ea, e⟩ := eR_ok e
      obtain ⟨b, eb, e⟩ := eR_ok e
      by_cases c7 : a = b
      · rw [if_pos c7] at e; cases e
      rw [if_neg c7] at e
      obtain ⟨y, ey, e⟩ := eR_ok e
      injection e with e
      subst e
      have gy := nuP_ok ey
      have m1 := nxt_le (tp := tp) nl.2
      have m2 := nxt_le (tp := tp) m1.2
      have m3 := nxt_le (tp := tp) m2.2
      refine ⟨⟨⟨tok_putM hT, mok_putM hM c5 (pn_lt ea) (pn_lt eb) h8 c7 gy.2.1, sg_same rfl (fun _ => rfl) hG⟩, i5 _ rfl⟩, ?_⟩
      show s ≤ y.2 ∧ y.2 ≤ n
      rw [gy.2.2]
      omega
    · rw [if_neg d2] at e; cases e
theorem line_IV {s : Nat} {T : TT} {done : Nat} {x : Nat × TT} (hs : s ≤ n) (hn : n ≤ 600) (h : IV T done) (hd : done < 8) (e : pLine tp n s T done = .ok x) : IV x.2 (done ||| lkS tp n s) ∧ s < x.1 ∧ x.1 ≤ n := by
  unfold pLine at e
  obtain ⟨y, ey, e⟩ := eR_ok e
  obtain ⟨z, ez, e⟩ := eR_ok e
  injection e with e
  subst e
  have g := body_IV hs hn h hd ey
  have m := mk_ok ez
  have nl := nxt_lt (tp := tp) m.1
  have nl2 := (nxt_le (tp := tp) g.2.2).2
  refine ⟨g.1, ?_⟩
  show s < z ∧ z ≤ n
  rw [m.2]
  omega
end LIV
