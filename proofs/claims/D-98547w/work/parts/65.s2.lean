/-! 65.s2: fault, familiar, ring, doors, forget, noon, feed, hours, fair, undo: both sides, related -/
section S2
variable {T : TT} {hx h : Mem} {km : KM}
theorem eRow (h : Mem) (v : Int32) : rowM (up2 h 2 0 v) = rowM h := rowM_of (fun k hk => up2_other (by omega))
theorem s_fault {P : Int32 → Prop} (r : Rel T hx km h) (hP : ∀ v, LkN T (fun Q => wpX7_fault Q h) v hx km → P v) : wpX1_fault P hx T := by
  unfold wpX1_fault
  refine hP _ (fun Q hQ => ?_)
  unfold wpX7_fault
  intro h1 e1
  subst e1
  have := hQ _ (r.c 0)
  rw [r.2.2.2.2.1] at this
  exact this
theorem s_familiar {P : Int32 → Prop} (r : Rel T hx km h) (hP : ∀ v, LkN T (fun Q => wpX7_familiar Q h) v hx km → P v) : wpX1_familiar P hx T := by
  refine c_familiar r.T r.S (hP _ (fun Q hQ => ?_))
  unfold wpX7_familiar
  intro h1 e1
  subst e1
  refine t_familiar r.T (r.c 0).M ?_
  rw [eRow]
  exact hQ _ (r.c 0)
theorem s_ring {P : Int32 → Prop} (r : Rel T hx km h) (hP : ∀ v, LkN T (fun Q => wpX7_ring Q h) v hx km → P v) : wpX1_ring P hx T := by
  refine c_ring r.T r.S (hP _ (fun Q hQ => ?_))
  unfold wpX7_ring
  intro h1 e1
  subst e1
  refine t_ring r.T (r.c 0).M ?_
  rw [eRow]
  exact hQ _ (r.c 0)
theorem s_doors {P : Int32 → Prop} (r : Rel T hx km h) (hP : ∀ v, LkN T (fun Q => wpX7_doors Q h) v hx km → P v) : wpX1_doors P hx T := by
  refine c_doors r.T r.S (hP _ (fun Q hQ => ?_))
  unfold wpX7_doors
  intro h1 e1
  subst e1
  refine t_doors r.T (r.c 0).M ?_
  rw [eRow]
  exact hQ _ (r.c 0)
theorem s_forget {P : Mem → Prop} (r : Rel T hx km h) (hP : ∀ hx', (∀ Q : Mem → Prop, (∀ h', Rel T hx' km h' → Q h') → wpX7_forget Q h) → P hx') : wpX1_forget P hx T := by
  unfold wpX1_forget
  intro x1 e1 x2 e2
  refine hP x2 (fun Q hQ => ?_)
  unfold wpX7_forget
  intro h1 d1 h2 d2 h3 d3
  refine hQ h3 ?_
  have ox : ∀ k, k ≠ 29 → k ≠ 30 → x2 k = hx k := fun k a b => by rw [e2, up2_other b, e1, up2_other a]
  have o7 : ∀ k, k ≠ 2 → k ≠ 33 → k ≠ 34 → h3 k = h k := fun k a b c => by rw [d3, up2_other c, d2, up2_other b, d1, up2_other a]
  have eR : rowM h3 = rowM h := rowM_of (fun k hk => o7 k (by omega) (by omega) (by omega))
  have x29 : x2 29 0 = nI 0 := by rw [e2, up2_other (by decide), e1, up2_at]; rfl
  have x30 : x2 30 0 = nI 0 := by rw [e2, up2_at]; rfl
  have h33 : h3 33 0 = nI 0 := by rw [d3, up2_other (by decide), d2, up2_at]; rfl
  have h34 : h3 34 0 = nI 0 := by rw [d3, up2_at]; rfl
  obtain ⟨r1, r2, r3, r4, r5, r6⟩ := r
  unfold Rel
  refine ⟨⟨r1.1, r1.2.1, r1.2.2.of (fun k h1 h2 _ => o7 k (by omega) (by omega) (by omega))⟩, ⟨?_, ?_, ⟨0, by omega, x29, h33, fun j h => absurd h (Nat.not_lt_zero _)⟩, ⟨0, by omega, x30, h34, fun j h => absurd h (Nat.not_lt_zero _)⟩, ?_⟩, ?_, ?_, ?_, ?_⟩
  · rw [eR]
    exact ⟨r2.1.1.of (fun k hk => ox (40 + k) (by omega) (by omega)), r2.1.2⟩
  · rw [ox 28 (by decide) (by decide), o7 32 (by decide) (by decide) (by decide), o7 29 (by decide) (by decide) (by decide)]
    exact r2.2.1
  · rw [ox 27 (by decide) (by decide), o7 15 (by decide) (by decide) (by decide)]
    exact r2.2.2.2.2
  · rw [ox 5 (by decide) (by decide), o7 57 (by decide) (by decide) (by decide), o7 61 (by decide) (by decide) (by decide), o7 62 (by decide) (by decide) (by decide), o7 58 (by decide) (by decide) (by decide), o7 59 (by decide) (by decide) (by decide), o7 60 (by decide) (by decide) (by decide), o7 63 (by decide) (by decide) (by decide), o7 64 (by decide) (by decide) (by decide), o7 65 (by decide) (by decide) (by decide), o7 66 (by decide) (by decide) (by decide), o7 67 (by decide) (by decide) (by decide), o7 68 (by decide) (by decide) (by decide)]
    exact r3
  · rw [ox 7 (by decide) (by decide), ox 6 (by decide) (by decide), o7 17 (by decide) (by decide) (by decide), o7 16 (by decide) (by decide) (by decide)]
    exact r4
  · rw [ox 8 (by decide) (by decide), o7 26 (by decide) (by decide) (by decide)]
    exact r5
  · rw [ox 14 (by decide) (by decide), ox 12 (by decide) (by decide), o7 45 (by decide) (by decide) (by decide), o7 43 (by decide) (by decide) (by decide)]
    exact r6
/-- Rel, when the book changes alone -/
theorem Rel.bk {hx' h' : Mem} {km' : KM} (r : Rel T hx km h) (hk : km'.2 = km.2) (ox : ∀ k, (5 ≤ k ∧ k ≤ 8) ∨ k = 12 ∨ k = 14 → hx' k = hx k) (o7 : ∀ k, (3 ≤ k ∧ k ≤ 17 ∧ k ≠ 13 ∧ k ≠ 15) ∨ k = 26 ∨ k = 43 ∨ k = 45 ∨ (57 ≤ k ∧ k ≤ 68) → h' k = h k)
    (hB : BRel T hx' km'.1 (rowM h') (h' 29) (h' 32 0) (h' 33 0) (h' 34 0) (h' 51) (h' 52) (h' 53) (h' 54) (h' 55) (h' 15)) : Rel T hx' km' h' := by
  obtain ⟨r1, r2, r3, r4, r5, r6⟩ := r
  unfold Rel
  rw [hk, ox 5 (by omega), ox 6 (by omega), ox 7 (by omega), ox 8 (by omega), ox 12 (by omega), ox 14 (by omega), o7 57 (by omega), o7 61 (by omega), o7 62 (by omega), o7 58 (by omega), o7 59 (by omega), o7 60 (by omega), o7 63 (by omega), o7 64 (by omega), o7 65 (by omega), o7 66 (by omega), o7 67 (by omega), o7 68 (by omega), o7 17 (by omega), o7 16 (by omega), o7 26 (by omega), o7 45 (by omega), o7 43 (by omega)]
  exact ⟨⟨r1.1, r1.2.1, r1.2.2.of (fun k h1 h2 h3 => o7 k (by omega))⟩, hB, r3, r4, r5, r6⟩
/-- a refusal of both -/
theorem Rel.refuse (r : Rel T hx km h) {w : Nat} (hw : w < 3) : Rel T (up2 hx 27 w (hx 27 w + 1)) km (up2 h 15 w (h 15 w + 1)) := by
  have r2 := r.2.1
  refine r.bk rfl (fun k hk => up2_other (by omega)) (fun k hk => up2_other (by omega)) ?_
  rw [rowM_of (h := h) (fun k hk => up2_other (by omega)), up2_other (show (29 : Nat) ≠ 15 by decide), up2_other (show (32 : Nat) ≠ 15 by decide), up2_other (show (33 : Nat) ≠ 15 by decide), up2_other (show (34 : Nat) ≠ 15 by decide), up2_other (show (51 : Nat) ≠ 15 by decide), up2_other (show (52 : Nat) ≠ 15 by decide), up2_other (show (53 : Nat) ≠ 15 by decide), up2_other (show (54 : Nat) ≠ 15 by decide), up2_other (show (55 : Nat) ≠ 15 by decide)]
  unfold BRel
  rw [up2_other (show (28 : Nat) ≠ 27 by decide), up2_other (show (29 : Nat) ≠ 27 by decide), up2_other (show (30 : Nat) ≠ 27 by decide), up2_other (show (22 : Nat) ≠ 27 by decide), up2_other (show (23 : Nat) ≠ 27 by decide), up2_other (show (24 : Nat) ≠ 27 by decide), up2_other (show (25 : Nat) ≠ 27 by decide), up2_other (show (26 : Nat) ≠ 27 by decide)]
  refine ⟨⟨r2.1.1.of (fun k hk => up2_other (by omega)), r2.1.2⟩, r2.2.1, r2.2.2.1, r2.2.2.2.1, fun j hj => ?_⟩
  have e := r2.2.2.2.2 j hj
  by_cases ej : j = w
  · subst ej
    rw [up2_at, up2_at, e]
  · rw [up2_ne _ _ _ ej, up2_ne _ _ _ ej]
    exact e
theorem c_refuses {hx : Mem} {post : Int32 → Mem → Prop} {w : Nat} (hw : w < 3) (hp : post (-1) (up2 hx 27 w (hx 27 w + 1))) : wpX1_refuses post hx T (nI w) := by
  unfold wpX1_refuses
  try dsimp only
  rw [ixn (by omega)]
  refine ⟨pk_in w 3 hw, fun h2 e2 => ?_⟩
  rw [e2]
  exact hp
theorem t_refuse {h : Mem} {post : Int32 → Mem → Prop} {w : Nat} (hw : w < 3) (hp : post (-1) (up2 h 15 w (h 15 w + 1))) : wpX7_refuse post h (nI w) := by
  unfold wpX7_refuse
  try dsimp only
  rw [ixn (by omega)]
  refine ⟨pk_in w 3 hw, fun h2 e2 => ?_⟩
  rw [e2]
  exact hp
/-- what is kept before an act: the component's book, the twin's past -/
theorem Rel.keep (r : Rel T hx km h) : ∃ n : Nat, n ≤ 40 ∧ hx 28 0 = nI n ∧ h 32 0 = nI n ∧ Rel T (up2 hx 28 0 (keepX n)) (keepP n (sub hx 40) km.1, km.2) (keep7 h n) := by
  obtain ⟨n, hn, x28, h32, hp⟩ := r.2.1.2.1
  refine ⟨n, hn, x28, h32, r.bk rfl (fun k hk => up2_other (by omega)) (fun k hk => keep7_o (by omega)) ?_⟩
  have r2 := r.2.1
  rw [rowM_of (h := h) (fun k hk => keep7_o (by omega)), keep7_o (show (33 : Nat) ≠ 29 ∧ (33 : Nat) ≠ 32 by decide), keep7_o (show (34 : Nat) ≠ 29 ∧ (34 : Nat) ≠ 32 by decide), keep7_o (show (51 : Nat) ≠ 29 ∧ (51 : Nat) ≠ 32 by decide), keep7_o (show (52 : Nat) ≠ 29 ∧ (52 : Nat) ≠ 32 by decide), keep7_o (show (53 : Nat) ≠ 29 ∧ (53 : Nat) ≠ 32 by decide), keep7_o (show (54 : Nat) ≠ 29 ∧ (54 : Nat) ≠ 32 by decide), keep7_o (show (55 : Nat) ≠ 29 ∧ (55 : Nat) ≠ 32 by decide), keep7_o (show (15 : Nat) ≠ 29 ∧ (15 : Nat) ≠ 32 by decide)]
  unfold BRel
  rw [up2_other (show (27 : Nat) ≠ 28 by decide), up2_other (show (29 : Nat) ≠ 28 by decide), up2_other (show (30 : Nat) ≠ 28 by decide), up2_other (show (22 : Nat) ≠ 28 by decide), up2_other (show (23 : Nat) ≠ 28 by decide), up2_other (show (24 : Nat) ≠ 28 by decide), up2_other (show (25 : Nat) ≠ 28 by decide), up2_other (show (26 : Nat) ≠ 28 by decide)]
  have lk : ∀ S0 : Mem, SRel T (likeM S0 (sub hx 40)) (rowM h) := fun S0 => by
    have hS := r2.1.1
    have h8 := r.T.n8
    refine ⟨hS.1, hS.2.1, fun a b ha hb hab => ?_, fun b hb => ?_, fun p hp => ?_⟩
    · rw [← hS.2.2.1 a b ha hb hab]
      show va_cpy _ _ 0 0 64 (8 * a + b) = _
      unfold va_cpy
      rw [if_pos (by omega), show 0 + (8 * a + b - 0) = 8 * a + b by omega]
    · rw [← hS.2.2.2.1 b hb]
      show va_cpy _ _ 0 0 6 b = _
      unfold va_cpy
      rw [if_pos (by omega), show 0 + (b - 0) = b by omega]
    · rw [← hS.2.2.2.2 p hp]
      show va_cpy _ _ 0 0 8 p = _
      unfold va_cpy
      rw [if_pos (by omega), show 0 + (p - 0) = p by omega]
  refine ⟨⟨r2.1.1.of (fun k hk => up2_other (by omega)), r2.1.2⟩, ⟨if n = 40 then 40 else n + 1, by split <;> omega, ?_, keep7_n hn, fun j hj => ?_⟩, r2.2.2.1, r2.2.2.2.1, r2.2.2.2.2⟩
  · rw [up2_at]
    unfold keepX
    split <;> rfl
  · rw [keep7_r hn hj]
    show PRel T (keepP n (sub hx 40) km.1 j) _
    unfold keepP
    by_cases c : n = 40
    · rw [if_pos c] at hj
      rw [if_pos c, if_pos c, if_pos c]
      unfold setM
      by_cases ej : j = 39
      · rw [if_pos ej, if_pos ej]
        exact ⟨lk _, r2.1.2⟩
      · rw [if_neg ej, if_neg ej]
        unfold rotM
        rw [if_pos hj, Nat.mod_eq_of_lt (show j + 1 < 40 by omega)]
        exact hp (j + 1) (by omega)
    · rw [if_neg c] at hj
      rw [if_neg c, if_neg c, if_neg c]
      unfold setM
      by_cases ej : j = n
      · rw [if_pos ej, if_pos ej]
        exact ⟨lk _, r2.1.2⟩
      · rw [if_neg ej, if_neg ej]
        exact hp j (by omega)
/-- the state of both changes, and nothing else -/
theorem Rel.st {hx' h' : Mem} (r : Rel T hx km h) (ox : ∀ k, (5 ≤ k ∧ k ≤ 8) ∨ k = 12 ∨ k = 14 ∨ (22 ≤ k ∧ k ≤ 30) → hx' k = hx k) (o7 : ∀ k, (3 ≤ k ∧ k ≤ 17 ∧ k ≠ 13) ∨ k = 26 ∨ k = 29 ∨ (32 ≤ k ∧ k ≤ 34) ∨ k = 43 ∨ k = 45 ∨ (51 ≤ k ∧ k ≤ 55) ∨ (57 ≤ k ∧ k ≤ 68) → h' k = h k)
    (hp : PRel T (sub hx' 40) (rowM h')) : Rel T hx' km h' := by
  have r2 := r.2.1
  refine r.bk rfl (fun k hk => ox k (by omega)) (fun k hk => o7 k (by omega)) ?_
  rw [o7 29 (by omega), o7 32 (by omega), o7 33 (by omega), o7 34 (by omega), o7 51 (by omega), o7 52 (by omega), o7 53 (by omega), o7 54 (by omega), o7 55 (by omega), o7 15 (by omega)]
  unfold BRel
  rw [ox 28 (by omega), ox 29 (by omega), ox 30 (by omega), ox 22 (by omega), ox 23 (by omega), ox 24 (by omega), ox 25 (by omega), ox 26 (by omega), ox 27 (by omega)]
  exact ⟨hp, r2.2⟩
theorem sub_put (u S : Mem) (k : Nat) {j : Nat} (hj : j < 5) : sub (put5 u k S) k j = S j := by
  unfold sub put5
  rw [if_pos (by omega), show k + j - k = j by omega]
theorem put5_o {u S : Mem} {k j : Nat} (hj : ¬ (k ≤ j ∧ j < k + 5)) : put5 u k S j = u j := if_neg hj
theorem s_hours {P : Int32 → Mem → KM → Prop} {px : Nat → Prop} {a1 : Int32} (r : Rel T hx km h) (hP : ∀ v hx' km', LkN T (fun Q => wpX7_hours Q h a1) v hx' km' → P v hx' km') : wpX1_hours P hx T px km a1 := by
  have r1 := r.c 0
  have bad : (¬ ((1 : Int32) ≤ a1 ∧ a1 ≤ 99) ∨ ¬ (rowM h 0 + ((rowM h 1 + a1) / (24 : Int32))) ≤ (999 : Int32)) → wpBX1_hours_36 P T px km a1 hx := by
    intro c
    unfold wpBX1_hours_36
    try dsimp only
    refine c_refuses (w := 1) (by omega) (hP _ _ _ (fun Q hQ => ?_))
    have r3 := r1.refuse (w := 1) (by omega)
    unfold wpX7_hours
    intro h1 e1
    subst e1
    have g : wpBX7_hours_37 Q a1 (up2 h 2 0 0) := by
      unfold wpBX7_hours_37
      try dsimp only
      exact t_refuse (w := 1) (by omega) (hQ _ r3)
    refine t_isInL (a := 1) (b := 99) rfl rfl (bo (fun e => ⟨fun e2 => ?_, fun _ => g⟩) (fun _ => g))
    rcases c with c | c
    · exact absurd (of_decide_eq_true e) c
    · exact absurd e2 c
  unfold wpX1_hours
  try dsimp only
  rw [show hx 43 0 = rowM h 0 from r.S.1, show hx 44 0 = rowM h 1 from r.S.2.1]
  refine c_within (bo (fun e => ⟨fun e2 => ?_, fun e2 => bad (Or.inr e2)⟩) (fun e => bad (Or.inl (of_decide_eq_false e))))
  obtain ⟨n, hn, x28, h32, rk⟩ := r1.keep
  refine ⟨n, hn, x28, fun x7 e7 km8 ek x9 e9 x10 e10 => ?_⟩
  have hr := rk.R.2.2
  obtain ⟨d, hr', f0, f1, f2, f3⟩ := hr
  have s0 : x7 43 0 = rowM (keep7 (up2 h 2 0 0) n) 0 := by rw [e7]; exact rk.S.1
  have s1 : x7 44 0 = rowM (keep7 (up2 h 2 0 0) n) 1 := by rw [e7]; exact rk.S.2.1
  have k30 : keep7 (up2 h 2 0 0) n 30 0 = rowM h 0 := by rw [keep7_o (by decide), up2_other (by decide)]; rfl
  have k31 : keep7 (up2 h 2 0 0) n 31 0 = rowM h 1 := by rw [keep7_o (by decide), up2_other (by decide)]; rfl
  have s0' : x7 43 0 = rowM h 0 := s0.trans k30
  have s1' : x7 44 0 = rowM h 1 := s1.trans k31
  have eR0 : rowM (keep7 (up2 h 2 0 0) n) = rowM h := (rowM_of (fun k hk => keep7_o (by omega))).trans (eRow h 0)
  have v0 : x9 43 0 = rowM h 0 + ((rowM h 1 + a1) / (24 : Int32)) := by rw [e9, up2_at, s0', s1']
  have v1 : x10 44 0 = rowM h 1 + a1 - (rowM h 1 + a1) / (24 : Int32) * (24 : Int32) := by rw [e10, up2_at, e9, up2_other (by decide), s1']
  have v0' : x10 43 0 = rowM h 0 + ((rowM h 1 + a1) / (24 : Int32)) := by rw [e10, up2_other (by decide), v0]
  rw [v1]
  refine hP _ _ _ (fun Q hQ => ?_)
  unfold wpX7_hours
  intro h1 ee
  subst ee
  refine t_isInL (a := 1) (b := 99) rfl rfl (bo_t e (sw_t e2 (t_keep hn h32 (fun h10 d10 h11 d11 => ?_))))
  have w0 : h11 30 0 = rowM h 0 + ((rowM h 1 + a1) / (24 : Int32)) := by rw [d11, up2_other (by decide), d10, up2_at, k30, k31]
  have w1 : h11 31 0 = rowM h 1 + a1 - (rowM h 1 + a1) / (24 : Int32) * (24 : Int32) := by rw [d11, up2_at, d10, up2_other (by decide), k31]
  rw [w1]
  refine hQ _ ?_
  have ox : ∀ k, k ≠ 43 → k ≠ 44 → x10 k = up2 hx 28 0 (keepX n) k := fun k a b => by rw [e10, up2_other b, e9, up2_other a, e7]
  have o7 : ∀ k, k ≠ 30 → k ≠ 31 → h11 k = keep7 (up2 h 2 0 0) n k := fun k a b => by rw [d11, up2_other b, d10, up2_other a]
  rw [ek]
  refine rk.st (fun k hk => ox k (by omega) (by omega)) (fun k hk => o7 k (by omega) (by omega)) ?_
  -- the day and the hour
  obtain ⟨j, hj, ej⟩ := (w_in (n := 99) (x := a1) (by decide)).mp ⟨by have := (of_decide_eq_true e).1; rw [le_II] at *; have z : (1 : Int32).toInt = 1 := rfl; have z0 : (0 : Int32).toInt = 0 := rfl; omega, (of_decide_eq_true e).2⟩
  rw [eR0] at f0 f2
  have c1 : rowM h 1 + a1 = nI (hr' + j) := by rw [f2, ej, nI_add]
  have c2 : (rowM h 1 + a1) / (24 : Int32) = nI ((hr' + j) / 24) := by rw [c1]; exact pk_div (by omega) (by decide) (by decide)
  have c3 : rowM h 1 + a1 - (rowM h 1 + a1) / (24 : Int32) * (24 : Int32) = nI ((hr' + j) % 24) := by rw [c1]; exact pk_rem (by omega) (by decide) (by decide)
  have c4 : rowM h11 0 = nI (d + (hr' + j) / 24) := by
    show h11 30 0 = _
    rw [w0, c2, f0, nI_add]
  have c5 : rowM h11 1 = nI ((hr' + j) % 24) := by
    show h11 31 0 = _
    rw [w1, c3]
  have eo : ∀ k, 2 ≤ k → rowM h11 k = rowM h k := fun k hk => by
    rw [← eR0]
    unfold rowM
    rw [if_neg (show ¬ k = 0 by omega), if_neg (show ¬ k = 1 by omega), if_neg (show ¬ k = 0 by omega), if_neg (show ¬ k = 1 by omega), o7 13 (by decide) (by decide), o7 27 (by decide) (by decide), o7 28 (by decide) (by decide)]
  have em : ∀ a b, mdR (rowM h11) a b = mdR (rowM h) a b := fun a b => eo _ (by omega)
  have el : ∀ a b, lastD T (rowM h11) a b = lastD T (rowM h) a b := fun a b => by
    unfold lastD ld3 ld2 ld1
    simp only [em]
  have dl : d + (hr' + j) / 24 ≤ 999 := by
    rw [c2, f0, nI_add, show (999 : Int32) = nI 999 from rfl, nI_leI (by omega) (by decide)] at e2
    exact e2
  refine ⟨⟨?_, ?_, fun a b ha hb hab => ?_, fun b hb => ?_, fun p hp => ?_⟩, ?_, fun a b ha hb => ?_, d + (hr' + j) / 24, (hr' + j) % 24, c4, by omega, c5, Nat.mod_lt _ (by decide)⟩
  · show x10 43 0 = h11 30 0
    rw [v0', w0]
  · show x10 44 0 = h11 31 0
    rw [v1, w1]
  · rw [el, ← eR0, ← rk.S.2.2.1 a b ha hb hab]
    show x10 40 _ = _
    rw [ox 40 (by decide) (by decide)]
    rfl
  · rw [eo _ (by omega), ← eR0, ← rk.S.2.2.2.1 b hb]
    show x10 41 _ = _
    rw [ox 41 (by decide) (by decide)]
    rfl
  · rw [eo _ (by omega), ← eR0, ← rk.S.2.2.2.2 p hp]
    show x10 42 _ = _
    rw [ox 42 (by decide) (by decide)]
    rfl
  · intro a b ha hb
    rw [em, em]
    have := rk.R.1 a b ha hb
    rw [eR0] at this
    exact this
  · rw [em, c4]
    have := rk.R.2.1 a b ha hb
    rw [eR0, f0] at this
    exact leI_trans this (nI_le (by omega) (by omega))
theorem s_fair {P : Int32 → Mem → KM → Prop} {px : Nat → Prop} {a1 : Int32} (r : Rel T hx km h) (hP : ∀ v hx' km', LkN T (fun Q => wpX7_fair Q h a1) v hx' km' → P v hx' km') : wpX1_fair P hx T px km a1 := by
  have hT := r.T
  have h8 := hT.n8
  have h2 : 2 ^ T 0 0 ≤ 256 := Nat.pow_le_pow_right (by decide) (show T 0 0 ≤ 8 from h8)
  have h1p : 1 ≤ 2 ^ T 0 0 := Nat.one_le_two_pow
  have r1 := r.c 0
  have hM1 : TM T (up2 h 2 0 0) := r1.M
  -- in range: a number below 2^people
  have rg : ∀ {x : Int32}, ((0 : Int32) ≤ x ∧ x ≤ nI (2 ^ T 0 0 - 1)) ↔ ∃ j, j ≤ 2 ^ T 0 0 - 1 ∧ x = nI j := w_in (by omega)
  have em : (((1 : Int32) <<< (up2 h 2 0 0 3 0 &&& 31)) - (1 : Int32)) = nI (2 ^ T 0 0 - 1) := by
    rw [hM1.n, sh1_I _ (by omega)]
    exact pk_s1 h1p
  have bad : (∀ j, j < 2 ^ T 0 0 → a1 = nI j → pcN j < 2) → wpBX1_fair_22 P T px km a1 hx := by
    intro c
    unfold wpBX1_fair_22
    try dsimp only
    refine c_refuses (w := 1) (by omega) (hP _ _ _ (fun Q hQ => ?_))
    have r3 := r1.refuse (w := 1) (by omega)
    unfold wpX7_fair
    intro h1 e1
    subst e1
    rw [em]
    have g : wpBX7_fair_33 Q a1 (up2 h 2 0 0) := by
      unfold wpBX7_fair_33
      try dsimp only
      exact t_refuse (w := 1) (by omega) (hQ _ r3)
    refine t_isInL (a := 0) (b := nI (2 ^ T 0 0 - 1)) rfl rfl (bo (fun e => ?_) (fun _ => g))
    obtain ⟨j, hj, ej⟩ := rg.mp (of_decide_eq_true e)
    have hc := c j (by omega) ej
    rw [ej] at g ⊢
    exact t_bitsOf (by omega) ⟨fun e2 => absurd e2 (nI_ge hc (by decide)), fun _ => g⟩
  unfold wpX1_fair wpX1_people
  try dsimp only
  refine ⟨fun e => bad (fun j hj ej => absurd e (by rw [ej]; exact nI_pos (by omega))), fun e => ?_⟩
  rw [sh1_I _ (by omega)]
  obtain ⟨j, hj, ej⟩ := nI_of e
  subst ej
  refine pk_le (2 ^ T 0 0) j (fun c => bad (fun i hi ei => absurd ((nI_eq (by omega) (by omega)).mp ei) (by omega))) (fun c => ?_)
  have hpl := pcN_le j
  rw [bitc_I j (by omega)]
  refine pk_le 2 (pcN j) (fun c2 => ?_) (fun c2 => bad (fun i hi ei => by rw [← (nI_eq (by omega) (by omega)).mp ei]; exact c2))
  obtain ⟨n, hn, x28, h32, rk⟩ := r1.keep
  refine ⟨n, hn, x28, fun x9 e9 km10 ek => c_fair hT (by omega) (fun x12 e12 => hP _ _ _ (fun Q hQ => ?_))⟩
  unfold wpX7_fair
  intro h1 e1
  subst e1
  rw [em]
  refine t_isInL (a := 0) (b := nI (2 ^ T 0 0 - 1)) rfl rfl (bo_t (decide_eq_true (rg.mpr ⟨j, by omega, rfl⟩)) (t_bitsOf (by omega) (sw_t (nI_le c2 (by omega)) (t_keep hn h32 (t_fairOf hT rk.M.n (by omega) (t_bitsOf (by omega) (hQ _ ?_)))))))
  rw [ek]
  have hS9 : SRel T (sub x9 40) (rowM (keep7 (up2 h 2 0 0) n)) := by rw [e9]; exact rk.S
  have hf := fair_rel hT (f := fun i => j.testBit i) hS9 rk.R
  have hx9 : Rel T x9 (keepP n (sub hx 40) km.1, km.2) (keep7 (up2 h 2 0 0) n) := by rw [e9]; exact rk
  rw [e12]
  refine hx9.st (fun k hk => put5_o (by omega)) (fun k hk => fair7_o (by omega)) ?_
  rw [rowM_fair (by omega)]
  exact ⟨hf.1.of (fun k hk => sub_put _ _ _ hk), hf.2⟩
theorem s_undo {P : Int32 → Mem → KM → Prop} {px : Nat → Prop} (r : Rel T hx km h) (hP : ∀ v hx' km', LkN T (fun Q => wpX7_undo Q h) v hx' km' → P v hx' km') : wpX1_undo P hx T px km := by
  have hT := r.T
  have h8 := hT.n8
  have r1 := r.c 0
  obtain ⟨n, hn, x28, h32, hp⟩ := r.2.1.2.1
  have h32' : up2 h 2 0 0 32 0 = nI n := by rw [up2_other (by decide)]; exact h32
  unfold wpX1_undo
  try dsimp only
  rw [x28]
  refine pk_e0 n (fun c => hP _ _ _ (fun Q hQ => ?_)) (fun c => ?_)
  · unfold wpX7_undo
    intro h1 e1
    subst e1
    rw [h32']
    exact sw_t (by rw [c]; rfl) (hQ _ r1)
  · intro x2 e2
    have e2' : x2 28 0 = nI (n - 1) := by rw [e2, up2_at]; exact pk_s1 (by omega)
    refine ⟨n - 1, by omega, e2', fun x4 e4 => ?_⟩
    have e4' : x4 28 0 = nI (n - 1) := by rw [e4, put5_o (by decide)]; exact e2'
    rw [e4']
    refine hP _ _ _ (fun Q hQ => ?_)
    unfold wpX7_undo
    intro h1 e1
    subst e1
    rw [h32']
    refine sw_f (nI_ne0 (by omega) (by omega)) (fun h3 e3 => ?_)
    have e3' : h3 32 0 = nI (n - 1) := by rw [e3, up2_at]; exact pk_s1 (by omega)
    rw [e3', show (80 : Int32) * nI (n - 1) = nI (80 * (n - 1)) from pk_mul 80 _]
    refine t_unpack ⟨by decide, by decide, by decide, by decide, by decide⟩ (by show 80 * (n - 1) + 80 ≤ 3200; omega) (by decide) ?_
    rw [unM_o (by decide), e3']
    refine hQ _ ?_
    have ox : ∀ k, k ≠ 28 → ¬ (40 ≤ k ∧ k < 45) → x4 k = hx k := fun k a b => by rw [e4, put5_o (by omega), e2, up2_other a]
    have o3 : ∀ k, k ≠ 2 → k ≠ 32 → h3 k = h k := fun k a b => by rw [e3, up2_other b, up2_other a]
    have o7 : ∀ k, k ≠ 2 → k ≠ 32 → (k ≠ 30 ∧ k ≠ 31 ∧ k ≠ 13 ∧ k ≠ 27 ∧ k ≠ 28) → unM h3 29 (80 * (n - 1)) 64 6 8 k = h k := fun k a b c => by rw [unM_o c, o3 k a b]
    have r2 := r.2.1
    have hpn := hp (n - 1) (by omega)
    have e29 : h3 29 = h 29 := o3 29 (by decide) (by decide)
    refine r.bk rfl (fun k hk => ox k (by omega) (by omega)) (fun k hk => o7 k (by omega) (by omega) (by omega)) ?_
    rw [rowM_un, o7 29 (by decide) (by decide) (by decide), o7 33 (by decide) (by decide) (by decide), o7 34 (by decide) (by decide) (by decide), o7 51 (by decide) (by decide) (by decide), o7 52 (by decide) (by decide) (by decide), o7 53 (by decide) (by decide) (by decide), o7 54 (by decide) (by decide) (by decide), o7 55 (by decide) (by decide) (by decide), o7 15 (by decide) (by decide) (by decide), unM_o (by decide), e3', e29]
    unfold BRel
    rw [e4', ox 29 (by decide) (by decide), ox 30 (by decide) (by decide), ox 22 (by decide) (by decide), ox 23 (by decide) (by decide), ox 24 (by decide) (by decide), ox 25 (by decide) (by decide), ox 26 (by decide) (by decide), ox 27 (by decide) (by decide)]
    refine ⟨⟨?_, hpn.2⟩, ⟨n - 1, by omega, rfl, rfl, fun j hj => hp j (by omega)⟩, r2.2.2⟩
    have hS := hpn.1
    refine SRel.of (S := likeM (sub x2 40) (km.1 (n - 1))) ?_ (fun k hk => by rw [e4]; exact sub_put _ _ _ hk)
    refine ⟨hS.1, hS.2.1, fun a b ha hb hab => ?_, fun b hb => ?_, fun p hp => ?_⟩
    · rw [← hS.2.2.1 a b ha hb hab]
      show va_cpy _ _ 0 0 64 (8 * a + b) = _
      unfold va_cpy
      rw [if_pos (by omega), show 0 + (8 * a + b - 0) = 8 * a + b by omega]
    · rw [← hS.2.2.2.1 b hb]
      show va_cpy _ _ 0 0 6 b = _
      unfold va_cpy
      rw [if_pos (by omega), show 0 + (b - 0) = b by omega]
    · rw [← hS.2.2.2.2 p hp]
      show va_cpy _ _ 0 0 8 p = _
      unfold va_cpy
      rw [if_pos (by omega), show 0 + (p - 0) = p by omega]
end S2
