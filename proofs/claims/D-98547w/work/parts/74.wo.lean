/-! 74.wo: whom: on both sides -/
section S10
variable {T : TT} {hx h : Mem} {km : KM} {o : Int64} {R : Nat → Int32}
def blB (T : TT) (R : Nat → Int32) (q : Nat) (bw bl : Nat → Int32) : Bool := allB (fun j => kneB T R (ix (bw j)) (ix (bl j))) q
abbrev BaOK (T : TT) (q : Nat) (bw bl : Nat → Int32) : Prop := ∀ j, j < q → ∃ p b : Nat, p < T 0 0 ∧ b < T 0 1 ∧ bw j = nI p ∧ bl j = nI b
theorem anyB_s (f : Nat → Bool) (n : Nat) : anyB f (n + 1) = (anyB f n || f n) := rfl
theorem c_isBalked (hT : TOK T) {k1 q : Nat} (hS : SRel T (sub h k1) R) {bw bl : Nat → Int32} (hq4 : q ≤ 4) (e30 : h 30 0 = nI q) (eb : ∀ j, j < q → h 25 j = bw j ∧ h 26 j = bl j) (hb : BaOK T q bw bl) {post : Bool → Prop} (hp : post (blB T R q bw bl)) : wpX1_isBalked post h T k1 := by
  have h8 := hT.n8
  have h6 := hT.n6
  unfold wpX1_isBalked
  refine LW_nat (fun i => nI i) q (fun i => allB (fun j => kneB T R (ix (bw j)) (ix (bl j))) i = true) rfl rfl (fun K i hi hI k => ?_)
  unfold wpBX1_isBalked_2
  try dsimp only
  rw [e30]
  refine pk_le q i (fun c => ?_) (fun c => ?_)
  · have e : i = q := by omega
    subst e
    unfold blB at hp
    rw [hI] at hp
    exact hp
  obtain ⟨p, b, hpp, hbb, e1, e2⟩ := hb i c
  have hl := hT.l hbb
  rw [ixn (by omega), (eb i c).2, e2]
  refine ⟨pk_in i 4 (by omega), b, rfl, hbb, ?_⟩
  have k : kneB T R p b = true → K (nI (i + 1)) := fun e => k c (by rw [allB_s, hI, e1, e2, ixn (by omega), ixn (by omega), e]; rfl)
  have kf : kneB T R p b = false → post false := fun e => by
    have : blB T R q bw bl = false := allB_f c (by rw [e1, e2, ixn (by omega), ixn (by omega)]; exact e)
    rw [this] at hp
    exact hp
  clear hp
  refine LW_nat (fun j => ((if anyB (fun i => decide (et T b i ≠ p) && knB T R p (et T b i)) j = true then (1 : Int32) else 0), nI j)) (T 8 b) (fun _ => True) rfl trivial (fun K2 j hj _ k2 => ?_)
  unfold wpBX1_isBalked_42 wpBX1_isBalked_103 wpBX1_isBalked_107
  try dsimp only
  rw [nI_1 i, nI_1 j, show ix (nI i) = i from ixn (by omega), (eb i c).1, e1]
  refine pk_le (T 8 b) j (fun c2 => ?_) (fun c2 => ?_)
  · have e : j = T 8 b := by omega
    subst e
    by_cases c3 : anyB (fun i => decide (et T b i ≠ p) && knB T R p (et T b i)) (T 8 b) = true
    · rw [if_pos c3]
      exact ⟨fun h => absurd h (by decide), fun _ => k c3⟩
    · rw [if_neg c3]
      exact ⟨fun _ => kf (Bool.eq_false_iff.mpr c3), fun h => absurd rfl h⟩
  have k2 : K2 ((if anyB (fun i => decide (et T b i ≠ p) && knB T R p (et T b i)) (j + 1) = true then (1 : Int32) else 0), nI (j + 1)) := k2 c2 trivial
  rw [anyB_s] at k2
  by_cases c3 : anyB (fun i => decide (et T b i ≠ p) && knB T R p (et T b i)) j = true
  · rw [if_pos c3]
    rw [c3, Bool.true_or, if_pos rfl] at k2
    exact ⟨fun h => absurd h (by decide), fun _ => k2⟩
  · have c3' := Bool.eq_false_iff.mpr c3
    rw [if_neg c3]
    rw [c3', Bool.false_or] at k2
    have a1 : et T b j < T 0 0 := hT.e hbb c2
    refine ⟨fun _ => ⟨pk_in j (T 8 b) c2, pk_in i 4 (by omega), ?_⟩, fun h => absurd rfl h⟩
    rw [ixn (show j < 2 ^ 31 by omega)]
    show (nI (et T b j) = nI p → _) ∧ (¬ nI (et T b j) = nI p → wpX6_knows _ _ _ _ (nI (et T b j)))
    refine ⟨fun c4 => ?_, fun c4 => c_knows hT hS hpp a1 ?_⟩
    · have c4 : et T b j = p := (nI_eq (by omega) (by omega)).mp c4
      rw [decide_eq_false (fun h => h c4), Bool.false_and, if_neg (by decide)] at k2
      exact k2
    · have c4 : et T b j ≠ p := fun h => c4 (by rw [h])
      rw [decide_eq_true c4, Bool.true_and] at k2
      exact k2
theorem t_isBalked (hT : TOK T) (hM : TM T h) {q : Nat} {bw bl : Nat → Int32} (hq4 : q ≤ 4) (e34 : h 34 0 = nI q) (eb : ∀ j, j < q → h 54 j = bw j ∧ h 55 j = bl j) (hb : BaOK T q bw bl) {post : Bool → Prop} (hp : post (blB T (rowM h) q bw bl)) : wpX7_isBalked post h := by
  have h8 := hT.n8
  have h6 := hT.n6
  unfold wpX7_isBalked
  refine LW_nat (fun i => nI i) q (fun i => allB (fun j => kneB T (rowM h) (ix (bw j)) (ix (bl j))) i = true) rfl rfl (fun K i hi hI k => ?_)
  unfold wpBX7_isBalked_2
  try dsimp only
  rw [e34]
  refine pk_le q i (fun c => ?_) (fun c => ?_)
  · have e : i = q := by omega
    subst e
    unfold blB at hp
    rw [hI] at hp
    exact hp
  obtain ⟨p, b, hpp, hbb, e1, e2⟩ := hb i c
  rw [ixn (by omega), (eb i c).1, (eb i c).2, e1, e2]
  refine ⟨pk_in i 4 (by omega), pk_in i 4 (by omega), t_knowsEater hT hM hpp hbb ⟨fun e => ?_, fun e => ?_⟩⟩
  · rw [nI_1]
    exact k c (by rw [allB_s, hI, e1, e2, ixn (by omega), ixn (by omega), e]; rfl)
  · have : blB T (rowM h) q bw bl = false := allB_f c (by rw [e1, e2, ixn (by omega), ixn (by omega)]; exact Bool.eq_false_iff.mpr e)
    rw [this] at hp
    exact hp
theorem setR_back {a b : Nat} (hs : RSym R) (ha : a < 8) (hb : b < 8) (d : Int32) : setR (setR R a b d) a b (mdR R a b) = R := by
  funext k
  unfold setR
  by_cases c1 : k = 2 + (8 * a + b)
  · rw [if_pos c1, c1]; rfl
  · rw [if_neg c1]
    by_cases c2 : k = 2 + (8 * b + a)
    · rw [if_pos c2, hs a b ha hb, c2]; rfl
    · rw [if_neg c2, if_neg c1, if_neg c2]
def wm1 (T : TT) (R : Nat → Int32) (q : Nat) (bw bl : Nat → Int32) (a k : Nat) (x : Int32 × Int32) : Int32 × Int32 := if bkB T R a (a + 1 + k) = true then x else if blB T (meetR R a (a + 1 + k)) q bw bl = true then (x.1 + 1, if x.2 = -1 then (10 : Int32) * nI a + nI (a + 1 + k) else x.2) else x
def wm2 (T : TT) (R : Nat → Int32) (q : Nat) (bw bl : Nat → Int32) (a : Nat) (x : Int32 × Int32) : Int32 × Int32 := it (wm1 T R q bw bl a) (T 0 0 - (a + 1)) x
def wmI (T : TT) (R : Nat → Int32) (q : Nat) (bw bl : Nat → Int32) (n : Nat) : Int32 × Int32 := it (wm2 T R q bw bl) n (0, -1)
theorem c_whom (hT : TOK T) (hS : SRel T (sub hx 40) R) (hR : RowOK R) {q : Nat} {bw bl : Nat → Int32} (hq4 : q ≤ 4) (e30 : hx 30 0 = nI q) (eb : ∀ j, j < q → hx 25 j = bw j ∧ hx 26 j = bl j) (hb : BaOK T q bw bl) {a1 : Int32} {post : Int32 → Mem → Prop} {px : Nat → Prop} (hp : ∀ hx', (∀ k, k < 50 → hx' k = hx k) → post (if a1 = 0 then (wmI T R q bw bl (T 0 0)).1 else (wmI T R q bw bl (T 0 0)).2) hx') : ∃ n, wpLX1_whom_16 post T px a1 n (hx, 0, -1, 0) := by
  have h8 := hT.n8
  have h6 := hT.n6
  refine LW_ix (τ := Mem × Nat) (fun t => (t.1, (wmI T R q bw bl t.2).1, (wmI T R q bw bl t.2).2, nI t.2)) (fun t => t.2 ≤ T 0 0 ∧ ∀ k, k < 50 → t.1 k = hx k) (fun t => T 0 0 - t.2) (fun K t ht k => ?_) (hx, 0) ⟨Nat.zero_le _, fun _ _ => rfl⟩
  obtain ⟨x, a⟩ := t
  obtain ⟨han, ho⟩ := ht
  dsimp only at han ho
  unfold wpBX1_whom_16 wpX1_people
  try dsimp only
  refine pk_le (T 0 0) a (fun c => ?_) (fun c => ?_)
  · have e : a = T 0 0 := by omega
    subst e
    exact hp x ho
  rw [nI_1]
  have nx : ∀ x', (∀ k, k < 50 → x' k = hx k) → K (x', (wm2 T R q bw bl a (wmI T R q bw bl a)).1, (wm2 T R q bw bl a (wmI T R q bw bl a)).2, nI (a + 1)) := fun x' hx' => k (x', a + 1) ⟨c, hx'⟩ (by show T 0 0 - (a + 1) < T 0 0 - a; omega)
  generalize wmI T R q bw bl a = w at nx
  refine LW_ix (τ := Mem × Nat) (fun t => (t.1, (it (wm1 T R q bw bl a) t.2 w).1, (it (wm1 T R q bw bl a) t.2 w).2, nI (a + 1 + t.2))) (fun t => t.2 ≤ T 0 0 - (a + 1) ∧ ∀ k, k < 50 → t.1 k = hx k) (fun t => T 0 0 - (a + 1) - t.2) (fun K2 t ht k2 => ?_) (x, 0) ⟨Nat.zero_le _, ho⟩
  obtain ⟨y, j⟩ := t
  obtain ⟨hj, hy⟩ := ht
  dsimp only at hj hy
  unfold wpBX1_whom_31 wpX1_people
  try dsimp only
  refine pk_le (T 0 0) (a + 1 + j) (fun c2 => ?_) (fun c2 => ?_)
  · have e : j = T 0 0 - (a + 1) := by omega
    subst e
    rw [nI_1]
    exact nx y hy
  rw [nI_1 (a + 1 + j)]
  have nx2 : ∀ x', (∀ k, k < 50 → x' k = hx k) → K2 (x', (wm1 T R q bw bl a j (it (wm1 T R q bw bl a) j w)).1, (wm1 T R q bw bl a j (it (wm1 T R q bw bl a) j w)).2, nI (a + 1 + j + 1)) := fun x' hx' => k2 (x', j + 1) ⟨by show j + 1 ≤ _; omega, hx'⟩ (by show T 0 0 - (a + 1) - (j + 1) < T 0 0 - (a + 1) - j; omega)
  generalize it (wm1 T R q bw bl a) j w = v at nx2
  unfold wm1 at nx2
  have hSy : SRel T (sub y 40) R := hS.of (fun k hk => hy (40 + k) (by omega))
  refine c_bothKnow hT hSy c c2 ⟨fun c3 => ?_, fun c3 h13 e13 => ?_⟩
  · rw [if_pos c3] at nx2
    exact nx2 y hy
  rw [if_neg c3] at nx2
  have hS13 : SRel T (sub h13 50) R := (like_SRel hT hSy).of (S := likeM (sub y 50) (sub y 40)) (fun k hk => by rw [e13]; exact sub_put _ _ _ hk)
  have ed : h13 43 0 = sub h13 50 3 0 := by
    have u1 : h13 43 0 = R 0 := by rw [e13, put5_o (by decide)]; exact hSy.1
    rw [u1]
    exact hS13.1.symm
  rw [ed]
  refine c_meet hT c c2 (fun h15 e15 => ?_)
  have hy15 : ∀ k, k < 50 → h15 k = hx k := fun k hk => by rw [e15, put5_o (by omega), e13, put5_o (by omega)]; exact hy k hk
  have hS15 : SRel T (sub h15 50) (meetR R a (a + 1 + j)) := (meet_day hT hS13 hR c c2).of (fun k hk => by rw [e15]; exact sub_put _ _ _ hk)
  refine c_isBalked hT hS15 hq4 (by rw [hy15 30 (by omega)]; exact e30) (fun j hj => by rw [hy15 25 (by omega), hy15 26 (by omega)]; exact eb j hj) hb ?_
  have nx2 := nx2 h15 hy15
  by_cases c4 : blB T (meetR R a (a + 1 + j)) q bw bl = true
  · rw [if_pos c4] at nx2
    rw [if_pos c4, if_pos c4, ite_self]
    exact nx2
  · rw [if_neg c4] at nx2
    rw [if_neg c4, if_neg c4]
    exact nx2
theorem t_whom (hT : TOK T) (hM : TM T h) (hR : RowOK (rowM h)) {q : Nat} {bw bl : Nat → Int32} (hq4 : q ≤ 4) (e34 : h 34 0 = nI q) (eb : ∀ j, j < q → h 54 j = bw j ∧ h 55 j = bl j) (hb : BaOK T q bw bl) {a1 : Int32} {post : Int32 → Mem → Prop} (hp : ∀ h', (∀ k, k ≠ 13 → h' k = h k) → rowM h' = rowM h → post (if a1 = 0 then (wmI T (rowM h) q bw bl (T 0 0)).1 else (wmI T (rowM h) q bw bl (T 0 0)).2) h') : ∃ n, wpLX7_whom_27 post a1 n (h, 0, -1, 0) := by
  have h8 := hT.n8
  have h6 := hT.n6
  refine LW_ix (τ := Mem × Nat) (fun t => (t.1, (wmI T (rowM h) q bw bl t.2).1, (wmI T (rowM h) q bw bl t.2).2, nI t.2)) (fun t => t.2 ≤ T 0 0 ∧ (∀ k, k ≠ 13 → t.1 k = h k) ∧ rowM t.1 = rowM h) (fun t => T 0 0 - t.2) (fun K t ht k => ?_) (h, 0) ⟨Nat.zero_le _, fun _ _ => rfl, rfl⟩
  obtain ⟨x, a⟩ := t
  obtain ⟨han, ho, hr⟩ := ht
  dsimp only at han ho hr
  unfold wpBX7_whom_27
  try dsimp only
  rw [show x 3 0 = nI (T 0 0) by rw [ho 3 (by decide)]; exact hM.n]
  refine pk_le (T 0 0) a (fun c => ?_) (fun c => ?_)
  · have e : a = T 0 0 := by omega
    subst e
    exact hp x ho hr
  rw [nI_1]
  have nx : ∀ x', (∀ k, k ≠ 13 → x' k = h k) → rowM x' = rowM h → K (x', (wm2 T (rowM h) q bw bl a (wmI T (rowM h) q bw bl a)).1, (wm2 T (rowM h) q bw bl a (wmI T (rowM h) q bw bl a)).2, nI (a + 1)) := fun x' hx' hr' => k (x', a + 1) ⟨c, hx', hr'⟩ (by show T 0 0 - (a + 1) < T 0 0 - a; omega)
  generalize wmI T (rowM h) q bw bl a = w at nx
  refine LW_ix (τ := Mem × Nat) (fun t => (t.1, (it (wm1 T (rowM h) q bw bl a) t.2 w).1, (it (wm1 T (rowM h) q bw bl a) t.2 w).2, nI (a + 1 + t.2))) (fun t => t.2 ≤ T 0 0 - (a + 1) ∧ (∀ k, k ≠ 13 → t.1 k = h k) ∧ rowM t.1 = rowM h) (fun t => T 0 0 - (a + 1) - t.2) (fun K2 t ht k2 => ?_) (x, 0) ⟨Nat.zero_le _, ho, hr⟩
  obtain ⟨y, j⟩ := t
  obtain ⟨hj, hy, hry⟩ := ht
  dsimp only at hj hy hry
  have hMy : TM T y := hM.of (fun k h1 h2 h3 => hy k h3)
  unfold wpBX7_whom_44
  try dsimp only
  rw [hMy.n]
  refine pk_le (T 0 0) (a + 1 + j) (fun c2 => ?_) (fun c2 => ?_)
  · have e : j = T 0 0 - (a + 1) := by omega
    subst e
    rw [nI_1]
    exact nx y hy hry
  rw [nI_1 (a + 1 + j)]
  have nx2 : ∀ x', (∀ k, k ≠ 13 → x' k = h k) → rowM x' = rowM h → K2 (x', (wm1 T (rowM h) q bw bl a j (it (wm1 T (rowM h) q bw bl a) j w)).1, (wm1 T (rowM h) q bw bl a j (it (wm1 T (rowM h) q bw bl a) j w)).2, nI (a + 1 + j + 1)) := fun x' hx' hr' => k2 (x', j + 1) ⟨by show j + 1 ≤ _; omega, hx', hr'⟩ (by show T 0 0 - (a + 1) - (j + 1) < T 0 0 - (a + 1) - j; omega)
  generalize it (wm1 T (rowM h) q bw bl a) j w = v at nx2
  unfold wm1 bkB at nx2
  have w80 : ¬ (knB T (rowM h) a (a + 1 + j) && knB T (rowM h) (a + 1 + j) a) = true → wpBX7_whom_80 post a1 (fun h x2 x3 x4 => K (h, x2, x3, x4)) (fun h x2 x3 x5 => K2 (h, x2, x3, x5)) y v.1 v.2 (nI a) (nI (a + 1 + j)) := by
    intro c3
    unfold wpBX7_whom_80 wpX7_couple
    try dsimp only
    rw [e8, ixn (by omega)]
    refine ⟨pk_in (8 * a + (a + 1 + j)) 128 (by omega), t_meet (by omega) (by omega) ?_⟩
    have hM2 : TM T (meet7 y a (a + 1 + j) (y 30 0)) := hMy.of (fun k h1 h2 h3 => meet7_o h3)
    have d0 : y 30 0 = rowM h 0 := by rw [← hry]; rfl
    have hr2 : rowM (meet7 y a (a + 1 + j) (y 30 0)) = meetR (rowM h) a (a + 1 + j) := by
      rw [rowM_meet (by omega) (by omega), hry, d0]
      rfl
    refine t_isBalked hT hM2 hq4 (by rw [meet7_o (by decide), hy 34 (by decide)]; exact e34) (fun j hj => by rw [meet7_o (by decide), meet7_o (by decide), hy 54 (by decide), hy 55 (by decide)]; exact eb j hj) hb ?_
    rw [hr2]
    refine t_meet (by omega) (by omega) ?_
    have hr3 : rowM (meet7 (meet7 y a (a + 1 + j) (y 30 0)) a (a + 1 + j) (y 13 (8 * a + (a + 1 + j)))) = rowM h := by
      rw [rowM_meet (by omega) (by omega), rowM_meet (by omega) (by omega), ← rowM_mdR y (show a < 8 by omega) (show a + 1 + j < 8 by omega), hry]
      exact setR_back hR.1 (by omega) (by omega) _
    have nx2 := nx2 (meet7 (meet7 y a (a + 1 + j) (y 30 0)) a (a + 1 + j) (y 13 (8 * a + (a + 1 + j)))) (fun k hk => by rw [meet7_o hk, meet7_o hk]; exact hy k hk) hr3
    rw [nI_1 (a + 1 + j), if_neg c3] at *
    by_cases c4 : blB T (meetR (rowM h) a (a + 1 + j)) q bw bl = true
    · rw [if_pos c4] at nx2
      rw [if_pos c4, if_pos c4, ite_self]
      exact nx2
    · rw [if_neg c4] at nx2
      rw [if_neg c4, if_neg c4]
      exact nx2
  refine t_isKnown hT hMy c c2 ?_
  rw [hry]
  refine ⟨fun c3 => t_isKnown hT hMy c2 c ?_, fun c3 => w80 ?_⟩
  · rw [hry]
    refine ⟨fun c4 => ?_, fun c4 => w80 ?_⟩
    · rw [if_pos (by rw [c3, c4]; rfl)] at nx2
      exact nx2 y hy hry
    · rw [c3, Bool.true_and]; exact c4
  · rw [Bool.eq_false_iff.mpr c3, Bool.false_and]; decide
theorem s_whom {P : LPT} {a1 : Int32} (r : Rel T hx km h) (hP : ∀ k v hx', LkI T (fun Q => wpX7_whom Q h a1) k v hx' km → P k v hx' km) : wpX0_whom P T hx km o a1 := by
  have hT := r.T
  have r1 := r.c 0
  have r2 := r1.c 1
  have hM1 : TM T (up2 h 2 0 0) := r1.M
  unfold wpX0_whom wpX1_whom
  refine c_within ?_
  obtain ⟨b1, b2, b3, ⟨q, hq, g30, hba, h25⟩, b5⟩ := r1.2.1
  by_cases c : 0 ≤ a1 ∧ a1 ≤ 1
  · refine bo_t (decide_eq_true c) (c_whom hT r.S r.R hq g30 (bw := up2 h 2 0 0 54) (bl := up2 h 2 0 0 55) (fun j hj => ⟨(h25 j hj).1, (h25 j hj).2.1⟩) (fun j hj => (h25 j hj).2.2) (fun hx' ho => hP 0 _ _ (fun Q hQ => ?_)))
    unfold wpX7_whom
    intro h1 e1
    subst e1
    refine sw_f (by rw [lt_II]; have := c.1; rw [le_II] at this; omega) (sw_t c.2 ?_)
    refine t_whom hT hM1 r1.R hq hba (bw := up2 h 2 0 0 54) (bl := up2 h 2 0 0 55) (fun j hj => ⟨rfl, rfl⟩) (fun j hj => (h25 j hj).2.2) (fun h' h7 hr => ?_)
    rw [eRow]
    refine hQ _ _ (r1.of2 (fun k hk => ho k (by unfold rlX at hk; omega)) (fun k _ a _ _ _ _ => h7 k a) hr) ((congrFun (h7 2 (by decide)) 0).trans (code_at h 0)) (fun _ => rfl)
  · refine bo_f (decide_eq_false c) ⟨rfl, hP 1 _ _ (fun Q hQ => ?_)⟩
    unfold wpX7_whom wpBX7_whom_14
    intro h1 e1
    subst e1
    have no := hQ 0 _ r2 (code_at _ 1) (fun h => absurd h (by decide))
    refine ⟨fun _ => t_fail no, fun c1 => sw_f (fun c2 => c ⟨?_, c2⟩) (t_fail no)⟩
    rw [lt_II] at c1
    rw [le_II]
    omega
end S10
