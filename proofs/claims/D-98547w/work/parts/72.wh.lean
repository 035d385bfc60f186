/-! 72.wh: who: on both sides -/
section S8
variable {T : TT} {hx h : Mem} {km : KM} {o : Int64} {R : Nat → Int32}
def vwB (T : TT) (R : Nat → Int32) (b p : Nat) (sl sa sm : Nat → Int32) (i : Nat) : Bool := !(decide (sl i = nI b)) || decide (nI (finG T p b (R (72 + p)) (ix (sa i))) = sm i)
def whB (T : TT) (R : Nat → Int32) (b s : Nat) (sl sa sm : Nat → Int32) (p : Nat) : Bool := !(eatB T p b) && allB (vwB T R b p sl sa sm) s
theorem ShO.tr {h0 h1 h2 : Mem} (a : ShO h0 h1) (b : ShO h1 h2) : ShO h0 h2 := fun k x y z => (b k x y z).trans (a k x y z)
theorem Sh7.tr {h0 h1 h2 : Mem} (a : Sh7 h0 h1) (b : Sh7 h1 h2) : Sh7 h0 h2 := fun k x => (b k x).trans (a k x)
theorem vw_f {T : TT} {R : Nat → Int32} {b p : Nat} {sl sa sm : Nat → Int32} {i : Nat} (e : ¬ sl i = nI b) : vwB T R b p sl sa sm i = true := by
  unfold vwB
  rw [decide_eq_false e]; rfl
theorem vw_t {T : TT} {R : Nat → Int32} {b p : Nat} {sl sa sm : Nat → Int32} {i : Nat} (e : sl i = nI b) : vwB T R b p sl sa sm i = decide (nI (finG T p b (R (72 + p)) (ix (sa i))) = sm i) := by
  unfold vwB
  rw [decide_eq_true e]; rfl
abbrev VwOK (T : TT) (s : Nat) (sl sa : Nat → Int32) : Prop := ∀ j, j < s → ∃ b i : Nat, b < T 0 1 ∧ i < T 8 b ∧ sl j = nI b ∧ sa j = nI i
theorem c_who (hT : TOK T) (hS : SRel T (sub hx 40) R) {b s : Nat} (hb : b < T 0 1) {sl sa sm : Nat → Int32} (hs : s ≤ 6) (e29 : hx 29 0 = nI s) (ev : ∀ j, j < s → hx 22 j = sl j ∧ hx 23 j = sa j ∧ hx 24 j = sm j) (hv : VwOK T s sl sa) {post : Int32 → Mem → Prop} {px : Nat → Prop} (hp : ∀ hx', ShO hx hx' → post (nI (mN (whB T R b s sl sa sm) (T 0 0))) hx') : ∃ n, wpLX1_who_11 post T px (nI b) b n (hx, 0, 0) := by
  have h8 := hT.n8
  have h6 := hT.n6
  have hl := hT.l hb
  refine LW_ix (τ := Mem × Nat) (fun t => (t.1, nI (mN (whB T R b s sl sa sm) t.2), nI t.2)) (fun t => t.2 ≤ T 0 0 ∧ ShO hx t.1) (fun t => T 0 0 - t.2) (fun K t ht k => ?_) (hx, 0) ⟨Nat.zero_le _, fun _ _ _ _ => rfl⟩
  obtain ⟨x, p⟩ := t
  obtain ⟨hpn, ho⟩ := ht
  dsimp only at hpn ho
  unfold wpBX1_who_11 wpX1_people
  try dsimp only
  refine pk_le (T 0 0) p (fun q => ?_) (fun q => ?_)
  · have e : p = T 0 0 := by omega
    subst e
    exact hp x ho
  have nx : ∀ x', ShO hx x' → K (x', nI (mN (whB T R b s sl sa sm) (p + 1)), nI (p + 1)) := fun x' hx' => k (x', p + 1) ⟨q, hx'⟩ (by show T 0 0 - (p + 1) < T 0 0 - p; omega)
  rw [← mN_Is (whB T R b s sl sa sm) (show T 0 0 ≤ 10 by omega) q] at nx
  have hSx : SRel T (sub x 40) R := hS.of (fun k hk => ho (40 + k) (by omega) (by omega) (by omega))
  refine c_why hT hSx q hb ?_
  have ew : whyI T R p b = 1 ↔ eatB T p b = true := by
    unfold whyI
    cases eatB T p b with
    | true => exact ⟨fun _ => rfl, fun _ => if_pos rfl⟩
    | false =>
      rw [if_neg (by decide)]
      refine ⟨fun h => absurd h ?_, fun h => absurd h (by decide)⟩
      split
      · decide
      · split <;> decide
  rw [nI_1]
  refine ⟨fun c => ?_, fun c => ?_⟩
  · have e : whB T R b s sl sa sm p = false := by
      unfold whB
      rw [ew.mp c]; rfl
    rw [e, if_neg (by decide)] at nx
    exact nx x ho
  have ce : eatB T p b = false := Bool.eq_false_iff.mpr (fun h => c (ew.mpr h))
  have eB : whB T R b s sl sa sm p = allB (vwB T R b p sl sa sm) s := by
    unfold whB
    rw [ce]; rfl
  rw [eB] at nx
  have th : x 42 p = R (72 + p) := hSx.2.2.2.2 p (by omega)
  refine c_shares hT q hb th (fun x6 ho6 e10 => ?_)
  have hoo : ShO hx x6 := ho.tr ho6
  refine LW_nat (fun i => ((if allB (vwB T R b p sl sa sm) i = true then (1 : Int32) else 0), nI i)) s (fun _ => True) rfl trivial (fun K2 i hi _ k2 => ?_)
  unfold wpBX1_who_55 wpBX1_who_118 wpBX1_who_114
  try dsimp only
  rw [hoo 29 (by decide) (by decide) (by decide), e29]
  refine pk_le s i (fun q2 => ?_) (fun q2 => ?_)
  · have e : i = s := by omega
    subst e
    have nx := nx x6 hoo
    rw [nI_1]
    by_cases c3 : allB (vwB T R b p sl sa sm) i = true
    · rw [if_pos c3, if_neg (show ¬ (1 : Int32) = 0 by decide)]
      rw [if_pos c3] at nx
      exact nx
    · rw [if_neg c3, if_pos rfl]
      rw [if_neg c3] at nx
      exact nx
  have k2 : K2 ((if allB (vwB T R b p sl sa sm) (i + 1) = true then (1 : Int32) else 0), nI (i + 1)) := k2 q2 trivial
  rw [allB_s] at k2
  obtain ⟨v1, v2, v3⟩ := ev i q2
  obtain ⟨b', j, hb', hj, e1, e2⟩ := hv i q2
  rw [nI_1]
  by_cases c3 : allB (vwB T R b p sl sa sm) i = true
  · rw [c3, Bool.true_and] at k2
    rw [if_pos c3]
    refine ⟨fun e => absurd e (by decide), fun _ => ?_⟩
    rw [ixn (by omega), hoo 22 (by decide) (by decide) (by decide), hoo 23 (by decide) (by decide) (by decide), hoo 24 (by decide) (by decide) (by decide), v1, v2, v3]
    refine ⟨pk_in i 6 (by omega), fun c4 => ?_, fun c4 => ?_⟩
    · have eb : b' = b := (nI_eq (by have := hT.n6; omega) (by omega)).mp (e1.symm.trans c4)
      subst eb
      rw [vw_t c4] at k2
      rw [e2, ixn (by omega)] at k2 ⊢
      rw [e10 j hj]
      refine ⟨pk_in i 6 (by omega), pk_in j 6 (by omega), pk_in i 6 (by omega), ?_⟩
      by_cases c5 : nI (finG T p b' (R (72 + p)) j) = sm i
      · rw [if_pos c5]
        rw [if_pos (decide_eq_true c5)] at k2
        exact k2
      · rw [if_neg c5]
        rw [if_neg (by rw [decide_eq_false c5]; decide)] at k2
        exact k2
    · rw [vw_f c4, if_pos rfl] at k2
      exact k2
  · have c3' : allB (vwB T R b p sl sa sm) i = false := Bool.eq_false_iff.mpr c3
    rw [c3', Bool.false_and] at k2
    rw [if_neg c3]
    exact ⟨fun _ => k2, fun e => absurd rfl e⟩
theorem t_who (hT : TOK T) (hG : SGOK T) (hM : TM T h) {b s : Nat} (hb : b < T 0 1) {sl sa sm : Nat → Int32} (hs : s ≤ 6) (e33 : h 33 0 = nI s) (ev : ∀ j, j < s → h 51 j = sl j ∧ h 52 j = sa j ∧ h 53 j = sm j) (hv : VwOK T s sl sa) {post : Int32 → Mem → Prop} (hp : ∀ h', Sh7 h h' → post (nI (mN (whB T (rowM h) b s sl sa sm) (T 0 0))) h') : ∃ n, wpLX7_who_23 post (nI b) n (h, 0, 0) := by
  have h8 := hT.n8
  have h6 := hT.n6
  have hl := hT.l hb
  refine LW_ix (τ := Mem × Nat) (fun t => (t.1, nI (mN (whB T (rowM h) b s sl sa sm) t.2), nI t.2)) (fun t => t.2 ≤ T 0 0 ∧ Sh7 h t.1) (fun t => T 0 0 - t.2) (fun K t ht k => ?_) (h, 0) ⟨Nat.zero_le _, Sh7.rf h⟩
  obtain ⟨x, p⟩ := t
  obtain ⟨hpn, ho⟩ := ht
  dsimp only at hpn ho
  have hMx : TM T x := hM.sh ho
  unfold wpBX7_who_23
  try dsimp only
  rw [hMx.n]
  refine pk_le (T 0 0) p (fun q => ?_) (fun q => ?_)
  · have e : p = T 0 0 := by omega
    subst e
    exact hp x ho
  have nx : ∀ x', Sh7 h x' → K (x', nI (mN (whB T (rowM h) b s sl sa sm) (p + 1)), nI (p + 1)) := fun x' hx' => k (x', p + 1) ⟨q, hx'⟩ (by show T 0 0 - (p + 1) < T 0 0 - p; omega)
  rw [← mN_Is (whB T (rowM h) b s sl sa sm) (show T 0 0 ≤ 10 by omega) q] at nx
  refine t_eats hT hMx q hb ?_
  unfold wpBX7_who_47
  try dsimp only
  cases ce : eatB T p b with
  | true =>
    rw [if_pos rfl]
    have e : whB T (rowM h) b s sl sa sm p = false := by
      unfold whB
      rw [ce]; rfl
    rw [e, if_neg (by decide)] at nx
    refine ⟨fun _ => ?_, fun c => absurd rfl c⟩
    refine LW_nat (fun _ => ((0 : Int32), (0 : Int32))) 0 (fun _ => True) rfl trivial (fun K2 i hi _ k2 => ?_)
    unfold wpBX7_who_63 wpBX7_who_123 wpBX7_who_136
    try dsimp only
    rw [if_pos rfl, orI0, nI_1]
    exact ⟨fun _ => nx x ho, fun _ => ⟨fun _ => nx x ho, fun c => absurd rfl c⟩⟩
  | false =>
    rw [if_neg (by decide)]
    have eB : whB T (rowM h) b s sl sa sm p = allB (vwB T (rowM h) b p sl sa sm) s := by
      unfold whB
      rw [ce]; rfl
    rw [eB] at nx
    refine ⟨fun c => absurd c (by decide), fun _ => ?_⟩
    have th : x 28 p = rowM h (72 + p) := by
      rw [rowM_th h (show p < 8 by omega), ho 28 (by omega)]
    refine t_tellSlices hT hG hMx q hb th (fun x6 ho6 e39 _ _ _ => ?_)
    have hoo : Sh7 h x6 := ho.tr ho6
    refine LW_nat (fun i => ((if allB (vwB T (rowM h) b p sl sa sm) i = true then (1 : Int32) else 0), nI i)) s (fun _ => True) rfl trivial (fun K2 i hi _ k2 => ?_)
    unfold wpBX7_who_63 wpBX7_who_123 wpBX7_who_136 wpBX7_who_110
    try dsimp only
    rw [hoo 33 (by omega), e33]
    have nx := nx x6 hoo
    have ex0 : allB (vwB T (rowM h) b p sl sa sm) i = false → K (x6, nI (mN (whB T (rowM h) b s sl sa sm) p) ||| (if (if allB (vwB T (rowM h) b p sl sa sm) i = true then (1 : Int32) else 0) = 0 then (0 : Int32) else ((1 : Int32) <<< (nI p &&& 31))), nI p + 1) := fun c3 => by
      rw [c3, if_neg (show ¬ (false = true) by decide), if_pos rfl, orI0, nI_1]
      have c4 : ¬ allB (vwB T (rowM h) b p sl sa sm) s = true := fun hh => by
        have := allB_t.mp hh
        rw [allB_t.mpr (fun j hj => this j (by omega))] at c3
        cases c3
      rw [if_neg c4] at nx
      exact nx
    refine pk_le s i (fun q2 => ?_) (fun q2 => ?_)
    · have e : i = s := by omega
      subst e
      by_cases c3 : allB (vwB T (rowM h) b p sl sa sm) i = true
      · rw [if_pos c3, if_neg (show ¬ (1 : Int32) = 0 by decide), nI_1]
        rw [if_pos c3] at nx
        exact nx
      · exact ex0 (Bool.eq_false_iff.mpr c3)
    refine ⟨fun c => ex0 ?_, fun c => ?_⟩
    · by_cases c3 : allB (vwB T (rowM h) b p sl sa sm) i = true
      · rw [if_pos c3] at c
        exact absurd c (by decide)
      · exact Bool.eq_false_iff.mpr c3
    have c3 : allB (vwB T (rowM h) b p sl sa sm) i = true := by
      cases c3 : allB (vwB T (rowM h) b p sl sa sm) i with
      | true => rfl
      | false => rw [c3] at c; exact absurd rfl c
    have k2 : K2 ((if allB (vwB T (rowM h) b p sl sa sm) (i + 1) = true then (1 : Int32) else 0), nI (i + 1)) := k2 q2 trivial
    rw [allB_s, c3, Bool.true_and] at k2
    obtain ⟨v1, v2, v3⟩ := ev i q2
    obtain ⟨b', j, hb', hj, e1, e2⟩ := hv i q2
    rw [nI_1, ixn (by omega), hoo 51 (by omega), hoo 52 (by omega), hoo 53 (by omega), v1, v2, v3]
    refine ⟨pk_in i 6 (by omega), fun c4 => ?_, fun c4 => ?_⟩
    · have eb : b' = b := (nI_eq (by have := hT.n6; omega) (by omega)).mp (e1.symm.trans c4)
      subst eb
      rw [vw_t c4] at k2
      rw [e2, ixn (by omega)] at k2 ⊢
      rw [e39 j hj]
      refine ⟨pk_in i 6 (by omega), pk_in j 6 (by omega), pk_in i 6 (by omega), ?_⟩
      by_cases c5 : nI (finG T p b' (rowM h (72 + p)) j) = sm i
      · rw [if_pos c5]
        rw [if_pos (decide_eq_true c5)] at k2
        exact k2
      · rw [if_neg c5]
        rw [if_neg (by rw [decide_eq_false c5]; decide)] at k2
        exact k2
    · rw [vw_f c4, if_pos rfl] at k2
      exact k2
theorem Rel.sh (r : Rel T hx km h) {hx' h' : Mem} (ho : ShO hx hx') (h7 : Sh7 h h') : Rel T hx' km h' := r.of (fun k hk => ho k (by unfold rlX at hk; omega) (by unfold rlX at hk; omega) (by unfold rlX at hk; omega)) (fun k hk => h7 k (by unfold rl7 at hk; omega))
theorem s_who {P : LPT} {a1 : Int32} (r : Rel T hx km h) (hP : ∀ k v hx', LkI T (fun Q => wpX7_who Q h a1) k v hx' km → P k v hx' km) : wpX0_who P T hx km o a1 := by
  have hT := r.T
  have h8 := hT.n8
  have h6 := hT.n6
  have r1 := r.c 0
  have r2 := r1.c 1
  have hM1 : TM T (up2 h 2 0 0) := r1.M
  have bad1 : (∀ p, p < T 0 1 → ¬ a1 = nI p) → P 1 o hx km := fun c => hP 1 _ _ (fun Q hQ => by
    unfold wpX7_who
    intro h1 e1
    subst e1
    exact t_isLoaf hT hM1 (fun p hp e => absurd e (c p hp)) (fun _ => bo_f rfl (t_fail (hQ _ _ r2 (code_at _ 1) (fun h => absurd h (by decide))))))
  unfold wpX0_who wpX1_who
  refine ⟨fun b hb eb => ?_, fun c => ⟨rfl, bad1 c⟩⟩
  subst eb
  clear bad1
  obtain ⟨b1, b2, ⟨s, hs, g29, hse, h22⟩, b4, b5⟩ := r1.2.1
  refine c_who hT r.S hb hs g29 (sl := up2 h 2 0 0 51) (sa := up2 h 2 0 0 52) (sm := up2 h 2 0 0 53) (fun j hj => ⟨(h22 j hj).1, (h22 j hj).2.1, (h22 j hj).2.2.1⟩) (fun j hj => (h22 j hj).2.2.2) (fun hx' ho => hP 0 _ _ (fun Q hQ => ?_))
  unfold wpX7_who
  intro h1 e1
  subst e1
  refine t_isLoaf hT hM1 (fun _ _ _ => bo_t rfl ?_) (fun c => absurd rfl (c b hb))
  refine t_who hT r.G hM1 hb hs hse (sl := up2 h 2 0 0 51) (sa := up2 h 2 0 0 52) (sm := up2 h 2 0 0 53) (fun j hj => ⟨rfl, rfl, rfl⟩) (fun j hj => (h22 j hj).2.2.2) (fun h' h7 => ?_)
  rw [eRow]
  exact hQ _ _ (r1.sh ho h7) ((congrFun (h7 2 (by decide)) 0).trans (code_at h 0)) (fun _ => rfl)
end S8
