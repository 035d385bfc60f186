/-! 75.ga: game: on both sides -/
section S11
variable {T : TT} {hx h : Mem} {km : KM} {o : Int64} {R : Nat → Int32}
def gaV (T : TT) (R : Nat → Int32) (p a b : Nat) : Int32 := if a = b then 0 else if canB T R p a = true then nI (T 5 a) else 0
theorem c_gains (hT : TOK T) (hS : SRel T (sub h 40) R) {p a b : Nat} (hp : p < T 0 0) (ha : a < T 0 1) (hb : b < T 0 1) {post : Int32 → Prop} (hq : post (gaV T R p a b)) : wpX1_gains post h T (nI p) (nI a) (nI b) := by
  have h8 := hT.n8
  have h6 := hT.n6
  unfold wpX1_gains
  unfold gaV at hq
  refine ⟨fun e => ?_, fun e => c_whoCan hT hS ha ?_⟩
  · rw [if_pos ((nI_eq (by omega) (by omega)).mp e)] at hq
    exact hq
  · rw [if_neg (fun h => e (by rw [h]))] at hq
    have hml := mN_lt (fun p => canB T R p a) (T 0 0)
    have hm10 := p10 (show T 0 0 ≤ 10 by omega)
    rw [bit_I1 _ (by omega) p (by omega), mN_bit, decide_eq_true hp, Bool.true_and]
    refine ⟨fun c => ⟨a, rfl, ha, ?_⟩, fun c => ?_⟩
    · rw [if_pos c] at hq; exact hq
    · rw [if_neg c] at hq; exact hq
theorem t_gain (hT : TOK T) (hM : TM T h) {p a b : Nat} (hp : p < T 0 0) (ha : a < T 0 1) (hb : b < T 0 1) {post : Int32 → Prop} (hq : post (gaV T (rowM h) p a b)) : wpX7_gain post h (nI p) (nI a) (nI b) := by
  have h6 := hT.n6
  unfold wpX7_gain
  unfold gaV at hq
  refine ⟨fun e => ?_, fun e => t_canCut hT hM hp ha ?_⟩
  · rw [if_pos ((nI_eq (by omega) (by omega)).mp e)] at hq
    exact hq
  · rw [if_neg (fun h => e (by rw [h]))] at hq
    refine ⟨fun c => ?_, fun c => ?_⟩
    · rw [if_pos c] at hq
      rw [ixn (by omega), (hM.2.2.1 a ha).2.1]
      exact ⟨pk_in a 12 (by omega), hq⟩
    · rw [if_neg c] at hq; exact hq
def eqB (T : TT) (R : Nat → Int32) (p1 p2 i j k : Nat) : Bool := !(decide (gaV T R p1 i j < gaV T R p1 k j)) && !(decide (gaV T R p2 j i < gaV T R p2 k i))
def gm1 (T : TT) (R : Nat → Int32) (p1 p2 i j : Nat) (x : Int32 × Int32) : Int32 × Int32 := if allB (eqB T R p1 p2 i j) (T 0 1) = true then (x.1 + 1, if x.2 = -1 then (10 : Int32) * nI i + nI j else x.2) else x
def gm2 (T : TT) (R : Nat → Int32) (p1 p2 i : Nat) (x : Int32 × Int32) : Int32 × Int32 := it (gm1 T R p1 p2 i) (T 0 1) x
def gmI (T : TT) (R : Nat → Int32) (p1 p2 n : Nat) : Int32 × Int32 := it (gm2 T R p1 p2) n (0, -1)
theorem eqB_1 {p1 p2 i j k : Nat} (c : gaV T R p1 i j < gaV T R p1 k j) : eqB T R p1 p2 i j k = false := by
  unfold eqB
  rw [decide_eq_true c]; rfl
theorem eqB_2 {p1 p2 i j k : Nat} (c : ¬ gaV T R p1 i j < gaV T R p1 k j) : eqB T R p1 p2 i j k = !(decide (gaV T R p2 j i < gaV T R p2 k i)) := by
  unfold eqB
  rw [decide_eq_false c]; rfl
theorem c_game (hT : TOK T) (hS : SRel T (sub hx 40) R) {p1 p2 : Nat} (h1 : p1 < T 0 0) (h2 : p2 < T 0 0) {a3 : Int32} {post : Int32 → Mem → Prop} {px : Nat → Prop} (hp : post (if a3 = 0 then (gmI T R p1 p2 (T 0 1)).1 else (gmI T R p1 p2 (T 0 1)).2) hx) : ∃ n, wpLX1_game_43 post T px (nI p1) (nI p2) a3 hx n (0, -1, 0) := by
  have h6 := hT.n6
  refine LW_nat (fun i => ((gmI T R p1 p2 i).1, (gmI T R p1 p2 i).2, nI i)) (T 0 1) (fun _ => True) rfl trivial (fun K i hi _ k => ?_)
  unfold wpBX1_game_43 wpX1_loaves
  try dsimp only
  refine pk_le (T 0 1) i (fun c => ?_) (fun c => ?_)
  · have e : i = T 0 1 := by omega
    subst e
    exact hp
  have k : K ((gm2 T R p1 p2 i (gmI T R p1 p2 i)).1, (gm2 T R p1 p2 i (gmI T R p1 p2 i)).2, nI (i + 1)) := k c trivial
  generalize gmI T R p1 p2 i = w at k
  refine LW_nat (fun j => ((it (gm1 T R p1 p2 i) j w).1, (it (gm1 T R p1 p2 i) j w).2, nI j)) (T 0 1) (fun _ => True) rfl trivial (fun K2 j hj _ k2 => ?_)
  unfold wpBX1_game_55 wpX1_loaves
  try dsimp only
  refine pk_le (T 0 1) j (fun c2 => ?_) (fun c2 => ?_)
  · have e : j = T 0 1 := by omega
    subst e
    rw [nI_1]
    exact k
  have k2 : K2 ((gm1 T R p1 p2 i j (it (gm1 T R p1 p2 i) j w)).1, (gm1 T R p1 p2 i j (it (gm1 T R p1 p2 i) j w)).2, nI (j + 1)) := k2 c2 trivial
  generalize it (gm1 T R p1 p2 i) j w = v at k2
  unfold gm1 at k2
  refine LW_nat (fun q => ((if allB (eqB T R p1 p2 i j) q = true then (1 : Int32) else 0), nI q)) (T 0 1) (fun _ => True) rfl trivial (fun K3 q hq _ k3 => ?_)
  unfold wpBX1_game_70 wpBX1_game_130 wpX1_loaves
  try dsimp only
  rw [nI_1 j, nI_1 q]
  refine pk_le (T 0 1) q (fun c3 => ?_) (fun c3 => ?_)
  · have e : q = T 0 1 := by omega
    subst e
    by_cases c4 : allB (eqB T R p1 p2 i j) (T 0 1) = true
    · rw [if_pos c4] at k2
      rw [if_pos c4, if_neg (show ¬ (1 : Int32) = 0 by decide), if_neg (show ¬ (1 : Int32) = 0 by decide), ite_self]
      exact k2
    · rw [if_neg c4] at k2
      rw [if_neg c4, if_pos rfl, if_pos rfl]
      exact k2
  have k3 : K3 ((if allB (eqB T R p1 p2 i j) (q + 1) = true then (1 : Int32) else 0), nI (q + 1)) := k3 c3 trivial
  rw [allB_s] at k3
  by_cases c4 : allB (eqB T R p1 p2 i j) q = true
  · rw [if_pos c4]
    rw [c4, Bool.true_and] at k3
    refine ⟨fun e => absurd e (by decide), fun _ => c_gains hT hS h1 c3 c2 (c_gains hT hS h1 c c2 ⟨fun c5 => ?_, fun c5 => c_gains hT hS h2 c3 c (c_gains hT hS h2 c2 c ?_)⟩)⟩
    · rw [eqB_1 c5, if_neg (by decide)] at k3
      exact k3
    · rw [eqB_2 c5] at k3
      by_cases c6 : gaV T R p2 j i < gaV T R p2 q i
      · rw [if_pos c6]
        rw [decide_eq_true c6, if_neg (by decide)] at k3
        exact k3
      · rw [if_neg c6]
        rw [decide_eq_false c6, if_pos (show (!false) = true from rfl)] at k3
        exact k3
  · have c4' : allB (eqB T R p1 p2 i j) q = false := Bool.eq_false_iff.mpr c4
    rw [if_neg c4]
    rw [c4', Bool.false_and] at k3
    exact ⟨fun _ => k3, fun e => absurd rfl e⟩
theorem t_game (hT : TOK T) (hM : TM T h) {p1 p2 : Nat} (h1 : p1 < T 0 0) (h2 : p2 < T 0 0) {a3 : Int32} {post : Int32 → Mem → Prop} (hp : post (if a3 = 0 then (gmI T (rowM h) p1 p2 (T 0 1)).1 else (gmI T (rowM h) p1 p2 (T 0 1)).2) h) : ∃ n, wpLX7_game_56 post (nI p1) (nI p2) a3 h n (0, -1, 0) := by
  have h6 := hT.n6
  refine LW_nat (fun i => ((gmI T (rowM h) p1 p2 i).1, (gmI T (rowM h) p1 p2 i).2, nI i)) (T 0 1) (fun _ => True) rfl trivial (fun K i hi _ k => ?_)
  unfold wpBX7_game_56
  try dsimp only
  rw [hM.m]
  refine pk_le (T 0 1) i (fun c => ?_) (fun c => ?_)
  · have e : i = T 0 1 := by omega
    subst e
    exact hp
  have k : K ((gm2 T (rowM h) p1 p2 i (gmI T (rowM h) p1 p2 i)).1, (gm2 T (rowM h) p1 p2 i (gmI T (rowM h) p1 p2 i)).2, nI (i + 1)) := k c trivial
  generalize gmI T (rowM h) p1 p2 i = w at k
  refine LW_nat (fun j => ((it (gm1 T (rowM h) p1 p2 i) j w).1, (it (gm1 T (rowM h) p1 p2 i) j w).2, nI j)) (T 0 1) (fun _ => True) rfl trivial (fun K2 j hj _ k2 => ?_)
  unfold wpBX7_game_70
  try dsimp only
  rw [hM.m]
  refine pk_le (T 0 1) j (fun c2 => ?_) (fun c2 => ?_)
  · have e : j = T 0 1 := by omega
    subst e
    rw [nI_1]
    exact k
  have k2 : K2 ((gm1 T (rowM h) p1 p2 i j (it (gm1 T (rowM h) p1 p2 i) j w)).1, (gm1 T (rowM h) p1 p2 i j (it (gm1 T (rowM h) p1 p2 i) j w)).2, nI (j + 1)) := k2 c2 trivial
  generalize it (gm1 T (rowM h) p1 p2 i) j w = v at k2
  unfold gm1 at k2
  refine LW_nat (fun q => ((if allB (eqB T (rowM h) p1 p2 i j) q = true then (1 : Int32) else 0), nI q)) (T 0 1) (fun _ => True) rfl trivial (fun K3 q hq _ k3 => ?_)
  unfold wpBX7_game_87 wpBX7_game_149 wpBX7_game_158
  try dsimp only
  rw [hM.m, nI_1 j, nI_1 q]
  have ex0 : ¬ allB (eqB T (rowM h) p1 p2 i j) (T 0 1) = true → K2 (if (0 : Int32) = 0 then v.1 else (if v.2 = (-1 : Int32) then (v.1 + (1 : Int32)) else (v.1 + (1 : Int32))), if (0 : Int32) = 0 then v.2 else (if v.2 = (-1 : Int32) then (((10 : Int32) * nI i) + nI j) else v.2), nI (j + 1)) := fun c4 => by
    rw [if_neg c4] at k2
    rw [if_pos rfl, if_pos rfl]
    exact k2
  refine pk_le (T 0 1) q (fun c3 => ?_) (fun c3 => ?_)
  · have e : q = T 0 1 := by omega
    subst e
    by_cases c4 : allB (eqB T (rowM h) p1 p2 i j) (T 0 1) = true
    · rw [if_pos c4] at k2
      rw [if_pos c4, if_neg (show ¬ (1 : Int32) = 0 by decide), if_neg (show ¬ (1 : Int32) = 0 by decide), ite_self]
      exact k2
    · rw [if_neg c4]
      exact ex0 c4
  have k3 : K3 ((if allB (eqB T (rowM h) p1 p2 i j) (q + 1) = true then (1 : Int32) else 0), nI (q + 1)) := k3 c3 trivial
  rw [allB_s] at k3
  by_cases c4 : allB (eqB T (rowM h) p1 p2 i j) q = true
  · rw [if_pos c4]
    rw [c4, Bool.true_and] at k3
    refine ⟨fun e => absurd e (by decide), fun _ => t_gain hT hM h1 c3 c2 (t_gain hT hM h1 c c2 ⟨fun c5 => ?_, fun c5 => t_gain hT hM h2 c3 c (t_gain hT hM h2 c2 c ?_)⟩)⟩
    · rw [eqB_1 c5, if_neg (by decide)] at k3
      exact k3
    · rw [eqB_2 c5] at k3
      by_cases c6 : gaV T (rowM h) p2 j i < gaV T (rowM h) p2 q i
      · rw [if_pos c6]
        rw [decide_eq_true c6, if_neg (by decide)] at k3
        exact k3
      · rw [if_neg c6]
        rw [decide_eq_false c6, if_pos (show (!false) = true from rfl)] at k3
        exact k3
  · rw [if_neg c4]
    refine ⟨fun _ => ex0 (fun hh => c4 (allB_t.mpr (fun w hw => allB_t.mp hh w (by omega)))), fun e => absurd rfl e⟩
theorem s_game {P : LPT} {a1 a2 a3 : Int32} (r : Rel T hx km h) (hP : ∀ k v hx', LkI T (fun Q => wpX7_game Q h a1 a2 a3) k v hx' km → P k v hx' km) : wpX0_game P T hx km o a1 a2 a3 := by
  have hT := r.T
  have h8 := hT.n8
  have r1 := r.c 0
  have r2 := r1.c 1
  have r3 := r1.c 2
  have hM1 : TM T (up2 h 2 0 0) := r1.M
  have bad1 : (∀ p, p < T 0 0 → ¬ a1 = nI p) → P 1 o hx km := fun c => hP 1 _ _ (fun Q hQ => by
    unfold wpX7_game wpBX7_game_30
    intro h1 e1
    subst e1
    exact t_isPerson hT hM1 (fun p hp e => absurd e (c p hp)) (fun _ => bo_f rfl (t_fail (hQ _ _ r2 (code_at _ 1) (fun h => absurd h (by decide))))))
  have bad2 : ∀ q, q < T 0 0 → a1 = nI q → (∀ p, p < T 0 0 → ¬ a2 = nI p) → P 1 o hx km := fun q hq eq c => hP 1 _ _ (fun Q hQ => by
    unfold wpX7_game wpBX7_game_30
    intro h1 e1
    subst e1
    exact t_isPerson hT hM1 (fun _ _ _ => bo_t rfl (t_isPerson hT hM1 (fun p hp e => absurd e (c p hp)) (fun _ => bo_f rfl (t_fail (hQ _ _ r2 (code_at _ 1) (fun h => absurd h (by decide))))))) (fun c9 => absurd eq (c9 q hq)))
  unfold wpX0_game wpX1_game
  refine ⟨fun p hp ep => ⟨fun b hb eb => ?_, fun c => Or.inl ⟨rfl, bad2 p hp ep c⟩⟩, fun c => Or.inl ⟨rfl, bad1 c⟩⟩
  subst ep eb
  clear bad1 bad2
  refine c_within ?_
  have tw : ∀ Q : Int32 → Mem → Prop, ((a3 < 0 → Q 0 (up2 (up2 h 2 0 0) 2 0 1)) ∧ (¬ a3 < 0 → ((a3 ≤ 1 → ((nI p = nI b → Q 0 (up2 (up2 h 2 0 0) 2 0 2)) ∧ (¬ nI p = nI b → ∃ n, wpLX7_game_56 Q (nI p) (nI b) a3 (up2 h 2 0 0) n (0, -1, 0)))) ∧ (¬ a3 ≤ 1 → Q 0 (up2 (up2 h 2 0 0) 2 0 1))))) → wpX7_game Q h (nI p) (nI b) a3 := by
    intro Q hQ
    unfold wpX7_game wpBX7_game_30
    intro h1 e1
    subst e1
    refine t_isPerson hT hM1 (fun _ _ _ => bo_t rfl (t_isPerson hT hM1 (fun _ _ _ => bo_t rfl ?_) (fun c => absurd rfl (c b hb)))) (fun c => absurd rfl (c p hp))
    exact ⟨fun c => t_fail (hQ.1 c), fun c => ⟨fun c2 => ⟨fun c3 => t_fail (((hQ.2 c).1 c2).1 c3), fun c3 => ((hQ.2 c).1 c2).2 c3⟩, fun c2 => t_fail ((hQ.2 c).2 c2)⟩⟩
  by_cases c : 0 ≤ a3 ∧ a3 ≤ 1
  · have c0 : ¬ a3 < 0 := by rw [lt_II]; have := c.1; rw [le_II] at this; omega
    refine bo_t (decide_eq_true c) ?_
    unfold wpBX1_game_31
    by_cases e : nI p = nI b
    · rw [if_pos e]
      refine ⟨fun h => absurd rfl h, fun _ => Or.inr ⟨rfl, hP 2 _ _ (fun Q hQ => tw Q (sw_f c0 (sw_t c.2 (sw_t e ?_))))⟩⟩
      exact hQ _ _ r3 (code_at _ 2) (fun h => absurd h (by decide))
    · rw [if_neg e]
      refine ⟨fun _ => c_game hT r.S hp hb (hP 0 _ _ (fun Q hQ => tw Q (sw_f c0 (sw_t c.2 (sw_f e (t_game hT hM1 hp hb ?_)))))), fun h => absurd h (by decide)⟩
      rw [eRow]
      exact hQ _ _ r1 (code_at h 0) (fun _ => rfl)
  · refine bo_f (decide_eq_false c) (Or.inl ⟨rfl, hP 1 _ _ (fun Q hQ => tw Q ?_)⟩)
    have no := hQ 0 _ r2 (code_at _ 1) (fun h => absurd h (by decide))
    refine ⟨fun _ => no, fun c1 => sw_f (fun c2 => c ⟨?_, c2⟩) no⟩
    rw [lt_II] at c1
    rw [le_II]
    omega
end S11
