/-! 73.fa: fairest: on both sides -/
section S9
variable {T : TT} {hx h : Mem} {km : KM} {o : Int64} {R : Nat → Int32}
def mxF (f : Nat → Nat) : Nat → Nat
  | 0 => f 0
  | n + 1 => max (mxF f n) (f (n + 1))
def mnF (f : Nat → Nat) : Nat → Nat
  | 0 => f 0
  | n + 1 => min (mnF f n) (f (n + 1))
theorem mxF_le {f : Nat → Nat} {n k : Nat} (hk : k ≤ n) : f k ≤ mxF f n := by
  induction n with
  | zero => have e : k = 0 := by omega
            subst e; exact Nat.le_refl _
  | succ n ih =>
    show f k ≤ max (mxF f n) (f (n + 1))
    by_cases e : k = n + 1
    · subst e; omega
    · have := ih (by omega); omega
theorem mxF_ex (f : Nat → Nat) (n : Nat) : ∃ k, k ≤ n ∧ mxF f n = f k := by
  induction n with
  | zero => exact ⟨0, Nat.le_refl _, rfl⟩
  | succ n ih =>
    obtain ⟨k, hk, e⟩ := ih
    by_cases c : mxF f n ≤ f (n + 1)
    · exact ⟨n + 1, Nat.le_refl _, by show max (mxF f n) (f (n + 1)) = _; omega⟩
    · exact ⟨k, by omega, by show max (mxF f n) (f (n + 1)) = _; omega⟩
theorem mnF_le {f : Nat → Nat} {n k : Nat} (hk : k ≤ n) : mnF f n ≤ f k := by
  induction n with
  | zero => have e : k = 0 := by omega
            subst e; exact Nat.le_refl _
  | succ n ih =>
    show min (mnF f n) (f (n + 1)) ≤ f k
    by_cases e : k = n + 1
    · subst e; omega
    · have := ih (by omega); omega
theorem mnF_ex (f : Nat → Nat) (n : Nat) : ∃ k, k ≤ n ∧ mnF f n = f k := by
  induction n with
  | zero => exact ⟨0, Nat.le_refl _, rfl⟩
  | succ n ih =>
    obtain ⟨k, hk, e⟩ := ih
    by_cases c : f (n + 1) ≤ mnF f n
    · exact ⟨n + 1, Nat.le_refl _, by show min (mnF f n) (f (n + 1)) = _; omega⟩
    · exact ⟨k, by omega, by show min (mnF f n) (f (n + 1)) = _; omega⟩
theorem mxF_cg {f g : Nat → Nat} {n m : Nat} (h1 : ∀ k, k ≤ n → ∃ q, q ≤ m ∧ f k = g q) (h2 : ∀ q, q ≤ m → ∃ k, k ≤ n ∧ g q = f k) : mxF f n = mxF g m ∧ mnF f n = mnF g m := by
  constructor
  · obtain ⟨k, hk, e⟩ := mxF_ex f n
    obtain ⟨q, hq, e2⟩ := mxF_ex g m
    obtain ⟨q', hq', e3⟩ := h1 k hk
    obtain ⟨k', hk', e4⟩ := h2 q hq
    have a := mxF_le (f := g) hq'
    have b := mxF_le (f := f) hk'
    omega
  · obtain ⟨k, hk, e⟩ := mnF_ex f n
    obtain ⟨q, hq, e2⟩ := mnF_ex g m
    obtain ⟨q', hq', e3⟩ := h1 k hk
    obtain ⟨k', hk', e4⟩ := h2 q hq
    have a := mnF_le (f := g) hq'
    have b := mnF_le (f := f) hk'
    omega
section FA
variable {p b : Nat} {th : Int32}
theorem tkF_m (j : Nat) {q : Nat} (h : tkF T p b th j q = true) : ∃ i, i < j ∧ laB T b (T 8 b - 1 - i) = true ∧ q = qN T p b th i := by
  induction j with
  | zero => cases h
  | succ j ih =>
    have h : (if laB T b (T 8 b - 1 - j) = true then decide (q = bsN (slN T p b th) (tkF T p b th j) (nsN T b) - 1) || tkF T p b th j q else tkF T p b th j q) = true := by
      exact h
    by_cases c : laB T b (T 8 b - 1 - j) = true
    · rw [if_pos c] at h
      by_cases e : q = bsN (slN T p b th) (tkF T p b th j) (nsN T b) - 1
      · exact ⟨j, Nat.lt_succ_self j, c, e⟩
      · rw [decide_eq_false e, Bool.false_or] at h
        obtain ⟨i, hi, x⟩ := ih h
        exact ⟨i, by omega, x⟩
    · rw [if_neg c] at h
      obtain ⟨i, hi, x⟩ := ih h
      exact ⟨i, by omega, x⟩
theorem fin_sl (hT : TOK T) (hb : b < T 0 1) : ∀ k, k < T 8 b → ∃ q, q < nsN T b ∧ finG T p b th k = slN T p b th q := by
  intro k hk
  unfold finG vL
  by_cases c : laB T b k = true
  · rw [if_pos c]
    exact ⟨_, (qN_lt (p := p) (th := th) hk c).1, rfl⟩
  · rw [if_neg c]
    have g := (unN_t hT hb hk).2 (Bool.eq_false_iff.mpr c)
    exact ⟨_, (qN_lt (p := p) (th := th) g.2.1 g.2.2.2).1, rfl⟩
theorem sl_fin (hT : TOK T) (hb : b < T 0 1) : ∀ q, q < nsN T b → ∃ k, k < T 8 b ∧ slN T p b th q = finG T p b th k := by
  intro q hq
  have g := (tkF_ct (T := T) (p := p) (b := b) (th := th) (T 8 b) (Nat.le_refl _)).1
  rw [Nat.sub_self] at g
  have g : ctB (tkF T p b th (T 8 b)) (nsN T b) + 0 = nsN T b := g
  have a := ctB_all.mp (show ctB (tkF T p b th (T 8 b)) (nsN T b) = nsN T b by omega) q hq
  obtain ⟨i, hi, e1, e2⟩ := tkF_m _ a
  refine ⟨T 8 b - 1 - i, by omega, ?_⟩
  unfold finG vL
  rw [if_pos e1, show T 8 b - 1 - (T 8 b - 1 - i) = i by omega, e2]
theorem fin_mx (hT : TOK T) (hb : b < T 0 1) : mxF (finG T p b th) (T 8 b - 1) = mxF (slN T p b th) (nsN T b - 1) ∧ mnF (finG T p b th) (T 8 b - 1) = mnF (slN T p b th) (nsN T b - 1) := by
  have hl := hT.l hb
  have hn := nsN_pos hT hb
  refine mxF_cg (fun k hk => ?_) (fun q hq => ?_)
  · obtain ⟨q, hq, e⟩ := fin_sl (p := p) (th := th) hT hb k (by omega)
    exact ⟨q, by omega, e⟩
  · obtain ⟨k, hk, e⟩ := sl_fin (p := p) (th := th) hT hb q (by omega)
    exact ⟨k, by omega, e⟩
end FA
theorem mx_b {f : Nat → Nat} (hf : ∀ i, f i ≤ 98901) (n : Nat) : mxF f n ≤ 98901 ∧ mnF f n ≤ 98901 := by
  obtain ⟨k, _, e⟩ := mxF_ex f n
  obtain ⟨k', _, e'⟩ := mnF_ex f n
  rw [e, e']
  exact ⟨hf _, hf _⟩
def goV (T : TT) (R : Nat → Int32) (b : Nat) (a2 : Int32) (p : Nat) : Int32 := if a2 = -1 then nI (mnF (slN T p b (R (72 + p))) (nsN T b - 1)) - nI (mxF (slN T p b (R (72 + p))) (nsN T b - 1)) else nI (finG T p b (R (72 + p)) (ix a2))
def fa1 (T : TT) (R : Nat → Int32) (b : Nat) (a2 : Int32) (p : Nat) (x : Int32 × Int32) : Int32 × Int32 := if canB T R p b = true then (if x.1 = -1 then nI p else if x.2 < goV T R b a2 p then nI p else x.1, if x.1 = -1 then goV T R b a2 p else if x.2 < goV T R b a2 p then goV T R b a2 p else x.2) else x
def faI (T : TT) (R : Nat → Int32) (b : Nat) (a2 : Int32) (n : Nat) : Int32 × Int32 := it (fa1 T R b a2) n (-1, 0)
theorem fin_le {p b : Nat} {th : Int32} (hT : TOK T) (hb : b < T 0 1) (k : Nat) : k < T 8 b → finG T p b th k ≤ 98901 := fun hk => by
  obtain ⟨q, _, e⟩ := fin_sl (p := p) (th := th) hT hb k hk
  rw [e]
  exact slN_lt hT hb q
theorem c_unfair (hT : TOK T) {p b : Nat} (hp : p < T 0 0) (hb : b < T 0 1) {th : Int32} {h : Mem} (eth : h 42 p = th) {post : Int32 → Mem → Prop} (hq : ∀ h', ShO h h' → (∀ k, k < T 8 b → h' 10 k = nI (finG T p b th k)) → post (nI (mxF (slN T p b th) (nsN T b - 1)) - nI (mnF (slN T p b th) (nsN T b - 1))) h') : wpX1_unfair post h T (nI p) b := by
  have hl := hT.l hb
  unfold wpX1_unfair
  refine c_shares hT hp hb eth (fun h' ho e10 => ?_)
  have fl := fin_le (T := T) (p := p) (th := th) hT hb
  refine LW_nat (fun i => (nI (mxF (finG T p b th) i), nI (mnF (finG T p b th) i), nI (i + 1))) (T 8 b - 1) (fun _ => True) (by
    show _ = (nI (finG T p b th 0), nI (finG T p b th 0), nI 1)
    rw [e10 0 (by omega)]
    rfl) trivial (fun K i hi _ k => ?_)
  unfold wpBX1_unfair_25
  try dsimp only
  refine pk_le (T 8 b) (i + 1) (fun q => ?_) (fun q => ?_)
  · have e : i = T 8 b - 1 := by omega
    subst e
    rw [(fin_mx hT hb).1, (fin_mx hT hb).2]
    exact hq h' ho e10
  · have k : K (nI (max (mxF (finG T p b th) i) (finG T p b th (i + 1))), nI (min (mnF (finG T p b th) i) (finG T p b th (i + 1))), nI (i + 1 + 1)) := k (by omega) trivial
    obtain ⟨j1, hj1, f1⟩ := mxF_ex (finG T p b th) i
    obtain ⟨j2, hj2, f2⟩ := mnF_ex (finG T p b th) i
    have g1 := fl j1 (by omega)
    have g2 := fl j2 (by omega)
    have g3 := fl (i + 1) (by omega)
    rw [ixn (by omega), e10 (i + 1) (by omega), mxI_n _ _ (by omega) (by omega), mnI_n _ _ (by omega) (by omega), nI_1 (i + 1)]
    exact ⟨pk_in (i + 1) 6 (by omega), k⟩
theorem t_goodFor (hT : TOK T) (hG : SGOK T) (hM : TM T h) {p b : Nat} (hp : p < T 0 0) (hb : b < T 0 1) {a2 : Int32} (ha : a2 = -1 ∨ ∃ i, i < T 8 b ∧ a2 = nI i) {post : Int32 → Mem → Prop} (hq : ∀ h', Sh7 h h' → post (goV T (rowM h) b a2 p) h') : wpX7_goodFor post h (nI p) (nI b) a2 := by
  have h8 := hT.n8
  have hl := hT.l hb
  have hn := nsN_pos hT hb
  unfold wpX7_goodFor
  refine t_tellSlices hT hG hM hp hb (th := rowM h (72 + p)) (rowM_th h (by omega)).symm (fun h' ho e39 _ e40 e37 => ?_)
  have sl := fun i => slN_lt (T := T) (p := p) (b := b) (th := rowM h (72 + p)) hT hb i
  have hq := hq h' ho
  unfold goV at hq
  refine ⟨fun e => ?_, fun e => ?_⟩
  · rw [if_pos e] at hq
    refine LW_nat (fun i => (nI (mxF (slN T p b (rowM h (72 + p))) i), nI (mnF (slN T p b (rowM h (72 + p))) i), nI (i + 1))) (nsN T b - 1) (fun _ => True) (by
      show _ = (nI (slN T p b (rowM h (72 + p)) 0), nI (slN T p b (rowM h (72 + p)) 0), nI 1)
      rw [e37 0 (by omega)]
      rfl) trivial (fun K i hi _ k => ?_)
    unfold wpBX7_goodFor_37
    try dsimp only
    rw [e40]
    refine pk_le (nsN T b) (i + 1) (fun q => ?_) (fun q => ?_)
    · have e : i = nsN T b - 1 := by omega
      subst e
      exact hq
    · have k : K (nI (max (mxF (slN T p b (rowM h (72 + p))) i) (slN T p b (rowM h (72 + p)) (i + 1))), nI (min (mnF (slN T p b (rowM h (72 + p))) i) (slN T p b (rowM h (72 + p)) (i + 1))), nI (i + 1 + 1)) := k (by omega) trivial
      have g1 := mx_b sl i
      have g3 := sl (i + 1)
      rw [ixn (by omega), e37 (i + 1) (by omega), mxI_n _ _ (by omega) (by omega), mnI_n _ _ (by omega) (by omega), nI_1 (i + 1)]
      exact ⟨pk_in (i + 1) 6 (by omega), k⟩
  · rw [if_neg e] at hq
    obtain ⟨i, hi, ei⟩ := ha.resolve_left e
    subst ei
    rw [ixn (by omega)] at hq ⊢
    rw [e39 i hi]
    exact ⟨pk_in i 6 (by omega), hq⟩
theorem faI_s (T : TT) (R : Nat → Int32) (b : Nat) (a2 : Int32) (p : Nat) : faI T R b a2 (p + 1) = fa1 T R b a2 p (faI T R b a2 p) := rfl
theorem s_fairest {P : LPT} {a1 a2 : Int32} (r : Rel T hx km h) (hP : ∀ k v hx', LkI T (fun Q => wpX7_fairest Q h a1 a2) k v hx' km → P k v hx' km) : wpX0_fairest P T hx km o a1 a2 := by
  have hT := r.T
  have h8 := hT.n8
  have h6 := hT.n6
  have r1 := r.c 0
  have r2 := r1.c 1
  have hM1 : TM T (up2 h 2 0 0) := r1.M
  have bad1 : (∀ p, p < T 0 1 → ¬ a1 = nI p) → P 1 o hx km := fun c => hP 1 _ _ (fun Q hQ => by
    unfold wpX7_fairest wpBX7_fairest_33
    intro h1 e1
    subst e1
    exact t_isLoaf hT hM1 (fun p hp e => absurd e (c p hp)) (fun _ => bo_f rfl (t_fail (hQ _ _ r2 (code_at _ 1) (fun h => absurd h (by decide))))))
  unfold wpX0_fairest wpX1_fairest
  refine ⟨fun b hb eb => ?_, fun c => ⟨rfl, bad1 c⟩⟩
  subst eb
  clear bad1
  have hl := hT.l hb
  have h11 : up2 h 2 0 0 11 b = nI (T 8 b) := (hM1.2.2.1 b hb).2.2.2.2
  have tw0 : ∀ Q : Int32 → Mem → Prop, ((¬ (¬ a2 < -1 ∧ ¬ nI (T 8 b) ≤ a2) → Q 0 (up2 (up2 h 2 0 0) 2 0 1)) ∧ ((¬ a2 < -1 ∧ ¬ nI (T 8 b) ≤ a2) → ∃ n, wpLX7_fairest_47 Q (nI b) a2 n (up2 h 2 0 0, -1, 0, 0))) → wpX7_fairest Q h (nI b) a2 := by
    intro Q hQ
    unfold wpX7_fairest wpBX7_fairest_33
    intro h1 e1
    subst e1
    refine t_isLoaf hT hM1 (fun _ _ _ => bo_t rfl ?_) (fun c => absurd rfl (c b hb))
    rw [show ix (nI b) = b from ixn (by omega), h11]
    refine ⟨pk_in b 12 (by omega), t_isInL (a := -1) (b := nI (T 8 b) - 1) rfl rfl ?_⟩
    rw [decide_eq_decide.mpr (in_m1 (x := a2) (n := T 8 b) (by omega))]
    by_cases c1 : ¬ a2 < -1 ∧ ¬ nI (T 8 b) ≤ a2
    · exact bo_t (decide_eq_true c1) (hQ.2 c1)
    · exact bo_f (decide_eq_false c1) (t_fail (hQ.1 c1))
  have no : ¬ (¬ a2 < -1 ∧ ¬ nI (T 8 b) ≤ a2) → P 1 o hx km := fun c => hP 1 _ _ (fun Q hQ => tw0 Q ⟨fun _ => hQ _ _ r2 (code_at _ 1) (fun h => absurd h (by decide)), fun g => absurd g c⟩)
  refine ⟨fun c => ?_, fun c1 => ?_⟩
  · unfold wpBX1_fairest_24 wpBX1_fairest_25
    exact ⟨fun g => absurd rfl g, fun _ => ⟨rfl, no (fun g => g.1 c)⟩⟩
  unfold wpBX1_fairest_25
  by_cases c2 : nI (T 8 b) ≤ a2
  · rw [if_pos c2]
    exact ⟨fun g => absurd rfl g, fun _ => ⟨rfl, no (fun g => g.2 c2)⟩⟩
  rw [if_neg c2]
  have ha : a2 = -1 ∨ ∃ i, i < T 8 b ∧ a2 = nI i := by
    by_cases e : a2 = -1
    · exact Or.inl e
    · have c3 : ¬ a2 < 0 := fun c => by
        rw [lt_II] at c c1
        have z : (0 : Int32).toInt = 0 := rfl
        have z1 : (-1 : Int32).toInt = -1 := rfl
        rw [z] at c
        rw [z1] at c1
        exact e (Int32.toInt_inj.mp (by rw [z1]; omega))
      exact Or.inr (in_k c3 c2 (by omega))
  refine ⟨fun _ => ?_, fun g => absurd g (by decide)⟩
  refine c_whoCan hT r.S hb ?_
  have hml := mN_lt (fun p => canB T (rowM h) p b) (T 0 0)
  have hm10 := p10 (show T 0 0 ≤ 10 by omega)
  -- the component
  refine LW_ix (τ := Mem × Nat) (fun t => (t.1, (faI T (rowM h) b a2 t.2).1, (faI T (rowM h) b a2 t.2).2, nI t.2)) (fun t => t.2 ≤ T 0 0 ∧ ShO hx t.1) (fun t => T 0 0 - t.2) (fun K t ht k => ?_) (hx, 0) ⟨Nat.zero_le _, fun _ _ _ _ => rfl⟩
  obtain ⟨x, p⟩ := t
  obtain ⟨hpn, ho⟩ := ht
  dsimp only at hpn ho
  unfold wpBX1_fairest_51 wpX1_people
  try dsimp only
  refine pk_le (T 0 0) p (fun q => ?_) (fun q => ?_)
  · have e : p = T 0 0 := by omega
    subst e
    refine hP 0 _ _ (fun Q hQ => tw0 Q ⟨fun g => absurd ⟨c1, c2⟩ g, fun _ => ?_⟩)
    -- the twin
    refine LW_ix (τ := Mem × Nat) (fun t => (t.1, (faI T (rowM h) b a2 t.2).1, (faI T (rowM h) b a2 t.2).2, nI t.2)) (fun t => t.2 ≤ T 0 0 ∧ Sh7 (up2 h 2 0 0) t.1) (fun t => T 0 0 - t.2) (fun K t ht k => ?_) (up2 h 2 0 0, 0) ⟨Nat.zero_le _, Sh7.rf _⟩
    obtain ⟨y, p⟩ := t
    obtain ⟨hpn, h7⟩ := ht
    dsimp only at hpn h7
    have hMy : TM T y := hM1.sh h7
    have eRy : rowM y = rowM h := (rowM_of (fun k hk => h7 k (by omega))).trans (eRow h 0)
    unfold wpBX7_fairest_47
    try dsimp only
    rw [hMy.n]
    refine pk_le (T 0 0) p (fun q => ?_) (fun q => ?_)
    · have e : p = T 0 0 := by omega
      subst e
      exact hQ _ _ (r1.sh ho h7) ((congrFun (h7 2 (by decide)) 0).trans (code_at h 0)) (fun _ => rfl)
    have nx : ∀ y', Sh7 (up2 h 2 0 0) y' → K (y', (faI T (rowM h) b a2 (p + 1)).1, (faI T (rowM h) b a2 (p + 1)).2, nI (p + 1)) := fun y' hy' => k (y', p + 1) ⟨q, hy'⟩ (by show T 0 0 - (p + 1) < T 0 0 - p; omega)
    rw [faI_s] at nx
    unfold fa1 at nx
    refine t_canCut hT hMy q hb ?_
    rw [eRy]
    rw [nI_1]
    refine ⟨fun c => ?_, fun c => ?_⟩
    · rw [if_pos c] at nx
      refine t_goodFor hT r.G hMy q hb ha (fun y' hy' => ?_)
      rw [eRy]
      exact nx y' (h7.tr hy')
    · rw [if_neg c] at nx
      exact nx y h7
  have nx : ∀ x', ShO hx x' → K (x', (faI T (rowM h) b a2 (p + 1)).1, (faI T (rowM h) b a2 (p + 1)).2, nI (p + 1)) := fun x' hx' => k (x', p + 1) ⟨q, hx'⟩ (by show T 0 0 - (p + 1) < T 0 0 - p; omega)
  rw [faI_s] at nx
  unfold fa1 at nx
  rw [bit_I0 _ (by omega) p (by omega), mN_bit, decide_eq_true q, Bool.true_and, nI_1]
  refine ⟨fun c => ?_, fun c => ?_⟩
  · rw [if_neg (show ¬ canB T (rowM h) p b = true by rw [c]; decide)] at nx
    exact nx x ho
  · rw [if_pos (show canB T (rowM h) p b = true by cases e : canB T (rowM h) p b with | true => rfl | false => exact absurd e c)] at nx
    have th : x 42 p = rowM h (72 + p) := (congrFun (ho 42 (by decide) (by decide) (by decide)) p).trans (r.S.2.2.2.2 p (by omega))
    refine c_unfair hT q hb th (fun x' ho' e10 => ?_)
    have nx := nx x' (ho.tr ho')
    unfold goV at nx
    unfold wpBX1_fairest_99
    try dsimp only
    rw [nI_1]
    refine ⟨fun e => ?_, fun e => ?_⟩
    · rw [if_pos e] at nx
      rw [Int32.neg_sub]
      exact nx
    · rw [if_neg e] at nx
      obtain ⟨i, hi, ei⟩ := ha.resolve_left e
      subst ei
      rw [ixn (by omega)] at nx ⊢
      rw [e10 i hi]
      exact ⟨pk_in i 6 (by omega), nx⟩
end S9
