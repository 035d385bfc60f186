/-! 55.qu: what is asked: couples, those whom nobody ..., strangers, doors: both sides -/
theorem pk_s1 {a : Nat} (h : 1 ≤ a) : nI a - (1 : Int32) = nI (a - 1) := pk_sub (a := a) (b := 1) h
theorem addI0 (x : Int32) : x + 0 = x := by
  apply Int32.toBitVec_inj.mp
  rw [Int32.toBitVec_add]
  simp
theorem orI0 (x : Int32) : x ||| 0 = x := by
  apply Int32.toBitVec_inj.mp
  rw [Int32.toBitVec_or]
  simp
theorem b2i_0 (b : Bool) : b2i b = 0 ↔ b = false := by cases b <;> decide
theorem b2i_and1 (b c : Bool) (h : ¬ b2i b = 0) : b2i (b && c) = b2i c := by
  cases b with
  | true => rfl
  | false => exact absurd rfl h
theorem pk_e0 {x : Int32} {A B : Prop} (n : Nat) (f : n = 0 → A) (g : n ≠ 0 → B) (hx : x = nI n := by rfl) (hn : n < 2 ^ 31 := by omega) : (x = 0 → A) ∧ (¬ x = 0 → B) := pk_eq n 0 f g hx rfl hn (by decide)
theorem bo {b : Bool} {A B : Prop} (f : b = true → A) (g : b = false → B) : (b = true → A) ∧ (¬ b = true → B) := ⟨f, fun h => g (Bool.eq_false_iff.mpr h)⟩
theorem bo0 {b : Bool} {A B : Prop} (f : b = false → A) (g : b = true → B) : (b2i b = 0 → A) ∧ (¬ b2i b = 0 → B) := by
  cases b with
  | true => exact ⟨fun h => absurd h (by decide), fun _ => g rfl⟩
  | false => exact ⟨fun _ => f rfl, fun h => absurd rfl h⟩
theorem ctB_s (f : Nat → Bool) (i : Nat) : ctB f (i + 1) = ctB f i + (if f i = true then 1 else 0) := rfl
theorem ctB_cong {f g : Nat → Bool} {n : Nat} (h : ∀ i, i < n → f i = g i) : ctB f n = ctB g n := by
  induction n with
  | zero => rfl
  | succ n ih => rw [ctB_s, ctB_s, ih (fun i hi => h i (by omega)), h n (by omega)]
theorem ctB_not (f : Nat → Bool) (n : Nat) : ctB f n + ctB (fun i => !f i) n = n := by
  induction n with
  | zero => rfl
  | succ n ih =>
    rw [ctB_s, ctB_s]
    cases e : f n with
    | true => simp [e]; omega
    | false => simp [e]; omega
theorem ctB_ex (g : Nat → Bool) {n p : Nat} (hp : p < n) : ctB (fun q => decide (q ≠ p) && g q) n + 1 = ctB (fun q => decide (q = p) || g q) n := by
  induction n with
  | zero => exact absurd hp (Nat.not_lt_zero _)
  | succ n ih =>
    rw [ctB_s, ctB_s]
    by_cases e : n = p
    · subst e
      have : ctB (fun q => decide (q ≠ n) && g q) n = ctB (fun q => decide (q = n) || g q) n := ctB_cong (fun i hi => by
        have h1 : decide (i ≠ n) = true := decide_eq_true (by omega)
        have h2 : decide (i = n) = false := decide_eq_false (by omega)
        rw [h1, h2]; simp)
      rw [this]
      simp
    · have h1 : decide (n ≠ p) = true := decide_eq_true e
      have h2 : decide (n = p) = false := decide_eq_false e
      rw [h1, h2, ← ih (by omega)]
      simp
      omega
def knmB (T : TT) (R : Nat → Int32) (p q : Nat) : Bool := decide (q ≠ p) && knB T R p q
def famB (T : TT) (R : Nat → Int32) (p : Nat) : Bool := allB (fun q => knB T R p q) (T 0 0)
theorem knB_self (T : TT) (R : Nat → Int32) (p : Nat) : knB T R p p = true := by unfold knB; rw [if_pos rfl]
theorem fam_ct {T : TT} {R : Nat → Int32} {p : Nat} (hp : p < T 0 0) : ctB (knmB T R p) (T 0 0) = T 0 0 - 1 ↔ famB T R p = true := by
  have h := ctB_ex (fun q => knB T R p q) hp
  have h2 : ctB (fun q => decide (q = p) || knB T R p q) (T 0 0) = ctB (fun q => knB T R p q) (T 0 0) := ctB_cong (fun i hi => by
    by_cases e : i = p
    · subst e; rw [knB_self]; simp
    · rw [decide_eq_false e]; rfl)
  unfold famB
  rw [allB_t, ← ctB_all, ← h2, ← h]
  show ctB (fun q => decide (q ≠ p) && knB T R p q) (T 0 0) = T 0 0 - 1 ↔ _
  omega
def coup1 (T : TT) (R : Nat → Int32) (a k : Nat) (x : Int32) : Int32 := if bkB T R a (a + 1 + k) = true then x + 1 else x
def coup2 (T : TT) (R : Nat → Int32) (a : Nat) (x : Int32) : Int32 := it (coup1 T R a) (T 0 0 - (a + 1)) x
def coupI (T : TT) (R : Nat → Int32) : Int32 := it (coup2 T R) (T 0 0) 0
/-- no two of a set know one another -/
def st1B (T : TT) (R : Nat → Int32) (s a b : Nat) : Bool := decide (a = b) || !s.testBit b || !knB T R a b
def st2B (T : TT) (R : Nat → Int32) (s a : Nat) : Bool := !s.testBit a || allB (st1B T R s a) (T 0 0)
def strB (T : TT) (R : Nat → Int32) (s : Nat) : Bool := allB (st2B T R s) (T 0 0)
def rg1 (T : TT) (R : Nat → Int32) (s best : Nat) : Nat := if pcN best < pcN s ∧ strB T R s = true then s else best
def rgN (T : TT) (R : Nat → Int32) : Nat → Nat := fun n => it (rg1 T R) n 0
theorem rgN_lt (T : TT) (R : Nat → Int32) (n : Nat) : rgN T R n ≤ n := by
  induction n with
  | zero => exact Nat.le_refl _
  | succ n ih =>
    show rg1 T R n (rgN T R n) ≤ n + 1
    unfold rg1
    split <;> omega
def encO (k : Nat) : Int32 := if k = 0 then -1 else nI (k - 1)
/-- whether somebody of the houses s can come to loaf b -/
def door1 (T : TT) (R : Nat → Int32) (s b : Nat) : Bool := decide (R (66 + b) ≠ -1) || decide (mN (fun p => canB T R p b) (T 0 0) = 0) || anyB (fun p => canB T R p b && s.testBit (T 2 p)) (T 0 0)
def doorB (T : TT) (R : Nat → Int32) (s : Nat) : Bool := allB (door1 T R s) (T 0 1)
def dr1 (T : TT) (R : Nat → Int32) (s x : Nat) : Nat := if (x = 0 ∨ pcN s < pcN (x - 1)) ∧ doorB T R s = true then s + 1 else x
def drN (T : TT) (R : Nat → Int32) : Nat → Nat := fun n => it (dr1 T R) n 0
theorem drN_lt (T : TT) (R : Nat → Int32) (n : Nat) : drN T R n ≤ n := by
  induction n with
  | zero => exact Nat.le_refl _
  | succ n ih =>
    show dr1 T R n (drN T R n) ≤ n + 1
    unfold dr1
    split <;> omega
/-- the houses of a set of people -/
def hoN (T : TT) (f : Nat → Bool) : Nat → Nat
  | 0 => 0
  | n + 1 => if f n = true then hoN T f n ||| 2 ^ T 2 n else hoN T f n
theorem or_h : ∀ p, p < 10 → ∀ x, x < 1024 → nI x ||| ((1 : Int32) <<< (nI p &&& 31)) = nI (x ||| 2 ^ p) ∧ x ||| 2 ^ p < 1024 := by decide +kernel
theorem hoN_lt {T : TT} (hT : TOK T) (f : Nat → Bool) {n : Nat} (hn : n ≤ T 0 0) : hoN T f n < 1024 := by
  induction n with
  | zero => show 0 < 1024; omega
  | succ n ih =>
    have hp := hT.p (show n < T 0 0 by omega)
    show (if f n = true then hoN T f n ||| 2 ^ T 2 n else hoN T f n) < 1024
    split
    · exact (or_h (T 2 n) (by omega) _ (ih (by omega))).2
    · exact ih (by omega)
theorem hoN_bit {T : TT} (f : Nat → Bool) (n p : Nat) : (hoN T f n).testBit p = anyB (fun i => f i && decide (T 2 i = p)) n := by
  induction n with
  | zero => exact Nat.zero_testBit p
  | succ n ih =>
    show (if f n = true then hoN T f n ||| 2 ^ T 2 n else hoN T f n).testBit p = (anyB _ n || _)
    rw [← ih]
    cases e : f n with
    | true => rw [if_pos rfl, Nat.testBit_or, Nat.testBit_two_pow]; simp [e]
    | false => rw [if_neg (by decide)]; simp [e]
theorem andI (a b : Nat) : nI a &&& nI b = nI (a &&& b) := by
  apply Int32.toBitVec_inj.mp
  rw [Int32.toBitVec_and]
  show BitVec.ofNat 32 a &&& BitVec.ofNat 32 b = BitVec.ofNat 32 (a &&& b)
  rw [BitVec.ofNat_and]
theorem and0 {a b : Nat} (ha : a < 1024) : (a &&& b = 0) ↔ ∀ p, p < 10 → (a.testBit p && b.testBit p) = false := by
  constructor
  · intro h p _
    rw [← Nat.testBit_and, h, Nat.zero_testBit]
  · intro h
    apply Nat.eq_of_testBit_eq
    intro p
    rw [Nat.testBit_and, Nat.zero_testBit]
    by_cases hp : p < 10
    · exact h p hp
    · rw [Nat.testBit_lt_two_pow (Nat.lt_of_lt_of_le ha (by have := Nat.pow_le_pow_right (show 2 > 0 by decide) (show 10 ≤ p by omega); omega))]
      rfl
theorem anyB_eq {f : Nat → Bool} {n : Nat} {b : Bool} (h : (∃ i, i < n ∧ f i = true) ↔ b = true) : anyB f n = b := by
  rw [Bool.eq_iff_iff, anyB_t]
  exact h
section QU
variable {T : TT} {h : Mem} {R : Nat → Int32}
theorem c_bothKnow (hT : TOK T) {k1 : Nat} (hS : SRel T (sub h k1) R) {post : Bool → Prop} {a b : Nat} (ha : a < T 0 0) (hb : b < T 0 0) (hp : post (bkB T R a b)) : wpX1_bothKnow post h T k1 (nI a) (nI b) := by
  unfold wpX1_bothKnow
  unfold bkB at hp
  refine c_knows hT hS ha hb (bo (fun e => c_knows hT hS hb ha ?_) (fun e => ?_))
  · rw [e, Bool.true_and] at hp
    cases e2 : knB T R b a <;> (rw [e2] at hp; exact hp)
  · rw [e] at hp
    exact hp
theorem c_couples (hT : TOK T) {k1 : Nat} (hS : SRel T (sub h k1) R) {post : Int32 → Prop} (hp : post (coupI T R)) : wpX1_couples post h T k1 := by
  have h8 := hT.n8
  unfold wpX1_couples
  refine LW_nat (fun i => (it (coup2 T R) i 0, nI i)) (T 0 0) (fun _ => True) rfl trivial (fun K i hi _ k => ?_)
  unfold wpBX1_couples_4 wpX1_people
  try dsimp only
  refine pk_le (T 0 0) i (fun q => ?_) (fun q => ?_)
  · have e : i = T 0 0 := by omega
    subst e
    exact hp
  · have k := k q trivial
    rw [nI_1]
    refine LW_nat (fun j => (it (coup1 T R i) j (it (coup2 T R) i 0), nI (i + 1 + j))) (T 0 0 - (i + 1)) (fun _ => True) rfl trivial (fun K2 j hj _ k2 => ?_)
    unfold wpBX1_couples_17 wpX1_people
    try dsimp only
    refine pk_le (T 0 0) (i + 1 + j) (fun q2 => ?_) (fun q2 => ?_)
    · have e : j = T 0 0 - (i + 1) := by omega
      subst e
      rw [nI_1]
      exact k
    · have kk : K2 (coup1 T R i j (it (coup1 T R i) j (it (coup2 T R) i 0)), nI (i + 1 + j + 1)) := k2 (by omega) trivial
      rw [nI_1]
      exact c_bothKnow hT hS q q2 kk
theorem c_cutMany (hT : TOK T) (hS : SRel T (sub h 40) R) {post : Int32 → Prop} (hp : post (nI (ctB (fun b => decide (R (66 + b) ≠ -1)) (T 0 1)))) : wpX1_cutMany post h T := by
  have h6 := hT.n6
  unfold wpX1_cutMany
  refine LW_nat (fun i => (nI (ctB (fun b => decide (R (66 + b) ≠ -1)) i), nI i)) (T 0 1) (fun _ => True) rfl trivial (fun K i hi _ k => ?_)
  unfold wpBX1_cutMany_4 wpX1_loaves
  try dsimp only
  refine pk_le (T 0 1) i (fun q => ?_) (fun q => ?_)
  · have e : i = T 0 1 := by omega
    subst e
    exact hp
  · have k := k q trivial
    rw [ixn (by omega), show h 41 i = R (66 + i) from hS.2.2.2.1 i (by omega)]
    refine ⟨pk_in i 6 (by omega), ?_⟩
    rw [ctB_s] at k
    by_cases c : R (66 + i) = -1
    · rw [if_pos c, nI_1]
      rw [if_neg (by rw [decide_eq_false (by simpa using c)]; decide)] at k
      exact k
    · rw [if_neg c, nI_1, nI_1]
      rw [if_pos (decide_eq_true c)] at k
      exact k
theorem c_knownBy (hT : TOK T) (hS : SRel T (sub h 40) R) {post : Int32 → Prop} {p : Nat} (hpn : p < T 0 0) (hp : post (nI (mN (knmB T R p) (T 0 0)))) : wpX1_knownBy post h T (nI p) := by
  have h8 := hT.n8
  unfold wpX1_knownBy
  refine LW_nat (fun i => (nI (mN (knmB T R p) i), nI i)) (T 0 0) (fun _ => True) rfl trivial (fun K i hi _ k => ?_)
  unfold wpBX1_knownBy_4 wpX1_people
  try dsimp only
  refine pk_le (T 0 0) i (fun q => ?_) (fun q => ?_)
  · have e : i = T 0 0 := by omega
    subst e
    exact hp
  · have k := k q trivial
    rw [← mN_Is (knmB T R p) (by omega) q, ← nI_1] at k
    refine pk_eq i p (fun e => ?_) (fun e => c_knows hT hS hpn q ?_)
    · rw [if_neg (by unfold knmB; rw [decide_eq_false (fun e2 => e2 e), Bool.false_and]; decide)] at k
      exact k
    · rw [show knmB T R p i = knB T R p i by unfold knmB; rw [decide_eq_true e]; rfl] at k
      exact k
theorem c_familiar (hT : TOK T) (hS : SRel T (sub h 40) R) {post : Int32 → Prop} (hp : post (nI (mN (famB T R) (T 0 0)))) : wpX1_familiar post h T := by
  have h8 := hT.n8
  unfold wpX1_familiar
  refine LW_nat (fun i => (nI (mN (famB T R) i), nI i)) (T 0 0) (fun _ => True) rfl trivial (fun K i hi _ k => ?_)
  unfold wpBX1_familiar_4 wpX1_people
  try dsimp only
  refine pk_le (T 0 0) i (fun q => ?_) (fun q => ?_)
  · have e : i = T 0 0 := by omega
    subst e
    exact hp
  · have k := k q trivial
    rw [← mN_Is (famB T R) (by omega) q, ← nI_1] at k
    refine c_knownBy hT hS q ?_
    have hl := mN_lt (knmB T R i) (T 0 0)
    have hl2 := p10 (show T 0 0 ≤ 10 by omega)
    have hc := ctB_le (knmB T R i) (T 0 0)
    rw [bitc_I _ (by omega), pc_mN _ (by omega)]
    try dsimp only
    rw [show (nI (T 0 0) - 1) = nI (T 0 0 - 1) from pk_s1 (by omega)]
    by_cases c : famB T R i = true
    · rw [if_pos ((nI_eq (by omega) (by omega)).mpr ((fam_ct q).mpr c))]
      rw [if_pos c] at k
      exact k
    · rw [if_neg (fun e => c ((fam_ct q).mp ((nI_eq (by omega) (by omega)).mp e)))]
      rw [if_neg c] at k
      exact k
theorem c_ring (hT : TOK T) (hS : SRel T (sub h 40) R) {post : Int32 → Prop} (hp : post (nI (rgN T R (2 ^ T 0 0)))) : wpX1_ring post h T := by
  have h8 := hT.n8
  have h2 : 2 ^ T 0 0 ≤ 256 := Nat.pow_le_pow_right (by decide) (show T 0 0 ≤ 8 from h8)
  unfold wpX1_ring
  refine LW_nat (fun i => (nI (rgN T R i), nI i)) (2 ^ T 0 0) (fun _ => True) rfl trivial (fun K i hi _ k => ?_)
  unfold wpBX1_ring_4 wpX1_people
  try dsimp only
  rw [sh1_I _ (by omega)]
  have hl := rgN_lt T R i
  refine pk_le (2 ^ T 0 0) i (fun q => ?_) (fun q => ?_)
  · have e : i = 2 ^ T 0 0 := by omega
    subst e
    exact hp
  · have k : K (nI (rg1 T R i (rgN T R i)), nI (i + 1)) := k q trivial
    have p1 := pcN_le (rgN T R i)
    have p2 := pcN_le i
    rw [bitc_I _ (by omega), bitc_I _ (by omega), nI_1]
    refine pk_lt (pcN (rgN T R i)) (pcN i) (fun c => ?_) (fun c => ?_)
    · have k : K (if b2i (strB T R i) = 0 then nI (rgN T R i) else nI i, nI (i + 1)) := by
        cases e : strB T R i with
        | true => rw [if_neg (by decide)]; rw [show rg1 T R i (rgN T R i) = i from if_pos ⟨c, e⟩] at k; exact k
        | false => rw [if_pos (show b2i false = 0 from rfl)]; rw [show rg1 T R i (rgN T R i) = rgN T R i from if_neg (fun h => by rw [e] at h; cases h.2)] at k; exact k
      refine LW_nat (fun j => (b2i (allB (st2B T R i) j), nI j)) (T 0 0) (fun _ => True) rfl trivial (fun K2 j hj _ k2 => ?_)
      unfold wpBX1_ring_33 wpX1_people
      try dsimp only
      refine pk_le (T 0 0) j (fun q2 => ?_) (fun q2 => ?_)
      · have e : j = T 0 0 := by omega
        subst e
        rw [nI_1]
        exact k
      · have k2 : K2 (b2i (allB (st2B T R i) (j + 1)), nI (j + 1)) := k2 q2 trivial
        rw [allB_s] at k2
        by_cases cj : i.testBit j = true
        · have e2 : st2B T R i j = allB (st1B T R i j) (T 0 0) := by unfold st2B; rw [cj]; rfl
          rw [e2] at k2
          refine LW_nat (fun w => (b2i (allB (st2B T R i) j && allB (st1B T R i j) w), nI w)) (T 0 0) (fun _ => True) (by rw [allB_0, Bool.and_true]; rfl) trivial (fun K3 w hw _ k3 => ?_)
          unfold wpBX1_ring_45 wpX1_people
          try dsimp only
          refine pk_le (T 0 0) w (fun q3 => ?_) (fun q3 => ?_)
          · have e : w = T 0 0 := by omega
            subst e
            rw [nI_1]
            exact k2
          · have k3 : K3 (b2i (allB (st2B T R i) j && allB (st1B T R i j) (w + 1)), nI (w + 1)) := k3 q3 trivial
            rw [allB_s, ← Bool.and_assoc] at k3
            rw [bit_I1 i (by omega) j (by omega), bit_I0 i (by omega) w (by omega)]
            refine ⟨fun _ => bo0 (fun e0 => ?_) (fun e1 => ?_), fun h => absurd cj h⟩
            · unfold wpBX1_ring_106
              rw [nI_1]
              rw [e0] at k3
              exact k3
            · rw [e1, Bool.true_and] at k3
              refine pk_eq j w (fun e => ?_) (fun e => ⟨fun e4 => ?_, fun e4 => c_knows hT hS q2 q3 ?_⟩)
              · unfold wpBX1_ring_102
                rw [nI_1]
                rw [show st1B T R i j w = true by unfold st1B; rw [decide_eq_true e]; rfl] at k3
                exact k3
              · unfold wpBX1_ring_102
                rw [nI_1]
                rw [show st1B T R i j w = true by unfold st1B; rw [e4]; simp] at k3
                exact k3
              · rw [nI_1]
                rw [show st1B T R i j w = !knB T R j w by unfold st1B; rw [decide_eq_false e, (by cases e5 : i.testBit w with | true => rfl | false => exact absurd e5 e4 : i.testBit w = true)]; rfl] at k3
                cases e5 : knB T R j w <;> (rw [e5] at k3; exact k3)
        · have e2 : st2B T R i j = true := by unfold st2B; rw [Bool.eq_false_iff.mpr cj]; rfl
          rw [e2, Bool.and_true] at k2
          refine LW_nat (fun w => (b2i (allB (st2B T R i) j), nI w)) (T 0 0) (fun _ => True) rfl trivial (fun K3 w hw _ k3 => ?_)
          unfold wpBX1_ring_45 wpX1_people
          try dsimp only
          rw [nI_1]
          refine pk_le (T 0 0) w (fun q3 => k2) (fun q3 => ?_)
          rw [bit_I1 i (by omega) j (by omega)]
          exact ⟨fun h => absurd h cj, fun _ => k2⟩
    · rw [show rg1 T R i (rgN T R i) = rgN T R i from if_neg (fun h => by omega)] at k
      exact k
theorem c_housesOf (hT : TOK T) {post : Int32 → Prop} {m : Nat} (hm : m < 1024) (hp : post (nI (hoN T (fun i => m.testBit i) (T 0 0)))) : wpX1_housesOf post h T (nI m) := by
  have h8 := hT.n8
  unfold wpX1_housesOf
  refine LW_nat (fun i => (nI (hoN T (fun i => m.testBit i) i), nI i)) (T 0 0) (fun _ => True) rfl trivial (fun K i hi _ k => ?_)
  unfold wpBX1_housesOf_4 wpX1_people
  try dsimp only
  refine pk_le (T 0 0) i (fun q => ?_) (fun q => ?_)
  · have e : i = T 0 0 := by omega
    subst e
    exact hp
  · have k : K (nI (if m.testBit i = true then hoN T (fun i => m.testBit i) i ||| 2 ^ T 2 i else hoN T (fun i => m.testBit i) i), nI (i + 1)) := k q trivial
    have hpi := hT.p q
    rw [bit_I1 m hm i (by omega), nI_1]
    refine ⟨fun e => c_house q ?_, fun e => ?_⟩
    · rw [if_pos e] at k
      rw [(or_h (T 2 i) (by omega) _ (hoN_lt hT _ hi)).1]
      exact k
    · rw [if_neg e] at k
      exact k
theorem door_eq (hT : TOK T) {s b : Nat} (hs : s < 1024) : door1 T R s b = (decide (R (66 + b) ≠ -1) || decide (hoN T (fun i => (mN (fun p => canB T R p b) (T 0 0)).testBit i) (T 0 0) = 0) || decide ((hoN T (fun i => (mN (fun p => canB T R p b) (T 0 0)).testBit i) (T 0 0)) &&& s ≠ 0)) := by
  have h8 := hT.n8
  have hl := hoN_lt hT (fun i => (mN (fun p => canB T R p b) (T 0 0)).testBit i) (Nat.le_refl _)
  have bit : ∀ p, (hoN T (fun i => (mN (fun p => canB T R p b) (T 0 0)).testBit i) (T 0 0)).testBit p = anyB (fun i => canB T R i b && decide (T 2 i = p)) (T 0 0) := fun p => by
    rw [hoN_bit]
    exact anyB_cong (fun i hi => by rw [mN_bit, decide_eq_true hi]; rfl)
  have e0 : (mN (fun p => canB T R p b) (T 0 0) = 0) ↔ (hoN T (fun i => (mN (fun p => canB T R p b) (T 0 0)).testBit i) (T 0 0) = 0) := by
    rw [mN_0]
    constructor
    · intro h
      apply Nat.eq_of_testBit_eq
      intro p
      rw [bit, Nat.zero_testBit]
      exact anyB_f.mpr (fun i hi => by rw [h i hi]; rfl)
    · intro h p hp
      cases e : canB T R p b with
      | false => rfl
      | true =>
        have := bit (T 2 p)
        rw [h, Nat.zero_testBit] at this
        rw [anyB_t.mpr ⟨p, hp, by rw [e]; simp⟩] at this
        cases this
  have e1 : anyB (fun p => canB T R p b && s.testBit (T 2 p)) (T 0 0) = decide ((hoN T (fun i => (mN (fun p => canB T R p b) (T 0 0)).testBit i) (T 0 0)) &&& s ≠ 0) := by
    apply anyB_eq
    rw [decide_eq_true_iff, Ne, and0 hl]
    constructor
    · rintro ⟨i, hi, e⟩ h
      rw [Bool.and_eq_true] at e
      have hp := hT.p hi
      have := h (T 2 i) (by omega)
      rw [bit, anyB_t.mpr ⟨i, hi, by rw [e.1]; simp⟩, e.2] at this
      cases this
    · intro h
      refine Classical.byContradiction (fun h2 => h (fun p _ => ?_))
      rw [bit]
      cases e : anyB (fun i => canB T R i b && decide (T 2 i = p)) (T 0 0) with
      | false => rfl
      | true =>
        obtain ⟨i, hi, e⟩ := anyB_t.mp e
        rw [Bool.and_eq_true] at e
        have e3 := of_decide_eq_true e.2
        cases e4 : s.testBit p with
        | false => rfl
        | true => exact absurd ⟨i, hi, by rw [e.1, e3, e4]; rfl⟩ h2
  unfold door1
  rw [e1]
  congr 2
  exact decide_eq_decide.mpr e0
theorem c_doors (hT : TOK T) (hS : SRel T (sub h 40) R) {post : Int32 → Prop} (hp : post (encO (drN T R 1024))) : wpX1_doors post h T := by
  have h8 := hT.n8
  have h6 := hT.n6
  unfold wpX1_doors
  refine LW_nat (fun i => (encO (drN T R i), nI i)) 1024 (fun _ => True) rfl trivial (fun K i hi _ k => ?_)
  unfold wpBX1_doors_4
  try dsimp only
  have hl := drN_lt T R i
  refine pk_le 1024 i (fun q => ?_) (fun q => ?_)
  · have e : i = 1024 := by omega
    subst e
    exact hp
  · have k : K (encO (dr1 T R i (drN T R i)), nI (i + 1)) := k q trivial
    have loop : (drN T R i = 0 ∨ pcN i < pcN (drN T R i - 1)) → wpBX1_doors_30 post T (fun x1 x2 => K (x1, x2)) h (encO (drN T R i)) (nI i) := by
      intro c
      have k : K (if b2i (doorB T R i) = 0 then encO (drN T R i) else nI i, nI (i + 1)) := by
        cases e : doorB T R i with
        | true => rw [if_neg (by decide)]; rw [show dr1 T R i (drN T R i) = i + 1 from if_pos ⟨c, e⟩] at k; exact k
        | false => rw [if_pos (show b2i false = 0 from rfl)]; rw [show dr1 T R i (drN T R i) = drN T R i from if_neg (fun h => by rw [e] at h; cases h.2)] at k; exact k
      unfold wpBX1_doors_30
      try dsimp only
      refine LW_nat (fun j => (b2i (allB (door1 T R i) j), nI j)) (T 0 1) (fun _ => True) rfl trivial (fun K2 j hj _ k2 => ?_)
      unfold wpBX1_doors_35 wpX1_loaves
      try dsimp only
      refine pk_le (T 0 1) j (fun q2 => ?_) (fun q2 => ?_)
      · have e : j = T 0 1 := by omega
        subst e
        unfold wpBX1_doors_105
        try dsimp only
        rw [nI_1]
        exact k
      · have k2 : K2 (b2i (allB (door1 T R i) (j + 1)), nI (j + 1)) := k2 q2 trivial
        rw [allB_s] at k2
        refine bo0 (fun e0 => ?_) (fun e1 => ?_)
        · unfold wpBX1_doors_105
          rw [nI_1, if_pos (by rw [e0]; rfl)]
          rw [show doorB T R i = false from by
            cases e : doorB T R i with
            | false => rfl
            | true => rw [allB_t.mpr (fun w hw => allB_t.mp e w (by omega))] at e0; cases e0] at k
          exact k
        · rw [e1, Bool.true_and] at k2
          have hm := mN_lt (fun p => canB T R p j) (T 0 0)
          have hm2 := p10 (show T 0 0 ≤ 10 by omega)
          have hh := hoN_lt hT (fun w => (mN (fun p => canB T R p j) (T 0 0)).testBit w) (Nat.le_refl _)
          refine c_whoCan hT hS q2 (c_housesOf hT (by omega) ?_)
          rw [ixn (by omega), show h 41 j = R (66 + j) from hS.2.2.2.1 j (by omega), nI_1, andI]
          refine ⟨pk_in j 6 (by omega), ?_⟩
          rw [door_eq hT q] at k2
          have na : (hoN T (fun w => (mN (fun p => canB T R p j) (T 0 0)).testBit w) (T 0 0)) &&& i < 1024 := Nat.lt_of_le_of_lt Nat.and_le_left hh
          by_cases c1 : R (66 + j) = -1
          · rw [if_pos c1]
            rw [decide_eq_false (fun h => h c1), Bool.false_or] at k2
            by_cases c2 : hoN T (fun w => (mN (fun p => canB T R p j) (T 0 0)).testBit w) (T 0 0) = 0
            · rw [if_pos (by rw [c2]; rfl)]
              rw [decide_eq_true c2, Bool.true_or] at k2
              exact k2
            · rw [if_neg (fun e => c2 ((nI_eq (by omega) (by decide)).mp (e.trans (show (0 : Int32) = nI 0 from rfl))))]
              rw [decide_eq_false c2, Bool.false_or] at k2
              by_cases c3 : (hoN T (fun w => (mN (fun p => canB T R p j) (T 0 0)).testBit w) (T 0 0)) &&& i = 0
              · rw [if_pos (by rw [c3]; rfl)]
                rw [decide_eq_false (fun h => h c3)] at k2
                exact k2
              · rw [if_neg (fun e => c3 ((nI_eq (by omega) (by decide)).mp (e.trans (show (0 : Int32) = nI 0 from rfl))))]
                rw [decide_eq_true c3] at k2
                exact k2
          · rw [if_neg c1]
            rw [decide_eq_true c1, Bool.true_or, Bool.true_or] at k2
            exact k2
    refine ⟨fun e => loop (Or.inl ?_), fun e => ?_⟩
    · unfold encO at e
      by_cases c : drN T R i = 0
      · exact c
      · rw [if_neg c] at e
        exact absurd e (nIm1 (by omega))
    · have c : drN T R i ≠ 0 := fun h => e (by unfold encO; rw [if_pos h])
      have e2 : encO (drN T R i) = nI (drN T R i - 1) := if_neg c
      have p1 := pcN_le (drN T R i - 1)
      have p2 := pcN_le i
      have loop2 := fun h => loop (Or.inr h)
      rw [e2] at loop2 ⊢
      rw [bitc_I _ (by omega), bitc_I _ (by omega), nI_1]
      refine pk_lt (pcN i) (pcN (drN T R i - 1)) (fun c2 => loop2 c2) (fun c2 => ?_)
      rw [show dr1 T R i (drN T R i) = drN T R i from if_neg (fun h => h.1.elim c (by omega)), e2] at k
      exact k
end QU
