/-! 50.pb: plain lemmas: counted loops, numbers, masks, counts of bits -/
def it {α : Type} (f : Nat → α → α) : Nat → α → α
  | 0, a => a
  | n + 1, a => f n (it f n a)
theorem it_cong {α : Type} {f g : Nat → α → α} {n : Nat} (a : α) (h : ∀ i a, i < n → f i a = g i a) : it f n a = it g n a := by
  induction n with
  | zero => rfl
  | succ n ih =>
    show f n (it f n a) = g n (it g n a)
    rw [ih (fun i a hi => h i a (by omega))]
    exact h n _ (by omega)
theorem LW_nat {σ : Type} {B : (σ → Prop) → σ → Prop} (st : Nat → σ) (n : Nat) (I : Nat → Prop) {s0 : σ} (e0 : s0 = st 0)
    (h0 : I 0) (hs : ∀ (K : σ → Prop) (i : Nat), i ≤ n → I i → (i < n → I (i + 1) → K (st (i + 1))) → B K (st i)) : ∃ m, LW B m s0 := by
  subst e0
  have h : ∀ (k i : Nat), i ≤ n → n - i < k → I i → LW B k (st i) := by
    intro k
    induction k with
    | zero => intro i _ h; omega
    | succ k ih => intro i hi hk hI; exact hs _ i hi hI (fun h1 h2 => ih (i + 1) h1 (by omega) h2)
  exact ⟨_, h (n + 1) 0 (Nat.zero_le _) (by omega) h0⟩
theorem ite_p {α : Type} {A : Prop} [Decidable A] {P : α → Prop} {x y : α} (h : P (if A then x else y)) : (A → P x) ∧ (¬ A → P y) :=
  ⟨fun a => by rw [if_pos a] at h; exact h, fun a => by rw [if_neg a] at h; exact h⟩
theorem ixn {n : Nat} (h : n < 2 ^ 31) : ix (nI n) = n := nI_clamp h
theorem e8 (a b : Nat) : (8 : Int32) * nI a + nI b = nI (8 * a + b) := by rw [show (8 : Int32) = nI 8 from rfl, pk_mul, nI_add]
theorem e6 (a b : Nat) : (6 : Int32) * nI a + nI b = nI (6 * a + b) := by rw [show (6 : Int32) = nI 6 from rfl, pk_mul, nI_add]
theorem nIm1 {n : Nat} (h : n < 2 ^ 31) : ¬ nI n = -1 := by
  intro e
  have h1 := nI_pos h
  rw [e] at h1
  exact h1 (by decide)
def anyB (f : Nat → Bool) : Nat → Bool
  | 0 => false
  | n + 1 => anyB f n || f n
theorem anyB_t {f : Nat → Bool} {n : Nat} : anyB f n = true ↔ ∃ i, i < n ∧ f i = true := by
  induction n with
  | zero => exact ⟨fun h => (by cases h), fun ⟨i, h, _⟩ => absurd h (Nat.not_lt_zero _)⟩
  | succ n ih =>
    show (anyB f n || f n) = true ↔ _
    rw [Bool.or_eq_true, ih]
    constructor
    · rintro (⟨i, h1, h2⟩ | h)
      · exact ⟨i, by omega, h2⟩
      · exact ⟨n, by omega, h⟩
    · rintro ⟨i, h1, h2⟩
      by_cases e : i = n
      · subst e; exact Or.inr h2
      · exact Or.inl ⟨i, by omega, h2⟩
theorem anyB_f {f : Nat → Bool} {n : Nat} : anyB f n = false ↔ ∀ i, i < n → f i = false := by
  constructor
  · intro h i hi
    cases e : f i with
    | false => rfl
    | true => rw [anyB_t.mpr ⟨i, hi, e⟩] at h; cases h
  · intro h
    cases e : anyB f n with
    | false => rfl
    | true =>
      obtain ⟨i, h1, h2⟩ := anyB_t.mp e
      rw [h i h1] at h2; cases h2
theorem anyB_cong {f g : Nat → Bool} {n : Nat} (h : ∀ i, i < n → f i = g i) : anyB f n = anyB g n := by
  induction n with
  | zero => rfl
  | succ n ih => show (anyB f n || f n) = (anyB g n || g n); rw [ih (fun i hi => h i (by omega)), h n (by omega)]
def allB (f : Nat → Bool) (n : Nat) : Bool := !anyB (fun i => !f i) n
theorem allB_t {f : Nat → Bool} {n : Nat} : allB f n = true ↔ ∀ i, i < n → f i = true := by
  unfold allB
  rw [Bool.not_eq_true', anyB_f]
  constructor
  · intro h i hi; have := h i hi; cases e : f i with
    | true => rfl
    | false => rw [e] at this; cases this
  · intro h i hi; rw [h i hi]; rfl
theorem allB_0 (f : Nat → Bool) : allB f 0 = true := rfl
theorem allB_s (f : Nat → Bool) (n : Nat) : allB f (n + 1) = (allB f n && f n) := by
  unfold allB
  show (!(anyB (fun i => !f i) n || !f n)) = _
  rw [Bool.not_or, Bool.not_not]
theorem allB_f {f : Nat → Bool} {n : Nat} {i : Nat} (hi : i < n) (h : f i = false) : allB f n = false := by
  cases e : allB f n with
  | false => rfl
  | true => rw [allB_t.mp e i hi] at h; cases h
theorem allB_cong {f g : Nat → Bool} {n : Nat} (h : ∀ i, i < n → f i = g i) : allB f n = allB g n := by
  unfold allB
  rw [anyB_cong (fun i hi => by rw [h i hi])]
/-- a set as a mask -/
def mN (f : Nat → Bool) : Nat → Nat
  | 0 => 0
  | n + 1 => if f n = true then mN f n + 2 ^ n else mN f n
theorem mN_lt (f : Nat → Bool) (n : Nat) : mN f n < 2 ^ n := by
  induction n with
  | zero => exact Nat.one_pos
  | succ n ih =>
    show (if f n = true then mN f n + 2 ^ n else mN f n) < 2 ^ (n + 1)
    rw [Nat.pow_succ]
    split <;> omega
theorem mN_cong {f g : Nat → Bool} {n : Nat} (h : ∀ i, i < n → f i = g i) : mN f n = mN g n := by
  induction n with
  | zero => rfl
  | succ n ih => show (if f n = true then mN f n + 2 ^ n else mN f n) = _; rw [ih (fun i hi => h i (by omega)), h n (by omega)]; rfl
theorem mN_bit (f : Nat → Bool) (n p : Nat) : (mN f n).testBit p = (decide (p < n) && f p) := by
  induction n with
  | zero => rw [show mN f 0 = 0 from rfl, Nat.zero_testBit]; simp
  | succ n ih =>
    show (if f n = true then mN f n + 2 ^ n else mN f n).testBit p = _
    have hl := mN_lt f n
    rcases Nat.lt_trichotomy p n with h | h | h
    · have e : (if f n = true then mN f n + 2 ^ n else mN f n).testBit p = (mN f n).testBit p := by
        split
        · rw [Nat.add_comm, Nat.testBit_two_pow_add_gt h]
        · rfl
      rw [e, ih]
      simp [h, Nat.lt_succ_of_lt h]
    · subst h
      have e0 : (mN f p).testBit p = false := Nat.testBit_lt_two_pow hl
      cases e : f p with
      | true => rw [if_pos rfl, Nat.add_comm, Nat.testBit_two_pow_add_eq, e0]; simp
      | false => rw [if_neg (by decide), e0]; simp
    · have h2 : (if f n = true then mN f n + 2 ^ n else mN f n) < 2 ^ p := by
        have : 2 ^ (n + 1) ≤ 2 ^ p := Nat.pow_le_pow_right (by decide) h
        rw [Nat.pow_succ] at this
        split <;> omega
      rw [Nat.testBit_lt_two_pow h2]
      simp
      omega
theorem mN_0 {f : Nat → Bool} {n : Nat} : mN f n = 0 ↔ ∀ p, p < n → f p = false := by
  constructor
  · intro h p hp
    have := mN_bit f n p
    rw [h, Nat.zero_testBit] at this
    simpa [hp] using this.symm
  · intro h
    induction n with
    | zero => rfl
    | succ n ih =>
      show (if f n = true then mN f n + 2 ^ n else mN f n) = 0
      rw [if_neg (by rw [h n (by omega)]; decide)]
      exact ih (fun p hp => h p (by omega))
theorem or_I : ∀ i, i < 10 → ∀ x, x < 2 ^ i → nI x ||| ((1 : Int32) <<< (nI i &&& 31)) = nI (x + 2 ^ i) := by decide +kernel
theorem mN_I (f : Nat → Bool) {n : Nat} (hn : n ≤ 10) : it (fun i x => if f i = true then x ||| ((1 : Int32) <<< (nI i &&& 31)) else x) n 0 = nI (mN f n) := by
  induction n with
  | zero => rfl
  | succ n ih =>
    show (if f n = true then it _ n 0 ||| ((1 : Int32) <<< (nI n &&& 31)) else it _ n 0) = nI (if f n = true then mN f n + 2 ^ n else mN f n)
    rw [ih (by omega)]
    split
    · exact or_I n (by omega) _ (mN_lt f n)
    · rfl
theorem mN_Is (f : Nat → Bool) {n i : Nat} (hn : n ≤ 10) (hi : i < n) : (if f i = true then nI (mN f i) ||| ((1 : Int32) <<< (nI i &&& 31)) else nI (mN f i)) = nI (mN f (i + 1)) := by
  show _ = nI (if f i = true then mN f i + 2 ^ i else mN f i)
  split
  · exact or_I i (by omega) _ (mN_lt f i)
  · rfl
theorem bit_I1 : ∀ m, m < 1024 → ∀ p, p < 10 → (((nI m >>> (nI p &&& 31)) &&& 1) = 1 ↔ m.testBit p = true) := by decide +kernel
theorem bit_I0 : ∀ m, m < 1024 → ∀ p, p < 10 → (((nI m >>> (nI p &&& 31)) &&& 1) = 0 ↔ m.testBit p = false) := by decide +kernel
theorem p10 {n : Nat} (hn : n ≤ 10) : 2 ^ n ≤ 1024 := Nat.pow_le_pow_right (by decide) hn
theorem bitM1 (f : Nat → Bool) {n p : Nat} (hn : n ≤ 10) (hp : p < n) : ((nI (mN f n) >>> (nI p &&& 31)) &&& 1) = 1 ↔ f p = true := by
  have h1 := mN_lt f n
  have h2 := p10 hn
  rw [bit_I1 _ (by omega) p (by omega), mN_bit]
  simp [hp]
theorem bitM0 (f : Nat → Bool) {n p : Nat} (hn : n ≤ 10) (hp : p < n) : ((nI (mN f n) >>> (nI p &&& 31)) &&& 1) = 0 ↔ f p = false := by
  have h1 := mN_lt f n
  have h2 := p10 hn
  rw [bit_I0 _ (by omega) p (by omega), mN_bit]
  simp [hp]
theorem sh1_I : ∀ n, n < 11 → ((1 : Int32) <<< (nI n &&& 31)) = nI (2 ^ n) := by decide +kernel
/-- how many bits -/
def pcN (m : Nat) : Nat := (if m.testBit 0 then 1 else 0) + (if m.testBit 1 then 1 else 0) + (if m.testBit 2 then 1 else 0) + (if m.testBit 3 then 1 else 0) + (if m.testBit 4 then 1 else 0) + (if m.testBit 5 then 1 else 0) + (if m.testBit 6 then 1 else 0) + (if m.testBit 7 then 1 else 0) + (if m.testBit 8 then 1 else 0) + (if m.testBit 9 then 1 else 0)
theorem pcN_le (m : Nat) : pcN m ≤ 10 := by
  unfold pcN
  repeat' split
  all_goals omega
theorem bitc_I : ∀ m, m < 1024 → bitc (nI m) = nI (pcN m) := by decide +kernel
theorem kern_I : ∀ v, v < 1024 → v ≠ 0 → nI v &&& (nI v - 1) = nI (v &&& (v - 1)) ∧ pcN (v &&& (v - 1)) + 1 = pcN v ∧ v &&& (v - 1) < v := by decide +kernel
theorem pcN_0 : pcN 0 = 0 := by decide
def ctB (f : Nat → Bool) : Nat → Nat
  | 0 => 0
  | n + 1 => ctB f n + (if f n = true then 1 else 0)
theorem pc_add : ∀ i, i < 10 → ∀ x, x < 2 ^ i → pcN (x + 2 ^ i) = pcN x + 1 := by decide +kernel
theorem pc_mN (f : Nat → Bool) {n : Nat} (hn : n ≤ 10) : pcN (mN f n) = ctB f n := by
  induction n with
  | zero => exact pcN_0
  | succ n ih =>
    show pcN (if f n = true then mN f n + 2 ^ n else mN f n) = ctB f n + _
    rw [← ih (by omega)]
    split
    · exact pc_add n (by omega) _ (mN_lt f n)
    · rfl
theorem ctB_le (f : Nat → Bool) (n : Nat) : ctB f n ≤ n := by
  induction n with
  | zero => exact Nat.le_refl _
  | succ n ih => show ctB f n + _ ≤ _; split <;> omega
theorem ctB_all {f : Nat → Bool} {n : Nat} : ctB f n = n ↔ ∀ i, i < n → f i = true := by
  induction n with
  | zero => exact ⟨fun _ i h => absurd h (Nat.not_lt_zero _), fun _ => rfl⟩
  | succ n ih =>
    have hl := ctB_le f n
    show ctB f n + (if f n = true then 1 else 0) = n + 1 ↔ _
    constructor
    · intro h i hi
      have h1 : f n = true := by
        cases e : f n with
        | true => rfl
        | false => rw [e] at h; simp at h; omega
      rw [if_pos h1] at h
      by_cases e : i = n
      · subst e; exact h1
      · exact ih.mp (by omega) i (by omega)
    · intro h
      rw [if_pos (h n (by omega)), ih.mpr (fun i hi => h i (by omega))]
theorem mxI_n (a b : Nat) (ha : a < 2 ^ 31) (hb : b < 2 ^ 31) : mxI (nI a) (nI b) = nI (max a b) := by
  unfold mxI
  by_cases h : a < b
  · rw [if_pos (nI_lt h hb), Nat.max_eq_right (by omega)]
  · rw [if_neg (nI_nlt (by omega) ha), Nat.max_eq_left (by omega)]
theorem mnI_n (a b : Nat) (ha : a < 2 ^ 31) (hb : b < 2 ^ 31) : mnI (nI a) (nI b) = nI (min a b) := by
  unfold mnI
  by_cases h : b < a
  · rw [if_pos (nI_lt h ha), Nat.min_eq_right (by omega)]
  · rw [if_neg (nI_nlt (by omega) hb), Nat.min_eq_left (by omega)]
theorem le_II (a b : Int32) : a ≤ b ↔ a.toInt ≤ b.toInt := Int32.le_iff_toInt_le
theorem lt_II (a b : Int32) : a < b ↔ a.toInt < b.toInt := Int32.lt_iff_toInt_lt
theorem mxI_le {a b : Int32} (h : a ≤ b) : mxI a b = b := by
  unfold mxI
  rw [le_II] at h
  by_cases q : a < b
  · rw [if_pos q]
  · rw [if_neg q]
    rw [lt_II] at q
    exact Int32.toInt_inj.mp (by omega)
theorem mxI_ge {a b : Int32} (h : b ≤ a) : mxI a b = a := by
  unfold mxI
  rw [le_II] at h
  rw [if_neg (by rw [lt_II]; omega)]
theorem mxI_l (a b : Int32) : a ≤ mxI a b := by
  unfold mxI
  split
  · rename_i h; rw [lt_II] at h; rw [le_II]; omega
  · rw [le_II]; omega
theorem mxI_r (a b : Int32) : b ≤ mxI a b := by
  unfold mxI
  split
  · rw [le_II]; omega
  · rename_i h; rw [lt_II] at h; rw [le_II]; omega
theorem mxI_lub {a b c : Int32} (h1 : a ≤ c) (h2 : b ≤ c) : mxI a b ≤ c := by
  unfold mxI
  split <;> assumption
theorem leI_refl (a : Int32) : a ≤ a := by rw [le_II]; omega
theorem leI_trans {a b c : Int32} (h1 : a ≤ b) (h2 : b ≤ c) : a ≤ c := by rw [le_II] at *; omega
theorem leI_anti {a b : Int32} (h1 : a ≤ b) (h2 : b ≤ a) : a = b := by rw [le_II] at *; exact Int32.toInt_inj.mp (by omega)
