/-! 59.no: hour by hour, what must be soonest first: the component's late test and the twin's early one say the same; what is added makes nothing easier -/
def be1 (A U : Nat → Int32) (L : Nat → Bool) (h b x : Nat) : Nat := if L b = true then (if nI h < A b then x else if x = 0 then b + 1 else if U (x - 1) ≤ U b then x else b + 1) else x
/-- whom one cuts at an hour (one more; 0: none) -/
def beN (A U : Nat → Int32) (L : Nat → Bool) (h n : Nat) : Nat := it (be1 A U L h) n 0
def cnd (A : Nat → Int32) (L : Nat → Bool) (h b : Nat) : Prop := L b = true ∧ ¬ nI h < A b
theorem beN_sp (A U : Nat → Int32) (L : Nat → Bool) (h n : Nat) : (beN A U L h n = 0 ∧ ∀ b, b < n → ¬ cnd A L h b) ∨ (∃ q, beN A U L h n = q + 1 ∧ q < n ∧ cnd A L h q ∧ (∀ b, b < n → cnd A L h b → U q ≤ U b) ∧ ∀ b, b < q → cnd A L h b → ¬ U b ≤ U q) := by
  induction n with
  | zero => exact Or.inl ⟨rfl, fun b h => absurd h (Nat.not_lt_zero _)⟩
  | succ n ih =>
    have e : beN A U L h (n + 1) = be1 A U L h n (beN A U L h n) := rfl
    unfold be1 at e
    by_cases c : cnd A L h n
    · rw [if_pos c.1, if_neg c.2] at e
      rcases ih with ⟨h1, h2⟩ | ⟨q, h1, h2, h3, h4, h5⟩
      · rw [if_pos h1] at e
        refine Or.inr ⟨n, e, by omega, c, fun b hb hc => ?_, fun b hb hc => absurd hc (h2 b hb)⟩
        by_cases eb : b = n
        · subst eb; exact leI_refl _
        · exact absurd hc (h2 b (by omega))
      · rw [if_neg (by omega), h1, show q + 1 - 1 = q by omega] at e
        by_cases c2 : U q ≤ U n
        · rw [if_pos c2] at e
          refine Or.inr ⟨q, e, by omega, h3, fun b hb hc => ?_, h5⟩
          by_cases eb : b = n
          · subst eb; exact c2
          · exact h4 b (by omega) hc
        · rw [if_neg c2] at e
          refine Or.inr ⟨n, e, by omega, c, fun b hb hc => ?_, fun b hb hc => ?_⟩
          · by_cases eb : b = n
            · subst eb; exact leI_refl _
            · have := h4 b (by omega) hc
              rw [le_II] at *
              omega
          · have := h4 b (by omega) hc
            rw [le_II] at *
            omega
    · have e2 : beN A U L h (n + 1) = beN A U L h n := by
        rw [e]
        by_cases c1 : L n = true
        · rw [if_pos c1]
          by_cases c2 : nI h < A n
          · rw [if_pos c2]
          · exact absurd ⟨c1, c2⟩ c
        · rw [if_neg c1]
      rcases ih with ⟨h1, h2⟩ | ⟨q, h1, h2, h3, h4, h5⟩
      · refine Or.inl ⟨e2.trans h1, fun b hb hc => ?_⟩
        by_cases eb : b = n
        · subst eb; exact c hc
        · exact h2 b (by omega) hc
      · refine Or.inr ⟨q, e2.trans h1, by omega, h3, fun b hb hc => ?_, h5⟩
        by_cases eb : b = n
        · subst eb; exact absurd hc c
        · exact h4 b (by omega) hc
def rm1 (L : Nat → Bool) (x : Nat) : Nat → Bool := if x = 0 then L else fun k => L k && decide (k ≠ x - 1)
/-- the component's test -/
def cT (A U : Nat → Int32) (n : Nat) : Nat → Nat → (Nat → Bool) → Bool
  | 0, _, L => !anyB L n
  | f + 1, h, L => if anyB L n = true then (if beN A U L h n = 0 then cT A U n f (h + 1) L else if nI h ≤ U (beN A U L h n - 1) then cT A U n f (h + 1) (rm1 L (beN A U L h n)) else false) else true
def lateB (U : Nat → Int32) (L : Nat → Bool) (h n : Nat) : Bool := anyB (fun b => L b && decide (¬ nI h ≤ U b)) n
/-- the twin's test -/
def tT (A U : Nat → Int32) (n : Nat) : Nat → Nat → (Nat → Bool) → Bool
  | 0, _, L => !anyB L n
  | f + 1, h, L => if anyB L n = true then (if lateB U L h n = true then false else tT A U n f (h + 1) (rm1 L (beN A U L h n))) else true
theorem late_t {U : Nat → Int32} {L : Nat → Bool} {h n : Nat} : lateB U L h n = true ↔ ∃ b, b < n ∧ L b = true ∧ ¬ nI h ≤ U b := by
  unfold lateB
  rw [anyB_t]
  constructor
  · rintro ⟨b, h1, h2⟩
    rw [Bool.and_eq_true] at h2
    exact ⟨b, h1, h2.1, of_decide_eq_true h2.2⟩
  · rintro ⟨b, h1, h2, h3⟩
    exact ⟨b, h1, by rw [h2, decide_eq_true h3]; rfl⟩
theorem cT_late {A U : Nat → Int32} {n : Nat} : ∀ (f h : Nat) (L : Nat → Bool), h + f ≤ 30 → (∃ b, b < n ∧ L b = true ∧ ¬ nI h ≤ U b) → cT A U n f h L = false := by
  intro f
  induction f with
  | zero =>
    intro h L _ ⟨b, h1, h2, _⟩
    show (!anyB L n) = false
    rw [anyB_t.mpr ⟨b, h1, h2⟩]
    rfl
  | succ f ih =>
    intro h L hf ⟨b, h1, h2, h3⟩
    have h4 : ¬ nI (h + 1) ≤ U b := by
      rw [le_II, nI_toInt (by omega)] at *
      omega
    show (if anyB L n = true then _ else _) = false
    rw [if_pos (anyB_t.mpr ⟨b, h1, h2⟩)]
    by_cases c : beN A U L h n = 0
    · rw [if_pos c]
      exact ih (h + 1) L (by omega) ⟨b, h1, h2, h4⟩
    · rw [if_neg c]
      by_cases c2 : nI h ≤ U (beN A U L h n - 1)
      · rw [if_pos c2]
        refine ih (h + 1) _ (by omega) ⟨b, h1, ?_, h4⟩
        unfold rm1
        rw [if_neg c]
        show (L b && decide (b ≠ beN A U L h n - 1)) = true
        rw [h2, show decide (b ≠ beN A U L h n - 1) = true from decide_eq_true (fun e => h3 (by rw [e]; exact c2))]
        rfl
      · rw [if_neg c2]
theorem cT_tT {A U : Nat → Int32} {n : Nat} : ∀ (f h : Nat) (L : Nat → Bool), h + f ≤ 30 → cT A U n f h L = tT A U n f h L := by
  intro f
  induction f with
  | zero => intro h L _; rfl
  | succ f ih =>
    intro h L hf
    cases l : lateB U L h n with
    | true =>
      have l2 := late_t.mp l
      obtain ⟨b, h1, h2, _⟩ := id l2
      rw [cT_late (f + 1) h L hf l2]
      show false = if anyB L n = true then _ else _
      rw [if_pos (anyB_t.mpr ⟨b, h1, h2⟩), if_pos l]
    | false =>
      show (if anyB L n = true then _ else _) = (if anyB L n = true then _ else _)
      by_cases c0 : anyB L n = true
      · rw [if_pos c0, if_pos c0, if_neg (show ¬ lateB U L h n = true by rw [l]; decide)]
        rcases beN_sp A U L h n with ⟨e, _⟩ | ⟨q, e, h2, h3, _⟩
        · rw [if_pos e, ih (h + 1) L (by omega)]
          unfold rm1
          rw [if_pos e]
        · have hu : nI h ≤ U (beN A U L h n - 1) := Classical.byContradiction (fun h9 => by
            rw [e, show q + 1 - 1 = q by omega] at h9
            rw [late_t.mpr ⟨q, h2, h3.1, h9⟩] at l
            cases l)
          rw [if_neg (show ¬ beN A U L h n = 0 by omega), if_pos hu, ih (h + 1) _ (by omega)]
      · rw [if_neg c0, if_neg c0]
/-- one more makes nothing easier -/
theorem tT_one {A U : Nat → Int32} {n : Nat} : ∀ (f h : Nat) (L1 L2 : Nat → Bool) (y : Nat), (∀ b, b < n → L2 b = (L1 b || decide (b = y))) → tT A U n f h L2 = true → tT A U n f h L1 = true := by
  intro f
  induction f with
  | zero =>
    intro h L1 L2 y e ht
    have ht : (!anyB L2 n) = true := ht
    rw [Bool.not_eq_true', anyB_f] at ht
    show (!anyB L1 n) = true
    rw [Bool.not_eq_true', anyB_f]
    intro i hi
    have := ht i hi
    rw [e i hi, Bool.or_eq_false_iff] at this
    exact this.1
  | succ f ih =>
    intro h L1 L2 y e ht
    have sub : ∀ b, b < n → L1 b = true → L2 b = true := fun b hb h1 => by rw [e b hb, h1]; rfl
    show (if anyB L1 n = true then _ else _) = true
    by_cases c1 : anyB L1 n = true
    · rw [if_pos c1]
      obtain ⟨i, hi, ei⟩ := anyB_t.mp c1
      have ht : (if anyB L2 n = true then (if lateB U L2 h n = true then false else tT A U n f (h + 1) (rm1 L2 (beN A U L2 h n))) else true) = true := ht
      rw [if_pos (anyB_t.mpr ⟨i, hi, sub i hi ei⟩)] at ht
      by_cases l2 : lateB U L2 h n = true
      · rw [if_pos l2] at ht; cases ht
      rw [if_neg l2] at ht
      have l1 : ¬ lateB U L1 h n = true := fun h9 => by
        obtain ⟨b, h1, h2, h3⟩ := late_t.mp h9
        exact l2 (late_t.mpr ⟨b, h1, sub b h1 h2, h3⟩)
      rw [if_neg l1]
      have csub : ∀ b, b < n → cnd A L1 h b → cnd A L2 h b := fun b hb hc => ⟨sub b hb hc.1, hc.2⟩
      rcases beN_sp A U L2 h n with ⟨e2, n2⟩ | ⟨q2, e2, k2, c2, m2, f2⟩
      · -- nobody cuts
        have e1 : beN A U L1 h n = 0 := by
          rcases beN_sp A U L1 h n with ⟨e1, _⟩ | ⟨q1, _, k1, c1, _⟩
          · exact e1
          · exact absurd (csub q1 k1 c1) (n2 q1 k1)
        rw [e1]
        rw [e2] at ht
        unfold rm1 at ht ⊢
        rw [if_pos rfl] at ht ⊢
        exact ih (h + 1) L1 L2 y e ht
      · rw [e2] at ht
        have r2 : ∀ k, rm1 L2 (q2 + 1) k = (L2 k && decide (k ≠ q2)) := fun k => by
          unfold rm1
          rw [if_neg (by omega)]
          rfl
        by_cases c3 : L1 q2 = true
        · -- the same one cuts
          have e1 : beN A U L1 h n = q2 + 1 := by
            have cq : cnd A L1 h q2 := ⟨c3, c2.2⟩
            rcases beN_sp A U L1 h n with ⟨_, n1⟩ | ⟨q1, e1, k1, c1, m1, f1⟩
            · exact absurd cq (n1 q2 k2)
            · have : q1 = q2 := by
                rcases Nat.lt_trichotomy q1 q2 with h9 | h9 | h9
                · exact absurd (m1 q2 k2 cq) (f2 q1 h9 (csub q1 k1 c1))
                · exact h9
                · exact absurd (m2 q1 k1 (csub q1 k1 c1)) (f1 q2 h9 cq)
              rw [e1, this]
          rw [e1]
          have r1 : ∀ b, rm1 L1 (q2 + 1) b = (L1 b && decide (b ≠ q2)) := fun b => by
            unfold rm1
            rw [if_neg (by omega)]
            rfl
          by_cases ey : y = q2
          · refine ih (h + 1) _ _ n (fun b hb => ?_) ht
            rw [r1 b, r2 b, e b hb, show decide (b = n) = false from decide_eq_false (by omega), Bool.or_false]
            by_cases eb : b = q2
            · rw [show decide (b ≠ q2) = false from decide_eq_false (fun h => h eb), Bool.and_false, Bool.and_false]
            · rw [show decide (b = y) = false from decide_eq_false (fun h => eb (h.trans ey)), Bool.or_false]
          · refine ih (h + 1) _ _ y (fun b hb => ?_) ht
            rw [r1 b, r2 b, e b hb]
            by_cases eb : b = q2
            · rw [show decide (b ≠ q2) = false from decide_eq_false (fun h => h eb), Bool.and_false, Bool.and_false, show decide (b = y) = false from decide_eq_false (fun h => ey (h.symm.trans eb))]
              rfl
            · rw [show decide (b ≠ q2) = true from decide_eq_true eb, Bool.and_true, Bool.and_true]
        · -- the new one cuts
          have ey : q2 = y := by
            have := c2.1
            rw [e q2 k2, Bool.eq_false_iff.mpr c3, Bool.false_or] at this
            exact of_decide_eq_true this
          have eq : ∀ b, b < n → rm1 L2 (q2 + 1) b = L1 b := fun b hb => by
            rw [r2 b, e b hb]
            by_cases eb : b = q2
            · subst eb; rw [Bool.eq_false_iff.mpr c3]; simp
            · rw [decide_eq_true eb, decide_eq_false (fun h => eb (h.trans ey.symm))]; simp
          rcases beN_sp A U L1 h n with ⟨e1, n1⟩ | ⟨q1, e1, k1, c1, m1, f1⟩
          · rw [e1]
            refine ih (h + 1) _ _ n (fun b hb => ?_) ht
            unfold rm1
            rw [if_pos rfl]
            have := eq b hb
            unfold rm1 at this
            rw [this, decide_eq_false (by omega), Bool.or_false]
          · rw [e1]
            refine ih (h + 1) _ _ q1 (fun b hb => ?_) ht
            have r1 : rm1 L1 (q1 + 1) b = (L1 b && decide (b ≠ q1)) := by
              unfold rm1
              rw [if_neg (by omega)]
              rfl
            rw [eq b hb, r1]
            by_cases eb : b = q1
            · subst eb; rw [c1.1]; simp
            · rw [decide_eq_true eb, decide_eq_false eb]; simp
    · rw [if_neg c1]
theorem anyB_ext {f g : Nat → Bool} {n m : Nat} (hn : n ≤ m) (h : ∀ i, i < n → f i = g i) (h2 : ∀ i, n ≤ i → i < m → g i = false) : anyB g m = anyB f n := by
  rw [Bool.eq_iff_iff, anyB_t, anyB_t]
  constructor
  · rintro ⟨i, hi, e⟩
    by_cases c : i < n
    · exact ⟨i, c, by rw [h i c]; exact e⟩
    · rw [h2 i (by omega) hi] at e; cases e
  · rintro ⟨i, hi, e⟩
    exact ⟨i, by omega, by rw [← h i hi]; exact e⟩
theorem beN_ext {A U : Nat → Int32} {L : Nat → Bool} {h n m : Nat} (hn : n ≤ m) (h2 : ∀ i, n ≤ i → L i = false) : beN A U L h m = beN A U L h n := by
  induction m with
  | zero => rw [show n = 0 by omega]
  | succ m ih =>
    by_cases c : n = m + 1
    · rw [c]
    · show be1 A U L h m (beN A U L h m) = _
      unfold be1
      rw [if_neg (by rw [h2 m (by omega)]; decide)]
      exact ih (by omega)
/-- only those given matter -/
theorem tT_ext {A U : Nat → Int32} {n m : Nat} (hn : n ≤ m) : ∀ (f h : Nat) (L : Nat → Bool), (∀ i, n ≤ i → L i = false) → tT A U m f h L = tT A U n f h L := by
  intro f
  induction f with
  | zero =>
    intro h L hL
    show (!anyB L m) = !anyB L n
    rw [anyB_ext hn (fun _ _ => rfl) (fun i h1 _ => hL i h1)]
  | succ f ih =>
    intro h L hL
    have hr : ∀ x i, n ≤ i → rm1 L x i = false := fun x i hi => by
      unfold rm1
      split
      · exact hL i hi
      · show (L i && _) = false
        rw [hL i hi]; rfl
    show (if anyB L m = true then _ else _) = (if anyB L n = true then _ else _)
    rw [anyB_ext hn (fun _ _ => rfl) (fun i h1 _ => hL i h1), beN_ext hn hL, ih _ _ (hr _)]
    have : lateB U L h m = lateB U L h n := by
      unfold lateB
      exact anyB_ext hn (fun _ _ => rfl) (fun i h1 _ => by rw [hL i h1]; rfl)
    rw [this]
