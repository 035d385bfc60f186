/-! 57.sh: slices: who takes which, in plain words; the component's shares -/
def laB (T : TT) (b k : Nat) : Bool := allB (fun i => !(decide (k < i) && decide (twI T (et T b k) = nI (et T b i)))) (T 8 b)
def nsN (T : TT) (b : Nat) : Nat := ctB (laB T b) (T 8 b)
/-- the later one of two twins who eat -/
def unN (T : TT) (b i : Nat) : Nat := it (fun k x => if twI T (et T b i) = nI (et T b k) then max i k else x) (T 8 b) i
def wtI (T : TT) (p b : Nat) (th : Int32) (i : Nat) : Int32 := wgt T p b th (nI i) (nI (nsN T b))
def wtN (T : TT) (p b : Nat) (th : Int32) (i : Nat) : Nat := ix (wtI T p b th i)
def smF (f : Nat → Nat) : Nat → Nat
  | 0 => 0
  | n + 1 => smF f n + f n
def slN (T : TT) (p b : Nat) (th : Int32) (i : Nat) : Nat := T 5 b * wtN T p b th i / smF (wtN T p b th) (nsN T b)
def crI (T : TT) (p b : Nat) (th : Int32) : Int32 := it (fun i x => x - nI (slN T p b th i)) (nsN T b) (nI (T 5 b))
def bs1 (s : Nat → Nat) (tk : Nat → Bool) (k x : Nat) : Nat := if tk k = true then x else if x = 0 ∨ s (x - 1) < s k then k + 1 else x
/-- the first of the greatest that are not taken (its number and one; 0: none) -/
def bsN (s : Nat → Nat) (tk : Nat → Bool) (n : Nat) : Nat := it (bs1 s tk) n 0
theorem bsN_le (s : Nat → Nat) (tk : Nat → Bool) (n : Nat) : bsN s tk n ≤ n := by
  induction n with
  | zero => exact Nat.le_refl _
  | succ n ih =>
    show bs1 s tk n (bsN s tk n) ≤ n + 1
    unfold bs1
    split
    · omega
    split <;> omega
theorem bsN_f (s : Nat → Nat) (tk : Nat → Bool) (n : Nat) (h : bsN s tk n ≠ 0) : tk (bsN s tk n - 1) = false := by
  induction n with
  | zero => exact absurd rfl h
  | succ n ih =>
    have e : bsN s tk (n + 1) = bs1 s tk n (bsN s tk n) := rfl
    unfold bs1 at e
    split at e
    · rw [e] at h ⊢; exact ih h
    · rename_i h1
      split at e
      · rw [e]; exact Bool.eq_false_iff.mpr h1
      · rw [e] at h ⊢; exact ih h
theorem bsN_0 (s : Nat → Nat) (tk : Nat → Bool) {n i : Nat} (hi : i < n) (h : tk i = false) : bsN s tk n ≠ 0 := by
  induction n with
  | zero => exact absurd hi (Nat.not_lt_zero _)
  | succ n ih =>
    have e : bsN s tk (n + 1) = bs1 s tk n (bsN s tk n) := rfl
    unfold bs1 at e
    by_cases e1 : i = n
    · subst e1
      rw [if_neg (by rw [h]; decide)] at e
      rw [e]
      split
      · omega
      · rename_i h2
        exact fun h3 => h2 (Or.inl h3)
    · have h2 := ih (by omega)
      rw [e]
      split
      · exact h2
      split
      · omega
      · exact h2
def tkF (T : TT) (p b : Nat) (th : Int32) : Nat → Nat → Bool
  | 0 => fun _ => false
  | j + 1 => fun k => if laB T b (T 8 b - 1 - j) = true then decide (k = bsN (slN T p b th) (tkF T p b th j) (nsN T b) - 1) || tkF T p b th j k else tkF T p b th j k
def qN (T : TT) (p b : Nat) (th : Int32) (j : Nat) : Nat := bsN (slN T p b th) (tkF T p b th j) (nsN T b) - 1
def vL (T : TT) (p b : Nat) (th : Int32) (i : Nat) : Nat := slN T p b th (qN T p b th (T 8 b - 1 - i))
/-- what one gets -/
def finG (T : TT) (p b : Nat) (th : Int32) (i : Nat) : Nat := if laB T b i = true then vL T p b th i else vL T p b th (unN T b i)
theorem ctB_flip {f : Nat → Bool} {n q : Nat} (hq : q < n) (h : f q = false) : ctB (fun k => decide (k = q) || f k) n = ctB f n + 1 := by
  induction n with
  | zero => exact absurd hq (Nat.not_lt_zero _)
  | succ n ih =>
    rw [ctB_s, ctB_s]
    by_cases e : n = q
    · subst e
      have : ctB (fun k => decide (k = n) || f k) n = ctB f n := ctB_cong (fun i hi => by rw [decide_eq_false (by omega)]; rfl)
      rw [this, h]
      simp
    · rw [ih (by omega), decide_eq_false e, Bool.false_or]
      omega
theorem ctB_hole {f : Nat → Bool} {n : Nat} (h : ctB f n < n) : ∃ i, i < n ∧ f i = false := by
  refine Classical.byContradiction (fun h2 => ?_)
  have := ctB_all.mpr (fun i hi => by
    cases e : f i with
    | true => rfl
    | false => exact absurd ⟨i, hi, e⟩ h2 : ∀ i, i < n → f i = true)
  omega
section SH
variable {T : TT} {p b : Nat} {th : Int32}
theorem tkF_ct (j : Nat) (hj : j ≤ T 8 b) : ctB (tkF T p b th j) (nsN T b) + ctB (laB T b) (T 8 b - j) = nsN T b ∧ (∀ i, j < T 8 b → i = T 8 b - 1 - j → laB T b i = true → bsN (slN T p b th) (tkF T p b th j) (nsN T b) ≠ 0) := by
  have two : ctB (tkF T p b th j) (nsN T b) + ctB (laB T b) (T 8 b - j) = nsN T b → ∀ i, j < T 8 b → i = T 8 b - 1 - j → laB T b i = true → bsN (slN T p b th) (tkF T p b th j) (nsN T b) ≠ 0 := by
    intro h i h1 h2 h3
    have e : ctB (laB T b) (T 8 b - j) = ctB (laB T b) (T 8 b - 1 - j) + 1 := by
      rw [show T 8 b - j = (T 8 b - 1 - j) + 1 by omega, ctB_s, ← h2, if_pos h3]
    obtain ⟨q, hq, e2⟩ := ctB_hole (f := tkF T p b th j) (n := nsN T b) (by omega)
    exact bsN_0 _ _ hq e2
  induction j with
  | zero =>
    have h : ctB (tkF T p b th 0) (nsN T b) + ctB (laB T b) (T 8 b - 0) = nsN T b := by
      have : ctB (tkF T p b th 0) (nsN T b) = 0 := by
        have := ctB_not (tkF T p b th 0) (nsN T b)
        have h2 : ctB (fun i => !tkF T p b th 0 i) (nsN T b) = nsN T b := ctB_all.mpr (fun i _ => rfl)
        omega
      rw [this]
      show 0 + ctB (laB T b) (T 8 b) = nsN T b
      rw [Nat.zero_add]
      rfl
    exact ⟨h, two h⟩
  | succ j ih =>
    have ih := ih (by omega) (fun h => (by
      intro i h1 h2 h3
      have e : ctB (laB T b) (T 8 b - j) = ctB (laB T b) (T 8 b - 1 - j) + 1 := by
        rw [show T 8 b - j = (T 8 b - 1 - j) + 1 by omega, ctB_s, ← h2, if_pos h3]
      obtain ⟨q, hq, e2⟩ := ctB_hole (f := tkF T p b th j) (n := nsN T b) (by omega)
      exact bsN_0 _ _ hq e2))
    have h : ctB (tkF T p b th (j + 1)) (nsN T b) + ctB (laB T b) (T 8 b - (j + 1)) = nsN T b := by
      have e : ctB (laB T b) (T 8 b - j) = ctB (laB T b) (T 8 b - (j + 1)) + (if laB T b (T 8 b - 1 - j) = true then 1 else 0) := by
        rw [show T 8 b - j = (T 8 b - (j + 1)) + 1 by omega, ctB_s, show T 8 b - (j + 1) = T 8 b - 1 - j by omega]
      cases c : laB T b (T 8 b - 1 - j) with
      | true =>
        have hb := ih.2 _ (by omega) rfl c
        have hq := bsN_le (slN T p b th) (tkF T p b th j) (nsN T b)
        have e2 : tkF T p b th (j + 1) = fun k => decide (k = bsN (slN T p b th) (tkF T p b th j) (nsN T b) - 1) || tkF T p b th j k := by
          funext k
          show (if laB T b (T 8 b - 1 - j) = true then _ else _) = _
          rw [if_pos c]
        rw [e2, ctB_flip (by omega) (bsN_f _ _ _ hb)]
        rw [c, if_pos rfl] at e
        have := ih.1
        omega
      | false =>
        have e2 : tkF T p b th (j + 1) = tkF T p b th j := by
          funext k
          show (if laB T b (T 8 b - 1 - j) = true then _ else _) = _
          rw [c, if_neg (by decide)]
        rw [e2]
        rw [c, if_neg (by decide)] at e
        have := ih.1
        omega
    exact ⟨h, two h⟩
theorem qN_lt {i : Nat} (hi : i < T 8 b) (h : laB T b i = true) : qN T p b th (T 8 b - 1 - i) < nsN T b ∧ tkF T p b th (T 8 b - 1 - i) (qN T p b th (T 8 b - 1 - i)) = false := by
  have h1 := (tkF_ct (T := T) (p := p) (b := b) (th := th) (T 8 b - 1 - i) (by omega)).2 i (by omega) (by omega) h
  have h2 := bsN_le (slN T p b th) (tkF T p b th (T 8 b - 1 - i)) (nsN T b)
  unfold qN
  exact ⟨by omega, bsN_f _ _ _ h1⟩
theorem laB_last (hT : TOK T) (hb : b < T 0 1) : laB T b (T 8 b - 1) = true := by
  have hl := hT.l hb
  exact allB_t.mpr (fun i hi => by rw [decide_eq_false (by omega)]; rfl)
theorem nsN_pos (hT : TOK T) (hb : b < T 0 1) : 1 ≤ nsN T b ∧ nsN T b ≤ T 8 b := by
  have hl := hT.l hb
  refine ⟨?_, ctB_le _ _⟩
  unfold nsN
  rw [show T 8 b = (T 8 b - 1) + 1 by omega, ctB_s, if_pos (laB_last hT hb)]
  omega
theorem wtI_c (i : Nat) : wtI T p b th i = nI (wtN T p b th i) ∧ 1 ≤ wtN T p b th i ∧ wtN T p b th i ≤ 99 := by
  have h : ∃ w : Nat, wtI T p b th i = nI w ∧ 1 ≤ w ∧ w ≤ 99 := by
    unfold wtI wgt
    split
    · exact ⟨1, rfl, by omega, by omega⟩
    · have h1 : (1 : Int32) ≤ mxI 1 (mnI 99 (evalc (sgns T) (wenv T p b th (nI i) (nI (nsN T b))))) := mxI_l _ _
      have h2 : mxI 1 (mnI 99 (evalc (sgns T) (wenv T p b th (nI i) (nI (nsN T b))))) ≤ 99 := by
        refine mxI_lub (by decide) ?_
        unfold mnI
        split
        · rename_i h; rw [lt_II] at h; rw [le_II]; omega
        · exact leI_refl _
      obtain ⟨j, hj, e⟩ := nI_of2 (n := 99) (M := 99) rfl (x := mxI 1 (mnI 99 (evalc (sgns T) (wenv T p b th (nI i) (nI (nsN T b)))))) (by rw [lt_II]; rw [le_II] at h1; have : (1 : Int32).toInt = 1 := rfl; have : (0 : Int32).toInt = 0 := rfl; omega) h2
      refine ⟨j, e, ?_, hj⟩
      rw [e, le_II, nI_toInt (by omega)] at h1
      have : (1 : Int32).toInt = 1 := rfl
      omega
  obtain ⟨w, e, h1, h2⟩ := h
  have : wtN T p b th i = w := by unfold wtN; rw [e, ixn (by omega)]
  rw [this]
  exact ⟨e, h1, h2⟩
theorem smF_b {f : Nat → Nat} {n : Nat} (h : ∀ i, 1 ≤ f i ∧ f i ≤ 99) : n ≤ smF f n ∧ smF f n ≤ 99 * n := by
  induction n with
  | zero => exact ⟨Nat.le_refl _, Nat.le_refl _⟩
  | succ n ih => have := h n; show n + 1 ≤ smF f n + f n ∧ smF f n + f n ≤ 99 * (n + 1); omega
theorem slN_lt (hT : TOK T) (hb : b < T 0 1) (i : Nat) : slN T p b th i ≤ 98901 := by
  have hl := hT.l hb
  have h1 := wtI_c (T := T) (p := p) (b := b) (th := th) i
  unfold slN
  refine Nat.le_trans (Nat.div_le_self _ _) ?_
  calc T 5 b * wtN T p b th i ≤ 999 * 99 := Nat.mul_le_mul hl.2.1.2 h1.2.2
    _ = 98901 := rfl
theorem unN_s (hT : TOK T) (hb : b < T 0 1) {i : Nat} (hi : i < T 8 b) : ∀ n, n ≤ T 8 b → (∃ k, k < n ∧ twI T (et T b i) = nI (et T b k) ∧ it (fun k x => if twI T (et T b i) = nI (et T b k) then max i k else x) n i = max i k) ∨ ((∀ k, k < n → ¬ twI T (et T b i) = nI (et T b k)) ∧ it (fun k x => if twI T (et T b i) = nI (et T b k) then max i k else x) n i = i) := by
  intro n
  induction n with
  | zero => intro _; exact Or.inr ⟨fun k h => absurd h (Nat.not_lt_zero _), rfl⟩
  | succ n ih =>
    intro hn
    have h8 := hT.n8
    have e : it (fun k x => if twI T (et T b i) = nI (et T b k) then max i k else x) (n + 1) i = if twI T (et T b i) = nI (et T b n) then max i n else it (fun k x => if twI T (et T b i) = nI (et T b k) then max i k else x) n i := rfl
    rw [e]
    by_cases c : twI T (et T b i) = nI (et T b n)
    · exact Or.inl ⟨n, by omega, c, by rw [if_pos c]⟩
    · rw [if_neg c]
      rcases ih (by omega) with ⟨k, h1, h2, h3⟩ | ⟨h1, h2⟩
      · exact Or.inl ⟨k, by omega, h2, h3⟩
      · refine Or.inr ⟨fun k hk => ?_, h2⟩
        by_cases ek : k = n
        · subst ek; exact c
        · exact h1 k (by omega)
theorem et_inj (hT : TOK T) (hb : b < T 0 1) {i j k : Nat} (hi : i < T 8 b) (hj : j < T 8 b) (hk : k < T 8 b) (h1 : twI T (et T b i) = nI (et T b j)) (h2 : twI T (et T b i) = nI (et T b k)) : j = k := by
  have h8 := hT.n8
  have a1 : et T b j < T 0 0 := hT.e hb hj
  have a2 : et T b k < T 0 0 := hT.e hb hk
  exact hT.inj hb hj hk ((nI_eq (show et T b j < 2 ^ 31 by omega) (show et T b k < 2 ^ 31 by omega)).mp (h1.symm.trans h2))
theorem et_self (hT : TOK T) (hb : b < T 0 1) {i k : Nat} (hi : i < T 8 b) (hk : k < T 8 b) (h : twI T (et T b i) = nI (et T b k)) : k ≠ i := by
  have h8 := hT.n8
  have a1 : et T b i < T 0 0 := hT.e hb hi
  intro e
  subst e
  rcases twI_c hT a1 with h2 | ⟨q, hq, e1, e2, _⟩
  · rw [h2] at h; exact nIm1 (by omega) h.symm
  · rw [e1] at h
    exact e2 ((nI_eq (by omega) (by omega)).mp h)
theorem unN_t (hT : TOK T) (hb : b < T 0 1) {i : Nat} (hi : i < T 8 b) : (unN T b i = i ↔ laB T b i = true) ∧ (laB T b i = false → i < unN T b i ∧ unN T b i < T 8 b ∧ twI T (et T b i) = nI (et T b (unN T b i)) ∧ laB T b (unN T b i) = true) := by
  have h8 := hT.n8
  rcases unN_s hT hb hi (T 8 b) (Nat.le_refl _) with ⟨k, h1, h2, h3⟩ | ⟨h1, h2⟩
  · have h3 : unN T b i = max i k := h3
    have hne := et_self hT hb hi h1 h2
    by_cases c : i < k
    · have eL : laB T b i = false := allB_f h1 (by rw [decide_eq_true c, decide_eq_true h2]; rfl)
      have eU : unN T b i = k := by omega
      refine ⟨⟨fun h => by omega, fun h => by rw [eL] at h; cases h⟩, fun _ => ⟨by omega, by omega, by rw [eU]; exact h2, ?_⟩⟩
      rw [eU]
      refine allB_t.mpr (fun w hw => ?_)
      by_cases c2 : twI T (et T b k) = nI (et T b w)
      · have a1 : et T b i < T 0 0 := hT.e hb hi
        have a2 : et T b k < T 0 0 := hT.e hb h1
        have e3 := (twR_s hT a1 a2).mp h2
        have := et_inj hT hb h1 hi hw e3 c2
        rw [decide_eq_false (show ¬ k < w by omega)]
        rfl
      · rw [decide_eq_false c2, Bool.and_false]
        rfl
    · have eL : laB T b i = true := allB_t.mpr (fun w hw => by
        by_cases c2 : twI T (et T b i) = nI (et T b w)
        · have := et_inj hT hb hi h1 hw h2 c2
          rw [decide_eq_false (show ¬ i < w by omega)]
          rfl
        · rw [decide_eq_false c2, Bool.and_false]
          rfl)
      exact ⟨⟨fun _ => eL, fun _ => by omega⟩, fun h => by rw [eL] at h; cases h⟩
  · have eL : laB T b i = true := allB_t.mpr (fun w hw => by rw [decide_eq_false (h1 w hw), Bool.and_false]; rfl)
    exact ⟨⟨fun _ => eL, fun _ => h2⟩, fun h => by rw [eL] at h; cases h⟩
theorem c_isLater (hT : TOK T) (hb : b < T 0 1) {h : Mem} {post : Bool → Prop} {k : Nat} (hk : k < T 8 b) (hp : post (laB T b k)) : wpX2_isLater post h T b (nI k) := by
  have h8 := hT.n8
  have hl := hT.l hb
  have a1 : et T b k < T 0 0 := hT.e hb hk
  unfold wpX2_isLater
  try dsimp only
  rw [nI_1]
  refine LW_nat (fun i => nI (k + 1 + i)) (T 8 b - (k + 1)) (fun i => ∀ w, k < w → w < k + 1 + i → ¬ twI T (et T b k) = nI (et T b w)) rfl (fun w h1 h2 => by omega) (fun K i hi hI kk => ?_)
  unfold wpBX2_isLater_4
  try dsimp only
  refine pk_le (T 8 b) (k + 1 + i) (fun q => ?_) (fun q => ?_)
  · rw [show laB T b k = true from allB_t.mpr (fun w hw => by
      by_cases c : k < w
      · rw [decide_eq_false (hI w c (by omega)), Bool.and_false]; rfl
      · rw [decide_eq_false c]; rfl)] at hp
    exact hp
  · rw [ixn (show k < 2 ^ 31 by omega), ixn (show k + 1 + i < 2 ^ 31 by omega)]
    show _ ∧ vp_in (nI (et T b k)) 8 ∧ _ ∧ (twI T (ix (nI (et T b k))) = _ → _) ∧ (¬ twI T (ix (nI (et T b k))) = _ → _)
    rw [ixn (by omega)]
    refine ⟨pk_in k (T 8 b) hk, pk_in (et T b k) 8 (by omega), pk_in (k + 1 + i) (T 8 b) q, fun e => ?_, fun e => ?_⟩
    · rw [show laB T b k = false from allB_f q (by rw [decide_eq_true (show k < k + 1 + i by omega), show decide (twI T (et T b k) = nI (et T b (k + 1 + i))) = true from decide_eq_true e]; rfl)] at hp
      exact hp
    · rw [nI_1]
      refine kk (by omega) (fun w h1 h2 => ?_)
      by_cases ew : w = k + 1 + i
      · subst ew; exact e
      · exact hI w h1 (by omega)
theorem c_slices (hT : TOK T) (hb : b < T 0 1) {h : Mem} {post : Int32 → Prop} (hp : post (nI (nsN T b))) : wpX2_slices post h T b := by
  have hl := hT.l hb
  unfold wpX2_slices
  refine LW_nat (fun i => (nI (ctB (laB T b) i), nI i)) (T 8 b) (fun _ => True) rfl trivial (fun K i hi _ k => ?_)
  unfold wpBX2_slices_4
  try dsimp only
  refine pk_le (T 8 b) i (fun q => ?_) (fun q => ?_)
  · have e : i = T 8 b := by omega
    subst e
    exact hp
  · have k : K (nI (ctB (laB T b) i + (if laB T b i = true then 1 else 0)), nI (i + 1)) := k q trivial
    refine c_isLater hT hb q ?_
    cases e : laB T b i with
    | true => rw [if_pos rfl, nI_1, nI_1]; rw [e, if_pos rfl] at k; exact k
    | false => rw [if_neg (by decide), nI_1]; rw [e, if_neg (by decide)] at k; exact k
/-- what changes in the component's memory -/
def ShO (h0 h : Mem) : Prop := ∀ k, k ≠ 9 → k ≠ 10 → k ≠ 70 → h k = h0 k
theorem ShO.v {h0 h : Mem} (hO : ShO h0 h) (w : Nat → Int32) : ShO h0 (setp h 70 w) := fun k h1 h2 h3 => (setp_other h3).trans (hO k h1 h2 h3)
theorem ShO.u {h0 h : Mem} (hO : ShO h0 h) {k i : Nat} {v : Int32} (hk : k = 9 ∨ k = 10) : ShO h0 (up2 h k i v) := fun j h1 h2 h3 => by
  rw [up2_other (by omega)]
  exact hO j h1 h2 h3
theorem c_shares (hT : TOK T) (hp : p < T 0 0) (hb : b < T 0 1) {h : Mem} (eth : h 42 p = th) {post : Int32 → Mem → Prop} (hq : ∀ h', ShO h h' → (∀ k, k < T 8 b → h' 10 k = nI (finG T p b th k)) → post (crI T p b th) h') : wpX1_shares post h T (nI p) b := by
  have h8 := hT.n8
  have hl := hT.l hb
  have hn := nsN_pos hT hb
  have wt := fun i => wtI_c (T := T) (p := p) (b := b) (th := th) i
  have sb := smF_b (f := wtN T p b th) (n := nsN T b) (fun i => (wt i).2)
  have sl := fun i => slN_lt (T := T) (p := p) (b := b) (th := th) hT hb i
  unfold wpX1_shares
  refine c_slices hT hb ?_
  -- the sum of the weights
  refine LW_ix (τ := Mem × Nat) (fun t => (t.1, nI (smF (wtN T p b th) t.2), nI t.2)) (fun t => t.2 ≤ nsN T b ∧ ShO h t.1) (fun t => nsN T b - t.2) (fun K t ht k => ?_) (h, 0) ⟨Nat.zero_le _, fun _ _ _ _ => rfl⟩
  obtain ⟨h1, i⟩ := t
  obtain ⟨hi, hO⟩ := ht
  have hO : ShO h h1 := hO
  unfold wpBX1_shares_15
  try dsimp only
  refine pk_le (nsN T b) i (fun q => ?_) (fun q => ?_)
  · have e : i = nsN T b := by omega
    subst e
    clear k hi
    -- the slices
    refine LW_ix (τ := Mem × Nat) (fun t => (t.1, it (fun i x => x - nI (slN T p b th i)) t.2 (nI (T 5 b)), nI t.2)) (fun t => t.2 ≤ nsN T b ∧ ShO h t.1 ∧ ∀ j, j < t.2 → t.1 9 j = nI (slN T p b th j)) (fun t => nsN T b - t.2) (fun K t ht k => ?_) (h1, 0) ⟨Nat.zero_le _, hO, fun j h => absurd h (Nat.not_lt_zero _)⟩
    obtain ⟨h2, i⟩ := t
    obtain ⟨hi, hO, hS⟩ := ht
    have hO : ShO h h2 := hO
    have hS : ∀ j, j < i → h2 9 j = nI (slN T p b th j) := hS
    unfold wpBX1_shares_62
    try dsimp only
    refine pk_le (nsN T b) i (fun q => ?_) (fun q => ?_)
    · have e : i = nsN T b := by omega
      subst e
      clear k hi
      -- who takes which
      rw [show nI (T 8 b) - (1 : Int32) = nI (T 8 b - 1) from pk_s1 (by omega), show nI (T 8 b - 1) = (if 0 = T 8 b then (-1 : Int32) else nI (T 8 b - 1 - 0)) from (if_neg (by omega)).symm]
      refine LW_ix (τ := Mem × Nat) (fun t => (t.1, if t.2 = T 8 b then (-1 : Int32) else nI (T 8 b - 1 - t.2))) (fun t => t.2 ≤ T 8 b ∧ ShO h t.1 ∧ (∀ j, j < nsN T b → t.1 9 j = if tkF T p b th t.2 j = true then -1 else nI (slN T p b th j)) ∧ (∀ k, T 8 b - t.2 ≤ k → k < T 8 b → laB T b k = true → t.1 10 k = nI (vL T p b th k))) (fun t => T 8 b - t.2) (fun K t ht k => ?_) (h2, 0) ⟨Nat.zero_le _, hO, hS, fun k h1 h2 => by omega⟩
      obtain ⟨h3, j⟩ := t
      obtain ⟨hj, hO, hS, hG⟩ := ht
      have hj : j ≤ T 8 b := hj
      have hS : ∀ x, x < nsN T b → h3 9 x = if tkF T p b th j x = true then -1 else nI (slN T p b th x) := hS
      unfold wpBX1_shares_131
      try dsimp only
      show ((if j = T 8 b then (-1 : Int32) else nI (T 8 b - 1 - j)) < 0 → _) ∧ (¬ (if j = T 8 b then (-1 : Int32) else nI (T 8 b - 1 - j)) < 0 → _)
      by_cases ej : j = T 8 b
      · rw [if_pos ej]
        refine ⟨fun _ => ?_, fun h => absurd (by decide) h⟩
        subst ej
        -- twins
        refine LW_ix (τ := Mem × Nat) (fun t => (t.1, nI t.2)) (fun t => t.2 ≤ T 8 b ∧ ShO h t.1 ∧ (∀ k, k < t.2 → t.1 10 k = nI (finG T p b th k)) ∧ (∀ k, k < T 8 b → laB T b k = true → t.1 10 k = nI (vL T p b th k))) (fun t => T 8 b - t.2) (fun K t ht k => ?_) (h3, 0) ⟨Nat.zero_le _, hO, fun j h => absurd h (Nat.not_lt_zero _), fun k hk => hG k (by omega) hk⟩
        obtain ⟨h4, w⟩ := t
        obtain ⟨hw, hO, hF, hG⟩ := ht
        unfold wpBX1_shares_239
        try dsimp only
        refine pk_le (T 8 b) w (fun q => ?_) (fun q => ?_)
        · exact hq h4 hO (fun k hk => hF k (by have : w ≤ T 8 b := hw; omega))
        · rw [nI_1]
          refine c_isLater hT hb q (bo (fun e => ?_) (fun e => ?_))
          · refine k (h4, w + 1) ⟨q, hO, fun k hk => ?_, hG⟩ (by show T 8 b - (w + 1) < T 8 b - w; omega)
            by_cases ek : k = w
            · show h4 10 k = _
              rw [ek]
              refine (hG w q e).trans ?_
              unfold finG
              rw [if_pos e]
            · exact hF k (by show k < w; have : k < w + 1 := hk; omega)
          · obtain ⟨u1, u2, u3, u4⟩ := (unN_t hT hb q).2 e
            refine LW_ix (τ := Mem × Nat) (fun t => (t.1, nI (w + 1 + t.2))) (fun t => w + 1 + t.2 ≤ T 8 b ∧ ShO h t.1 ∧ (∀ k, k < w → t.1 10 k = nI (finG T p b th k)) ∧ (∀ k, k < T 8 b → laB T b k = true → t.1 10 k = nI (vL T p b th k)) ∧ (unN T b w < w + 1 + t.2 → t.1 10 w = nI (finG T p b th w))) (fun t => T 8 b - t.2) (fun K2 t ht k2 => ?_) (h4, 0) ⟨q, hO, hF, hG, fun h => by have : unN T b w < w + 1 := h; omega⟩
            obtain ⟨h5, v⟩ := t
            obtain ⟨hv, hO, hF, hG, hX⟩ := ht
            have hv : w + 1 + v ≤ T 8 b := hv
            have hX : unN T b w < w + 1 + v → h5 10 w = nI (finG T p b th w) := hX
            unfold wpBX1_shares_271
            try dsimp only
            refine pk_le (T 8 b) (w + 1 + v) (fun q2 => ?_) (fun q2 => ?_)
            · rw [nI_1]
              refine k (h5, w + 1) ⟨q, hO, fun k hk => ?_, hG⟩ (by show T 8 b - (w + 1) < T 8 b - w; omega)
              by_cases ek : k = w
              · show h5 10 k = _
                rw [ek]
                exact hX (by omega)
              · exact hF k (by have : k < w + 1 := hk; omega)
            · have aw : et T b w < T 0 0 := hT.e hb q
              rw [ixn (show w < 2 ^ 31 by omega), ixn (show w + 1 + v < 2 ^ 31 by omega)]
              show _ ∧ vp_in (nI (et T b w)) 8 ∧ _ ∧ (twI T (ix (nI (et T b w))) = nI (et T b (w + 1 + v)) → _) ∧ (¬ twI T (ix (nI (et T b w))) = nI (et T b (w + 1 + v)) → _)
              rw [ixn (by omega), nI_1]
              refine ⟨pk_in w (T 8 b) q, pk_in (et T b w) 8 (by omega), pk_in (w + 1 + v) (T 8 b) q2, fun e2 => ⟨pk_in (w + 1 + v) 6 (by omega), pk_in w 6 (by omega), fun h15 e15 => ?_⟩, fun e2 => ?_⟩
              · have eu : unN T b w = w + 1 + v := et_inj hT hb q u2 q2 u3 e2
                have eF : finG T p b th w = vL T p b th (w + 1 + v) := by unfold finG; rw [e, if_neg (by decide), eu]
                have ev : h15 10 w = nI (finG T p b th w) := by rw [e15, up2_at, eF]; exact hG _ q2 (eu ▸ u4)
                refine k2 (h15, v + 1) ⟨q2, by rw [e15]; exact hO.u (Or.inr rfl), fun k hk => ?_, fun k hk hL => ?_, fun _ => ev⟩ (by show T 8 b - (v + 1) < T 8 b - v; omega)
                · show h15 10 k = _
                  rw [e15, up2_ne _ _ _ (show k ≠ w by omega)]
                  exact hF k hk
                · have : k ≠ w := fun h => by rw [h, e] at hL; cases hL
                  show h15 10 k = _
                  rw [e15, up2_ne _ _ _ this]
                  exact hG k hk hL
              · refine k2 (h5, v + 1) ⟨q2, hO, hF, hG, fun h => ?_⟩ (by show T 8 b - (v + 1) < T 8 b - v; omega)
                have h : unN T b w < w + 1 + (v + 1) := h
                refine hX ?_
                have : unN T b w ≠ w + 1 + v := fun h9 => e2 (h9 ▸ u3)
                omega
      · rw [if_neg ej]
        have hjl : j < T 8 b := by omega
        refine ⟨fun h => absurd h (nI_pos (by omega)), fun _ => ?_⟩
        have nx : (if j + 1 = T 8 b then (-1 : Int32) else nI (T 8 b - 1 - (j + 1))) = nI (T 8 b - 1 - j) + (-1 : Int32) := by
          by_cases e : j + 1 = T 8 b
          · rw [if_pos e, show T 8 b - 1 - j = 0 by omega]; rfl
          · rw [if_neg e, show T 8 b - 1 - j = (T 8 b - 1 - (j + 1)) + 1 by omega, pk_m1]
        refine c_isLater hT hb (by omega) (bo (fun eL => ?_) (fun eL => ?_))
        · have hb0 := (tkF_ct (T := T) (p := p) (b := b) (th := th) j hj).2 _ hjl rfl eL
          have hble := bsN_le (slN T p b th) (tkF T p b th j) (nsN T b)
          have etk : ∀ x, tkF T p b th (j + 1) x = (decide (x = qN T p b th j) || tkF T p b th j x) := fun x => by
            show (if laB T b (T 8 b - 1 - j) = true then _ else _) = _
            rw [if_pos eL]
            rfl
          refine LW_nat (fun c => (encO (bsN (slN T p b th) (tkF T p b th j) c), nI c)) (nsN T b) (fun _ => True) rfl trivial (fun K2 c hc _ k2 => ?_)
          unfold wpBX1_shares_158
          try dsimp only
          refine pk_le (nsN T b) c (fun q2 => ?_) (fun q2 => ?_)
          · have e : c = nsN T b := by omega
            subst e
            have e2 : encO (bsN (slN T p b th) (tkF T p b th j) (nsN T b)) = nI (qN T p b th j) := if_neg hb0
            have hqn : qN T p b th j < nsN T b := by unfold qN; omega
            have hqf : tkF T p b th j (qN T p b th j) = false := bsN_f _ _ _ hb0
            show vp_in (encO (bsN (slN T p b th) (tkF T p b th j) (nsN T b))) 6 ∧ _
            rw [e2, ixn (by omega), ixn (by omega)]
            refine ⟨pk_in (qN T p b th j) 6 (by omega), pk_in (T 8 b - 1 - j) 6 (by omega), fun h23 e23 h24 e24 => ?_⟩
            rw [← nx]
            refine k (h24, j + 1) ⟨hjl, by rw [e24, e23]; exact (hO.u (Or.inr rfl)).u (Or.inl rfl), fun x hx => ?_, fun x g1 g2 g3 => ?_⟩ (by show T 8 b - (j + 1) < T 8 b - j; omega)
            · show h24 9 x = if tkF T p b th (j + 1) x = true then -1 else nI (slN T p b th x)
              rw [etk]
              by_cases ex : x = qN T p b th j
              · rw [ex, decide_eq_true rfl, Bool.true_or, if_pos rfl, e24, up2_at]
              · rw [decide_eq_false ex, Bool.false_or, e24, up2_ne _ _ _ ex, e23, up2_other (by decide)]
                exact hS x hx
            · show h24 10 x = _
              rw [e24, up2_other (by decide), e23]
              by_cases ex : x = T 8 b - 1 - j
              · rw [ex, up2_at, hS _ hqn, hqf, if_neg (by decide)]
                unfold vL
                rw [show T 8 b - 1 - (T 8 b - 1 - j) = j by omega]
              · rw [up2_ne _ _ _ ex]
                exact hG x (by have : T 8 b - (j + 1) ≤ x := g1; show T 8 b - j ≤ x; omega) g2 g3
          · have k2 : K2 (encO (bs1 (slN T p b th) (tkF T p b th j) c (bsN (slN T p b th) (tkF T p b th j) c)), nI (c + 1)) := k2 q2 trivial
            have hbc := bsN_le (slN T p b th) (tkF T p b th j) c
            rw [ixn (by omega), hS c q2, nI_1]
            refine ⟨pk_in c 6 (by omega), fun e => ?_, fun e => ?_⟩
            · have ec : tkF T p b th j c = true := by
                cases ec : tkF T p b th j c with
                | true => rfl
                | false => rw [ec, if_neg (show ¬ (false = true) by decide)] at e; exact absurd e (nIm1 (by have := sl c; omega))
              unfold bs1 at k2
              rw [if_pos ec] at k2
              exact k2
            · have ec : tkF T p b th j c = false := by
                cases ec : tkF T p b th j c with
                | false => rfl
                | true => rw [ec, if_pos rfl] at e; exact absurd rfl e
              unfold bs1 at k2
              rw [ec, if_neg (show ¬ (false = true) by decide)] at k2
              rw [ec, if_neg (show ¬ (false = true) by decide)]
              refine ⟨fun e0 => ?_, fun e0 => ?_⟩
              · have : bsN (slN T p b th) (tkF T p b th j) c = 0 := by
                  by_cases c0 : bsN (slN T p b th) (tkF T p b th j) c = 0
                  · exact c0
                  · rw [show encO _ = nI (bsN (slN T p b th) (tkF T p b th j) c - 1) from if_neg c0] at e0
                    exact absurd e0 (nIm1 (by omega))
                unfold wpBX1_shares_198
                try dsimp only
                rw [if_pos (Or.inl this)] at k2
                rw [nI_1]
                exact k2
              · have c0 : bsN (slN T p b th) (tkF T p b th j) c ≠ 0 := fun h => e0 (by rw [h]; rfl)
                have e2 : encO (bsN (slN T p b th) (tkF T p b th j) c) = nI (bsN (slN T p b th) (tkF T p b th j) c - 1) := if_neg c0
                have hbf := bsN_f _ _ _ c0
                have s1 := sl c
                have s2 := sl (bsN (slN T p b th) (tkF T p b th j) c - 1)
                rw [e2, ixn (by omega), hS _ (by omega), hbf, if_neg (show ¬ (false = true) by decide)]
                refine ⟨pk_in (bsN (slN T p b th) (tkF T p b th j) c - 1) 6 (by omega), ?_⟩
                by_cases c3 : slN T p b th (bsN (slN T p b th) (tkF T p b th j) c - 1) < slN T p b th c
                · rw [if_neg (nI_ge c3 (by omega))]
                  rw [if_pos (Or.inr c3)] at k2
                  exact k2
                · rw [if_pos (nI_le (by omega) (by omega))]
                  rw [if_neg (fun h => h.elim c0 c3), e2] at k2
                  exact k2
        · rw [← nx]
          refine k (h3, j + 1) ⟨hjl, hO, fun x hx => ?_, fun x g1 g2 g3 => ?_⟩ (by show T 8 b - (j + 1) < T 8 b - j; omega)
          · show h3 9 x = if tkF T p b th (j + 1) x = true then -1 else nI (slN T p b th x)
            rw [show tkF T p b th (j + 1) x = tkF T p b th j x by
              show (if laB T b (T 8 b - 1 - j) = true then _ else _) = _
              rw [eL, if_neg (by decide)]]
            exact hS x hx
          · have : x ≠ T 8 b - 1 - j := fun h => by rw [h, eL] at g3; cases g3
            exact hG x (by have : T 8 b - (j + 1) ≤ x := g1; show T 8 b - j ≤ x; omega) g2 g3
    · have w1 := wt i
      have ew : wgt T p b (h2 42 (ix (nI p))) (nI i) (nI (nsN T b)) = nI (wtN T p b th i) := by
        rw [hO 42 (by decide) (by decide) (by decide), ixn (by omega), eth]
        exact w1.1
      refine ⟨pk_in p 8 (by omega), p, rfl, hp, fun w37 h38 e38 => ⟨nI_ne0 (by omega) (by omega), pk_in i 6 (by omega), fun h40 e40 => ?_⟩⟩
      have hm : T 5 b * wtN T p b th i ≤ 98901 := Nat.mul_le_mul hl.2.1.2 w1.2.2
      have e9 : h40 9 (ix (nI i)) = nI (slN T p b th i) := by
        rw [e40, up2_at, ew, pk_mul, pk_div (by omega) (by omega) (by omega)]
        rfl
      rw [e9, nI_1]
      refine k (h40, i + 1) ⟨q, by rw [e40, e38]; exact (hO.v w37).u (Or.inl rfl), fun j hj => ?_⟩ (by show nsN T b - (i + 1) < nsN T b - i; omega)
      show h40 9 j = _
      by_cases ej : j = i
      · subst ej
        rw [ixn (by omega)] at e9
        exact e9
      · rw [e40, ixn (by omega), up2_ne _ _ _ ej, e38, setp_other (by decide)]
        exact hS j (by have : j < i + 1 := hj; omega)
  · have w1 := wt i
    refine ⟨pk_in p 8 (by omega), p, rfl, hp, fun w44 h45 e45 => ?_⟩
    have ew : wgt T p b (h1 42 (ix (nI p))) (nI i) (nI (nsN T b)) = nI (wtN T p b th i) := by
      rw [hO 42 (by decide) (by decide) (by decide), ixn (by omega), eth]
      exact w1.1
    rw [ew, nI_add, nI_1]
    exact k (h45, i + 1) ⟨q, by rw [e45]; exact hO.v w44⟩ (by show nsN T b - (i + 1) < nsN T b - i; omega)
end SH
