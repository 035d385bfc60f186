/-! 79.tok: tokens: what a text is; the twin's steps over it -/
def isLb (c : Nat) : Bool := decide (97 ≤ c ∧ c ≤ 122)
def isDb (c : Nat) : Bool := decide (48 ≤ c ∧ c ≤ 57)
def isMb (c : Nat) : Bool := decide (c = 59 ∨ c = 40 ∨ c = 41 ∨ c = 43 ∨ c = 45 ∨ c = 42 ∨ c = 47 ∨ c = 60 ∨ c = 61)
def run (P : Nat → Bool) : Nat → Nat → Nat
  | 0, k => k
  | f + 1, k => if P k = true then run P f (k + 1) else k
theorem run_eq {P : Nat → Bool} {r : Nat} : ∀ {f k : Nat}, k ≤ r → r ≤ k + f → (∀ j, k ≤ j → j < r → P j = true) → P r = false → run P f k = r := by
  intro f
  induction f with
  | zero => intro k h1 h2 _ _; show k = r; omega
  | succ f ih =>
    intro k h1 h2 h3 h4
    unfold run
    by_cases e : k = r
    · rw [e, if_neg (by rw [h4]; decide)]
    · rw [if_pos (h3 k (Nat.le_refl _) (by omega))]
      exact ih (by omega) (by omega) (fun j a b => h3 j (by omega) b) h4
section TK
variable {tp : Nat → Nat} {n : Nat}
def spB (tp : Nat → Nat) (n k : Nat) : Bool := decide (k < n) && decide (tp k = 32 ∨ tp k = 10)
def leB (tp : Nat → Nat) (n k : Nat) : Bool := decide (k < n) && isLb (tp k)
def diB (tp : Nat → Nat) (n k : Nat) : Bool := decide (k < n) && isDb (tp k)
def sk (tp : Nat → Nat) (n b : Nat) : Nat := run (spB tp n) n b
/-- a token's kind: end, word, number, sign, bad -/
def ty (tp : Nat → Nat) (n s : Nat) : Nat := if n ≤ s then 0 else if isLb (tp s) = true then 1 else if isDb (tp s) = true then 2 else if isMb (tp s) = true then 3 else 4
/-- its end -/
def en (tp : Nat → Nat) (n s : Nat) : Nat := if n ≤ s then s else if isLb (tp s) = true then run (leB tp n) n s else if isDb (tp s) = true then run (diB tp n) n s else s + 1
def nv (tp : Nat → Nat) (s : Nat) : Nat → Nat
  | 0 => 0
  | k + 1 => 10 * nv tp s k + (tp (s + k) - 48)
def nxt (tp : Nat → Nat) (n s : Nat) : Nat := sk tp n (en tp n s)
theorem run_p {P : Nat → Bool} (hP : ∀ k, n ≤ k → P k = false) : ∀ {f k : Nat}, k ≤ n → n ≤ k + f → k ≤ run P f k ∧ run P f k ≤ n ∧ P (run P f k) = false ∧ ∀ j, k ≤ j → j < run P f k → P j = true := by
  intro f
  induction f with
  | zero => intro k h1 h2; exact ⟨Nat.le_refl _, h1, hP k (by omega), fun j a b => absurd b (Nat.not_lt.mpr a)⟩
  | succ f ih =>
    intro k h1 h2
    unfold run
    by_cases c : P k = true
    · rw [if_pos c]
      have hk : k < n := by
        apply Classical.byContradiction
        intro h
        rw [hP k (by omega)] at c
        cases c
      have g := ih (k := k + 1) (by omega) (by omega)
      refine ⟨by omega, g.2.1, g.2.2.1, fun j a b => ?_⟩
      by_cases e : j = k
      · rw [e]; exact c
      · exact g.2.2.2 j (by omega) b
    · rw [if_neg c]
      exact ⟨Nat.le_refl _, h1, Bool.eq_false_iff.mpr c, fun j a b => absurd b (by omega)⟩
theorem spB_n {k : Nat} (h : n ≤ k) : spB tp n k = false := by unfold spB; rw [decide_eq_false (by omega)]; rfl
theorem leB_n {k : Nat} (h : n ≤ k) : leB tp n k = false := by unfold leB; rw [decide_eq_false (by omega)]; rfl
theorem diB_n {k : Nat} (h : n ≤ k) : diB tp n k = false := by unfold diB; rw [decide_eq_false (by omega)]; rfl
theorem sk_le {b : Nat} (hb : b ≤ n) : b ≤ sk tp n b ∧ sk tp n b ≤ n := by
  have g := run_p (P := spB tp n) (n := n) (fun _ h => spB_n h) (f := n) hb (by omega)
  exact ⟨g.1, g.2.1⟩
theorem en_le {s : Nat} (hs : s ≤ n) : s ≤ en tp n s ∧ en tp n s ≤ n := by
  unfold en
  by_cases c : n ≤ s
  · rw [if_pos c]; exact ⟨Nat.le_refl _, hs⟩
  rw [if_neg c]
  by_cases c1 : isLb (tp s) = true
  · rw [if_pos c1]
    have g := run_p (P := leB tp n) (n := n) (fun _ h => leB_n h) (f := n) hs (by omega)
    exact ⟨g.1, g.2.1⟩
  rw [if_neg c1]
  by_cases c2 : isDb (tp s) = true
  · rw [if_pos c2]
    have g := run_p (P := diB tp n) (n := n) (fun _ h => diB_n h) (f := n) hs (by omega)
    exact ⟨g.1, g.2.1⟩
  · rw [if_neg c2]; omega
/-- a token that is there moves on -/
theorem en_lt {s : Nat} (hs : s < n) : s < en tp n s := by
  have g := en_le (tp := tp) (n := n) (s := s) (by omega)
  unfold en at g ⊢
  rw [if_neg (by omega)] at g ⊢
  by_cases c1 : isLb (tp s) = true
  · rw [if_pos c1] at g ⊢
    have w := run_p (P := leB tp n) (n := n) (fun _ h => leB_n h) (f := n) (show s ≤ n by omega) (by omega)
    apply Classical.byContradiction
    intro h
    have e : run (leB tp n) n s = s := by omega
    have := w.2.2.1
    rw [e] at this
    unfold leB at this
    rw [decide_eq_true hs, c1] at this
    cases this
  rw [if_neg c1] at g ⊢
  by_cases c2 : isDb (tp s) = true
  · rw [if_pos c2] at g ⊢
    have w := run_p (P := diB tp n) (n := n) (fun _ h => diB_n h) (f := n) (show s ≤ n by omega) (by omega)
    apply Classical.byContradiction
    intro h
    have e : run (diB tp n) n s = s := by omega
    have := w.2.2.1
    rw [e] at this
    unfold diB at this
    rw [decide_eq_true hs, c2] at this
    cases this
  · rw [if_neg c2]; omega
theorem nxt_le {s : Nat} (hs : s ≤ n) : s ≤ nxt tp n s ∧ nxt tp n s ≤ n := by
  have a := en_le (tp := tp) hs
  have b := sk_le (tp := tp) a.2
  unfold nxt
  omega
theorem nxt_lt {s : Nat} (hs : s < n) : s < nxt tp n s := by
  have a := en_le (tp := tp) (show s ≤ n by omega)
  have c := en_lt (tp := tp) hs
  have b := sk_le (tp := tp) a.2
  unfold nxt
  omega
-- ===== the twin
def by7 (tp : Nat → Nat) (n k : Nat) : Int32 := if k < n then nI (tp k) else -1
/-- the text in the twin's memory -/
def TX (tp : Nat → Nat) (n : Nat) (h : Mem) : Prop := n ≤ 600 ∧ h 19 0 = nI n ∧ ∀ j, j < n → h 16 j = nI (tp j) ∧ tp j < 256
/-- the twin stands at the token that begins at s -/
def PT (tp : Nat → Nat) (n s : Nat) (h : Mem) : Prop := (TX tp n h ∧ h 24 0 = 0 ∧ s ≤ n) ∧ h 22 0 = nI s ∧ h 23 0 = nI (en tp n s) ∧ h 18 0 = nI (en tp n s) ∧ h 20 0 = nI (ty tp n s) ∧ (ty tp n s = 2 → h 21 0 = nI (min 100000 (nv tp s (en tp n s - s))))
/-- what stepping changes -/
def TF (h h' : Mem) : Prop := ∀ k, k ≠ 18 → k ≠ 20 → k ≠ 21 → k ≠ 22 → k ≠ 23 → h' k = h k
theorem TF.rf (h : Mem) : TF h h := fun _ _ _ _ _ _ => rfl
theorem TF.tr {h h1 h2 : Mem} (a : TF h h1) (b : TF h1 h2) : TF h h2 := fun k c d e f g => (b k c d e f g).trans (a k c d e f g)
theorem TX.of {h h' : Mem} (x : TX tp n h) (e16 : h' 16 = h 16) (e19 : h' 19 = h 19) : TX tp n h' := by
  refine ⟨x.1, by rw [e19]; exact x.2.1, fun j hj => by rw [e16]; exact x.2.2 j hj⟩
theorem t_byteAt {h : Mem} (x : TX tp n h) {post : Int32 → Prop} {k : Nat} (hk : k < 2 ^ 31) (hp : post (by7 tp n k)) : wpX7_byteAt post h (nI k) := by
  have h6 := x.1
  unfold wpX7_byteAt
  unfold by7 at hp
  rw [x.2.1]
  refine pk_le n k (fun c => ?_) (fun c => ?_)
  · rw [if_neg (by omega)] at hp; exact hp
  · rw [if_pos c] at hp
    rw [ixn hk, (x.2.2 k c).1]
    exact ⟨pk_in k 600 (by omega), hp⟩
theorem by7_le {h : Mem} (x : TX tp n h) {k : Nat} : (if by7 tp n k < (97 : Int32) then false else (if (122 : Int32) < by7 tp n k then false else true)) = leB tp n k := by
  unfold by7 leB
  by_cases c : k < n
  · rw [if_pos c, decide_eq_true c, Bool.true_and]
    have : ∀ c, c < 256 → (if nI c < (97 : Int32) then false else (if (122 : Int32) < nI c then false else true)) = isLb c := by decide +kernel
    exact this _ (x.2.2 k c).2
  · rw [if_neg c, decide_eq_false c]; rfl
theorem by7_di {h : Mem} (x : TX tp n h) {k : Nat} : (if by7 tp n k < (48 : Int32) then false else (if (57 : Int32) < by7 tp n k then false else true)) = diB tp n k := by
  unfold by7 diB
  by_cases c : k < n
  · rw [if_pos c, decide_eq_true c, Bool.true_and]
    have : ∀ c, c < 256 → (if nI c < (48 : Int32) then false else (if (57 : Int32) < nI c then false else true)) = isDb c := by decide +kernel
    exact this _ (x.2.2 k c).2
  · rw [if_neg c, decide_eq_false c]; rfl
theorem t_isLetter {h h0 : Mem} (x : TX tp n h0) {post : Bool → Prop} {k : Nat} (hp : post (leB tp n k)) : wpX7_isLetter post h (by7 tp n k) := by
  unfold wpX7_isLetter
  rw [by7_le x]
  exact hp
theorem t_isDigit {h h0 : Mem} (x : TX tp n h0) {post : Bool → Prop} {k : Nat} (hp : post (diB tp n k)) : wpX7_isDigit post h (by7 tp n k) := by
  unfold wpX7_isDigit
  rw [by7_di x]
  exact hp
theorem t_isMark {h : Mem} {post : Bool → Prop} {c : Nat} (hc : c < 256) (hp : post (isMb c)) : wpX7_isMark post h (nI c) := by
  unfold wpX7_isMark
  have e : ∀ k, k < 256 → (nI c = nI k ↔ c = k) := fun k hk => nI_eq (by omega) (by omega)
  rw [show (59 : Int32) = nI 59 from rfl, show (40 : Int32) = nI 40 from rfl, show (41 : Int32) = nI 41 from rfl, show (43 : Int32) = nI 43 from rfl, show (45 : Int32) = nI 45 from rfl, show (42 : Int32) = nI 42 from rfl, show (47 : Int32) = nI 47 from rfl, show (60 : Int32) = nI 60 from rfl, show (61 : Int32) = nI 61 from rfl]
  simp only [e 59 (by decide), e 40 (by decide), e 41 (by decide), e 43 (by decide), e 45 (by decide), e 42 (by decide), e 47 (by decide), e 60 (by decide), e 61 (by decide)]
  have y : (c = 59 ∨ c = 40 ∨ c = 41 ∨ c = 43 ∨ c = 45 ∨ c = 42 ∨ c = 47 ∨ c = 60 ∨ c = 61) → post true := fun h => by
    unfold isMb at hp
    rw [decide_eq_true h] at hp
    exact hp
  refine ⟨fun h => y (by omega), fun h1 => ⟨fun h => y (by omega), fun h2 => ?_⟩⟩
  by_cases c3 : c = 41
  · rw [if_pos c3]; exact y (by omega)
  rw [if_neg c3]
  by_cases c4 : c = 43
  · rw [if_pos c4]; exact y (by omega)
  rw [if_neg c4]
  by_cases c5 : c = 45
  · rw [if_pos c5]; exact y (by omega)
  rw [if_neg c5]
  by_cases c6 : c = 42
  · rw [if_pos c6]; exact y (by omega)
  rw [if_neg c6]
  by_cases c7 : c = 47
  · rw [if_pos c7]; exact y (by omega)
  rw [if_neg c7]
  by_cases c8 : c = 60
  · rw [if_pos c8]; exact y (by omega)
  rw [if_neg c8]
  by_cases c9 : c = 61
  · rw [if_pos c9]; exact y (by omega)
  rw [if_neg c9]
  unfold isMb at hp
  rw [decide_eq_false (by omega)] at hp
  exact hp
theorem by7_m1 {h : Mem} (x : TX tp n h) {k : Nat} : by7 tp n k = -1 ↔ n ≤ k := by
  unfold by7
  by_cases c : k < n
  · rw [if_pos c]
    have := (x.2.2 k c).2
    exact ⟨fun h => absurd h (nIm1 (by omega)), fun h => by omega⟩
  · rw [if_neg c]
    exact ⟨fun _ => by omega, fun _ => rfl⟩
theorem by7_sp {h : Mem} (x : TX tp n h) {k : Nat} : (by7 tp n k = 32 ∨ by7 tp n k = 10) ↔ spB tp n k = true := by
  unfold by7 spB
  by_cases c : k < n
  · rw [if_pos c, decide_eq_true c, Bool.true_and]
    have h2 := (x.2.2 k c).2
    rw [show (32 : Int32) = nI 32 from rfl, show (10 : Int32) = nI 10 from rfl, nI_eq (by omega) (by decide), nI_eq (by omega) (by decide)]
    exact ⟨fun h => decide_eq_true h, fun h => of_decide_eq_true h⟩
  · rw [if_neg c, decide_eq_false c, Bool.false_and]
    exact ⟨fun h => absurd h (by decide), fun h => absurd h (by decide)⟩
theorem mn_5 {a c : Nat} (ha : a ≤ 100000) (hc : 48 ≤ c ∧ c ≤ 57) : mnI (100000 : Int32) ((((10 : Int32) * nI a) + nI c) - (48 : Int32)) = nI (min 100000 (10 * a + (c - 48))) := by
  rw [show (10 : Int32) = nI 10 from rfl, pk_mul, nI_add, show (48 : Int32) = nI 48 from rfl, pk_sub (by omega), show (100000 : Int32) = nI 100000 from rfl, mnI_n _ _ (by omega) (by omega)]
  congr 2
  omega
theorem t_stepOn {h : Mem} (x : TX tp n h) (h24 : h 24 0 = 0) {b : Nat} (hb : b ≤ n) (e18 : h 18 0 = nI b) {post : Mem → Prop} (hp : ∀ h', PT tp n (sk tp n b) h' → TF h h' → post h') : wpX7_stepOn post h := by
  have h6 := x.1
  unfold wpX7_stepOn
  refine LW_ix (τ := Mem × Nat) (fun t => t.1) (fun t => t.2 ≤ n ∧ b ≤ t.2 ∧ t.1 18 0 = nI t.2 ∧ (∀ j, b ≤ j → j < t.2 → spB tp n j = true) ∧ ∀ k, k ≠ 18 → t.1 k = h k) (fun t => n - t.2) (fun K t ht k => ?_) (h, b) ⟨hb, Nat.le_refl _, e18, fun j a c => absurd c (by show ¬ j < b; omega), fun _ _ => rfl⟩
  obtain ⟨y, s⟩ := t
  obtain ⟨hs, hbs, y18, hsp, ho⟩ := ht
  dsimp only at hs hbs y18 hsp ho
  have xy : TX tp n y := x.of (ho 16 (by decide)) (ho 19 (by decide))
  have stp : spB tp n s = true → wpBX7_stepOn_26 post K y := fun c => by
    have hsn : s < n := by
      apply Classical.byContradiction
      intro h
      rw [spB_n (by omega)] at c
      cases c
    unfold wpBX7_stepOn_26
    intro h4 e4
    rw [y18, nI_1] at e4
    refine k (h4, s + 1) ⟨by show s + 1 ≤ n; omega, by show b ≤ s + 1; omega, by show h4 18 0 = _; rw [e4, up2_at], fun j a d => ?_, fun k hk => by show h4 k = _; rw [e4, up2_other hk]; exact ho k hk⟩ (by show n - (s + 1) < n - s; omega)
    by_cases e : j = s
    · rw [e]; exact c
    · exact hsp j a (by have : j < s + 1 := d; omega)
  unfold wpBX7_stepOn_0
  try dsimp only
  rw [y18]
  refine t_byteAt xy (by omega) ⟨fun c => stp ((by7_sp xy).mp (Or.inl c)), fun c => t_byteAt xy (by omega) ⟨fun c2 => stp ((by7_sp xy).mp (Or.inr c2)), fun c2 h8 e8 => ?_⟩⟩
  have nsp : spB tp n s = false := Bool.eq_false_iff.mpr (fun h => ((by7_sp xy).mpr h).elim c c2)
  have es : sk tp n b = s := run_eq hbs (by omega) hsp nsp
  rw [es] at hp
  have x8 : TX tp n h8 := xy.of (by rw [e8, up2_other (by decide)]) (by rw [e8, up2_other (by decide)])
  have o8 : ∀ k, k ≠ 18 → k ≠ 22 → h8 k = h k := fun k a b => by rw [e8, up2_other b]; exact ho k a
  have a8 : h8 18 0 = nI s := by rw [e8, up2_other (by decide)]; exact y18
  have b8 : h8 22 0 = nI s := by rw [e8, up2_at]
  rw [a8]
  -- the end of all
  have fin : ∀ z : Mem, (∀ k, k ≠ 18 → k ≠ 20 → k ≠ 21 → z k = h8 k) → z 18 0 = nI (en tp n s) → z 20 0 = nI (ty tp n s) → (ty tp n s = 2 → z 21 0 = nI (min 100000 (nv tp s (en tp n s - s)))) → wpBX7_stepOn_212 post z := fun z oz z18 z20 z21 => by
    unfold wpBX7_stepOn_212
    intro h23 e23
    rw [z18] at e23
    have o23 : ∀ k, k ≠ 23 → h23 k = z k := fun k hk => by rw [e23, up2_other hk]
    refine hp h23 ⟨⟨x8.of ?_ ?_, ?_, hs⟩, ?_, ?_, ?_, ?_, ?_⟩ (fun k a b c d e => ?_)
    · rw [o23 16 (by decide), oz 16 (by decide) (by decide) (by decide)]
    · rw [o23 19 (by decide), oz 19 (by decide) (by decide) (by decide)]
    · rw [o23 24 (by decide), oz 24 (by decide) (by decide) (by decide), o8 24 (by decide) (by decide)]; exact h24
    · rw [o23 22 (by decide), oz 22 (by decide) (by decide) (by decide)]; exact b8
    · rw [e23, up2_at]
    · rw [o23 18 (by decide)]; exact z18
    · rw [o23 20 (by decide)]; exact z20
    · rw [o23 21 (by decide)]; exact z21
    · rw [o23 k e, oz k a b c, o8 k a d]
  refine t_byteAt x8 (by omega) ⟨fun c3 h47 e47 => ?_, fun c3 => ?_⟩
  · have c3 := (by7_m1 x8).mp c3
    have ety : ty tp n s = 0 := if_pos c3
    have een : en tp n s = s := if_pos c3
    refine fin h47 (fun k a b c => by rw [e47, up2_other b]) (by rw [e47, up2_other (by decide), een]; exact a8) (by rw [e47, up2_at, ety]; rfl) (fun h => by rw [ety] at h; omega)
  have hsn : s < n := by
    apply Classical.byContradiction
    intro h
    exact c3 ((by7_m1 x8).mpr (by omega))
  have lef : leB tp n s = isLb (tp s) := by unfold leB; rw [decide_eq_true hsn, Bool.true_and]
  have dif : diB tp n s = isDb (tp s) := by unfold diB; rw [decide_eq_true hsn, Bool.true_and]
  refine t_isLetter x8 ⟨fun c4 => ?_, fun c4 => t_isDigit x8 ⟨fun c5 h27 e27 => ?_, fun c5 h18 e18' => ?_⟩⟩
  · rw [lef] at c4
    have ety : ty tp n s = 1 := by unfold ty; rw [if_neg (by omega), if_pos c4]
    have een : en tp n s = run (leB tp n) n s := by unfold en; rw [if_neg (by omega), if_pos c4]
    refine LW_ix (τ := Mem × Nat) (fun t => t.1) (fun t => t.2 ≤ n ∧ s ≤ t.2 ∧ t.1 18 0 = nI t.2 ∧ (∀ j, s ≤ j → j < t.2 → leB tp n j = true) ∧ ∀ k, k ≠ 18 → t.1 k = h8 k) (fun t => n - t.2) (fun K2 t ht k2 => ?_) (h8, s) ⟨hs, Nat.le_refl _, a8, fun j a c => absurd c (by show ¬ j < s; omega), fun _ _ => rfl⟩
    obtain ⟨z, w⟩ := t
    obtain ⟨hw, hsw, z18, hle, oz⟩ := ht
    dsimp only at hw hsw z18 hle oz
    have xz : TX tp n z := x8.of (oz 16 (by decide)) (oz 19 (by decide))
    unfold wpBX7_stepOn_76
    try dsimp only
    rw [z18]
    refine t_byteAt xz (by omega) (t_isLetter xz ⟨fun c6 h45 e45 => ?_, fun c6 h44 e44 => ?_⟩)
    · have hwn : w < n := by
        apply Classical.byContradiction
        intro h
        rw [leB_n (by omega)] at c6
        cases c6
      rw [nI_1] at e45
      refine k2 (h45, w + 1) ⟨by show w + 1 ≤ n; omega, by show s ≤ w + 1; omega, by show h45 18 0 = _; rw [e45, up2_at], fun j a d => ?_, fun k hk => by show h45 k = _; rw [e45, up2_other hk]; exact oz k hk⟩ (by show n - (w + 1) < n - w; omega)
      by_cases e : j = w
      · rw [e]; exact c6
      · exact hle j a (by have : j < w + 1 := d; omega)
    · have ew : run (leB tp n) n s = w := run_eq hsw (by omega) hle (Bool.eq_false_iff.mpr c6)
      refine fin h44 (fun k a b c => by rw [e44, up2_other b]; exact oz k a) (by rw [e44, up2_other (by decide), een, ew]; exact z18) (by rw [e44, up2_at, ety]; rfl) (fun h => by rw [ety] at h; omega)
  · have c4 : isLb (tp s) = false := by rw [← lef]; exact Bool.eq_false_iff.mpr c4
    rw [dif] at c5
    have ety : ty tp n s = 2 := by unfold ty; rw [if_neg (by omega), if_neg (by rw [c4]; decide), if_pos c5]
    have een : en tp n s = run (diB tp n) n s := by unfold en; rw [if_neg (by omega), if_neg (by rw [c4]; decide), if_pos c5]
    refine LW_ix (τ := Mem × Nat) (fun t => t.1) (fun t => t.2 ≤ n ∧ s ≤ t.2 ∧ t.1 18 0 = nI t.2 ∧ (∀ j, s ≤ j → j < t.2 → diB tp n j = true) ∧ (∀ k, k ≠ 18 → k ≠ 21 → t.1 k = h8 k) ∧ t.1 21 0 = nI (min 100000 (nv tp s (t.2 - s)))) (fun t => n - t.2) (fun K2 t ht k2 => ?_) (h27, s) ⟨hs, Nat.le_refl _, by show h27 18 0 = _; rw [e27, up2_other (by decide)]; exact a8, fun j a c => absurd c (by show ¬ j < s; omega), fun k a b => by show h27 k = _; rw [e27, up2_other b], by show h27 21 0 = nI (min 100000 (nv tp s (s - s))); rw [e27, up2_at, Nat.sub_self]; rfl⟩
    obtain ⟨z, w⟩ := t
    obtain ⟨hw, hsw, z18, hle, oz, z21⟩ := ht
    dsimp only at hw hsw z18 hle oz z21
    have xz : TX tp n z := x8.of (oz 16 (by decide) (by decide)) (oz 19 (by decide) (by decide))
    unfold wpBX7_stepOn_123
    try dsimp only
    rw [z18]
    refine t_byteAt xz (by omega) (t_isDigit xz ⟨fun c6 => t_byteAt xz (by omega) (fun h36 e36 h37 e37 => ?_), fun c6 h33 e33 => ?_⟩)
    · have hwn : w < n := by
        apply Classical.byContradiction
        intro h
        rw [diB_n (by omega)] at c6
        cases c6
      have dg : 48 ≤ tp w ∧ tp w ≤ 57 := by
        unfold diB isDb at c6
        rw [decide_eq_true hwn, Bool.true_and] at c6
        exact of_decide_eq_true c6
      have eb : by7 tp n w = nI (tp w) := if_pos hwn
      rw [z21, eb, mn_5 (by omega) dg] at e36
      have f18 : h36 18 0 = nI w := by rw [e36, up2_other (by decide)]; exact z18
      rw [f18, nI_1] at e37
      refine k2 (h37, w + 1) ⟨by show w + 1 ≤ n; omega, by show s ≤ w + 1; omega, by show h37 18 0 = _; rw [e37, up2_at], fun j a d => ?_, fun k hk hk2 => by show h37 k = _; rw [e37, up2_other hk, e36, up2_other hk2]; exact oz k hk hk2, ?_⟩ (by show n - (w + 1) < n - w; omega)
      · by_cases e : j = w
        · rw [e]; exact c6
        · exact hle j a (by have : j < w + 1 := d; omega)
      · show h37 21 0 = nI (min 100000 (nv tp s (w + 1 - s)))
        rw [e37, up2_other (by decide), e36, up2_at, show w + 1 - s = (w - s) + 1 by omega]
        show _ = nI (min 100000 (10 * nv tp s (w - s) + (tp (s + (w - s)) - 48)))
        rw [show s + (w - s) = w by omega]
        congr 1
        omega
    · have ew : run (diB tp n) n s = w := run_eq hsw (by omega) hle (Bool.eq_false_iff.mpr c6)
      refine fin h33 (fun k a b c => by rw [e33, up2_other b]; exact oz k a c) (by rw [e33, up2_other (by decide), een, ew]; exact z18) (by rw [e33, up2_at, ety]; rfl) (fun _ => by rw [e33, up2_other (by decide), een, ew]; exact z21)
  · have c4 : isLb (tp s) = false := by rw [← lef]; exact Bool.eq_false_iff.mpr c4
    have c5 : isDb (tp s) = false := by rw [← dif]; exact Bool.eq_false_iff.mpr c5
    have eb : by7 tp n s = nI (tp s) := if_pos hsn
    rw [eb]
    rw [nI_1] at e18'
    refine t_isMark (x.2.2 s hsn).2 ?_
    unfold wpBX7_stepOn_209
    intro h22 e22
    have een : en tp n s = s + 1 := by unfold en; rw [if_neg (by omega), if_neg (by rw [c4]; decide), if_neg (by rw [c5]; decide)]
    have ety : ty tp n s = if isMb (tp s) = true then 3 else 4 := by unfold ty; rw [if_neg (by omega), if_neg (by rw [c4]; decide), if_neg (by rw [c5]; decide)]
    refine fin h22 (fun k a b c => by rw [e22, up2_other b, e18', up2_other a]) (by rw [e22, up2_other (by decide), e18', up2_at, een]) (by
      rw [e22, up2_at, ety]
      split <;> rfl) (fun h => by
      rw [ety] at h
      split at h <;> omega)
theorem PT.next {h : Mem} {s : Nat} (p : PT tp n s h) {post : Mem → Prop} (hp : ∀ h', PT tp n (nxt tp n s) h' → TF h h' → post h') : wpX7_stepOn post h :=
  t_stepOn p.1.1 p.1.2.1 (en_le p.1.2.2).2 p.2.2.2.1 hp
end TK
