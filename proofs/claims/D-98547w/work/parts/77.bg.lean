/-! 77.bg: a new town: State.begins, takeOver -/
section S13
variable {T : TT} {R : Nat → Int32}
/-- what was told of meetings -/
def AGv (T : TT) (a b : Nat) : Int32 := if agI T (8 * a + b) = -1 then -100000 else -(agI T (8 * a + b))
def AGOK (T : TT) : Prop := (∀ a b, a < 8 → b < 8 → agI T (8 * a + b) = -1 ∨ ∃ n : Nat, n ≤ 999 ∧ agI T (8 * a + b) = nI n) ∧ (∀ a b, a < 8 → b < 8 → agI T (8 * a + b) = agI T (8 * b + a)) ∧ (∀ a b, a < 8 → b < 8 → (T 0 0 ≤ a ∨ T 0 0 ≤ b ∨ a = b) → agI T (8 * a + b) = -1)
def row0 : Nat → Int32 := fun k => if k < 2 then 0 else if k < 66 then -100000 else if k < 72 then -1 else 0
theorem row0_md {a b : Nat} (ha : a < 8) (hb : b < 8) : mdR row0 a b = -100000 := by
  unfold mdR row0
  rw [if_neg (by omega), if_pos (by omega)]
theorem row0_ld (hT : TOK T) {a b : Nat} (ha : a < T 0 0) (hb : b < T 0 0) : lastD T row0 a b = -100000 := by
  have h8 := hT.n8
  have q : ∀ p, p < T 0 0 → ¬ twI T p = -1 → ix (twI T p) < 8 := fun p hp c => by
    obtain ⟨q, hq, e, _⟩ := (twI_c hT hp).resolve_left c
    rw [e, ixn (by omega)]
    omega
  have m : mxI (-100000) (-100000) = -100000 := by decide
  have l1 : ld1 T row0 a b = -100000 := by
    unfold ld1
    by_cases c : twI T a = -1
    · rw [if_pos c, row0_md (by omega) (by omega)]
    · rw [if_neg c, row0_md (by omega) (by omega), row0_md (q a ha c) (by omega), m]
  have l2 : ld2 T row0 a b = -100000 := by
    unfold ld2
    by_cases c : twI T b = -1
    · rw [if_pos c, l1]
    · rw [if_neg c, l1, row0_md (by omega) (q b hb c), m]
  unfold lastD
  by_cases c0 : twI T a = nI b
  · rw [if_pos c0]
  rw [if_neg c0]
  unfold ld3
  by_cases c : twI T a = -1
  · rw [if_pos c, l2]
  rw [if_neg c]
  by_cases c2 : twI T b = -1
  · rw [if_pos c2, l2]
  · rw [if_neg c2, l2, row0_md (q a ha c) (q b hb c2), m]
def bg1 (T : TT) (a k : Nat) (R : Nat → Int32) : Nat → Int32 := if agI T (8 * a + (a + 1 + k)) = -1 then R else setR R a (a + 1 + k) (mxI (mdR R a (a + 1 + k)) (-(agI T (8 * a + (a + 1 + k)))))
def bg2 (T : TT) (a : Nat) (R : Nat → Int32) : Nat → Int32 := it (bg1 T a) (T 0 0 - (a + 1)) R
def bgR (T : TT) (n : Nat) : Nat → Int32 := it (bg2 T) n row0
/-- how far the table is -/
def BgI (T : TT) (n k : Nat) (R : Nat → Int32) : Prop := RSym R ∧ (∀ x y, x < 8 → y < 8 → x < y → mdR R x y = if x < n ∨ (x = n ∧ y < n + 1 + k) then AGv T x y else -100000) ∧ (∀ x, x < 8 → mdR R x x = -100000) ∧ (∀ i, i < 2 ∨ 66 ≤ i → R i = row0 i)
theorem AGv_out (hA : AGOK T) {a b : Nat} (ha : a < 8) (hb : b < 8) (h : T 0 0 ≤ a ∨ T 0 0 ≤ b ∨ a = b) : AGv T a b = -100000 := by
  unfold AGv
  rw [if_pos (hA.2.2 a b ha hb h)]
theorem mx_ag {n : Nat} (hn : n ≤ 999) : mxI (-100000) (-(nI n)) = -(nI n) := by
  have : ∀ n, n < 1000 → mxI (-100000) (-(nI n)) = -(nI n) := by decide +kernel
  exact this n (by omega)
theorem BgI.st (hT : TOK T) (hA : AGOK T) {n k : Nat} (hn : n < T 0 0) (hk : n + 1 + k < T 0 0) (h : BgI T n k R) : BgI T n (k + 1) (bg1 T n k R) := by
  have h8 := hT.n8
  obtain ⟨s, m, d, o⟩ := h
  unfold bg1
  have m0 : mdR R n (n + 1 + k) = -100000 := by rw [m n (n + 1 + k) (by omega) (by omega) (by omega), if_neg (by omega)]
  by_cases c : agI T (8 * n + (n + 1 + k)) = -1
  · rw [if_pos c]
    refine ⟨s, fun x y hx hy hxy => ?_, d, o⟩
    rw [m x y hx hy hxy]
    by_cases e : x = n ∧ y = n + 1 + k
    · obtain ⟨rfl, rfl⟩ := e
      rw [if_neg (by omega), if_pos (by omega)]
      unfold AGv
      rw [if_pos c]
    · by_cases c2 : x < n ∨ (x = n ∧ y < n + 1 + k)
      · rw [if_pos c2, if_pos (by omega)]
      · rw [if_neg c2, if_neg (by omega)]
  · rw [if_neg c, m0]
    obtain ⟨w, hw, ew⟩ := (hA.1 n (n + 1 + k) (by omega) (by omega)).resolve_left c
    have ev : mxI (-100000) (-(agI T (8 * n + (n + 1 + k)))) = AGv T n (n + 1 + k) := by
      unfold AGv
      rw [if_neg c, ew]
      exact mx_ag hw
    rw [ev]
    refine ⟨s.set _ (by omega) (by omega), fun x y hx hy hxy => ?_, fun x hx => ?_, fun i hi => ?_⟩
    · rw [setR_md R _ (by omega) (by omega) hx hy, m x y hx hy hxy]
      by_cases e : x = n ∧ y = n + 1 + k
      · rw [if_pos (Or.inl e), if_pos (by omega), e.1, e.2]
      · rw [if_neg (by omega)]
        by_cases c2 : x < n ∨ (x = n ∧ y < n + 1 + k)
        · rw [if_pos c2, if_pos (by omega)]
        · rw [if_neg c2, if_neg (by omega)]
    · rw [setR_md R _ (by omega) (by omega) hx hx, if_neg (by omega)]
      exact d x hx
    · rw [setR_o R _ (by omega) (by omega) hi]
      exact o i hi
theorem BgI.in (hT : TOK T) (hA : AGOK T) {n : Nat} (hn : n < T 0 0) (h : BgI T n 0 R) : ∀ k, k ≤ T 0 0 - (n + 1) → BgI T n k (it (bg1 T n) k R) := by
  intro k
  induction k with
  | zero => intro _; exact h
  | succ k ih => intro hk; exact (ih (by omega)).st hT hA hn (by omega)
theorem BgI.nx (hT : TOK T) (hA : AGOK T) {n : Nat} (hn : n < T 0 0) (h : BgI T n (T 0 0 - (n + 1)) R) : BgI T (n + 1) 0 R := by
  have h8 := hT.n8
  obtain ⟨s, m, d, o⟩ := h
  refine ⟨s, fun x y hx hy hxy => ?_, d, o⟩
  rw [m x y hx hy hxy]
  by_cases c : x < n ∨ (x = n ∧ y < n + 1 + (T 0 0 - (n + 1)))
  · rw [if_pos c, if_pos (by omega)]
  · rw [if_neg c]
    by_cases c2 : x = n
    · rw [if_pos (by omega), AGv_out hA hx hy (by omega)]
    · rw [if_neg (by omega)]
theorem bgR_I (hT : TOK T) (hA : AGOK T) : ∀ n, n ≤ T 0 0 → BgI T n 0 (bgR T n) := by
  intro n
  induction n with
  | zero =>
    intro _
    exact ⟨fun a b ha hb => (row0_md ha hb).trans (row0_md hb ha).symm, fun x y hx hy hxy => by rw [if_neg (by omega)]; exact row0_md hx hy, fun x hx => row0_md hx hx, fun _ _ => rfl⟩
  | succ n ih =>
    intro hn
    exact ((ih (by omega)).in hT hA (by omega) _ (Nat.le_refl _)).nx hT hA (by omega)
theorem bgR_v (hT : TOK T) (hA : AGOK T) {R : Nat → Int32} (e : ∀ a b, a < 8 → b < 8 → mdR R a b = AGv T a b) (eo : ∀ i, i < 2 ∨ (66 ≤ i ∧ i < 80) → R i = row0 i) : ∀ k, k < 80 → R k = bgR T (T 0 0) k := by
  have h8 := hT.n8
  obtain ⟨s, m, d, o⟩ := bgR_I hT hA (T 0 0) (Nat.le_refl _)
  intro k hk
  by_cases c : k < 2 ∨ 66 ≤ k
  · rw [eo k (by omega), o k c]
  · have key : ∀ x y, x < 8 → y < 8 → mdR (bgR T (T 0 0)) x y = AGv T x y := fun x y hx hy => by
      have up : ∀ x y, x < 8 → y < 8 → x < y → mdR (bgR T (T 0 0)) x y = AGv T x y := fun x y hx hy hxy => by
        rw [m x y hx hy hxy]
        by_cases c : x < T 0 0
        · rw [if_pos (Or.inl c)]
        · rw [if_neg (by omega), AGv_out hA hx hy (by omega)]
      by_cases c1 : x < y
      · exact up x y hx hy c1
      · by_cases c2 : x = y
        · subst c2
          rw [d x hx, AGv_out hA hx hx (by omega)]
        · rw [s x y hx hy, up y x hy hx (by omega)]
          unfold AGv
          rw [hA.2.1 y x hy hx]
    have g := (e ((k - 2) / 8) ((k - 2) % 8) (by omega) (by omega)).trans (key ((k - 2) / 8) ((k - 2) % 8) (by omega) (by omega)).symm
    unfold mdR at g
    rw [show 2 + (8 * ((k - 2) / 8) + (k - 2) % 8) = k by omega] at g
    exact g
theorem SRel.cgR {S : Mem} {R1 : Nat → Int32} (hT : TOK T) (h : SRel T S R) (e : ∀ k, k < 80 → R1 k = R k) : SRel T S R1 := by
  refine ⟨by rw [e 0 (by omega)]; exact h.1, by rw [e 1 (by omega)]; exact h.2.1, fun a b ha hb hab => ?_, fun b hb => by rw [e _ (by omega)]; exact h.2.2.2.1 b hb, fun p hp => by rw [e _ (by omega)]; exact h.2.2.2.2 p hp⟩
  rw [lastD_cg (fun k hk => e k (by omega)) hT ha hb]
  exact h.2.2.1 a b ha hb hab
theorem c_begins (hT : TOK T) (hA : AGOK T) {S : Mem} {post : Mem → Prop} (hp : ∀ S', SRel T S' (bgR T (T 0 0)) → post S') : wpX6_begins post S T := by
  have h8 := hT.n8
  unfold wpX6_begins
  intro h1 e1 h2 e2
  refine LW_nat (fun i => (it (fun j (s : Mem) => up2 s 0 j (-100000)) i h2, nI i)) 64 (fun _ => True) rfl trivial (fun K i hi _ k => ?_)
  unfold wpBX6_begins_12
  try dsimp only
  rw [show Slen 0 = 64 from rfl]
  refine pk_le 64 i (fun q => ?_) (fun q => ?_)
  rotate_left
  · rw [ixn (by omega), nI_1]
    exact ⟨pk_in i 64 (by omega), fun h20 e20 => by rw [e20]; exact k q trivial⟩
  have ei : i = 64 := by omega
  subst ei
  have A0 : ∀ j, j < 64 → it (fun j (s : Mem) => up2 s 0 j (-100000)) 64 h2 0 j = -100000 := by
    have g : ∀ n j, j < n → it (fun j (s : Mem) => up2 s 0 j (-100000)) n h2 0 j = -100000 := by
      intro n
      induction n with
      | zero => intro j hj; omega
      | succ n ih =>
        intro j hj
        show up2 (it (fun j (s : Mem) => up2 s 0 j (-100000)) n h2) 0 n (-100000) 0 j = _
        by_cases c : j = n
        · rw [c, up2_at]
        · rw [up2_ne _ _ _ c]; exact ih j (by omega)
    exact g 64
  have O0 : ∀ k, k ≠ 0 → it (fun j (s : Mem) => up2 s 0 j (-100000)) 64 h2 k = h2 k := fun k hk => it_pl (fun _ _ _ => up2_other hk)
  generalize it (fun j (s : Mem) => up2 s 0 j (-100000)) 64 h2 = s1 at A0 O0
  refine LW_nat (fun i => (it (fun j (s : Mem) => up2 s 1 j (-1)) i s1, nI i)) 6 (fun _ => True) rfl trivial (fun K i hi _ k => ?_)
  unfold wpBX6_begins_37
  try dsimp only
  rw [show (6 : Int32) = nI 6 from rfl]
  refine pk_le 6 i (fun q => ?_) (fun q => ?_)
  rotate_left
  · rw [ixn (by omega), nI_1]
    exact ⟨pk_in i 6 (by omega), fun h20 e20 => by rw [e20]; exact k q trivial⟩
  have ei : i = 6 := by omega
  subst ei
  have A1 : ∀ j, j < 6 → it (fun j (s : Mem) => up2 s 1 j (-1)) 6 s1 1 j = -1 := by
    have g : ∀ n j, j < n → it (fun j (s : Mem) => up2 s 1 j (-1)) n s1 1 j = -1 := by
      intro n
      induction n with
      | zero => intro j hj; omega
      | succ n ih =>
        intro j hj
        show up2 (it (fun j (s : Mem) => up2 s 1 j (-1)) n s1) 1 n (-1) 1 j = _
        by_cases c : j = n
        · rw [c, up2_at]
        · rw [up2_ne _ _ _ c]; exact ih j (by omega)
    exact g 6
  have O1 : ∀ k, k ≠ 1 → it (fun j (s : Mem) => up2 s 1 j (-1)) 6 s1 k = s1 k := fun k hk => it_pl (fun _ _ _ => up2_other hk)
  generalize it (fun j (s : Mem) => up2 s 1 j (-1)) 6 s1 = s2 at A1 O1
  refine LW_nat (fun i => (it (fun j (s : Mem) => up2 s 2 j 0) i s2, nI i)) 8 (fun _ => True) rfl trivial (fun K i hi _ k => ?_)
  unfold wpBX6_begins_58
  try dsimp only
  rw [show (8 : Int32) = nI 8 from rfl]
  refine pk_le 8 i (fun q => ?_) (fun q => ?_)
  rotate_left
  · rw [ixn (by omega), nI_1]
    exact ⟨pk_in i 8 (by omega), fun h20 e20 => by rw [e20]; exact k q trivial⟩
  have ei : i = 8 := by omega
  subst ei
  have A2 : ∀ j, j < 8 → it (fun j (s : Mem) => up2 s 2 j 0) 8 s2 2 j = 0 := by
    have g : ∀ n j, j < n → it (fun j (s : Mem) => up2 s 2 j 0) n s2 2 j = 0 := by
      intro n
      induction n with
      | zero => intro j hj; omega
      | succ n ih =>
        intro j hj
        show up2 (it (fun j (s : Mem) => up2 s 2 j 0) n s2) 2 n 0 2 j = _
        by_cases c : j = n
        · rw [c, up2_at]
        · rw [up2_ne _ _ _ c]; exact ih j (by omega)
    exact g 8
  have O2 : ∀ k, k ≠ 2 → it (fun j (s : Mem) => up2 s 2 j 0) 8 s2 k = s2 k := fun k hk => it_pl (fun _ _ _ => up2_other hk)
  generalize it (fun j (s : Mem) => up2 s 2 j 0) 8 s2 = s3 at A2 O2
  have hS : SRel T s3 row0 := by
    refine ⟨?_, ?_, fun a b ha hb _ => ?_, fun b hb => ?_, fun p hp => ?_⟩
    · rw [O2 3 (by decide), O1 3 (by decide), O0 3 (by decide), e2, up2_other (by decide), e1, up2_at]; rfl
    · rw [O2 4 (by decide), O1 4 (by decide), O0 4 (by decide), e2, up2_at]; rfl
    · rw [row0_ld hT ha hb, O2 0 (by decide), O1 0 (by decide), A0 _ (by omega)]
    · rw [O2 1 (by decide), A1 b hb]
      unfold row0
      rw [if_neg (by omega), if_neg (by omega), if_pos (by omega)]
    · rw [A2 p hp]
      unfold row0
      rw [if_neg (by omega), if_neg (by omega), if_neg (by omega)]
  refine LW_ix (τ := Mem × Nat) (fun t => (t.1, nI t.2)) (fun t => t.2 ≤ T 0 0 ∧ SRel T t.1 (bgR T t.2)) (fun t => T 0 0 - t.2) (fun K t ht k => ?_) (s3, 0) ⟨Nat.zero_le _, hS⟩
  obtain ⟨x, a⟩ := t
  obtain ⟨ha, hx⟩ := ht
  dsimp only at ha hx
  unfold wpBX6_begins_79
  try dsimp only
  refine pk_le (T 0 0) a (fun c => ?_) (fun c => ?_)
  · have e : a = T 0 0 := by omega
    subst e
    exact hp x hx
  rw [nI_1]
  have nx : ∀ x', SRel T x' (bg2 T a (bgR T a)) → K (x', nI (a + 1)) := fun x' hx' => k (x', a + 1) ⟨c, hx'⟩ (by show T 0 0 - (a + 1) < T 0 0 - a; omega)
  have hI := (bgR_I hT hA a ha).in hT hA c
  generalize bgR T a = w at nx hx hI
  refine LW_ix (τ := Mem × Nat) (fun t => (t.1, nI (a + 1 + t.2))) (fun t => t.2 ≤ T 0 0 - (a + 1) ∧ SRel T t.1 (it (bg1 T a) t.2 w)) (fun t => T 0 0 - (a + 1) - t.2) (fun K2 t ht k2 => ?_) (x, 0) ⟨Nat.zero_le _, hx⟩
  obtain ⟨y, j⟩ := t
  obtain ⟨hj, hy⟩ := ht
  dsimp only at hj hy
  unfold wpBX6_begins_94
  try dsimp only
  refine pk_le (T 0 0) (a + 1 + j) (fun c2 => ?_) (fun c2 => ?_)
  · have e : j = T 0 0 - (a + 1) := by omega
    subst e
    rw [nI_1]
    exact nx y hy
  rw [e8, ixn (by omega), nI_1 (a + 1 + j)]
  have nx2 : ∀ x', SRel T x' (bg1 T a j (it (bg1 T a) j w)) → K2 (x', nI (a + 1 + j + 1)) := fun x' hx' => k2 (x', j + 1) ⟨by show j + 1 ≤ _; omega, hx'⟩ (by show T 0 0 - (a + 1) - (j + 1) < T 0 0 - (a + 1) - j; omega)
  have hs := (hI j hj).1
  generalize it (bg1 T a) j w = v at nx2 hy hs
  unfold bg1 at nx2
  refine ⟨pk_in (8 * a + (a + 1 + j)) 64 (by omega), fun c3 => ?_, fun c3 => ?_⟩
  · rw [if_pos c3] at nx2
    exact nx2 y hy
  · rw [if_neg c3] at nx2
    exact c_meet hT c c2 (nx2 _ (meet_SRel hT hy hs c c2))
end S13
