/-! 76.se: season: on both sides -/
section S12
variable {T : TT} {hx h : Mem} {km : KM} {o : Int64} {R : Nat → Int32}
/-- a row good enough for meetings -/
def RowW (R : Nat → Int32) (d : Nat) : Prop := RSym R ∧ (∀ a b, a < 8 → b < 8 → mdR R a b ≤ R 0) ∧ R 0 = nI d ∧ d ≤ 3000
theorem RowW.meet {d : Nat} (w : RowW R d) {a b : Nat} (ha : a < 8) (hb : b < 8) : RowW (meetR R a b) d := by
  unfold meetR
  refine ⟨w.1.set _ ha hb, fun x y hx hy => ?_, ?_, w.2.2.2⟩
  · rw [setR_md R _ ha hb hx hy, setR_o R _ ha hb (by omega)]
    split
    · exact leI_refl _
    · exact w.2.1 x y hx hy
  · rw [setR_o R _ ha hb (by omega)]
    exact w.2.2.1
theorem meet_dayW (hT : TOK T) {S : Mem} {d : Nat} (hS : SRel T S R) (hR : RowW R d) {a b : Nat} (ha : a < T 0 0) (hb : b < T 0 0) : SRel T (meetM T S (nI a) (nI b) (S 3 0)) (meetR R a b) := by
  have h8 := hT.n8
  have h := meet_SRel hT hS hR.1 (on := S 3 0) ha hb
  rw [hS.1, mxI_le (hR.2.1 a b (by omega) (by omega)), ← hS.1] at h
  rw [hS.1] at h ⊢
  exact h
def day1 (R : Nat → Int32) : Nat → Int32 := fun k => if k = 0 then R 0 + 1 else R k
theorem day1_o {k : Nat} (hk : k ≠ 0) : day1 R k = R k := if_neg hk
theorem day1_md (a b : Nat) : mdR (day1 R) a b = mdR R a b := day1_o (by omega)
theorem day1_ld (T : TT) (a b : Nat) : lastD T (day1 R) a b = lastD T R a b := by
  unfold lastD ld3 ld2 ld1
  simp only [day1_md]
theorem RowW.day {d : Nat} (w : RowW R d) (hd : d < 3000) : RowW (day1 R) (d + 1) := by
  have e : day1 R 0 = nI (d + 1) := by
    show (if 0 = 0 then R 0 + 1 else R 0) = _
    rw [if_pos rfl, w.2.2.1, nI_1]
  refine ⟨fun a b ha hb => by rw [day1_md, day1_md]; exact w.1 a b ha hb, fun a b ha hb => ?_, e, by omega⟩
  rw [day1_md, e]
  have := w.2.1 a b ha hb
  rw [w.2.2.1] at this
  exact leI_trans this (nI_le (by omega) (by omega))
theorem day_SRel {x : Mem} (hS : SRel T (sub x 50) R) : SRel T (sub (up2 x 53 0 (x 53 0 + 1)) 50) (day1 R) := by
  refine ⟨?_, ?_, fun a b ha hb hab => ?_, fun b hb => ?_, fun p hp => ?_⟩
  · show up2 x 53 0 (x 53 0 + 1) 53 0 = R 0 + 1
    rw [up2_at]
    have : x 53 0 = R 0 := hS.1
    rw [this]
  · rw [day1_o (by decide), ← hS.2.1]
    show up2 x 53 0 (x 53 0 + 1) 54 0 = x 54 0
    rw [up2_other (by decide)]
  · rw [day1_ld, ← hS.2.2.1 a b ha hb hab]
    show up2 x 53 0 (x 53 0 + 1) 50 _ = x 50 _
    rw [up2_other (by decide)]
  · rw [day1_o (by omega), ← hS.2.2.2.1 b hb]
    show up2 x 53 0 (x 53 0 + 1) 51 _ = x 51 _
    rw [up2_other (by decide)]
  · rw [day1_o (by omega), ← hS.2.2.2.2 p hp]
    show up2 x 53 0 (x 53 0 + 1) 52 _ = x 52 _
    rw [up2_other (by decide)]
theorem rowM_day (y : Mem) : rowM (up2 y 30 0 (y 30 0 + 1)) = day1 (rowM y) := by
  funext k
  unfold day1
  by_cases e : k = 0
  · rw [if_pos e, e]
    show up2 y 30 0 (y 30 0 + 1) 30 0 = y 30 0 + 1
    rw [up2_at]
  · rw [if_neg e]
    unfold rowM
    rw [if_neg e, if_neg e, up2_other (show (31 : Nat) ≠ 30 by decide), up2_other (show (13 : Nat) ≠ 30 by decide), up2_other (show (27 : Nat) ≠ 30 by decide), up2_other (show (28 : Nat) ≠ 30 by decide)]
def sdr1 (s : Int32) : Int32 := s * (1103515245 : Int32) + (12345 : Int32)
def sdN (s : Int32) (n : Nat) : Nat := (ix ((s >>> ((16 : Int32) &&& 31)) &&& (32767 : Int32))) % n
theorem and15 (x : Int32) : ∃ m : Nat, m < 32768 ∧ x &&& (32767 : Int32) = nI m := by
  refine ⟨x.toBitVec.toNat % 32768, Nat.mod_lt _ (by decide), ?_⟩
  apply Int32.toBitVec_inj.mp
  rw [Int32.toBitVec_and]
  apply BitVec.eq_of_toNat_eq
  rw [BitVec.toNat_and]
  have e1 : (32767 : Int32).toBitVec.toNat = 2 ^ 15 - 1 := by decide
  rw [e1, Nat.and_two_pow_sub_one_eq_mod]
  have e2 : (nI (x.toBitVec.toNat % 32768)).toBitVec = BitVec.ofNat 32 (x.toBitVec.toNat % 32768) := rfl
  rw [e2, BitVec.toNat_ofNat]
  omega
theorem dr_v (s : Int32) {n : Nat} (h1 : 1 ≤ n) (h8 : n ≤ 8) : ((s >>> ((16 : Int32) &&& 31)) &&& (32767 : Int32)) - ((s >>> ((16 : Int32) &&& 31)) &&& (32767 : Int32)) / nI n * nI n = nI (sdN s n) := by
  unfold sdN
  obtain ⟨m, hm, e⟩ := and15 (s >>> ((16 : Int32) &&& 31))
  rw [e, ixn (by omega)]
  exact pk_rem (by omega) (by omega) (by omega)
theorem sdN_lt (s : Int32) {n : Nat} (h1 : 1 ≤ n) : sdN s n < n := Nat.mod_lt _ h1
abbrev SeS : Type := (Nat → Int32) × Int32 × Int32 × Int32
/-- the day's meeting -/
def seD (T : TT) (R : Nat → Int32) (s : Int32) : Nat → Int32 := if T 0 0 = 0 then R else if sdN (sdr1 s) (T 0 0) = sdN (sdr1 (sdr1 s)) (T 0 0) then R else meetR R (sdN (sdr1 s) (T 0 0)) (sdN (sdr1 (sdr1 s)) (T 0 0))
def seC (T : TT) (R : Nat → Int32) : Int32 := nI (ctB (cbB T R true) (T 0 1))
def se1 (T : TT) (t : Nat) (x : SeS) : SeS := (seD T (day1 x.1) x.2.1, (if T 0 0 = 0 then x.2.1 else sdr1 (sdr1 x.2.1)), x.2.2.1 + seC T (seD T (day1 x.1) x.2.1), if t = 0 then seC T (seD T (day1 x.1) x.2.1) else mnI x.2.2.2 (seC T (seD T (day1 x.1) x.2.1)))
def seI (T : TT) (R : Nat → Int32) (s : Int32) (n : Nat) : SeS := it (se1 T) n (R, s, 0, 0)
theorem seI_s (T : TT) (R : Nat → Int32) (s : Int32) (n : Nat) : seI T R s (n + 1) = se1 T n (seI T R s n) := rfl
theorem se_W {T : TT} (hT : TOK T) {d : Nat} (w : RowW R d) {s : Int32} (hd : d ≤ 2000) : ∀ n, n ≤ 60 → RowW (seI T R s n).1 (d + n) := by
  have h8 := hT.n8
  intro n
  induction n with
  | zero => intro _; exact w
  | succ n ih =>
    intro hn
    have g := (ih (by omega)).day (by omega)
    rw [seI_s]
    show RowW (seD T (day1 (seI T R s n).1) (seI T R s n).2.1) (d + (n + 1))
    unfold seD
    by_cases c : T 0 0 = 0
    · rw [if_pos c]; exact g
    · rw [if_neg c]
      by_cases c2 : sdN (sdr1 (seI T R s n).2.1) (T 0 0) = sdN (sdr1 (sdr1 (seI T R s n).2.1)) (T 0 0)
      · rw [if_pos c2]; exact g
      · rw [if_neg c2]
        have l1 := sdN_lt (sdr1 (seI T R s n).2.1) (show 1 ≤ T 0 0 by omega)
        have l2 := sdN_lt (sdr1 (sdr1 (seI T R s n).2.1)) (show 1 ≤ T 0 0 by omega)
        exact g.meet (by omega) (by omega)
def seV (a3 : Int32) (T : TT) (x : SeS) : Int32 := if a3 = 0 then x.2.2.1 else if a3 = 1 then x.2.2.2 else coupI T x.1
theorem c_draw {x : Mem} {post : Int32 → Mem → Prop} {n : Nat} (h1 : 1 ≤ n) (h8 : n ≤ 8) (hp : post (nI (sdN (sdr1 (x 16 0)) n)) (up2 x 16 0 (sdr1 (x 16 0)))) : wpX1_draw post x T (nI n) := by
  unfold wpX1_draw
  intro y e
  refine ⟨nI_ne0 (by omega) (by omega), ?_⟩
  have e2 : y 16 0 = sdr1 (x 16 0) := by rw [e, up2_at]; rfl
  rw [e2, dr_v _ h1 h8, e]
  exact hp
theorem t_drawOf {x : Mem} {post : Int32 → Mem → Prop} {n : Nat} (h1 : 1 ≤ n) (h8 : n ≤ 8) (hp : post (nI (sdN (sdr1 (x 56 0)) n)) (up2 x 56 0 (sdr1 (x 56 0)))) : wpX7_drawOf post x (nI n) := by
  unfold wpX7_drawOf
  intro y e
  refine ⟨nI_ne0 (by omega) (by omega), ?_⟩
  have e2 : y 56 0 = sdr1 (x 56 0) := by rw [e, up2_at]; rfl
  rw [e2, dr_v _ h1 h8, e]
  exact hp
theorem cbB_t (T : TT) (R : Nat → Int32) (b : Nat) : cbB T R true b = decide (mN (fun p => canB T R p b) (T 0 0) ≠ 0) := by
  unfold cbB
  rw [Bool.true_or, Bool.true_and]
theorem c_season (hT : TOK T) (hS : SRel T (sub hx 50) R) {d n : Nat} (hW : RowW R d) (hd : d ≤ 2000) (hn : n ≤ 60) {a1 a3 : Int32} {post : Int32 → Mem → Prop} {px : Nat → Prop} (hp : ∀ hx', (∀ k, k ≠ 16 → k < 50 → hx' k = hx k) → post (seV a3 T (seI T R (hx 16 0) n)) hx') : ∃ m, wpLX1_season_44 post T px a1 (nI n) a3 m (hx, 0, 0, 0) := by
  have h8 := hT.n8
  have h6 := hT.n6
  refine LW_ix (τ := Mem × Nat) (fun t => (t.1, (seI T R (hx 16 0) t.2).2.2.1, (seI T R (hx 16 0) t.2).2.2.2, nI t.2)) (fun t => t.2 ≤ n ∧ (∀ k, k ≠ 16 → k < 50 → t.1 k = hx k) ∧ SRel T (sub t.1 50) (seI T R (hx 16 0) t.2).1 ∧ t.1 16 0 = (seI T R (hx 16 0) t.2).2.1) (fun t => n - t.2) (fun K t ht k => ?_) (hx, 0) ⟨Nat.zero_le _, fun _ _ _ => rfl, hS, rfl⟩
  obtain ⟨x, i⟩ := t
  obtain ⟨hi, ho, hSx, e16⟩ := ht
  dsimp only at hi ho hSx e16
  unfold wpBX1_season_44 wpX1_people
  try dsimp only
  refine pk_le n i (fun c => ?_) (fun c => ?_)
  · have e : i = n := by omega
    subst e
    have hp := hp x ho
    unfold seV at hp
    refine ⟨fun c2 => ?_, fun c2 => ⟨fun c3 => ?_, fun c3 => c_couples hT hSx ?_⟩⟩
    · rw [if_pos c2] at hp; exact hp
    · rw [if_neg c2, if_pos c3] at hp; exact hp
    · rw [if_neg c2, if_neg c3] at hp; exact hp
  intro h11 e11
  have hW' := (se_W hT hW (s := hx 16 0) hd i (by omega)).day (by omega)
  have hS1 : SRel T (sub h11 50) (day1 (seI T R (hx 16 0) i).1) := by rw [e11]; exact day_SRel hSx
  have o11 : ∀ k, k ≠ 53 → h11 k = x k := fun k hk => by rw [e11, up2_other hk]
  have s11 : h11 16 0 = (seI T R (hx 16 0) i).2.1 := by rw [o11 16 (by decide)]; exact e16
  have nx : ∀ x', (∀ k, k ≠ 16 → k < 50 → x' k = hx k) → SRel T (sub x' 50) (se1 T i (seI T R (hx 16 0) i)).1 → x' 16 0 = (se1 T i (seI T R (hx 16 0) i)).2.1 → K (x', (se1 T i (seI T R (hx 16 0) i)).2.2.1, (se1 T i (seI T R (hx 16 0) i)).2.2.2, nI (i + 1)) := fun x' a b c' => k (x', i + 1) ⟨by show i + 1 ≤ n; omega, a, b, c'⟩ (by show n - (i + 1) < n - i; omega)
  generalize seI T R (hx 16 0) i = w at *
  obtain ⟨Rw, sw, x4, x5⟩ := w
  unfold se1 at nx
  dsimp only at nx hS1 s11 hW' ⊢
  -- from the count on
  have w119 : ∀ x', (∀ k, k ≠ 16 → k < 50 → x' k = hx k) → SRel T (sub x' 50) (seD T (day1 Rw) sw) → x' 16 0 = (if T 0 0 = 0 then sw else sdr1 (sdr1 sw)) → wpBX1_season_119 post T px a1 (nI n) a3 (fun h x4 x5 x6 => K (h, x4, x5, x6)) x' x4 x5 (nI i) := by
    intro x' hk' hS' h16
    have nx := nx x' hk' hS' h16
    unfold seC at nx
    unfold wpBX1_season_119
    refine LW_nat (fun b => (nI (ctB (cbB T (seD T (day1 Rw) sw) true) b), nI b)) (T 0 1) (fun _ => True) rfl trivial (fun K2 b hb _ k2 => ?_)
    unfold wpBX1_season_125 wpX1_loaves
    try dsimp only
    refine pk_le (T 0 1) b (fun c2 => ?_) (fun c2 => ?_)
    · have e : b = T 0 1 := by omega
      subst e
      rw [nI_1]
      refine ⟨fun c3 => ?_, fun c3 => ?_⟩
      · rw [if_pos ((nI_eq (by omega) (by decide)).mp c3)] at nx
        exact nx
      · rw [if_neg (fun h => c3 (by rw [h]; rfl))] at nx
        exact nx
    · have k2 : K2 (nI (ctB (cbB T (seD T (day1 Rw) sw) true) b + (if cbB T (seD T (day1 Rw) sw) true b = true then 1 else 0)), nI (b + 1)) := k2 c2 trivial
      refine c_whoCan hT hS' c2 ?_
      have hml := mN_lt (fun p => canB T (seD T (day1 Rw) sw) p b) (T 0 0)
      have hm10 := p10 (show T 0 0 ≤ 10 by omega)
      rw [cbB_t] at k2
      rw [nI_1, nI_1]
      by_cases c6 : mN (fun p => canB T (seD T (day1 Rw) sw) p b) (T 0 0) = 0
      · rw [if_neg (by rw [decide_eq_false (fun h => h c6)]; decide)] at k2
        rw [if_pos (by rw [c6]; rfl)]
        exact k2
      · rw [if_pos (decide_eq_true c6)] at k2
        rw [if_neg (show ¬ nI (mN (fun p => canB T (seD T (day1 Rw) sw) p b) (T 0 0)) = 0 from fun h => c6 ((nI_eq (by omega) (by decide)).mp h))]
        exact k2
  rw [show (0 : Int32) = nI 0 from rfl]
  refine pk_le (T 0 0) 0 (fun c2 => ?_) (fun c2 => ?_)
  · have c2 : T 0 0 = 0 := by omega
    refine w119 h11 (fun k a b => by rw [o11 k (by omega)]; exact ho k a b) ?_ ?_
    · unfold seD
      rw [if_pos c2]
      exact hS1
    · rw [if_pos c2]
      exact s11
  have ne : T 0 0 ≠ 0 := by omega
  have l1 := sdN_lt (sdr1 sw) (show 1 ≤ T 0 0 by omega)
  have l2 := sdN_lt (sdr1 (sdr1 sw)) (show 1 ≤ T 0 0 by omega)
  refine c_draw (by omega) h8 (c_draw (by omega) h8 ?_)
  rw [up2_at, s11]
  generalize e27 : up2 (up2 h11 16 0 (sdr1 sw)) 16 0 (sdr1 (sdr1 sw)) = h27
  have o27 : ∀ k, k ≠ 16 → h27 k = h11 k := fun k hk => by rw [← e27, up2_other hk, up2_other hk]
  have v27 : h27 16 0 = sdr1 (sdr1 sw) := by rw [← e27, up2_at]
  have hS27 : SRel T (sub h27 50) (day1 Rw) := hS1.of (fun k hk => o27 (50 + k) (by omega))
  have k27 : ∀ k, k ≠ 16 → k < 50 → h27 k = hx k := fun k a b => by rw [o27 k a, o11 k (by omega)]; exact ho k a b
  refine ⟨fun c3 => ?_, fun c3 => ?_⟩
  · have c3 := (nI_eq (by omega) (by omega)).mp c3
    refine w119 h27 k27 ?_ (by rw [if_neg ne]; exact v27)
    unfold seD
    rw [if_neg ne, if_pos c3]
    exact hS27
  · have c3 : ¬ sdN (sdr1 sw) (T 0 0) = sdN (sdr1 (sdr1 sw)) (T 0 0) := fun h => c3 (by rw [h])
    rw [show h27 53 0 = sub h27 50 3 0 from rfl]
    refine c_meet hT l1 l2 (fun h31 e31 => ?_)
    refine w119 h31 (fun k a b => by rw [e31, put5_o (by omega)]; exact k27 k a b) ?_ (by rw [if_neg ne, e31, put5_o (by decide)]; exact v27)
    unfold seD
    rw [if_neg ne, if_neg c3]
    exact (meet_dayW hT hS27 hW' l1 l2).of (fun k hk => by rw [e31]; exact sub_put _ _ _ hk)
theorem t_se149 (hT : TOK T) {x : Mem} (hM : TM T x) (hr : rowM x = R) {post : Int32 → Mem → Prop} {a1 a2 a3 x4 x5 : Int32} {i : Nat} (hi : i < 2 ^ 31) {K : Mem → Int32 → Int32 → Int32 → Prop} (nx : K x (x4 + seC T R) (if i = 0 then seC T R else mnI x5 (seC T R)) (nI (i + 1))) : wpBX7_season_149 post a1 a2 a3 K x x4 x5 (nI i) := by
  have h6 := hT.n6
  unfold seC at nx
  unfold wpBX7_season_149
  try dsimp only
  refine t_cuttable (all := true) hT hM ?_
  have hml := mN_lt (cbB T (rowM x) true) (T 0 1)
  have hm10 := p10 (show T 0 1 ≤ 10 by omega)
  refine t_bitsOf (by omega) ?_
  rw [pc_mN _ (by omega), hr, nI_1]
  refine ⟨fun c3 => ?_, fun c3 => ?_⟩
  · rw [if_pos ((nI_eq hi (by decide)).mp c3)] at nx
    exact nx
  · rw [if_neg (fun h => c3 (by rw [h]; rfl))] at nx
    exact nx
theorem rowM_0 (h : Mem) : rowM h 0 = h 30 0 := by
  unfold rowM
  rw [if_pos rfl]
theorem t_seday (hT : TOK T) {x : Mem} (n22 : x 3 0 = nI (T 0 0)) (hr : rowM x = R) {post : Int32 → Mem → Prop} {a1 a2 a3 x4 x5 x6 : Int32} {K : Mem → Int32 → Int32 → Int32 → Prop} (g : ∀ y, (∀ k, k ≠ 13 → k ≠ 56 → y k = x k) → rowM y = seD T R (x 56 0) → y 56 0 = (if T 0 0 = 0 then x 56 0 else sdr1 (sdr1 (x 56 0))) → wpBX7_season_149 post a1 a2 a3 K y x4 x5 x6) :
    (x 3 0 = 0 → wpBX7_season_103 post a1 a2 a3 K x x4 x5 x6 0) ∧ (¬ x 3 0 = 0 → wpX7_drawOf (fun r24 h25 => wpBX7_season_103 post a1 a2 a3 K h25 x4 x5 x6 r24) x (x 3 0)) := by
  have h8 := hT.n8
  rw [n22]
  by_cases c2 : T 0 0 = 0
  · have z : nI (T 0 0) = 0 := by rw [c2]; rfl
    have g := g x (fun _ _ _ => rfl) (by unfold seD; rw [if_pos c2]; exact hr) (by rw [if_pos c2])
    refine sw_t z ?_
    unfold wpBX7_season_103
    rw [n22]
    refine sw_t z ?_
    unfold wpBX7_season_128
    exact sw_t rfl g
  have l1 := sdN_lt (sdr1 (x 56 0)) (show 1 ≤ T 0 0 by omega)
  have l2 := sdN_lt (sdr1 (sdr1 (x 56 0))) (show 1 ≤ T 0 0 by omega)
  have nz : ¬ nI (T 0 0) = 0 := nI_ne0 (by omega) (by omega)
  refine sw_f nz (t_drawOf (by omega) h8 ?_)
  unfold wpBX7_season_103
  rw [up2_other (show (3 : Nat) ≠ 56 by decide), n22]
  refine sw_f nz (t_drawOf (by omega) h8 ?_)
  rw [up2_at]
  generalize e27 : up2 (up2 x 56 0 (sdr1 (x 56 0))) 56 0 (sdr1 (sdr1 (x 56 0))) = h27
  have o27 : ∀ k, k ≠ 56 → h27 k = x k := fun k hk => by rw [← e27, up2_other hk, up2_other hk]
  have v27 : h27 56 0 = sdr1 (sdr1 (x 56 0)) := by rw [← e27, up2_at]
  have hR27 : rowM h27 = R := (rowM_of (fun k hk => o27 k (by omega))).trans hr
  unfold seD at g
  generalize sdN (sdr1 (x 56 0)) (T 0 0) = A at g l1 ⊢
  generalize sdN (sdr1 (sdr1 (x 56 0))) (T 0 0) = B at g l2 ⊢
  unfold wpBX7_season_128
  refine ⟨fun c3 => ?_, fun c3 => ?_⟩
  · have c3 := (nI_eq (by omega) (by omega)).mp c3
    exact g h27 (fun k _ b => o27 k b) (by rw [if_neg c2, if_pos c3]; exact hR27) (by rw [if_neg c2]; exact v27)
  · have c3 : ¬ A = B := fun h => c3 (by rw [h])
    refine t_meet (a := A) (b := B) (d := h27 30 0) (by omega) (by omega) ?_
    refine g (meet7 h27 A B (h27 30 0)) (fun k a b => by rw [meet7_o a]; exact o27 k b) ?_ (by rw [if_neg c2, meet7_o (by decide)]; exact v27)
    have ed : h27 30 0 = R 0 := by rw [← rowM_0 h27, hR27]
    unfold meetR
    rw [if_neg c2, if_neg c3, rowM_meet (by omega) (by omega), hR27, ed]
theorem t_season (hT : TOK T) (hM : TM T h) (hr : rowM h = R) (ha : rowA (h 48) 0 = R) {d n : Nat} (hW : RowW R d) (hd : d ≤ 2000) (hn : n ≤ 60) {a1 a3 : Int32} {post : Int32 → Mem → Prop} (hp : ∀ h', (∀ k, k ≠ 13 → k ≠ 27 → k ≠ 28 → k ≠ 30 → k ≠ 31 → k ≠ 56 → h' k = h k) → rowM h' = R → post (seV a3 T (seI T R (h 56 0) n)) h') : ∃ m, wpLX7_season_64 post a1 (nI n) a3 m (h, 0, 0, 0) := by
  have h8 := hT.n8
  have h6 := hT.n6
  refine LW_ix (τ := Mem × Nat) (fun t => (t.1, (seI T R (h 56 0) t.2).2.2.1, (seI T R (h 56 0) t.2).2.2.2, nI t.2)) (fun t => t.2 ≤ n ∧ (∀ k, k ≠ 13 → k ≠ 30 → k ≠ 56 → t.1 k = h k) ∧ rowM t.1 = (seI T R (h 56 0) t.2).1 ∧ t.1 56 0 = (seI T R (h 56 0) t.2).2.1) (fun t => n - t.2) (fun K t ht k => ?_) (h, 0) ⟨Nat.zero_le _, fun _ _ _ _ => rfl, hr, rfl⟩
  obtain ⟨x, i⟩ := t
  obtain ⟨hi, ho, hrx, e56⟩ := ht
  dsimp only at hi ho hrx e56
  have hMx : TM T x := hM.of (fun k h1 h2 h3 => ho k h3 (by omega) (by omega))
  unfold wpBX7_season_64
  try dsimp only
  refine pk_le n i (fun c => ?_) (fun c => ?_)
  · have e : i = n := by omega
    subst e
    refine t_knownBoth hT hMx (t_unpack (k := 48) (a := 0) ⟨by decide, by decide, by decide, by decide, by decide⟩ (by decide) (by decide) ?_)
    have hp := hp (unM x 48 0 64 6 8) (fun k a b c d e f => by rw [unM_o ⟨d, e, a, b, c⟩]; exact ho k a d f) (by rw [rowM_un, ho 48 (by decide) (by decide) (by decide)]; exact ha)
    unfold seV at hp
    rw [hrx]
    exact hp
  intro h22 e22
  have hW' := (se_W hT hW (s := h 56 0) hd i (by omega)).day (by omega)
  have hR1 : rowM h22 = day1 (seI T R (h 56 0) i).1 := by rw [e22, rowM_day, hrx]
  have o22 : ∀ k, k ≠ 30 → h22 k = x k := fun k hk => by rw [e22, up2_other hk]
  have s22 : h22 56 0 = (seI T R (h 56 0) i).2.1 := by rw [o22 56 (by decide)]; exact e56
  have n22 : h22 3 0 = nI (T 0 0) := by rw [o22 3 (by decide)]; exact hMx.n
  have nx : ∀ x', (∀ k, k ≠ 13 → k ≠ 30 → k ≠ 56 → x' k = h k) → rowM x' = (se1 T i (seI T R (h 56 0) i)).1 → x' 56 0 = (se1 T i (seI T R (h 56 0) i)).2.1 → K (x', (se1 T i (seI T R (h 56 0) i)).2.2.1, (se1 T i (seI T R (h 56 0) i)).2.2.2, nI (i + 1)) := fun x' a b c' => k (x', i + 1) ⟨by show i + 1 ≤ n; omega, a, b, c'⟩ (by show n - (i + 1) < n - i; omega)
  unfold se1 at nx
  have hib : i < 2 ^ 31 := by omega
  refine t_seday hT n22 hR1 (K := fun h x4 x5 x6 => K (h, x4, x5, x6)) (fun y hy hry ey => ?_)
  rw [s22] at hry ey
  have nx := nx y (fun k a b c => (hy k a c).trans ((o22 k b).trans (ho k a b c))) hry ey
  exact t_se149 hT (hM.of (fun k h1 h2 h3 => (hy k h3 (by omega)).trans ((o22 k (by omega)).trans (ho k h3 (by omega) (by omega))))) hry hib (K := fun h x4 x5 x6 => K (h, x4, x5, x6)) nx
theorem s_season {P : LPT} {a1 a2 a3 : Int32} (r : Rel T hx km h) (hP : ∀ k v hx', LkI T (fun Q => wpX7_season Q h a1 a2 a3) k v hx' km → P k v hx' km) : wpX0_season P T hx km o a1 a2 a3 := by
  have hT := r.T
  have r1 := r.c 0
  have r2 := r1.c 1
  have r3 := r1.c 2
  have hM1 : TM T (up2 h 2 0 0) := r1.M
  unfold wpX0_season wpX1_season
  refine c_within ?_
  by_cases c : 0 ≤ a3 ∧ a3 ≤ 2
  · refine bo_t (decide_eq_true c) (c_within ?_)
    by_cases c2 : 0 ≤ a2 ∧ a2 ≤ 60
    · obtain ⟨n, hn, en⟩ := (w_in (n := 60) (x := a2) (by decide)).mp c2
      refine bo_t (decide_eq_true c2) (fun h5 e5 h6 e6 => ?_)
      obtain ⟨d, hr, d0, d1, _, _⟩ := r.R.2.2
      have hW : RowW (rowM h) d := ⟨r.R.1, r.R.2.1, d0, by omega⟩
      have hS6 : SRel T (sub h6 50) (rowM h) := by
        rw [e6, e5]
        exact (like_SRel hT r.S).of (S := likeM (sub hx 50) (sub hx 40)) (fun k hk => by show up2 _ 16 0 a1 (50 + k) = _; rw [up2_other (by omega)]; exact sub_put _ _ _ hk)
      have v16 : h6 16 0 = a1 := by rw [e6, up2_at]
      have k6 : ∀ k, k ≠ 16 → k < 50 → h6 k = hx k := fun k a b => by rw [e6, up2_other a, e5, put5_o (by omega)]
      rw [en]
      refine c_season hT hS6 hW d1 hn (fun hx' ho => hP 0 _ _ (fun Q hQ => ?_))
      rw [v16] at hQ
      show wpX7_season Q h a1 a2 a3
      unfold wpX7_season
      intro h1 e1
      subst e1
      refine t_isInL (a := 0) (b := 2) rfl rfl (bo_t (decide_eq_true c) (t_isInL (a := 0) (b := 60) rfl rfl (bo_t (decide_eq_true c2) ?_)))
      refine t_pack (k := 48) (a := 0) ⟨by decide, by decide, by decide, by decide, by decide⟩ (by decide) (by decide) (fun h10 e10 => ?_)
      rw [en]
      have o10 : ∀ k, k ≠ 56 → k ≠ 48 → h10 k = up2 h 2 0 0 k := fun k a b => by rw [e10, up2_other a, packP_o b]
      have v56 : h10 56 0 = a1 := by rw [e10, up2_at]
      have hR10 : rowM h10 = rowM h := (rowM_of (fun k hk => o10 k (by omega) (by omega))).trans (eRow h 0)
      have hA10 : rowA (h10 48) 0 = rowM h := by rw [e10, up2_other (by decide), rowA_pack, eRow]
      refine t_season hT (hM1.of (fun k h1 h2 h3 => o10 k (by omega) (by omega))) hR10 hA10 hW d1 hn (fun h' h7 hr' => ?_)
      rw [v56]
      have e7 : ∀ k, k ≠ 13 → k ≠ 27 → k ≠ 28 → k ≠ 30 → k ≠ 31 → k ≠ 56 → k ≠ 48 → h' k = up2 h 2 0 0 k := fun k a b c d e f g => by rw [h7 k a b c d e f, o10 k f g]
      refine hQ _ _ (r1.of2 (fun k hk => ?_) (fun k hk a b c d f => e7 k a b c d f (by unfold rl7 at hk; omega) (by unfold rl7 at hk; omega)) (by rw [hr', eRow])) ((congrFun (e7 2 (by decide) (by decide) (by decide) (by decide) (by decide) (by decide) (by decide)) 0).trans (code_at h 0)) (fun _ => rfl)
      unfold rlX at hk
      rw [ho k (by omega) (by omega), k6 k (by omega) (by omega)]
    · refine bo_f (decide_eq_false c2) (Or.inr ⟨rfl, hP 2 _ _ (fun Q hQ => ?_)⟩)
      unfold wpX7_season
      intro h1 e1
      subst e1
      exact t_isInL (a := 0) (b := 2) rfl rfl (bo_t (decide_eq_true c) (t_isInL (a := 0) (b := 60) rfl rfl (bo_f (decide_eq_false c2) (t_fail (hQ _ _ r3 (code_at _ 2) (fun h => absurd h (by decide)))))))
  · refine bo_f (decide_eq_false c) (Or.inl ⟨rfl, hP 1 _ _ (fun Q hQ => ?_)⟩)
    unfold wpX7_season
    intro h1 e1
    subst e1
    exact t_isInL (a := 0) (b := 2) rfl rfl (bo_f (decide_eq_false c) (t_fail (hQ _ _ r2 (code_at _ 1) (fun h => absurd h (by decide)))))
end S12
