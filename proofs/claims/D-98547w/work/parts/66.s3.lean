/-! 66.s3: cut, thank, noon, image, restore: both sides, related -/
section S3
variable {T : TT} {hx h : Mem} {km : KM} {o : Int64}
theorem rowM_up27 (h : Mem) {b : Nat} (v : Int32) (hb : b < 6) : rowM (up2 h 27 b v) = fun i => if i = 66 + b then v else rowM h i := by
  funext i
  unfold rowM
  rw [up2_other (show (30 : Nat) ≠ 27 by decide), up2_other (show (31 : Nat) ≠ 27 by decide), up2_other (show (13 : Nat) ≠ 27 by decide), up2_other (show (28 : Nat) ≠ 27 by decide)]
  by_cases e : i = 66 + b
  · rw [if_pos e, if_neg (by omega), if_neg (by omega), if_neg (by omega), if_pos (by omega), show i - 66 = b by omega, up2_at]
  · rw [if_neg e]
    by_cases c : 66 ≤ i ∧ i < 72
    · rw [up2_ne _ _ _ (show i - 66 ≠ b by omega)]
    · by_cases c0 : i = 0
      · rw [if_pos c0, if_pos c0]
      rw [if_neg c0, if_neg c0]
      by_cases c1 : i = 1
      · rw [if_pos c1, if_pos c1]
      rw [if_neg c1, if_neg c1]
      by_cases c2 : i < 66
      · rw [if_pos c2, if_pos c2]
      rw [if_neg c2, if_neg c2, if_neg (show ¬ i < 72 by omega), if_neg (show ¬ i < 72 by omega)]
theorem rowM_up28 (h : Mem) {b : Nat} (v : Int32) (hb : b < 8) : rowM (up2 h 28 b v) = fun i => if i = 72 + b then v else rowM h i := by
  funext i
  unfold rowM
  rw [up2_other (show (30 : Nat) ≠ 28 by decide), up2_other (show (31 : Nat) ≠ 28 by decide), up2_other (show (13 : Nat) ≠ 28 by decide), up2_other (show (27 : Nat) ≠ 28 by decide)]
  by_cases e : i = 72 + b
  · rw [if_pos e, if_neg (by omega), if_neg (by omega), if_neg (by omega), if_neg (by omega), if_pos (by omega), show i - 72 = b by omega, up2_at]
  · rw [if_neg e]
    by_cases c : 72 ≤ i ∧ i < 80
    · rw [up2_ne _ _ _ (show i - 72 ≠ b by omega)]
    · by_cases c0 : i = 0
      · rw [if_pos c0, if_pos c0]
      rw [if_neg c0, if_neg c0]
      by_cases c1 : i = 1
      · rw [if_pos c1, if_pos c1]
      rw [if_neg c1, if_neg c1]
      by_cases c2 : i < 66
      · rw [if_pos c2, if_pos c2]
      rw [if_neg c2, if_neg c2]
      by_cases c3 : i < 72
      · rw [if_pos c3, if_pos c3]
      rw [if_neg c3, if_neg c3, if_neg (show ¬ i < 80 by omega), if_neg (show ¬ i < 80 by omega)]
theorem lastD_cg {R R1 : Nat → Int32} (e : ∀ k, k < 66 → R1 k = R k) (hT : TOK T) {a b : Nat} (ha : a < T 0 0) (hb : b < T 0 0) : lastD T R1 a b = lastD T R a b := by
  have h8 := hT.n8
  have m : ∀ a b, a < 8 → b < 8 → mdR R1 a b = mdR R a b := fun a b ha hb => e _ (by omega)
  have ix8 : ∀ p, p < T 0 0 → ¬ twI T p = -1 → ix (twI T p) < 8 := fun p hp h1 => by
    obtain ⟨q, hq, eq, _⟩ := twI_8 hT hp h1
    rw [eq, ixn (by omega)]
    omega
  unfold lastD ld3 ld2 ld1
  rw [m a b (by omega) (by omega)]
  by_cases h1 : twI T a = -1
  · simp only [h1, if_true]
    by_cases h2 : twI T b = -1
    · simp only [h2, if_true]
    · rw [m a _ (by omega) (ix8 b hb h2)]
  · rw [m _ b (ix8 a ha h1) (by omega)]
    by_cases h2 : twI T b = -1
    · simp only [h2, if_true]
    · rw [m a _ (by omega) (ix8 b hb h2), m _ _ (ix8 a ha h1) (ix8 b hb h2)]
theorem PRel.cg {S S1 : Mem} {R R1 : Nat → Int32} (hT : TOK T) (p : PRel T S R) (e : ∀ k, k < 66 → R1 k = R k) (e0 : S1 0 = S 0) (e3 : S1 3 = S 3) (e4 : S1 4 = S 4) (e1 : ∀ b, b < 6 → S1 1 b = R1 (66 + b)) (e2 : ∀ q, q < 8 → S1 2 q = R1 (72 + q)) : PRel T S1 R1 := by
  have m : ∀ a b, a < 8 → b < 8 → mdR R1 a b = mdR R a b := fun a b ha hb => e _ (by omega)
  refine ⟨⟨?_, ?_, fun a b ha hb hab => ?_, e1, e2⟩, fun a b ha hb => ?_, fun a b ha hb => ?_, ?_⟩
  · rw [e3, e 0 (by omega)]; exact p.1.1
  · rw [e4, e 1 (by omega)]; exact p.1.2.1
  · rw [e0, lastD_cg e hT ha hb]; exact p.1.2.2.1 a b ha hb hab
  · rw [m a b ha hb, m b a hb ha]; exact p.2.1 a b ha hb
  · rw [m a b ha hb, e 0 (by omega)]; exact p.2.2.1 a b ha hb
  · rw [e 0 (by omega), e 1 (by omega)]; exact p.2.2.2
theorem s_cut {P : LPT} {a1 a2 : Int32} (r : Rel T hx km h) (hP : ∀ k v hx' km', LkZ T (fun Q => wpX7_cut Q h a1 a2) k v hx' km' → P k v hx' km') : wpX0_cut P T hx km o a1 a2 := by
  have hT := r.T
  have h8 := hT.n8
  have h6 := hT.n6
  have r1 := r.c 0
  have r2 := r1.c 1
  have hM1 : TM T (up2 h 2 0 0) := r1.M
  have bad1 : (∀ p, p < T 0 0 → ¬ a1 = nI p) → P 1 o hx km := fun c => hP 1 _ _ _ (fun Q hQ => by
    unfold wpX7_cut wpBX7_cut_21
    intro h1 e1
    subst e1
    exact t_isPerson hT hM1 (fun p hp e => absurd e (c p hp)) (fun _ => bo_f rfl (t_failing (hQ _ _ r2 (code_at _ 1) (fun h => absurd h (by decide))))))
  have bad2 : ∀ q, q < T 0 0 → a1 = nI q → (∀ p, p < T 0 1 → ¬ a2 = nI p) → P 1 o hx km := fun q hq eq c => hP 1 _ _ _ (fun Q hQ => by
    unfold wpX7_cut wpBX7_cut_21
    intro h1 e1
    subst e1
    exact t_isPerson hT hM1 (fun _ _ _ => bo_t rfl (t_isLoaf hT hM1 (fun p hp e => absurd e (c p hp)) (fun _ => bo_f rfl (t_failing (hQ _ _ r2 (code_at _ 1) (fun h => absurd h (by decide))))))) (fun c9 => absurd eq (c9 q hq)))
  unfold wpX0_cut wpX1_cut
  refine ⟨fun p hp ep => ⟨fun b hb eb => ?_, fun c => ⟨rfl, bad2 p hp ep c⟩⟩, fun c => ⟨rfl, bad1 c⟩⟩
  subst ep eb
  clear bad1 bad2
  refine c_may hT r.S hp hb ⟨fun e => ?_, fun e => ?_⟩
  · obtain ⟨n, hn, x28, h32, rk⟩ := r1.keep
    refine ⟨n, hn, x28, fun h6' e6' km7 ek => ⟨pk_in b 6 (by omega), fun h9 e9 => hP 0 _ _ _ (fun Q hQ => ?_)⟩⟩
    unfold wpX7_cut
    intro h1 e1
    subst e1
    refine t_isPerson hT hM1 (fun _ _ _ => bo_t rfl (t_isLoaf hT hM1 (fun _ _ _ => bo_t rfl (t_mayNow hT hM1 hp hb ?_)) (fun c => absurd rfl (c b hb)))) (fun c => absurd rfl (c p hp))
    rw [eRow]
    refine sw_t e (t_keep hn h32 ⟨pk_in b 6 (by omega), fun h16 e16 => hQ _ _ ?_ ?_ (fun _ => rfl)⟩)
    · rw [ek]
      refine rk.st (fun k hk => by rw [e9, up2_other (by omega), e6']) (fun k hk => by rw [e16, up2_other (by omega)]) ?_
      rw [e16, e9, e6', ixn (by omega), rowM_up27 _ _ (by omega)]
      refine PRel.cg hT ⟨rk.S, rk.R⟩ (fun k hk => if_neg (by omega)) (up2_other (by decide)) (up2_other (by decide)) (up2_other (by decide)) (fun c hc => ?_) (fun q hq => ?_)
      · show up2 (up2 hx 28 0 (keepX n)) 41 b (nI p) 41 c = if 66 + c = 66 + b then nI p else _
        by_cases ec : c = b
        · rw [ec, up2_at, if_pos rfl]
        · rw [up2_ne _ _ _ ec, if_neg (by omega)]
          exact rk.S.2.2.2.1 c hc
      · show up2 (up2 hx 28 0 (keepX n)) 41 b (nI p) 42 q = if 72 + q = 66 + b then nI p else _
        rw [up2_other (by decide), if_neg (by omega)]
        exact rk.S.2.2.2.2 q hq
    · rw [e16, up2_other (by decide), keep7_o (by decide)]
      exact code_at h 0
  · refine c_refuses (w := 1) (by omega) (hP 0 _ _ _ (fun Q hQ => ?_))
    unfold wpX7_cut
    intro h1 e1
    subst e1
    refine t_isPerson hT hM1 (fun _ _ _ => bo_t rfl (t_isLoaf hT hM1 (fun _ _ _ => bo_t rfl (t_mayNow hT hM1 hp hb ?_)) (fun c => absurd rfl (c b hb)))) (fun c => absurd rfl (c p hp))
    rw [eRow]
    refine sw_f e (fun h17 e17 => hQ _ _ ?_ ?_ (fun _ => rfl))
    · rw [e17]
      exact r1.refuse (w := 1) (by omega)
    · rw [e17, up2_other (by decide)]
      exact code_at h 0
theorem s_thank {P : LPT} {a1 a2 : Int32} (r : Rel T hx km h) (hP : ∀ k v hx' km', LkI T (fun Q => wpX7_thank Q h a1 a2) k v hx' km' → P k v hx' km') : wpX0_thank P T hx km o a1 a2 := by
  have hT := r.T
  have h8 := hT.n8
  have r1 := r.c 0
  have r2 := r1.c 1
  have hM1 : TM T (up2 h 2 0 0) := r1.M
  have bad1 : (∀ p, p < T 0 0 → ¬ a1 = nI p) → P 1 o hx km := fun c => hP 1 _ _ _ (fun Q hQ => by
    unfold wpX7_thank wpBX7_thank_21
    intro h1 e1
    subst e1
    exact t_isPerson hT hM1 (fun p hp e => absurd e (c p hp)) (fun _ => bo_f rfl (t_fail (hQ _ _ r2 (code_at _ 1) (fun h => absurd h (by decide))))))
  have bad2 : ∀ q, q < T 0 0 → a1 = nI q → (∀ p, p < T 0 0 → ¬ a2 = nI p) → P 1 o hx km := fun q hq eq c => hP 1 _ _ _ (fun Q hQ => by
    unfold wpX7_thank wpBX7_thank_21
    intro h1 e1
    subst e1
    exact t_isPerson hT hM1 (fun _ _ _ => bo_t rfl (t_isPerson hT hM1 (fun p hp e => absurd e (c p hp)) (fun _ => bo_f rfl (t_fail (hQ _ _ r2 (code_at _ 1) (fun h => absurd h (by decide))))))) (fun c9 => absurd eq (c9 q hq)))
  unfold wpX0_thank wpX1_thank
  refine ⟨fun p hp ep => ⟨fun q hq eq => ?_, fun c => ⟨rfl, bad2 p hp ep c⟩⟩, fun c => ⟨rfl, bad1 c⟩⟩
  subst ep eq
  clear bad1 bad2
  have nav : ∀ Q : Int32 → Mem → Prop, ((nI p = nI q → wpX7_refuse (fun r17 h18 => Q r17 h18) (up2 h 2 0 0) (1 : Int32)) ∧ (¬ nI p = nI q → wpX7_keep (fun h12 => wpX7_meet (fun h14 => (vp_in (nI q) (mlen 28) ∧ (∀ h16 : Mem, h16 = up2 h14 28 (ix (nI q)) ((h14 28 (ix (nI q))) + (1 : Int32)) → Q (h16 28 (ix (nI q))) h16))) h12 (nI p) (nI q) (h12 30 0)) (up2 h 2 0 0))) → wpX7_thank Q h (nI p) (nI q) := fun Q hq9 => by
    unfold wpX7_thank
    intro h1 e1
    subst e1
    exact t_isPerson hT hM1 (fun _ _ _ => bo_t rfl (t_isPerson hT hM1 (fun _ _ _ => bo_t rfl hq9) (fun c => absurd rfl (c q hq)))) (fun c => absurd rfl (c p hp))
  refine ⟨fun e => ?_, fun e => ?_⟩
  · refine c_refuses (w := 1) (by omega) (hP 0 _ _ _ (fun Q hQ => nav Q (sw_t e (t_refuse (w := 1) (by omega) (hQ _ _ (r1.refuse (w := 1) (by omega)) ?_ (fun _ => rfl))))))
    rw [up2_other (by decide)]
    exact code_at h 0
  · obtain ⟨n, hn, x28, h32, rk⟩ := r1.keep
    refine ⟨n, hn, x28, fun h5 e5 km6 ek => c_meet hT hp hq (fun h8' e8' => ⟨pk_in q 8 (by omega), fun h10 e10 => hP 0 _ _ _ (fun Q hQ => nav Q (sw_f e (t_keep hn h32 (t_meet (by omega) (by omega) ⟨pk_in q 8 (by omega), fun h16 e16 => ?_⟩))))⟩)⟩
    have hR := rk.R
    have hS5 : SRel T (sub h5 40) (rowM (keep7 (up2 h 2 0 0) n)) := by rw [e5]; exact rk.S
    have eday : h5 43 0 = sub h5 40 3 0 := rfl
    have hm := meet_day hT hS5 hR hp hq
    have eR : rowM (meet7 (keep7 (up2 h 2 0 0) n) p q (keep7 (up2 h 2 0 0) n 30 0)) = meetR (rowM (keep7 (up2 h 2 0 0) n)) p q := rowM_meet (by omega) (by omega)
    have hRm := hR.meet (show p < 8 by omega) (show q < 8 by omega)
    have eth : h8' 42 q = meet7 (keep7 (up2 h 2 0 0) n) p q (keep7 (up2 h 2 0 0) n 30 0) 28 q := by
      rw [← rowM_th (meet7 (keep7 (up2 h 2 0 0) n) p q (keep7 (up2 h 2 0 0) n 30 0)) (show q < 8 by omega), eR, ← hm.2.2.2.2 q (by omega), e8']
      exact congrFun (sub_put _ _ 40 (show 2 < 5 by decide)) q
    rw [ixn (by omega)] at e10 e16 ⊢
    refine hQ _ _ ?_ ?_ (fun _ => ?_)
    · rw [ek]
      have hk5 : Rel T h5 (keepP n (sub hx 40) km.1, km.2) (keep7 (up2 h 2 0 0) n) := by rw [e5]; exact rk
      refine hk5.st (fun k hk => by rw [e10, up2_other (by omega), e8', put5_o (by omega)]) (fun k hk => by rw [e16, up2_other (by omega), meet7_o (by omega)]) ?_
      rw [e16, rowM_up28 _ _ (by omega), eR]
      refine PRel.cg hT ⟨hm, hRm⟩ (fun k hk => if_neg (by omega)) ?_ ?_ ?_ (fun c hc => ?_) (fun w hw => ?_)
      · show h10 40 = _
        rw [e10, up2_other (by decide), e8']
        exact sub_put _ _ 40 (show 0 < 5 by decide)
      · show h10 43 = _
        rw [e10, up2_other (by decide), e8']
        exact sub_put _ _ 40 (show 3 < 5 by decide)
      · show h10 44 = _
        rw [e10, up2_other (by decide), e8']
        exact sub_put _ _ 40 (show 4 < 5 by decide)
      · rw [if_neg (by omega), ← hm.2.2.2.1 c hc]
        show h10 41 c = _
        rw [e10, up2_other (by decide), e8']
        exact congrFun (sub_put _ _ 40 (show 1 < 5 by decide)) c
      · show h10 42 w = _
        by_cases ew : w = q
        · rw [ew, if_pos rfl, e10, up2_at, eth]
        · rw [if_neg (by omega), ← hm.2.2.2.2 w hw, e10, up2_ne _ _ _ ew, e8']
          exact congrFun (sub_put _ _ 40 (show 2 < 5 by decide)) w
    · rw [e16, up2_other (by decide), meet7_o (by decide), keep7_o (by decide)]
      exact code_at h 0
    · rw [e10, ixn (by omega), e16, up2_at, up2_at, eth]
/-- copying loops -/
def cpy (h : Mem) (d s n : Nat) : Mem := it (fun i h => up2 h d i (h s i)) n h
theorem cpy_o {h : Mem} {d s n k : Nat} (hk : k ≠ d) : cpy h d s n k = h k := it_pl (fun i h' _ => up2_other hk)
theorem cpy_v {h : Mem} {d s : Nat} (hds : s ≠ d) : ∀ {n j : Nat}, j < n → cpy h d s n d j = h s j := by
  intro n
  induction n with
  | zero => intro j hj; omega
  | succ n ih =>
    intro j hj
    show up2 (cpy h d s n) d n (cpy h d s n s n) d j = _
    by_cases ej : j = n
    · rw [ej, up2_at, cpy_o hds]
    · rw [up2_ne _ _ _ ej]
      exact ih (by omega)
theorem cpy_same {h : Mem} {d s n : Nat} (hds : s ≠ d) : cpy h d s n s = h s := cpy_o hds
theorem tS_none {R : Nat → Int32} (h0 : R 0 ≠ 0) : ∀ (d l car : Nat) (h : Mem), (∃ b, l ≤ b ∧ b < T 0 1 ∧ R (66 + b) = -1) → tS T R d l car h 46 = h 46 := by
  intro d
  induction d with
  | zero => intro l car h _; rfl
  | succ d ih =>
    intro l car h ⟨b, h1, h2, h3⟩
    unfold tS
    by_cases c1 : h 46 0 ≠ 0 ∧ ¬ nI car < h 44 0
    · rw [if_pos c1]
    rw [if_neg c1, if_neg (show ¬ l = T 0 1 by omega)]
    by_cases c2 : R (66 + l) = -1
    · rw [if_pos c2, if_neg h0, up2_other (by decide)]
    · rw [if_neg c2, ih (l + 1) car _ ⟨b, by
        by_cases e : l = b
        · subst e; exact absurd h3 c2
        · omega, h2, h3⟩, up2_other (by decide)]
theorem cS_nf {R : Nat → Int32} : ∀ (d l car : Nat) (h : Mem), car + 9 * (T 0 1 - l) ≤ 1000 → l ≤ T 0 1 → (∀ p b, p < T 0 0 → b < T 0 1 → dsN T p b ≤ 9) → cS T R d l car h 13 0 = -1 → h 13 0 = -1 ∧ cS T R d l car h 12 = h 12 := by
  intro d
  induction d with
  | zero => intro l car h _ _ _ e; exact ⟨e, rfl⟩
  | succ d ih =>
    intro l car h hc hl hds
    unfold cS
    split
    · exact fun e => ⟨e, rfl⟩
    split
    · split
      · intro e
        rw [cpM_o (by decide), up2_at] at e
        exact absurd e (nIm1 (by omega))
      · exact fun e => ⟨e, rfl⟩
    split
    · intro e
      have g := it_inv (fun h' : Mem => h' 13 0 = -1 → h 13 0 = -1 ∧ h' 12 = h 12) (n := T 0 0) (f := fun p h => if canB T R p l = true then cS T R d (l + 1) (car + dsN T p l) (up2 h 11 l (nI p)) else h) (a := up2 h 11 l (-1)) (fun e => ⟨by rw [up2_other (by decide)] at e; exact e, up2_other (by decide)⟩) (fun p h' hp ih2 => by
        show (if canB T R p l = true then cS T R d (l + 1) (car + dsN T p l) (up2 h' 11 l (nI p)) else h') 13 0 = -1 → _
        split
        · intro e
          have := hds p l hp (by omega)
          have g := ih (l + 1) (car + dsN T p l) (up2 h' 11 l (nI p)) (by omega) (by omega) hds e
          rw [up2_other (by decide), up2_other (by decide)] at g
          have g2 := ih2 g.1
          exact ⟨g2.1, g.2.trans g2.2⟩
        · exact ih2)
      exact g e
    · intro e
      have g := ih (l + 1) car (up2 h 11 l (-1)) (by omega) (by omega) hds e
      rw [up2_other (by decide), up2_other (by decide)] at g
      exact g
theorem s_noon {P : Int32 → Mem → Prop} (r : Rel T hx km h) (hP : ∀ v hx', LkN T (fun Q => wpX7_noon Q h) v hx' km → P v hx') : wpX1_noon P hx T := by
  have hT := r.T
  have h8 := hT.n8
  have h6 := hT.n6
  have r1 := r.c 0
  have hM1 : TM T (up2 h 2 0 0) := r1.M
  have hd := r.R.2.2
  obtain ⟨d, hr, d0, d1, _, _⟩ := hd
  have hcut := ctB_not (fun b => decide (rowM h (66 + b) ≠ -1)) (T 0 1)
  have euc : ctB (fun b => !decide (rowM h (66 + b) ≠ -1)) (T 0 1) = ctB (fun b => decide (rowM h (66 + b) = -1)) (T 0 1) := ctB_cong (fun b hb => by
    by_cases c : rowM h (66 + b) = -1
    · rw [decide_eq_true c, decide_eq_false (fun h => h c)]; rfl
    · rw [decide_eq_false c, show decide (rowM h (66 + b) ≠ -1) = true from decide_eq_true c]; rfl)
  have hul := ctB_le (fun b => decide (rowM h (66 + b) = -1)) (T 0 1)
  have e12 : nI (T 0 1) - nI (ctB (fun b => decide (rowM h (66 + b) ≠ -1)) (T 0 1)) = nI (ctB (fun b => decide (rowM h (66 + b) = -1)) (T 0 1)) := by
    rw [pk_sub (by omega)]
    congr 1
    omega
  generalize eu : ctB (fun b => decide (rowM h (66 + b) = -1)) (T 0 1) = u at hul e12 euc
  -- the twin, from its count on
  have tw : ∀ Q : Int32 → Mem → Prop, ((nI u ≤ 5 → ∃ n, wpLX7_noon_53 Q n (up2 h 2 0 0, (0 : Int32))) ∧ (¬ nI u ≤ 5 → Q (-2) (up2 h 2 0 0))) → wpX7_noon Q h := by
    intro Q hq
    unfold wpX7_noon
    intro h1 e1
    subst e1
    refine LW_nat (fun i => (nI (ctB (fun b => decide (rowM h (66 + b) = -1)) i), nI i)) (T 0 1) (fun _ => True) rfl trivial (fun K i hi _ k => ?_)
    unfold wpBX7_noon_9 wpBX7_noon_35
    try dsimp only
    rw [hM1.m]
    refine pk_le (T 0 1) i (fun q => ?_) (fun q => ?_)
    · have e : i = T 0 1 := by omega
      rw [e, eu]
      exact hq
    · have k : K (nI (ctB (fun b => decide (rowM h (66 + b) = -1)) i + (if decide (rowM h (66 + i) = -1) = true then 1 else 0)), nI (i + 1)) := k q trivial
      rw [ixn (by omega), ← rowM_cut (up2 h 2 0 0) (show i < 6 by omega), eRow, nI_1]
      refine ⟨pk_in i 6 (by omega), ?_⟩
      by_cases c : rowM h (66 + i) = -1
      · rw [if_pos c, nI_1]
        rw [if_pos (decide_eq_true c)] at k
        exact k
      · rw [if_neg c, addI0]
        rw [if_neg (by rw [decide_eq_false c]; decide)] at k
        exact k
  -- the twin's rest
  have tw2 : ∀ Q : Int32 → Mem → Prop, (∀ h7 : Mem, h7 = tS T (rowM h) 8 0 0 (up2 (cpy (up2 h 2 0 0) 47 43 6) 46 0 0) → ((h7 46 0 = 0 → Q (-1) (cpy h7 43 47 6)) ∧ (¬ h7 46 0 = 0 → Q (h7 44 0) (up2 h7 45 0 1)))) → ∃ n, wpLX7_noon_53 Q n (up2 h 2 0 0, (0 : Int32)) := by
    intro Q hq
    refine LW_nat (fun i => (cpy (up2 h 2 0 0) 47 43 i, nI i)) 6 (fun _ => True) rfl trivial (fun K i hi _ k => ?_)
    unfold wpBX7_noon_53
    try dsimp only
    refine pk_le 6 i (fun q => ?_) (fun q => ?_)
    · have e : i = 6 := by omega
      subst e
      intro h5 e5
      have o5 : ∀ k, k ≠ 46 → k ≠ 47 → h5 k = up2 h 2 0 0 k := fun k a b => by rw [e5, up2_other a, cpy_o b]
      have hM5 : TM T h5 := hM1.of (fun k h1 h2 _ => o5 k (by omega) (by omega))
      have hR5 : rowM h5 = rowM h := (rowM_of (fun k hk => o5 k (by omega) (by omega))).trans (eRow h 0)
      refine t_rowOn hT 8 0 0 h5 hM5 hR5 (Nat.zero_le _) (by omega) (by omega) ?_ 8 (Nat.le_refl _)
      have g := hq (tS T (rowM h) 8 0 0 h5) (by rw [e5])
      generalize tS T (rowM h) 8 0 0 h5 = h7 at g
      refine ⟨fun e => ?_, fun e h9 e9 => ?_⟩
      · refine LW_nat (fun i => (cpy h7 43 47 i, nI i)) 6 (fun _ => True) rfl trivial (fun K i hi _ k => ?_)
        unfold wpBX7_noon_97
        try dsimp only
        refine pk_le 6 i (fun q => ?_) (fun q => ?_)
        · have e9 : i = 6 := by omega
          subst e9
          exact g.1 e
        · rw [ixn (by omega)]
          refine ⟨pk_in i 6 q, pk_in i 6 q, fun h13 e13 => ?_⟩
          rw [nI_1, e13]
          exact k q trivial
      · have g := g.2 e
        rw [e9, up2_other (by decide)]
        exact g
    · rw [ixn (by omega)]
      refine ⟨pk_in i 6 q, pk_in i 6 q, fun h17 e17 => ?_⟩
      rw [nI_1, e17]
      exact k q trivial
  have o7 : ∀ k, k ≠ 2 → ¬ (42 ≤ k ∧ k ≤ 47) → tS T (rowM h) 8 0 0 (up2 (cpy (up2 h 2 0 0) 47 43 6) 46 0 0) k = h k := fun k a b => by
    rw [tS_o (by omega), up2_other (by omega), cpy_o (by omega), up2_other a]
  have o45 : tS T (rowM h) 8 0 0 (up2 (cpy (up2 h 2 0 0) 47 43 6) 46 0 0) 45 = h 45 := by
    rw [tS_o (by omega), up2_other (by omega), cpy_o (by omega), up2_other (by omega)]
  have o47 : ∀ b, b < 6 → tS T (rowM h) 8 0 0 (up2 (cpy (up2 h 2 0 0) 47 43 6) 46 0 0) 47 b = h 43 b := fun b hb => by
    rw [tS_o (by omega), up2_other (by omega), cpy_v (by decide) hb, up2_other (by omega)]
  have i46 : up2 (cpy (up2 h 2 0 0) 47 43 6) 46 0 0 46 0 = 0 := up2_at _ 46 0 0
  have hk := r.2.2.2.2.2
  -- nothing found
  have nf : ∀ {hx' : Mem}, (∀ k, k ≠ 11 → k ≠ 13 → hx' k = hx k) → Rel T hx' km (cpy (tS T (rowM h) 8 0 0 (up2 (cpy (up2 h 2 0 0) 47 43 6) 46 0 0)) 43 47 6) := by
    intro hx' ox
    have e43 : ∀ b, b < 6 → cpy (tS T (rowM h) 8 0 0 (up2 (cpy (up2 h 2 0 0) 47 43 6) 46 0 0)) 43 47 6 43 b = h 43 b := fun b hb => by
      rw [cpy_v (by decide) hb]
      exact o47 b hb
    have ot : ∀ k, k ≠ 2 → ¬ (42 ≤ k ∧ k ≤ 47) → cpy (tS T (rowM h) 8 0 0 (up2 (cpy (up2 h 2 0 0) 47 43 6) 46 0 0)) 43 47 6 k = h k := fun k a b => by
      rw [cpy_o (by omega)]
      exact o7 k a b
    have e45 : cpy (tS T (rowM h) 8 0 0 (up2 (cpy (up2 h 2 0 0) 47 43 6) 46 0 0)) 43 47 6 45 = h 45 := by
      rw [cpy_o (by decide)]
      exact o45
    generalize cpy (tS T (rowM h) 8 0 0 (up2 (cpy (up2 h 2 0 0) 47 43 6) 46 0 0)) 43 47 6 = h9 at e43 ot e45
    have q := (r.of (hx1 := hx') (h1 := fun k => if k = 43 then h 43 else h9 k) (fun k hk => ox k (by unfold rlX at hk; omega) (by unfold rlX at hk; omega)) (fun k hk => by
      by_cases e : k = 43
      · subst e; rfl
      · show (if k = 43 then _ else _) = _
        rw [if_neg e]
        by_cases e5 : k = 45
        · subst e5; exact e45
        · exact ot k (by unfold rl7 at hk; omega) (by unfold rl7 at hk; omega)))
    have eh : ∀ k, k ≠ 43 → (fun k => if k = 43 then h 43 else h9 k : Mem) k = h9 k := fun k hk => if_neg hk
    refine ⟨⟨q.T, q.G, q.M.of (fun k _ _ _ => (eh k (by omega)).symm)⟩, ?_, ?_, ?_, ?_, ?_⟩
    · have := q.2.1
      rw [show rowM (fun k => if k = 43 then h 43 else h9 k : Mem) = rowM h9 from rowM_of (fun k hk => eh k (by omega))] at this
      exact this
    · exact q.2.2.1
    · exact q.2.2.2.1
    · exact q.2.2.2.2.1
    · refine ⟨q.2.2.2.2.2.1, q.2.2.2.2.2.2.imp id (fun h => ⟨h.1, fun b hb => ?_⟩)⟩
      rw [h.2 b hb, e43 b (by omega)]
      rfl
  -- the search of both
  have search : (rowM h 0 = 0 ∨ ∀ b, 0 ≤ b → b < T 0 1 → rowM h (66 + b) ≠ -1) → u ≤ 5 → wpBX1_noon_34 P T hx := by
    intro hday hu5
    unfold wpBX1_noon_34
    intro h5 e5
    have hS5 : SRel T (sub h5 40) (rowM h) := r.S.of (fun k hk => by show h5 (40 + k) = hx (40 + k); rw [e5, up2_other (by omega)])
    have hds : ∀ p b, p < T 0 0 → b < T 0 1 → dsN T p b ≤ 9 := fun p b hp hb => by
      have := hT.p hp
      have := hT.l hb
      unfold dsN
      omega
    refine c_chooses hT 8 0 0 h5 hS5 (Nat.zero_le _) (by omega) (by omega) ?_ 8 (Nat.le_refl _)
    have hN := nS hT (R := rowM h) 8 0 0 h5 (up2 (cpy (up2 h 2 0 0) 47 43 6) 46 0 0) (Nat.zero_le _) (by omega) (fun p _ => rfl) hday ⟨Or.inl ⟨i46, by rw [e5, up2_at]⟩, fun b hb => absurd hb (Nat.not_lt_zero _)⟩
    have ox : ∀ k, k ≠ 11 → k ≠ 12 → k ≠ 13 → cS T (rowM h) 8 0 0 h5 k = hx k := fun k a b c => by rw [cS_o ⟨a, b, c⟩, e5, up2_other c]
    have hnf := cS_nf (T := T) (R := rowM h) 8 0 0 h5 (by omega) (Nat.zero_le _) hds
    rcases hN.1 with ⟨n1, n2⟩ | ⟨n1, n2, ⟨c, hc, n3⟩, n4⟩
    · refine ⟨fun _ => ?_, fun e => absurd n2 e⟩
      rw [n2]
      refine hP _ _ (fun Q hQ => tw Q ⟨fun _ => tw2 Q (fun h7 e7 => ⟨fun _ => ?_, fun e => absurd (e7 ▸ n1) e⟩), fun e => absurd (nI_le hu5 (by decide)) e⟩)
      rw [e7]
      refine hQ _ (nf (fun k a b => ?_))
      by_cases c : k = 12
      · subst c
        rw [(hnf n2).2, e5, up2_other (by decide)]
      · exact ox k a c b
    · refine ⟨fun e => absurd (n3.symm.trans e) (nIm1 (by omega)), fun _ h9 e9 => ?_⟩
      rw [e9, up2_other (by decide), n2]
      refine hP _ _ (fun Q hQ => tw Q ⟨fun _ => tw2 Q (fun h7 e7 => ⟨fun e => absurd (n1.symm.trans (e7 ▸ e)) (by decide), fun _ => ?_⟩), fun e => absurd (nI_le hu5 (by decide)) e⟩)
      rw [e7]
      refine hQ _ ?_
      have q := r.of (hx1 := fun k => if k = 14 ∨ k = 12 then hx k else up2 (cS T (rowM h) 8 0 0 h5) 14 0 1 k) (h1 := fun k => if k = 43 ∨ k = 45 then h k else up2 (tS T (rowM h) 8 0 0 (up2 (cpy (up2 h 2 0 0) 47 43 6) 46 0 0)) 45 0 1 k) (fun k hk => by
        by_cases e : k = 14 ∨ k = 12
        · exact if_pos e
        · show (if k = 14 ∨ k = 12 then _ else _) = _
          rw [if_neg e, up2_other (by omega)]
          exact ox k (by unfold rlX at hk; omega) (by omega) (by unfold rlX at hk; omega)) (fun k hk => by
        by_cases e : k = 43 ∨ k = 45
        · exact if_pos e
        · show (if k = 43 ∨ k = 45 then _ else _) = _
          rw [if_neg e, up2_other (by omega)]
          exact o7 k (by unfold rl7 at hk; omega) (by unfold rl7 at hk; omega))
      have eh : ∀ k, k ≠ 43 → k ≠ 45 → up2 (tS T (rowM h) 8 0 0 (up2 (cpy (up2 h 2 0 0) 47 43 6) 46 0 0)) 45 0 1 k = (fun k => if k = 43 ∨ k = 45 then h k else up2 (tS T (rowM h) 8 0 0 (up2 (cpy (up2 h 2 0 0) 47 43 6) 46 0 0)) 45 0 1 k : Mem) k := fun k a b => (if_neg (by omega)).symm
      refine ⟨⟨q.T, q.G, q.M.of (fun k _ _ _ => eh k (by omega) (by omega))⟩, ?_, q.2.2.1, q.2.2.2.1, q.2.2.2.2.1, ?_, Or.inr ⟨up2_at _ 14 0 1, fun b hb => ?_⟩⟩
      · have := q.2.1
        rw [← rowM_of (fun k hk => eh k (by omega) (by omega))] at this
        exact this
      · show up2 _ 14 0 1 14 0 = up2 _ 45 0 1 45 0
        rw [up2_at, up2_at]
      · show up2 _ 14 0 1 12 b = up2 _ 45 0 1 43 b
        rw [up2_other (by decide), up2_other (by decide)]
        exact n4 b hb
  unfold wpX1_noon wpX1_loaves
  refine c_cutMany hT r.S ?_
  rw [e12]
  refine pk_le u 5 (fun c => pk_le u 0 (fun c0 => ?_) (fun c0 => ?_)) (fun c => hP _ _ (fun Q hQ => tw Q ⟨fun e => absurd e (nI_ge c (by omega)), fun _ => hQ _ r1⟩))
  · refine search (Or.inr (fun b _ hb e => ?_)) c
    have h1 : ctB (fun b => decide (rowM h (66 + b) ≠ -1)) (T 0 1) = T 0 1 := by omega
    have := ctB_all.mp h1 b hb
    exact absurd e (of_decide_eq_true this)
  · rw [show hx 43 0 = rowM h 0 from r.S.1, d0]
    refine pk_le d 0 (fun c1 => search (Or.inl (by rw [d0, show d = 0 by omega]; rfl)) c) (fun c1 => hP _ _ (fun Q hQ => tw Q ⟨fun _ => tw2 Q (fun h7 e7 => ?_), fun e => absurd (nI_le c (by decide)) e⟩))
    have e46 : h7 46 0 = 0 := by
      rw [e7, tS_none (by rw [d0]; exact nI_ne0 (by omega) (by omega)) 8 0 0 _ ?_]
      · exact i46
      · refine Classical.byContradiction (fun h9 => ?_)
        have h1 : ctB (fun b => decide (rowM h (66 + b) ≠ -1)) (T 0 1) = T 0 1 := ctB_all.mpr (fun b hb => decide_eq_true (fun e => h9 ⟨b, Nat.zero_le _, hb, e⟩))
        omega
    refine ⟨fun _ => ?_, fun e => absurd e46 e⟩
    rw [e7]
    exact hQ _ (nf (fun k _ _ => rfl))
end S3
