/-! 67.fe: feed: both sides, related -/
/-- Rel, when rows are the same though their cells were written -/
theorem Rel.of2 {T : TT} {hx h hx1 h1 : Mem} {km : KM} (r : Rel T hx km h) (ex : ∀ k, rlX k → hx1 k = hx k) (e7 : ∀ k, rl7 k → k ≠ 13 → k ≠ 27 → k ≠ 28 → k ≠ 30 → k ≠ 31 → h1 k = h k) (eR : rowM h1 = rowM h) : Rel T hx1 km h1 := by
  have r' := r.of (hx1 := hx1) (h1 := fun k => if k = 13 ∨ k = 27 ∨ k = 28 ∨ k = 30 ∨ k = 31 then h k else h1 k) ex (fun k hk => by
    by_cases c : k = 13 ∨ k = 27 ∨ k = 28 ∨ k = 30 ∨ k = 31
    · exact if_pos c
    · show (if k = 13 ∨ k = 27 ∨ k = 28 ∨ k = 30 ∨ k = 31 then _ else _) = _
      rw [if_neg c]
      exact e7 k hk (by omega) (by omega) (by omega) (by omega) (by omega))
  have e0 : rowM (fun k => if k = 13 ∨ k = 27 ∨ k = 28 ∨ k = 30 ∨ k = 31 then h k else h1 k : Mem) = rowM h := rowM_of (fun k hk => if_pos (by omega))
  have m := r'.2.1
  rw [e0, ← eR] at m
  exact ⟨⟨r'.T, r'.G, r'.M.of (fun k h1 h2 h3 => (if_neg (by omega)).symm)⟩, m, r'.2.2⟩
/-- Rel, when the tapes alone were written -/
theorem Rel.tape {T : TT} {hx h hx1 h1 : Mem} {km : KM} (r : Rel T hx km h) (ex : ∀ k, rlX k → k ≠ 6 → k ≠ 7 → hx1 k = hx k) (e7 : ∀ k, rl7 k → k ≠ 16 → k ≠ 17 → h1 k = h k) (tp : ∃ t : Nat, t ≤ 600 ∧ hx1 7 0 = nI t ∧ h1 17 0 = nI t ∧ ∀ j, j < t → hx1 6 j &&& 255 = h1 16 j) : Rel T hx1 km h1 := by
  have eR : rowM h1 = rowM h := rowM_of (fun k hk => e7 k (by unfold rl7; omega) (by omega) (by omega))
  have eS : ∀ k, k < 5 → sub hx1 40 k = sub hx 40 k := fun k hk => ex (40 + k) (by unfold rlX; omega) (by omega) (by omega)
  unfold Rel
  rw [eR, e7 29 (by unfold rl7; omega) (by decide) (by decide), e7 32 (by unfold rl7; omega) (by decide) (by decide), e7 33 (by unfold rl7; omega) (by decide) (by decide), e7 34 (by unfold rl7; omega) (by decide) (by decide), e7 51 (by unfold rl7; omega) (by decide) (by decide), e7 52 (by unfold rl7; omega) (by decide) (by decide), e7 53 (by unfold rl7; omega) (by decide) (by decide), e7 54 (by unfold rl7; omega) (by decide) (by decide), e7 55 (by unfold rl7; omega) (by decide) (by decide), e7 15 (by unfold rl7; omega) (by decide) (by decide), e7 57 (by unfold rl7; omega) (by decide) (by decide), e7 61 (by unfold rl7; omega) (by decide) (by decide), e7 62 (by unfold rl7; omega) (by decide) (by decide), e7 58 (by unfold rl7; omega) (by decide) (by decide), e7 59 (by unfold rl7; omega) (by decide) (by decide), e7 60 (by unfold rl7; omega) (by decide) (by decide), e7 63 (by unfold rl7; omega) (by decide) (by decide), e7 64 (by unfold rl7; omega) (by decide) (by decide), e7 65 (by unfold rl7; omega) (by decide) (by decide), e7 66 (by unfold rl7; omega) (by decide) (by decide), e7 67 (by unfold rl7; omega) (by decide) (by decide), e7 68 (by unfold rl7; omega) (by decide) (by decide), e7 26 (by unfold rl7; omega) (by decide) (by decide), e7 45 (by unfold rl7; omega) (by decide) (by decide), e7 43 (by unfold rl7; omega) (by decide) (by decide), ex 5 (by unfold rlX; omega) (by decide) (by decide), ex 8 (by unfold rlX; omega) (by decide) (by decide), ex 14 (by unfold rlX; omega) (by decide) (by decide), ex 12 (by unfold rlX; omega) (by decide) (by decide)]
  refine ⟨⟨r.1.1, r.1.2.1, r.1.2.2.of (fun k h1 h2 _ => e7 k (by unfold rl7; omega) (by omega) (by omega))⟩, ?_, r.2.2.1, tp, r.2.2.2.2⟩
  unfold BRel
  rw [ex 28 (by unfold rlX; omega) (by decide) (by decide), ex 29 (by unfold rlX; omega) (by decide) (by decide), ex 30 (by unfold rlX; omega) (by decide) (by decide), ex 22 (by unfold rlX; omega) (by decide) (by decide), ex 23 (by unfold rlX; omega) (by decide) (by decide), ex 24 (by unfold rlX; omega) (by decide) (by decide), ex 25 (by unfold rlX; omega) (by decide) (by decide), ex 26 (by unfold rlX; omega) (by decide) (by decide), ex 27 (by unfold rlX; omega) (by decide) (by decide)]
  exact ⟨⟨r.2.1.1.1.of eS, r.2.1.1.2⟩, r.2.1.2⟩
section S4a
variable {T : TT} {hx h : Mem} {km : KM}
-- ===== feed
def shI (j : Nat) : Int32 := if j = 0 then 24 else if j = 1 then 16 else if j = 2 then 8 else if j = 3 then 0 else -8
def byI (v : Int32) (j : Nat) : Int32 := vp_nar .byte ((v >>> (shI j &&& 31)).toInt8.toInt32)
/-- a byte more on the component's tape -/
def la1 (v : Int32) (t j : Nat) (h : Mem) : Mem := up2 (up2 h 6 (t + j) (byI v j)) 7 0 (nI (t + j + 1))
def laM (v : Int32) (t : Nat) (h : Mem) : Mem := it (la1 v t) 4 h
theorem laM_o {v : Int32} {t : Nat} {h : Mem} {k : Nat} (h6 : k ≠ 6) (h7 : k ≠ 7) : laM v t h k = h k := it_pl (fun j h' _ => by unfold la1; rw [up2_other h7, up2_other h6])
theorem laM_7 (v : Int32) (t : Nat) (h : Mem) : laM v t h 7 0 = nI (t + 4) := by
  show la1 v t 3 (it (la1 v t) 3 h) 7 0 = _
  unfold la1
  rw [up2_at]
theorem laM_6 {v : Int32} {t : Nat} {h : Mem} {i : Nat} : laM v t h 6 i = if t ≤ i ∧ i < t + 4 then byI v (i - t) else h 6 i := by
  have g : ∀ n, it (la1 v t) n h 6 i = if t ≤ i ∧ i < t + n then byI v (i - t) else h 6 i := by
    intro n
    induction n with
    | zero => rw [if_neg (by omega)]; rfl
    | succ n ih =>
      show la1 v t n (it (la1 v t) n h) 6 i = _
      unfold la1
      rw [up2_other (show (6 : Nat) ≠ 7 by decide)]
      by_cases e : i = t + n
      · rw [e, up2_at, if_pos (by omega), show t + n - t = n by omega]
      · rw [up2_ne _ _ _ e]
        refine ih.trans ?_
        by_cases c : t ≤ i ∧ i < t + n
        · rw [if_pos c, if_pos (by omega)]
        · rw [if_neg c, if_neg (by omega)]
  exact g 4
theorem c_lay {h : Mem} {post : Mem → Prop} {v : Int32} {t : Nat} (ht : t + 4 ≤ 600) (e : h 7 0 = nI t) (hp : post (laM v t h)) : wpX1_lay post h T v := by
  unfold wpX1_lay
  have e7 : ∀ i, it (la1 v t) i h 7 0 = nI (t + i) := fun i => by
    cases i with
    | zero => exact e
    | succ i =>
      show la1 v t i (it (la1 v t) i h) 7 0 = _
      unfold la1
      rw [up2_at]
      rfl
  refine LW_nat (fun i => (it (la1 v t) i h, shI i)) 4 (fun _ => True) rfl trivial (fun K i hi _ k => ?_)
  unfold wpBX1_lay_3
  try dsimp only
  rw [e7 i, ixn (by omega)]
  have k : i < 4 → K (la1 v t i (it (la1 v t) i h), shI (i + 1)) := fun q => k q trivial
  unfold la1 at k
  by_cases ei : i = 4
  · subst ei
    exact ⟨fun _ => hp, fun h9 => absurd (by decide) h9⟩
  · have q : i < 4 := by omega
    have hs : ∀ i, i < 4 → ¬ shI i < 0 ∧ shI i + (-8 : Int32) = shI (i + 1) := by decide +kernel
    refine ⟨fun h9 => absurd h9 (hs i q).1, fun _ => ⟨pk_in (t + i) 600 (by omega), fun h3 e3 h4 e4 => ?_⟩⟩
    rw [(hs i q).2, e4, e3, up2_other (show (7 : Nat) ≠ 6 by decide)]
    have e9 : it (la1 v t) i h 7 0 + 1 = nI (t + i + 1) := by rw [e7 i, nI_1]
    rw [e9]
    exact k q
/-- the word that gives the k-th byte -/
def wdI (a b c d e : Int32) (k : Nat) : Int32 := if k < 4 then a else if k < 8 then b else if k < 12 then c else if k < 16 then d else e
def vaI (a b c d e : Int32) (k : Nat) : Int32 := (wdI a b c d e k >>> (shI (k % 4) &&& 31)) &&& 255
def fe1 (a b c d e : Int32) (t k : Nat) (h : Mem) : Mem := up2 (up2 h 16 (t + k) (vaI a b c d e k)) 17 0 (nI (t + k + 1))
def feM (a b c d e : Int32) (t : Nat) (h : Mem) : Mem := it (fe1 a b c d e t) 20 h
theorem feM_o {a b c d e : Int32} {t : Nat} {h : Mem} {k : Nat} (h6 : k ≠ 16) (h7 : k ≠ 17) : feM a b c d e t h k = h k := it_pl (fun j h' _ => by unfold fe1; rw [up2_other h7, up2_other h6])
theorem feM_16 {a b c d e : Int32} {t : Nat} {h : Mem} {i : Nat} : feM a b c d e t h 16 i = if t ≤ i ∧ i < t + 20 then vaI a b c d e (i - t) else h 16 i := by
  have g : ∀ n, it (fe1 a b c d e t) n h 16 i = if t ≤ i ∧ i < t + n then vaI a b c d e (i - t) else h 16 i := by
    intro n
    induction n with
    | zero => rw [if_neg (by omega)]; rfl
    | succ n ih =>
      show fe1 a b c d e t n (it (fe1 a b c d e t) n h) 16 i = _
      unfold fe1
      rw [up2_other (show (16 : Nat) ≠ 17 by decide)]
      by_cases e : i = t + n
      · rw [e, up2_at, if_pos (by omega), show t + n - t = n by omega]
      · rw [up2_ne _ _ _ e]
        refine ih.trans ?_
        by_cases c : t ≤ i ∧ i < t + n
        · rw [if_pos c, if_pos (by omega)]
        · rw [if_neg c, if_neg (by omega)]
  exact g 20
theorem fe_17 {a b c d e : Int32} {t : Nat} {h : Mem} (i : Nat) : it (fe1 a b c d e t) (i + 1) h 17 0 = nI (t + i + 1) := by
  show fe1 a b c d e t i (it (fe1 a b c d e t) i h) 17 0 = _
  unfold fe1
  rw [up2_at]
theorem feM_17 {a b c d e : Int32} {t : Nat} {h : Mem} : feM a b c d e t h 17 0 = nI (t + 20) := by
  have g := fe_17 (a := a) (b := b) (c := c) (d := d) (e := e) (t := t) (h := h) 19
  rw [show t + 19 + 1 = t + 20 by omega] at g
  exact g
theorem by_and (x : Int32) : vp_nar .byte (x.toInt8.toInt32) &&& 255 = x &&& 255 := by
  show x.toInt8.toInt32.toInt8.toInt32 &&& 255 = x &&& 255
  have b1 : ∀ y : Int32, y.toInt8.toInt32 &&& 255 = y &&& 255 := fun y => by
    apply Int32.toBitVec_inj.mp
    apply BitVec.eq_of_getLsbD_eq
    intro i hi
    rw [Int32.toBitVec_and, Int32.toBitVec_and, BitVec.getLsbD_and, BitVec.getLsbD_and]
    have h255 : (255 : Int32).toBitVec.getLsbD i = decide (i < 8) := by
      revert i
      decide +kernel
    rw [h255]
    by_cases c : i < 8
    · rw [decide_eq_true c, Bool.and_true, Bool.and_true]
      show (BitVec.signExtend 32 (BitVec.signExtend 8 y.toBitVec)).getLsbD i = _
      rw [BitVec.getLsbD_signExtend, BitVec.getLsbD_signExtend]
      simp [c, hi]
    · rw [decide_eq_false c, Bool.and_false, Bool.and_false]
  rw [b1, b1]
theorem s_feed {P : Int32 → Mem → Prop} {a b c d e : Int32} (r : Rel T hx km h) (hP : ∀ v hx', LkN T (fun Q => wpX7_feed Q h a b c d e) v hx' km → P v hx') : wpX1_feed P hx T a b c d e := by
  have r1 := r.c 0
  obtain ⟨t, ht, t1, t2, t3⟩ := r.2.2.2.1
  have t2' : up2 h 2 0 0 17 0 = nI t := t2
  unfold wpX1_feed
  rw [t1, show (20 : Int32) = nI 20 from rfl, show (600 : Int32) = nI 600 from rfl, nI_add]
  have tw : ∀ Q : Int32 → Mem → Prop, ((t + 20 ≤ 600 → Q (nI (t + 20)) (feM a b c d e t (up2 h 2 0 0))) ∧ (600 < t + 20 → Q (-1) (up2 h 2 0 0))) → wpX7_feed Q h a b c d e := by
    intro Q hQ
    unfold wpX7_feed
    intro h1 e1
    subst e1
    rw [t2', show (20 : Int32) = nI 20 from rfl, show (600 : Int32) = nI 600 from rfl, nI_add]
    refine pk_le (t + 20) 600 (fun q => ?_) (fun q => hQ.2 q)
    have e17 : ∀ i, it (fe1 a b c d e t) i (up2 h 2 0 0) 17 0 = nI (t + i) := fun i => by
      cases i with
      | zero => exact t2'
      | succ i => exact fe_17 i
    refine LW_nat (fun i => (it (fe1 a b c d e t) i (up2 h 2 0 0), nI i)) 20 (fun _ => True) rfl trivial (fun K i hi _ k => ?_)
    unfold wpBX7_feed_23
    try dsimp only
    rw [e17 i]
    refine pk_le 20 i (fun q2 => ?_) (fun q2 => ?_)
    · have e : i = 20 := by omega
      subst e
      exact hQ.1 q
    · have k : K (fe1 a b c d e t i (it (fe1 a b c d e t) i (up2 h 2 0 0)), nI (i + 1)) := k q2 trivial
      unfold fe1 at k
      unfold wpBX7_feed_76
      rw [e17 i, ixn (by omega)]
      refine ⟨pk_in (t + i) 600 (by omega), fun h6 e6 h7 e7 => ?_⟩
      have sh : ∀ i, i < 20 → (24 : Int32) - ((8 : Int32) * (nI i - nI i / (4 : Int32) * (4 : Int32))) = shI (i % 4) := by decide +kernel
      have wd : (if (4 : Int32) ≤ nI i then (if (8 : Int32) ≤ nI i then (if (12 : Int32) ≤ nI i then (if (16 : Int32) ≤ nI i then e else d) else c) else b) else a) = wdI a b c d e i := by
        unfold wdI
        rw [show (4 : Int32) = nI 4 from rfl, show (8 : Int32) = nI 8 from rfl, show (12 : Int32) = nI 12 from rfl, show (16 : Int32) = nI 16 from rfl]
        have L : ∀ n, n ≤ 16 → (nI n ≤ nI i ↔ n ≤ i) := fun n hn => nI_leI (by omega) (by omega)
        by_cases c1 : i < 4
        · rw [if_pos c1, if_neg (fun h => by rw [L 4 (by omega)] at h; omega)]
        rw [if_neg c1, if_pos ((L 4 (by omega)).mpr (by omega))]
        by_cases c2 : i < 8
        · rw [if_pos c2, if_neg (fun h => by rw [L 8 (by omega)] at h; omega)]
        rw [if_neg c2, if_pos ((L 8 (by omega)).mpr (by omega))]
        by_cases c3 : i < 12
        · rw [if_pos c3, if_neg (fun h => by rw [L 12 (by omega)] at h; omega)]
        rw [if_neg c3, if_pos ((L 12 (by omega)).mpr (by omega))]
        by_cases c4 : i < 16
        · rw [if_pos c4, if_neg (fun h => by rw [L 16 (by omega)] at h; omega)]
        rw [if_neg c4, if_pos ((L 16 (by omega)).mpr (by omega))]
      rw [sh i q2, wd] at e6
      rw [nI_1, e7, e6, up2_other (show (17 : Nat) ≠ 16 by decide)]
      have e9 : it (fe1 a b c d e t) i (up2 h 2 0 0) 17 0 + 1 = nI (t + i + 1) := by rw [e17 i, nI_1]
      rw [e9]
      exact k
  refine pk_le (t + 20) 600 (fun q => ?_) (fun q => hP _ _ (fun Q hQ => tw Q ⟨fun h => by omega, fun _ => hQ _ r1⟩))
  refine c_lay (t := t) (by omega) t1 (c_lay (t := t + 4) (by omega) (laM_7 _ _ _) (c_lay (t := t + 8) (by omega) (laM_7 _ _ _) (c_lay (t := t + 12) (by omega) (laM_7 _ _ _) (c_lay (t := t + 16) (by omega) (laM_7 _ _ _) ?_))))
  rw [laM_7, show t + 16 + 4 = t + 20 by omega]
  refine hP _ _ (fun Q hQ => tw Q ⟨fun _ => hQ _ ?_, fun h => by omega⟩)
  -- the tape
  have eX : ∀ j, j < t + 20 → laM e (t + 16) (laM d (t + 12) (laM c (t + 8) (laM b (t + 4) (laM a t hx)))) 6 j &&& 255 = feM a b c d e t (up2 h 2 0 0) 16 j := by
    intro j hj
    rw [feM_16, laM_6, laM_6, laM_6, laM_6, laM_6]
    by_cases c0 : j < t
    · rw [if_neg (by omega), if_neg (by omega), if_neg (by omega), if_neg (by omega), if_neg (by omega), if_neg (by omega)]
      exact t3 j c0
    · rw [if_pos (show t ≤ j ∧ j < t + 20 by omega)]
      obtain ⟨w, rfl⟩ : ∃ w, j = t + w := ⟨j - t, by omega⟩
      rw [show t + w - t = w by omega]
      unfold vaI wdI byI
      by_cases c1 : w < 4
      · rw [if_neg (by omega), if_neg (by omega), if_neg (by omega), if_neg (by omega), if_pos (by omega), if_pos c1, by_and, Nat.mod_eq_of_lt c1]
      · rw [if_neg c1]
        by_cases c2 : w < 8
        · rw [if_neg (by omega), if_neg (by omega), if_neg (by omega), if_pos (by omega), if_pos c2, by_and, show t + w - (t + 4) = w % 4 by omega]
        · rw [if_neg c2]
          by_cases c3 : w < 12
          · rw [if_neg (by omega), if_neg (by omega), if_pos (by omega), if_pos c3, by_and, show t + w - (t + 8) = w % 4 by omega]
          · rw [if_neg c3]
            by_cases c4 : w < 16
            · rw [if_neg (by omega), if_pos (by omega), if_pos c4, by_and, show t + w - (t + 12) = w % 4 by omega]
            · rw [if_neg c4, if_pos (by omega), by_and, show t + w - (t + 16) = w % 4 by omega]
  have ox : ∀ k, k ≠ 6 → k ≠ 7 → laM e (t + 16) (laM d (t + 12) (laM c (t + 8) (laM b (t + 4) (laM a t hx)))) k = hx k := fun k a b => by rw [laM_o a b, laM_o a b, laM_o a b, laM_o a b, laM_o a b]
  have o7 : ∀ k, k ≠ 16 → k ≠ 17 → feM a b c d e t (up2 h 2 0 0) k = up2 h 2 0 0 k := fun k a b => feM_o a b
  have e7 : laM e (t + 16) (laM d (t + 12) (laM c (t + 8) (laM b (t + 4) (laM a t hx)))) 7 0 = nI (t + 20) := by rw [laM_7, show t + 16 + 4 = t + 20 by omega]
  have e17 : feM a b c d e t (up2 h 2 0 0) 17 0 = nI (t + 20) := feM_17
  exact r1.tape (fun k _ a b => ox k a b) (fun k _ a b => o7 k a b) ⟨t + 20, q, e7, e17, eX⟩
end S4a
