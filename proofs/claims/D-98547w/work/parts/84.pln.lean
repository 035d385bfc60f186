/-! 84.pln: lines of a town: people, meetings; the twin's reading -/
def nuP (tp : Nat → Nat) (n lo hi s : Nat) : ER (Nat × Nat) := eR (nnS tp n lo hi s) (fun v => .ok (v, nxt tp n s))
def putP (T : TT) (k hs hg : Nat) : TT := fun a b => if a = 0 ∧ b = 0 then T 0 0 + 1 else if a = 1 ∧ b = T 0 0 then k else if a = 2 ∧ b = T 0 0 then hs else if a = 3 ∧ b = T 0 0 then hg else T a b
abbrev LN : Type := ER (Nat × TT)
def pPers (tp : Nat → Nat) (n k s : Nat) (T : TT) : LN := if T 0 0 = 8 then .error (2, s) else if k = 3 ∧ (T 0 0 = 0 ∨ T 1 (T 0 0 - 1) = 3) then .error (6, s) else
  eR (nuP tp n 0 9 (nxt tp n s)) (fun x => eR (nuP tp n 0 9 x.2) (fun y => .ok (y.2, putP T k x.1 y.1)))
section PL
variable {tp : Nat → Nat} {n : Nat}
/-- the half of each table of the twin's -/
def haf (k : Nat) : Nat := if k = 3 then 6 else if k ≤ 6 then 8 else if k ≤ 11 then 6 else if k = 12 then 36 else if k = 13 then 64 else 600
/-- what reading lines changes -/
def TL (h h' : Mem) : Prop := (∀ k, k ≠ 18 → ¬ (20 ≤ k ∧ k ≤ 25) → ¬ (3 ≤ k ∧ k ≤ 14) → h' k = h k) ∧ ∀ k i, 3 ≤ k → k ≤ 14 → i < haf k → h' k i = h k i
theorem TL.rf (h : Mem) : TL h h := ⟨fun _ _ _ _ => rfl, fun _ _ _ _ _ => rfl⟩
theorem TL.tr {h h1 h2 : Mem} (a : TL h h1) (b : TL h1 h2) : TL h h2 := ⟨fun k c d e => (b.1 k c d e).trans (a.1 k c d e), fun k i c d e => (b.2 k i c d e).trans (a.2 k i c d e)⟩
theorem TG.l {h h' : Mem} (a : TG h h') : TL h h' := ⟨fun k c d _ => a k c d, fun k i c d _ => by rw [a k (by omega) (by omega)]⟩
theorem TE.l {h h' : Mem} (a : TE h h') : TL h h' := by
  refine ⟨fun k c d e => a.1 k c d (by omega) (by omega), fun k i c d e => ?_⟩
  unfold haf at e
  by_cases c3 : k = 3
  · subst c3
    rw [if_pos rfl] at e
    exact a.2.1 i (by omega)
  by_cases c14 : k = 14
  · subst c14
    rw [if_neg (by omega), if_neg (by omega), if_neg (by omega), if_neg (by omega), if_neg (by omega)] at e
    exact a.2.2 i e
  · rw [a.1 k (by omega) (by omega) c3 c14]
theorem TL.up {h : Mem} {k i : Nat} {v : Int32} (hk : 3 ≤ k ∧ k ≤ 14) (hi : haf k ≤ i) : TL h (up2 h k i v) := by
  refine ⟨fun j _ _ e => up2_other (by omega), fun j w _ _ e => ?_⟩
  by_cases c : j = k
  · subst c
    exact up2_ne _ _ _ (by omega)
  · rw [up2_other c]
/-- the town being told -/
def THp (T : TT) (h : Mem) : Prop := TH T h ∧ h 3 8 = nI (T 0 2)
theorem THp.of {T : TT} {h h' : Mem} (t : THp T h) (e : ∀ k, 3 ≤ k → k ≤ 14 → h' k = h k) : THp T h' := by
  unfold THp TH at *
  rw [e 3 (by decide) (by decide), e 4 (by decide) (by decide), e 5 (by decide) (by decide), e 6 (by decide) (by decide), e 7 (by decide) (by decide), e 8 (by decide) (by decide), e 9 (by decide) (by decide), e 10 (by decide) (by decide), e 11 (by decide) (by decide), e 12 (by decide) (by decide), e 13 (by decide) (by decide), e 14 (by decide) (by decide)]
  exact t
def LO (tp : Nat → Nat) (n : Nat) (r : LN) (h : Mem) : Prop := match r with
  | .ok x => PT tp n x.1 h ∧ THp x.2 h
  | .error e => PO tp n (.error e) h
theorem nuP_S (lo hi s : Nat) : nuS tp n lo hi s = eR (nuP tp n lo hi s) (fun x => .ok x.2) := by
  unfold nuS nuP
  cases nnS tp n lo hi s with
  | ok v => rfl
  | error e => rfl
/-- a number read, from a place that is good -/
theorem t_numP {s : Nat} {h : Mem} (p : PT tp n s h) {lo hi : Nat} (hl : lo ≤ 9999) (hh : hi ≤ 9999) {post : Int32 → Mem → Prop}
    (he : ∀ e h', nuP tp n lo hi s = .error e → PO tp n (.error e) h' → TG h h' → post 0 h') (hp : ∀ v s' h', nuP tp n lo hi s = .ok (v, s') → lo ≤ v → v ≤ hi → PT tp n s' h' → TG h h' → post (nI v) h') : wpX7_readNumber post h (nI lo) (nI hi) := by
  have po : PO tp n (.ok s) h := p
  refine t_readNumber po hl hh (fun h' p' f' => ?_)
  have p' : PO tp n (nuS tp n lo hi s) h' := p'
  show post (nI (vR (nnS tp n lo hi s) (fun v => v) 0)) h'
  unfold nuS at p'
  unfold nuP at he hp
  cases e : nnS tp n lo hi s with
  | error q => rw [e] at p' he; exact he q h' rfl p' f'
  | ok v =>
    rw [e] at p' hp
    have g := nnS_le e
    exact hp v _ h' rfl g.1 g.2 p' f'
/-- a number read where all is bad already -/
theorem t_numE {e : Nat × Nat} {h : Mem} (p : PO tp n (.error e) h) {lo hi : Nat} (hl : lo ≤ 9999) (hh : hi ≤ 9999) {post : Int32 → Mem → Prop} (hp : ∀ h', PO tp n (.error e) h' → TG h h' → post 0 h') : wpX7_readNumber post h (nI lo) (nI hi) :=
  t_readNumber (r := .error e) p hl hh (fun h' p' f' => hp h' p' f')
theorem putP_TH {T : TT} {h h' : Mem} {k hs hg : Nat} (t : THp T h) (hT : TOK T) (h36 : h' 3 6 = nI (T 0 0 + 1)) (h3 : ∀ i, i ≠ 6 → h' 3 i = h 3 i) (o : ∀ j, 7 ≤ j → j ≤ 14 → h' j = h j)
    (o4 : ∀ i, i ≠ 8 + T 0 0 → h' 4 i = h 4 i) (o5 : ∀ i, i ≠ 8 + T 0 0 → h' 5 i = h 5 i) (o6 : ∀ i, i ≠ 8 + T 0 0 → h' 6 i = h 6 i) (v4 : h' 4 (8 + T 0 0) = nI k) (v5 : h' 5 (8 + T 0 0) = nI hs) (v6 : h' 6 (8 + T 0 0) = nI hg) : THp (putP T k hs hg) h' := by
  have q0 : putP T k hs hg 0 0 = T 0 0 + 1 := if_pos ⟨rfl, rfl⟩
  have q1 : ∀ b, b ≠ 0 → putP T k hs hg 0 b = T 0 b := fun b hb => by
    unfold putP
    rw [if_neg (by omega), if_neg (by omega), if_neg (by omega), if_neg (by omega)]
  have q4 : ∀ a b, 4 ≤ a → putP T k hs hg a b = T a b := fun a b hb => by
    unfold putP
    rw [if_neg (by omega), if_neg (by omega), if_neg (by omega), if_neg (by omega)]
  have r1 : ∀ b, putP T k hs hg 1 b = if b = T 0 0 then k else T 1 b := fun b => by
    unfold putP
    by_cases c : b = T 0 0
    · rw [if_neg (by omega), if_pos ⟨rfl, c⟩, if_pos c]
    · rw [if_neg (by omega), if_neg (by omega), if_neg (by omega), if_neg (by omega), if_neg c]
  have r2 : ∀ b, putP T k hs hg 2 b = if b = T 0 0 then hs else T 2 b := fun b => by
    unfold putP
    by_cases c : b = T 0 0
    · rw [if_neg (by omega), if_neg (by omega), if_pos ⟨rfl, c⟩, if_pos c]
    · rw [if_neg (by omega), if_neg (by omega), if_neg (by omega), if_neg (by omega), if_neg c]
  have r3 : ∀ b, putP T k hs hg 3 b = if b = T 0 0 then hg else T 3 b := fun b => by
    unfold putP
    by_cases c : b = T 0 0
    · rw [if_neg (by omega), if_neg (by omega), if_neg (by omega), if_pos ⟨rfl, c⟩, if_pos c]
    · rw [if_neg (by omega), if_neg (by omega), if_neg (by omega), if_neg (by omega), if_neg c]
  obtain ⟨⟨⟨a1, a2, a3, a4, a5⟩, b, c, d, e, f⟩, g⟩ := t
  refine ⟨⟨⟨by rw [q0]; exact h36, by rw [q1 1 (by decide), h3 7 (by decide)]; exact a2, by rw [q1 3 (by decide), h3 9 (by decide)]; exact a3, by rw [q1 4 (by decide), h3 10 (by decide)]; exact a4, by rw [q1 5 (by decide), h3 11 (by decide)]; exact a5⟩, fun p hp => ?_, fun q hq => ?_, fun q i hq hi => ?_, fun i hi => ?_, fun x y hx hy => ?_⟩, by rw [q1 2 (by decide), h3 8 (by decide)]; exact g⟩
  · rw [q0] at hp
    rw [r1, r2, r3]
    by_cases c : p = T 0 0
    · subst c
      rw [if_pos rfl, if_pos rfl, if_pos rfl]
      exact ⟨v4, v5, v6⟩
    · rw [if_neg c, if_neg c, if_neg c, o4 _ (by omega), o5 _ (by omega), o6 _ (by omega)]
      exact b p (by omega)
  · rw [q1 1 (by decide)] at hq
    rw [q4 4 _ (by decide), q4 5 _ (by decide), q4 6 _ (by decide), q4 7 _ (by decide), q4 8 _ (by decide), o 7 (by decide) (by decide), o 8 (by decide) (by decide), o 9 (by decide) (by decide), o 10 (by decide) (by decide), o 11 (by decide) (by decide)]
    exact c q hq
  · rw [q1 1 (by decide)] at hq
    rw [q4 8 _ (by decide)] at hi
    rw [o 12 (by decide) (by decide), d q i hq hi]
    unfold et
    rw [q4 9 _ (by decide)]
  · rw [q1 5 (by decide)] at hi
    rw [o 14 (by decide) (by decide), e i hi]
    unfold sgn
    rw [q4 10 _ (by decide)]
  · rw [o 13 (by decide) (by decide), f x y hx hy]
    unfold AGv agI
    rw [q4 11 _ (by decide)]
theorem t_person {s : Nat} {T : TT} {h : Mem} (p : PT tp n s h) (hT : TOK T) (t : THp T h) {k : Nat} (hk : k ≤ 3) {post : Mem → Prop} (hp : ∀ h', LO tp n (pPers tp n k s T) h' → TL h h' → post h') : wpX7_readPerson post h (nI k) := by
  have h8 := hT.n8
  unfold wpX7_readPerson wpBX7_readPerson_58
  have e36 : h 3 6 = nI (T 0 0) := t.1.1.1
  unfold pPers at hp
  have bad : ∀ a h2 x2, 0 < a → PO tp n (.error (a, s)) h2 → TG h h2 → (∀ h', PO tp n (.error (a, s)) h' → TL h h' → post h') → wpBX7_readPerson_64 post (nI k) h2 x2 := fun a h2 x2 _ p2 f2 hq => by
    unfold wpBX7_readPerson_64
    exact sw_f p2.bad (hq h2 p2 f2.l)
  rw [e36, show (8 : Int32) = nI 8 from rfl, nI_add]
  refine pk_eq (T 0 0) 8 (fun c => ?_) (fun c => ?_)
  · rw [if_pos c] at hp
    exact t_wrong (a := 2) p (by decide) (by decide) (fun h2 p2 f2 => bad 2 h2 _ (by decide) p2 f2 hp)
  rw [if_neg c] at hp
  have main : ¬ (k = 3 ∧ (T 0 0 = 0 ∨ T 1 (T 0 0 - 1) = 3)) → wpBX7_readPerson_64 post (nI k) h (nI (8 + T 0 0)) := fun c2 => by
    rw [if_neg c2] at hp
    unfold wpBX7_readPerson_64
    refine sw_t p.ok0 (p.next (fun h5 p5 f5 => ?_))
    rw [ixn (by omega)]
    refine ⟨pk_in (8 + T 0 0) 16 (by omega), fun h7 e7 => ?_⟩
    have p7 : PT tp n (nxt tp n s) h7 := by
      have p5 : PO tp n (.ok (nxt tp n s)) h5 := p5
      exact p5.of (fun k hk => by rw [e7, up2_other (by omega)])
    have f7 : TL h h7 := f5.g.l.tr (by rw [e7]; exact TL.up (by omega) (by unfold haf; rw [if_neg (by omega), if_pos (by omega)]; omega))
    rw [show (9 : Int32) = nI 9 from rfl, show (0 : Int32) = nI 0 from rfl]
    refine t_numP p7 (by decide) (by decide) (fun e h9 ee p9 f9 => ?_) (fun v1 s1 h9 ev _ _ p9 f9 => ?_)
    · rw [ee] at hp
      refine ⟨pk_in (8 + T 0 0) 16 (by omega), fun h11 e11 => ?_⟩
      have p11 : PO tp n (.error e) h11 := p9.of (fun k hk => by rw [e11, up2_other (by omega)])
      have f11 : TL h h11 := f7.tr (f9.l.tr (by rw [e11]; exact TL.up (by omega) (by unfold haf; rw [if_neg (by omega), if_pos (by omega)]; omega)))
      refine t_numE p11 (by decide) (by decide) (fun h13 p13 f13 => ⟨pk_in (8 + T 0 0) 16 (by omega), fun h15 e15 h16 e16 => hp h16 ?_ (f11.tr (f13.l.tr ?_))⟩)
      · exact p13.of (fun k hk => by rw [e16, up2_other (by omega), e15, up2_other (by omega)])
      · rw [e16, e15]
        exact (TL.up (by omega) (by unfold haf; rw [if_neg (by omega), if_pos (by omega)]; omega)).tr (TL.up (by omega) (by unfold haf; rw [if_pos rfl]; omega))
    · rw [ev] at hp
      have hp : ∀ h', LO tp n (eR (nuP tp n 0 9 s1) (fun y => .ok (y.2, putP T k v1 y.1))) h' → TL h h' → post h' := hp
      refine ⟨pk_in (8 + T 0 0) 16 (by omega), fun h11 e11 => ?_⟩
      have p11 : PT tp n s1 h11 := by
        have p9 : PO tp n (.ok s1) h9 := p9
        exact p9.of (fun k hk => by rw [e11, up2_other (by omega)])
      have f11 : TL h h11 := f7.tr (f9.l.tr (by rw [e11]; exact TL.up (by omega) (by unfold haf; rw [if_neg (by omega), if_pos (by omega)]; omega)))
      refine t_numP p11 (by decide) (by decide) (fun e h13 ee p13 f13 => ?_) (fun v2 s2 h13 ev2 _ _ p13 f13 => ?_)
      · rw [ee] at hp
        refine ⟨pk_in (8 + T 0 0) 16 (by omega), fun h15 e15 h16 e16 => hp h16 ?_ (f11.tr (f13.l.tr ?_))⟩
        · exact p13.of (fun k hk => by rw [e16, up2_other (by omega), e15, up2_other (by omega)])
        · rw [e16, e15]
          exact (TL.up (by omega) (by unfold haf; rw [if_neg (by omega), if_pos (by omega)]; omega)).tr (TL.up (by omega) (by unfold haf; rw [if_pos rfl]; omega))
      · rw [ev2] at hp
        have hp : ∀ h', LO tp n (.ok (s2, putP T k v1 v2)) h' → TL h h' → post h' := hp
        refine ⟨pk_in (8 + T 0 0) 16 (by omega), fun h15 e15 h16 e16 => hp h16 ⟨?_, ?_⟩ (f11.tr (f13.l.tr ?_))⟩
        · have p13 : PO tp n (.ok s2) h13 := p13
          exact p13.of (fun k hk => by rw [e16, up2_other (by omega), e15, up2_other (by omega)])
        · have g13 : ∀ j, 3 ≤ j → j ≤ 14 → h13 j = h11 j := fun j a b => f13 j (by omega) (by omega)
          have g9 : ∀ j, 3 ≤ j → j ≤ 14 → h9 j = h7 j := fun j a b => f9 j (by omega) (by omega)
          have g5 : ∀ j, 3 ≤ j → j ≤ 14 → h5 j = h j := fun j a b => f5.g j (by omega) (by omega)
          have h3e : h13 3 = h 3 := by rw [g13 3 (by decide) (by decide), e11, up2_other (by decide), g9 3 (by decide) (by decide), e7, up2_other (by decide), g5 3 (by decide) (by decide)]
          refine putP_TH t hT ?_ (fun i hi => ?_) (fun j a b => ?_) (fun i hi => ?_) (fun i hi => ?_) (fun i hi => ?_) ?_ ?_ ?_
          · rw [e16, up2_at, e15, up2_other (by decide), h3e, e36, nI_1]
          · rw [e16, up2_ne _ _ _ hi, e15, up2_other (by decide), h3e]
          · rw [e16, up2_other (by omega), e15, up2_other (by omega), g13 j (by omega) b, e11, up2_other (by omega), g9 j (by omega) b, e7, up2_other (by omega), g5 j (by omega) b]
          · rw [e16, up2_other (by decide), e15, up2_other (by decide), g13 4 (by decide) (by decide), e11, up2_other (by decide), g9 4 (by decide) (by decide), e7, up2_ne _ _ _ hi, g5 4 (by decide) (by decide)]
          · rw [e16, up2_other (by decide), e15, up2_other (by decide), g13 5 (by decide) (by decide), e11, up2_ne _ _ _ hi, g9 5 (by decide) (by decide), e7, up2_other (by decide), g5 5 (by decide) (by decide)]
          · rw [e16, up2_other (by decide), e15, up2_ne _ _ _ hi, g13 6 (by decide) (by decide), e11, up2_other (by decide), g9 6 (by decide) (by decide), e7, up2_other (by decide), g5 6 (by decide) (by decide)]
          · rw [e16, up2_other (by decide), e15, up2_other (by decide), g13 4 (by decide) (by decide), e11, up2_other (by decide), g9 4 (by decide) (by decide), e7, up2_at]
          · rw [e16, up2_other (by decide), e15, up2_other (by decide), g13 5 (by decide) (by decide), e11, up2_at]
          · rw [e16, up2_other (by decide), e15, up2_at]
        · rw [e16, e15]
          exact (TL.up (by omega) (by unfold haf; rw [if_neg (by omega), if_pos (by omega)]; omega)).tr (TL.up (by omega) (by unfold haf; rw [if_pos rfl]; omega))
  have six : (k = 3 ∧ (T 0 0 = 0 ∨ T 1 (T 0 0 - 1) = 3)) → wpX7_wrong (fun h19 => wpBX7_readPerson_64 post (nI k) h19 (nI (8 + T 0 0))) h 6 := fun c2 => by
    rw [if_pos c2] at hp
    exact t_wrong (a := 6) p (by decide) (by decide) (fun h2 p2 f2 => bad 6 h2 _ (by decide) p2 f2 hp)
  rw [show (3 : Int32) = nI 3 from rfl]
  refine pk_eq k 3 (fun c2 => ?_) (fun c2 => main (fun h => c2 h.1))
  refine pk_e0 (T 0 0) (fun c3 => six ⟨c2, Or.inl c3⟩) (fun c3 => ?_)
  rw [pk_s1 (by omega), ixn (by omega), show 8 + T 0 0 - 1 = 8 + (T 0 0 - 1) by omega, (t.1.2.1 (T 0 0 - 1) (by omega)).1]
  have hk1 := (hT.p (show T 0 0 - 1 < T 0 0 by omega)).1
  refine ⟨pk_in (8 + (T 0 0 - 1)) 16 (by omega), ?_⟩
  refine pk_eq (T 1 (T 0 0 - 1)) 3 (fun c4 => six ⟨c2, Or.inr c4⟩) (fun c4 => main (fun h => h.2.elim c3 c4))
end PL
