/-! 87.plt: a line told; the twin's reading -/
def fld (T : TT) (j v : Nat) : TT := fun a b => if a = 0 ∧ b = j then v else T a b
def putC (T : TT) (cs : List Nat) : TT := fun a b => if a = 0 ∧ b = 5 then cs.length else if a = 10 ∧ b < cs.length then cs.getD b 0 else T a b
def lkS (tp : Nat → Nat) (n s : Nat) : Nat := if wdS tp n 3 s = true then 1 else if wdS tp n 4 s = true then 2 else if wdS tp n 5 s = true then 4 else 0
def pBody (tp : Nat → Nat) (n s : Nat) (T : TT) (done : Nat) : LN := if lkS tp n s &&& done ≠ 0 then .error (5, s)
  else if lkS tp n s = 1 then eR (nuP tp n 1 999 (nxt tp n s)) (fun x => .ok (x.2, fld T 3 x.1))
  else if lkS tp n s = 2 then eR (nuP tp n 1 23 (nxt tp n s)) (fun x => .ok (x.2, fld T 4 x.1))
  else if lkS tp n s = 4 then eR (pEx tp n 9 0 (nxt tp n s) []) (fun x => .ok (x.1, putC T x.2))
  else match whS tp n 0 s with
    | some w => pPers tp n w s T
    | none => if wdS tp n 1 s = true then pLoaf tp n s T else if wdS tp n 2 s = true then pMet tp n s T else .error (1, s)
def pLine (tp : Nat → Nat) (n s : Nat) (T : TT) (done : Nat) : LN := eR (pBody tp n s T done) (fun x => eR (mkS tp n 59 x.1) (fun s' => .ok (s', x.2)))
section PLT
variable {tp : Nat → Nat} {n : Nat}
theorem t_semi {r : LN} {h : Mem} (p : LO tp n r h) {post : Mem → Prop} (hp : ∀ h', LO tp n (eR r (fun x => eR (mkS tp n 59 x.1) (fun s' => .ok (s', x.2)))) h' → TL h h' → post h') : wpX7_mark post h 59 := by
  cases r with
  | error e => exact t_mark (r := .error e) (c := 59) p (by decide) (fun h' p' f' => hp h' p' f'.l)
  | ok x =>
    have p1 : PO tp n (.ok x.1) h := p.1
    refine t_mark p1 (c := 59) (by decide) (fun h' p' f' => hp h' ?_ f'.l)
    have p' : PO tp n (mkS tp n 59 x.1) h' := p'
    show LO tp n (eR (mkS tp n 59 x.1) (fun s' => .ok (s', x.2))) h'
    cases e : mkS tp n 59 x.1 with
    | error e => rw [e] at p'; exact p'
    | ok s' =>
      rw [e] at p'
      exact ⟨p', p.2.of (fun k a b => f' k (by omega) (by omega))⟩
theorem fld_TH {T : TT} {h h' : Mem} {j v : Nat} (t : THp T h) (hj : j = 3 ∨ j = 4) (e : h' = up2 h 3 (6 + j) (nI v)) : THp (fld T j v) h' := by
  have q : ∀ a b, ¬ (a = 0 ∧ b = j) → fld T j v a b = T a b := fun a b g => if_neg g
  have qj : fld T j v 0 j = v := if_pos ⟨rfl, rfl⟩
  obtain ⟨⟨⟨a1, a2, a3, a4, a5⟩, tb, tc, td, te, tf⟩, tg⟩ := t
  have o : ∀ k, k ≠ 3 → h' k = h k := fun k hk => by rw [e, up2_other hk]
  have o3 : ∀ i, i ≠ 6 + j → h' 3 i = h 3 i := fun i hi => by rw [e, up2_ne _ _ _ hi]
  have vj : h' 3 (6 + j) = nI v := by rw [e, up2_at]
  refine ⟨⟨⟨by rw [q 0 0 (by omega), o3 6 (by omega)]; exact a1, by rw [q 0 1 (by omega), o3 7 (by omega)]; exact a2, ?_, ?_, by rw [q 0 5 (by omega), o3 11 (by omega)]; exact a5⟩, fun p hp => ?_, fun x hx => ?_, fun x i hx hi => ?_, fun i hi => ?_, fun x y hx hy => ?_⟩, by rw [q 0 2 (by omega), o3 8 (by omega)]; exact tg⟩
  · rcases hj with hj | hj
    · subst hj; rw [qj]; exact vj
    · rw [q 0 3 (by omega), o3 9 (by omega)]; exact a3
  · rcases hj with hj | hj
    · rw [q 0 4 (by omega), o3 10 (by omega)]; exact a4
    · subst hj; rw [qj]; exact vj
  · rw [q 0 0 (by omega)] at hp
    rw [q 1 _ (by omega), q 2 _ (by omega), q 3 _ (by omega), o 4 (by decide), o 5 (by decide), o 6 (by decide)]
    exact tb p hp
  · rw [q 0 1 (by omega)] at hx
    rw [q 4 _ (by omega), q 5 _ (by omega), q 6 _ (by omega), q 7 _ (by omega), q 8 _ (by omega), o 7 (by decide), o 8 (by decide), o 9 (by decide), o 10 (by decide), o 11 (by decide)]
    exact tc x hx
  · rw [q 0 1 (by omega)] at hx
    rw [q 8 _ (by omega)] at hi
    unfold et
    rw [q 9 _ (by omega), o 12 (by decide)]
    exact td x i hx hi
  · rw [q 0 5 (by omega)] at hi
    unfold sgn
    rw [q 10 _ (by omega), o 14 (by decide)]
    exact te i hi
  · unfold AGv agI
    rw [q 11 _ (by omega), o 13 (by decide)]
    exact tf x y hx hy
theorem putC_TH {T : TT} {h h' : Mem} {cs : List Nat} (t : THp T h) (f : TE h h') (e11 : h' 3 11 = nI cs.length) (e14 : ∀ i, i < cs.length → h' 14 (600 + i) = sgN (cs.getD i 0)) : THp (putC T cs) h' := by
  have q : ∀ a b, a ≠ 10 → ¬ (a = 0 ∧ b = 5) → putC T cs a b = T a b := fun a b g1 g => by
    unfold putC
    rw [if_neg g, if_neg (fun h => g1 h.1)]
  have q5 : putC T cs 0 5 = cs.length := if_pos ⟨rfl, rfl⟩
  obtain ⟨⟨⟨a1, a2, a3, a4, a5⟩, tb, tc, td, te, tf⟩, tg⟩ := t
  have o : ∀ k, 4 ≤ k → k ≤ 13 → h' k = h k := fun k a b => f.1 k (by omega) (by omega) (by omega) (by omega)
  have o3 : ∀ i, i ≠ 11 → h' 3 i = h 3 i := f.2.1
  refine ⟨⟨⟨by rw [q 0 0 (by omega) (by omega), o3 6 (by omega)]; exact a1, by rw [q 0 1 (by omega) (by omega), o3 7 (by omega)]; exact a2, by rw [q 0 3 (by omega) (by omega), o3 9 (by omega)]; exact a3, by rw [q 0 4 (by omega) (by omega), o3 10 (by omega)]; exact a4, by rw [q5]; exact e11⟩, fun p hp => ?_, fun x hx => ?_, fun x i hx hi => ?_, fun i hi => ?_, fun x y hx hy => ?_⟩, by rw [q 0 2 (by omega) (by omega), o3 8 (by omega)]; exact tg⟩
  · rw [q 0 0 (by omega) (by omega)] at hp
    rw [q 1 _ (by omega) (by omega), q 2 _ (by omega) (by omega), q 3 _ (by omega) (by omega), o 4 (by decide) (by decide), o 5 (by decide) (by decide), o 6 (by decide) (by decide)]
    exact tb p hp
  · rw [q 0 1 (by omega) (by omega)] at hx
    rw [q 4 _ (by omega) (by omega), q 5 _ (by omega) (by omega), q 6 _ (by omega) (by omega), q 7 _ (by omega) (by omega), q 8 _ (by omega) (by omega), o 7 (by decide) (by decide), o 8 (by decide) (by decide), o 9 (by decide) (by decide), o 10 (by decide) (by decide), o 11 (by decide) (by decide)]
    exact tc x hx
  · rw [q 0 1 (by omega) (by omega)] at hx
    rw [q 8 _ (by omega) (by omega)] at hi
    unfold et
    rw [q 9 _ (by omega) (by omega), o 12 (by decide) (by decide)]
    exact td x i hx hi
  · rw [q5] at hi
    have e : putC T cs 10 i = cs.getD i 0 := by
      unfold putC
      rw [if_neg (by omega), if_pos ⟨rfl, hi⟩]
    unfold sgn
    rw [e, e14 i hi]
    rfl
  · unfold AGv agI
    rw [q 11 _ (by omega) (by omega), o 13 (by decide) (by decide)]
    exact tf x y hx hy
theorem lk_v (s : Nat) : lkS tp n s = 0 ∨ lkS tp n s = 1 ∨ lkS tp n s = 2 ∨ lkS tp n s = 4 := by
  unfold lkS
  split
  · omega
  split
  · omega
  split <;> omega
theorem and_lk : ∀ k, k < 8 → ∀ d, d < 8 → (nI k &&& nI d = 0 ↔ k &&& d = 0) ∧ nI d ||| nI k = nI (d ||| k) := by decide +kernel
theorem t_line {s : Nat} {T : TT} {h : Mem} (p : PT tp n s h) (hT : TOK T) (hM : MOK T) (t : THp T h) {done : Nat} (hd : done < 8) (hc : 4 &&& done = 0 → T 0 5 = 0) {post : Int32 → Mem → Prop} (hp : ∀ h', LO tp n (pLine tp n s T done) h' → TL h h' → post (nI (done ||| lkS tp n s)) h') : wpX7_readLine post h (nI done) := by
  have po : PO tp n (.ok s) h := p
  have lv := lk_v (tp := tp) (n := n) s
  have fin : ∀ r h2, pBody tp n s T done = r → LO tp n r h2 → TL h h2 → wpBX7_readLine_184 post (nI done) h2 (nI (lkS tp n s)) := fun r h2 er l2 f2 => by
    unfold wpBX7_readLine_184
    refine t_semi l2 (fun h3 l3 f3 => ?_)
    rw [(and_lk _ (by omega) _ hd).2]
    exact hp h3 (by unfold pLine; rw [er]; exact l3) (f2.tr f3)
  have ferr : ∀ e h2, pBody tp n s T done = .error e → PO tp n (.error e) h2 → TL h h2 → wpBX7_readLine_184 post (nI done) h2 (nI (lkS tp n s)) := fun e h2 er p2 f2 => fin _ h2 er p2 f2
  have m43 : ∀ k, k = lkS tp n s → wpBX7_readLine_43 post (nI done) h (nI k) := fun k ek => by
    subst ek
    unfold wpBX7_readLine_43
    refine t_which p ?_
    generalize eb : pBody tp n s T done = r at fin ferr
    unfold pBody at eb
    refine ⟨fun c => ?_, fun c => ?_⟩
    · have c := (and_lk _ (by omega) _ hd).1.mp c
      rw [if_neg (fun h => h c)] at eb
      unfold wpBX7_readLine_64
      rw [show (0 : Int32) = nI 0 from rfl]
      refine pk_le (lkS tp n s) 0 (fun c0 => ?_) (fun c0 => sw_t p.ok0 (p.next (fun h43 p43 f43 => ?_)))
      · have k0 : lkS tp n s = 0 := by omega
        rw [if_neg (by omega), if_neg (by omega), if_neg (by omega)] at eb
        cases ew : whS tp n 0 s with
        | none =>
          rw [ew] at eb
          refine sw_t rfl (t_isX po (by decide) ⟨fun c1 => ?_, fun c1 => t_isX po (by decide) ⟨fun c2 => ?_, fun c2 => ?_⟩⟩)
          · have c1 : wdS tp n 1 s = true := c1
            have eb : (if wdS tp n 1 s = true then pLoaf tp n s T else if wdS tp n 2 s = true then pMet tp n s T else .error (1, s) : LN) = r := eb
            rw [if_pos c1] at eb
            exact t_loaf p hT t (fun h2 l2 f2 => fin r h2 rfl (by rw [← eb]; exact l2) f2)
          · have c1 : ¬ wdS tp n 1 s = true := c1
            have c2 : wdS tp n 2 s = true := c2
            have eb : (if wdS tp n 1 s = true then pLoaf tp n s T else if wdS tp n 2 s = true then pMet tp n s T else .error (1, s) : LN) = r := eb
            rw [if_neg c1, if_pos c2] at eb
            exact t_met p hT hM t (fun h2 l2 f2 => fin r h2 rfl (by rw [← eb]; exact l2) f2)
          · have c1 : ¬ wdS tp n 1 s = true := c1
            have c2 : ¬ wdS tp n 2 s = true := c2
            have eb : (if wdS tp n 1 s = true then pLoaf tp n s T else if wdS tp n 2 s = true then pMet tp n s T else .error (1, s) : LN) = r := eb
            rw [if_neg c1, if_neg c2] at eb
            exact t_wrong (a := 1) p (by decide) (by decide) (fun h2 p2 f2 => ferr _ h2 eb.symm p2 f2.l)
        | some w =>
          rw [ew] at eb
          have hw := fst1_lt ew
          have hw : w < 4 := hw
          have eb : pPers tp n w s T = r := eb
          refine sw_f (nIm1 (by omega)) (t_person p hT t (k := w) (by omega) (fun h2 l2 f2 => fin r h2 rfl (by rw [← eb]; exact l2) f2))
      · have p43o : PO tp n (.ok (nxt tp n s)) h43 := p43
        have t43 : THp T h43 := t.of (fun k a b => f43.g k (by omega) (by omega))
        unfold wpBX7_readLine_79
        rw [show (1 : Int32) = nI 1 from rfl, show (2 : Int32) = nI 2 from rfl]
        refine pk_eq (lkS tp n s) 1 (fun c1 => ?_) (fun c1 => pk_eq (lkS tp n s) 2 (fun c2 => ?_) (fun c2 => ?_))
        · rw [if_pos c1] at eb
          rw [show (999 : Int32) = nI 999 from rfl]
          refine t_numP p43 (by decide) (by decide) (fun e h2 ee p2 f2 h41 e41 => ?_) (fun v s' h2 ev _ _ p2 f2 h41 e41 => ?_)
          · rw [ee] at eb
            refine ferr e h41 eb.symm (p2.of (fun k hk => by rw [e41, up2_other (by omega)])) (f43.g.l.tr (f2.l.tr ?_))
            rw [e41]; exact TL.up (by omega) (by show 6 ≤ 9; omega)
          · rw [ev] at eb
            have eb : (.ok (s', fld T 3 v) : LN) = r := eb
            have p2 : PO tp n (.ok s') h2 := p2
            refine fin r h41 rfl ?_ (f43.g.l.tr (f2.l.tr ?_))
            · rw [← eb]
              exact ⟨p2.of (fun k hk => by rw [e41, up2_other (by omega)]), fld_TH (j := 3) (t43.of (fun k a b => f2 k (by omega) (by omega))) (Or.inl rfl) e41⟩
            · rw [e41]; exact TL.up (by omega) (by show 6 ≤ 9; omega)
        · rw [if_neg c1, if_pos c2] at eb
          rw [show (23 : Int32) = nI 23 from rfl]
          refine t_numP p43 (by decide) (by decide) (fun e h2 ee p2 f2 h41 e41 => ?_) (fun v s' h2 ev _ _ p2 f2 h41 e41 => ?_)
          · rw [ee] at eb
            refine ferr e h41 eb.symm (p2.of (fun k hk => by rw [e41, up2_other (by omega)])) (f43.g.l.tr (f2.l.tr ?_))
            rw [e41]; exact TL.up (by omega) (by show 6 ≤ 10; omega)
          · rw [ev] at eb
            have eb : (.ok (s', fld T 4 v) : LN) = r := eb
            have p2 : PO tp n (.ok s') h2 := p2
            refine fin r h41 rfl ?_ (f43.g.l.tr (f2.l.tr ?_))
            · rw [← eb]
              exact ⟨p2.of (fun k hk => by rw [e41, up2_other (by omega)]), fld_TH (j := 4) (t43.of (fun k a b => f2 k (by omega) (by omega))) (Or.inr rfl) e41⟩
            · rw [e41]; exact TL.up (by omega) (by show 6 ≤ 10; omega)
        · have k4 : lkS tp n s = 4 := by omega
          rw [if_neg c1, if_neg c2, if_pos k4] at eb
          have z := hc (by rw [← k4]; exact c)
          have e5 : h43 3 11 = nI 0 := by rw [t43.1.1.2.2.2.2, z]
          have px : PX tp n 0 (.ok (nxt tp n s, [])) h43 := ⟨⟨p43, Nat.zero_le _⟩, e5, fun i hi => absurd hi (Nat.not_lt_zero _)⟩
          refine t_ex 9 0 rfl (by decide) 0 _ h43 _ px (fun h2 p2 f2 => ?_)
          have p2 : PX tp n 0 (pEx tp n 9 0 (nxt tp n s) []) h2 := p2
          cases ee : pEx tp n 9 0 (nxt tp n s) [] with
          | error e =>
            rw [ee] at eb p2
            exact ferr e h2 eb.symm p2 (f43.g.l.tr f2.l)
          | ok x =>
            rw [ee] at eb p2
            have eb : (.ok (x.1, putC T x.2) : LN) = r := eb
            refine fin r h2 rfl ?_ (f43.g.l.tr f2.l)
            rw [← eb]
            exact ⟨p2.1.1, putC_TH t43 f2 p2.2.1 p2.2.2⟩
    · have c : ¬ lkS tp n s &&& done = 0 := fun h => c ((and_lk _ (by omega) _ hd).1.mpr h)
      rw [if_pos c] at eb
      have k0 : lkS tp n s ≠ 0 := fun h => c (by rw [h]; exact Nat.zero_and _)
      refine t_wrong (a := 5) p (by decide) (by decide) (fun h45 p45 f45 => ?_)
      unfold wpBX7_readLine_64 wpBX7_readLine_79
      rw [show (0 : Int32) = nI 0 from rfl]
      refine pk_le (lkS tp n s) 0 (fun c0 => by omega) (fun _ => sw_f p45.bad ?_)
      rw [show (1 : Int32) = nI 1 from rfl, show (2 : Int32) = nI 2 from rfl]
      refine ⟨fun _ => ?_, fun _ => ⟨fun _ => ?_, fun _ => ?_⟩⟩
      · refine t_numE (lo := 1) (hi := 999) p45 (by decide) (by decide) (fun h2 p2 f2 h41 e41 => ferr _ h41 eb.symm (p2.of (fun k hk => by rw [e41, up2_other (by omega)])) (f45.l.tr (f2.l.tr ?_)))
        rw [e41]; exact TL.up (by omega) (by show 6 ≤ 9; omega)
      · refine t_numE (lo := 1) (hi := 23) p45 (by decide) (by decide) (fun h2 p2 f2 h41 e41 => ferr _ h41 eb.symm (p2.of (fun k hk => by rw [e41, up2_other (by omega)])) (f45.l.tr (f2.l.tr ?_)))
        rw [e41]; exact TL.up (by omega) (by show 6 ≤ 10; omega)
      · have px : PX tp n 0 (.error (5, s)) h45 := p45
        exact t_ex 9 0 rfl (by decide) 0 _ h45 _ px (fun h2 p2 f2 => ferr _ h2 eb.symm p2 (f45.l.tr f2.l))
  unfold wpX7_readLine
  refine t_isX po (by decide) ⟨fun c => ?_, fun c => t_isX po (by decide) ⟨fun c2 => ?_, fun c2 => t_isX po (by decide) ?_⟩⟩
  · have c : wdS tp n 3 s = true := c
    exact m43 1 (by unfold lkS; rw [if_pos c])
  · have c : ¬ wdS tp n 3 s = true := c
    have c2 : wdS tp n 4 s = true := c2
    exact m43 2 (by unfold lkS; rw [if_neg c, if_pos c2])
  · have c : ¬ wdS tp n 3 s = true := c
    have c2 : ¬ wdS tp n 4 s = true := c2
    show wpBX7_readLine_43 post (nI done) h (if wdS tp n 5 s = true then (4 : Int32) else (0 : Int32))
    by_cases c3 : wdS tp n 5 s = true
    · rw [if_pos c3]
      exact m43 4 (by unfold lkS; rw [if_neg c, if_neg c2, if_pos c3])
    · rw [if_neg c3]
      exact m43 0 (by unfold lkS; rw [if_neg c, if_neg c2, if_neg c3])
end PLT
