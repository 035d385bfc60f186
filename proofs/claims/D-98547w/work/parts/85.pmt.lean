/-! 85.pmt: meetings told; the twin's reading -/
def putM (T : TT) (a b ago : Nat) : TT := fun i j => if i = 0 ∧ j = 2 then T 0 2 + 1 else if i = 11 ∧ (j = 8 * a + b ∨ j = 8 * b + a) then (if T 11 (8 * a + b) = 0 then ago + 1 else min (T 11 (8 * a + b)) (ago + 1)) else T i j
def pMet (tp : Nat → Nat) (n s : Nat) (T : TT) : LN := if T 0 2 = 16 then .error (2, s) else
  eR (pnS tp n (T 0 0) (nxt tp n s)) (fun a => eR (pnS tp n (T 0 0) (nxt tp n (nxt tp n s))) (fun b => if a = b then .error (4, nxt tp n (nxt tp n s)) else
    eR (nuP tp n 0 999 (nxt tp n (nxt tp n (nxt tp n s)))) (fun x => .ok (x.2, putM T a b x.1))))
/-- meetings well told -/
def MOK (T : TT) : Prop := (∀ a b, a < 8 → b < 8 → T 11 (8 * a + b) ≤ 1000 ∧ T 11 (8 * a + b) = T 11 (8 * b + a) ∧ ((T 0 0 ≤ a ∨ T 0 0 ≤ b ∨ a = b) → T 11 (8 * a + b) = 0)) ∧ T 0 2 ≤ 16
section PM
variable {tp : Nat → Nat} {n : Nat}
theorem agI_0 {T : TT} {k : Nat} (h : T 11 k = 0) : agI T k = -1 := by
  unfold agI
  rw [h]
  decide
theorem agI_1 {T : TT} {k m : Nat} (h : T 11 k = m + 1) (hm : m < 2 ^ 31) : agI T k = nI m := by
  unfold agI
  rw [h]
  rw [show (1 : Int32) = nI 1 from rfl, pk_sub (by omega)]
  congr 1
theorem AGv_0 {T : TT} {a b : Nat} (h : T 11 (8 * a + b) = 0) : AGv T a b = -100000 := by
  unfold AGv
  rw [if_pos (agI_0 h)]
theorem AGv_1 {T : TT} {a b m : Nat} (h : T 11 (8 * a + b) = m + 1) (hm : m < 2 ^ 31) : AGv T a b = -(nI m) := by
  unfold AGv
  rw [agI_1 h hm, if_neg (nIm1 hm)]
theorem MOK.ag {T : TT} (h : MOK T) : AGOK T := by
  refine ⟨fun a b ha hb => ?_, fun a b ha hb => ?_, fun a b ha hb c => agI_0 ((h.1 a b ha hb).2.2 c)⟩
  · have g := (h.1 a b ha hb).1
    cases e : T 11 (8 * a + b) with
    | zero => exact Or.inl (agI_0 e)
    | succ m => exact Or.inr ⟨m, by omega, agI_1 e (by omega)⟩
  · unfold agI
    rw [(h.1 a b ha hb).2.1]
theorem neg_i {m : Nat} (hm : m ≤ 1000) : (-(nI m)).toInt = -(m : Int) := by
  have : ∀ m, m < 1001 → (-(nI m)).toInt = -(m : Int) := by decide +kernel
  exact this m (by omega)
theorem mx_neg {a b : Nat} (ha : a ≤ 1000) (hb : b ≤ 1000) : mxI (-(nI a)) (-(nI b)) = -(nI (min a b)) := by
  unfold mxI
  by_cases c : -(nI a) < -(nI b)
  · rw [if_pos c]
    rw [lt_II, neg_i ha, neg_i hb] at c
    rw [show min a b = b by omega]
  · rw [if_neg c]
    rw [lt_II, neg_i ha, neg_i hb] at c
    rw [show min a b = a by omega]
theorem putM_o {T : TT} {a b ago i j : Nat} (h : ¬ (i = 0 ∧ j = 2)) (h2 : i ≠ 11) : putM T a b ago i j = T i j := by
  unfold putM
  rw [if_neg h, if_neg (fun h => h2 h.1)]
theorem putM_11 {T : TT} {a b ago j : Nat} : putM T a b ago 11 j = if j = 8 * a + b ∨ j = 8 * b + a then (if T 11 (8 * a + b) = 0 then ago + 1 else min (T 11 (8 * a + b)) (ago + 1)) else T 11 j := by
  unfold putM
  rw [if_neg (by omega)]
  by_cases c : j = 8 * a + b ∨ j = 8 * b + a
  · rw [if_pos ⟨rfl, c⟩, if_pos c]
  · rw [if_neg (fun h => c h.2), if_neg c]
theorem putM_v {T : TT} {a b ago : Nat} (h : MOK T) (ha : a < 8) (hb : b < 8) (hg : ago ≤ 999) {x y : Nat} (e : (x = a ∧ y = b) ∨ (x = b ∧ y = a)) : AGv (putM T a b ago) x y = mxI (AGv T a b) (-(nI ago)) := by
  have g := (h.1 a b ha hb).1
  have q : putM T a b ago 11 (8 * x + y) = (if T 11 (8 * a + b) = 0 then ago + 1 else min (T 11 (8 * a + b)) (ago + 1)) := by
    rw [putM_11, if_pos]
    rcases e with ⟨e1, e2⟩ | ⟨e1, e2⟩
    · subst e1 e2; exact Or.inl rfl
    · subst e1 e2; exact Or.inr rfl
  cases e5 : T 11 (8 * a + b) with
  | zero =>
    rw [e5, if_pos rfl] at q
    rw [AGv_1 q (by omega), AGv_0 e5, mx_ag hg]
  | succ m =>
    rw [e5, if_neg (by omega), show min (m + 1) (ago + 1) = min m ago + 1 by omega] at q
    rw [AGv_1 q (by omega), AGv_1 e5 (by omega), mx_neg (by omega) (by omega)]
theorem putM_w {T : TT} {a b ago x y : Nat} (ha : a < 8) (hb : b < 8) (hx : x < 8) (hy : y < 8) (e : ¬ ((x = a ∧ y = b) ∨ (x = b ∧ y = a))) : AGv (putM T a b ago) x y = AGv T x y := by
  have q : putM T a b ago 11 (8 * x + y) = T 11 (8 * x + y) := by rw [putM_11, if_neg (by omega)]
  unfold AGv agI
  rw [q]
theorem t_pers {s : Nat} {h : Mem} (p : PT tp n s h) {many : Nat} (hm : many ≤ 8) (e36 : h 3 6 = nI many) {post : Int32 → Mem → Prop} (he : ∀ e h', pnS tp n many s = .error e → PO tp n (.error e) h' → TG h h' → post 0 h') (hp : ∀ v h', pnS tp n many s = .ok v → v < many → PT tp n s h' → TG h h' → post (nI v) h') : wpX7_personNow post h := by
  have po : PO tp n (.ok s) h := p
  refine t_personNow po hm e36 (fun h' p' f' => ?_)
  have p' : PO tp n (eR (pnS tp n many s) (fun _ => .ok s)) h' := p'
  show post (nI (vR (pnS tp n many s) (fun v => v) 0)) h'
  cases e : pnS tp n many s with
  | error q => rw [e] at p' he; exact he q h' rfl p' f'
  | ok v =>
    rw [e] at p' hp
    refine hp v h' rfl ?_ p' f'
    unfold pnS at e
    cases e2 : nnS tp n 0 9999 s with
    | error q => rw [e2] at e; cases e
    | ok w =>
      rw [e2] at e
      have e : (if w < many then .ok w else .error (3, s) : ER Nat) = .ok v := e
      by_cases c : w < many
      · rw [if_pos c] at e; injection e with e; omega
      · rw [if_neg c] at e; cases e
theorem t_persE {e : Nat × Nat} {h : Mem} (p : PO tp n (.error e) h) {many : Nat} (hm : many ≤ 8) (e36 : h 3 6 = nI many) {post : Int32 → Mem → Prop} (hp : ∀ h', PO tp n (.error e) h' → TG h h' → post 0 h') : wpX7_personNow post h :=
  t_personNow (r := .error e) p hm e36 (fun h' p' f' => hp h' p' f')
theorem t_met {s : Nat} {T : TT} {h : Mem} (p : PT tp n s h) (hT : TOK T) (hM : MOK T) (t : THp T h) {post : Mem → Prop} (hp : ∀ h', LO tp n (pMet tp n s T) h' → TL h h' → post h') : wpX7_readMet post h := by
  have h8 := hT.n8
  unfold wpX7_readMet
  have e36 : h 3 6 = nI (T 0 0) := t.1.1.1
  have e38 : h 3 8 = nI (T 0 2) := t.2
  have m16 := hM.2
  unfold pMet at hp
  -- once bad
  have w78 : ∀ e (h2 : Mem) x1 x2, PO tp n (.error e) h2 → TL h h2 → (∀ h', PO tp n (.error e) h' → TL h h' → post h') → wpBX7_readMet_78 post h2 x1 x2 := fun e h2 x1 x2 p2 f2 hq => by
    unfold wpBX7_readMet_78
    exact t_numE (lo := 0) (hi := 999) p2 (by decide) (by decide) (fun h3 p3 f3 => sw_f (PO.bad p3) (hq h3 p3 (f2.tr f3.l)))
  have w67 : ∀ e (h2 : Mem) x1 x2, PO tp n (.error e) h2 → TL h h2 → (∀ h', PO tp n (.error e) h' → TL h h' → post h') → wpBX7_readMet_67 post h2 x1 x2 := fun e h2 x1 x2 p2 f2 hq => by
    unfold wpBX7_readMet_67
    exact sw_f (PO.bad p2) (w78 e h2 x1 x2 p2 f2 hq)
  have w45 : ∀ e (h2 : Mem) x1, PO tp n (.error e) h2 → h2 3 6 = nI (T 0 0) → TL h h2 → (∀ h', PO tp n (.error e) h' → TL h h' → post h') → wpBX7_readMet_45 post h2 x1 := fun e h2 x1 p2 e2 f2 hq => by
    unfold wpBX7_readMet_45
    exact t_persE p2 h8 e2 (fun h3 p3 f3 => sw_f (PO.bad p3) (w67 e h3 x1 0 p3 (f2.tr f3.l) hq))
  rw [e38, show (16 : Int32) = nI 16 from rfl]
  refine pk_eq (T 0 2) 16 (fun c => ?_) (fun c => ?_)
  · rw [if_pos c] at hp
    refine t_wrong (a := 2) p (by decide) (by decide) (fun h2 p2 f2 => ?_)
    unfold wpBX7_readMet_17
    exact sw_f p2.bad (hp h2 p2 f2.l)
  rw [if_neg c] at hp
  unfold wpBX7_readMet_17
  refine sw_t p.ok0 (p.next (fun h4 p4 f4 => ?_))
  have e4 : h4 3 6 = nI (T 0 0) := by rw [f4.g 3 (by decide) (by decide)]; exact e36
  refine t_pers p4 h8 e4 (fun e h6 ee p6 f6 => ?_) (fun a h6 ea ha p6 f6 => ?_)
  · rw [ee] at hp
    have e6 : h6 3 6 = nI (T 0 0) := by rw [f6 3 (by decide) (by decide)]; exact e4
    exact sw_f (PO.bad p6) (w45 e h6 0 p6 e6 (f4.g.l.tr f6.l) hp)
  rw [ea] at hp
  have hp : ∀ h', LO tp n (eR (pnS tp n (T 0 0) (nxt tp n (nxt tp n s))) (fun b => if a = b then .error (4, nxt tp n (nxt tp n s)) else eR (nuP tp n 0 999 (nxt tp n (nxt tp n (nxt tp n s)))) (fun x => .ok (x.2, putM T a b x.1)))) h' → TL h h' → post h' := hp
  refine sw_t p6.ok0 (p6.next (fun h36 p36 f36 => ?_))
  have g36 : TG h h36 := f4.g.tr (f6.tr f36.g)
  have e7 : h36 3 6 = nI (T 0 0) := by rw [g36 3 (by decide) (by decide)]; exact e36
  unfold wpBX7_readMet_45
  refine t_pers p36 h8 e7 (fun e h9 ee p9 f9 => ?_) (fun b h9 eb hb p9 f9 => ?_)
  · rw [ee] at hp
    exact sw_f (PO.bad p9) (w67 e h9 _ _ p9 (g36.l.tr f9.l) hp)
  rw [eb] at hp
  have hp : ∀ h', LO tp n (if a = b then .error (4, nxt tp n (nxt tp n s)) else eR (nuP tp n 0 999 (nxt tp n (nxt tp n (nxt tp n s)))) (fun x => .ok (x.2, putM T a b x.1))) h' → TL h h' → post h' := hp
  have g9 : TG h h9 := g36.tr f9
  refine sw_t p9.ok0 ?_
  refine pk_eq a b (fun e => ?_) (fun e => ?_)
  · rw [if_pos e] at hp
    exact t_wrong (a := 4) p9 (by decide) (by decide) (fun h2 p2 f2 => w67 _ h2 _ _ p2 (g9.l.tr f2.l) hp)
  rw [if_neg e] at hp
  unfold wpBX7_readMet_67
  refine sw_t p9.ok0 (p9.next (fun h31 p31 f31 => ?_))
  have g31 : TG h h31 := g9.tr f31.g
  unfold wpBX7_readMet_78
  rw [show (0 : Int32) = nI 0 from rfl, show (999 : Int32) = nI 999 from rfl]
  refine t_numP p31 (by decide) (by decide) (fun e h13 ee p13 f13 => ?_) (fun ago s' h13 ev _ hg p13 f13 => ?_)
  · rw [ee] at hp
    exact sw_f (PO.bad p13) (hp h13 p13 (g31.tr f13).l)
  rw [ev] at hp
  have hp : ∀ h', LO tp n (.ok (s', putM T a b ago)) h' → TL h h' → post h' := hp
  have g13 : TG h h13 := g31.tr f13
  have i13 : h13 13 = h 13 := g13 13 (by decide) (by decide)
  refine sw_t p13.ok0 ?_
  unfold wpX7_couple
  try dsimp only
  rw [e8, e8, show (64 : Int32) = nI 64 from rfl, nI_add, nI_add, ixn (by omega), ixn (by omega)]
  refine ⟨pk_in (64 + (8 * a + b)) 128 (by omega), pk_in (64 + (8 * a + b)) 128 (by omega), fun h21 e21 => ⟨pk_in (64 + (8 * a + b)) 128 (by omega), pk_in (64 + (8 * b + a)) 128 (by omega), fun h28 e28 h29 e29 => ?_⟩⟩
  have va : h13 13 (64 + (8 * a + b)) = AGv T a b := by rw [i13]; exact t.1.2.2.2.2.2 a b (by omega) (by omega)
  have vn := putM_v (ago := ago) hM (show a < 8 by omega) (show b < 8 by omega) hg (Or.inl ⟨rfl, rfl⟩)
  have vn2 := putM_v (ago := ago) hM (show a < 8 by omega) (show b < 8 by omega) hg (Or.inr ⟨rfl, rfl⟩)
  rw [va, ← vn] at e21
  have f21 : h21 13 (64 + (8 * a + b)) = AGv (putM T a b ago) a b := by rw [e21, up2_at]
  rw [f21] at e28
  have f38 : h28 3 8 = nI (T 0 2) := by rw [e28, up2_other (by decide), e21, up2_other (by decide), g13 3 (by decide) (by decide)]; exact e38
  rw [f38, nI_1] at e29
  have o29 : ∀ k, k ≠ 3 → k ≠ 13 → h29 k = h13 k := fun k c d => by rw [e29, up2_other c, e28, up2_other d, e21, up2_other d]
  have o3 : ∀ i, i ≠ 8 → h29 3 i = h 3 i := fun i hi => by rw [e29, up2_ne _ _ _ hi, e28, up2_other (by decide), e21, up2_other (by decide), g13 3 (by decide) (by decide)]
  refine hp h29 ⟨?_, ?_⟩ (g13.l.tr ?_)
  · have p13 : PO tp n (.ok s') h13 := p13
    exact p13.of (fun k hk => o29 k (by omega) (by omega))
  · show THp (putM T a b ago) h29
    obtain ⟨⟨⟨a1, a2, a3, a4, a5⟩, tb, tc, td, te, tf⟩, tg⟩ := t
    have og : ∀ k, 4 ≤ k → k ≤ 14 → k ≠ 13 → h29 k = h k := fun k c d e => by rw [o29 k (by omega) e, g13 k (by omega) (by omega)]
    have q0 : ∀ i j, i ≠ 11 → ¬ (i = 0 ∧ j = 2) → putM T a b ago i j = T i j := fun i j c d => putM_o d c
    refine ⟨⟨⟨by rw [q0 0 0 (by decide) (by decide), o3 6 (by decide)]; exact a1, by rw [q0 0 1 (by decide) (by decide), o3 7 (by decide)]; exact a2, by rw [q0 0 3 (by decide) (by decide), o3 9 (by decide)]; exact a3, by rw [q0 0 4 (by decide) (by decide), o3 10 (by decide)]; exact a4, by rw [q0 0 5 (by decide) (by decide), o3 11 (by decide)]; exact a5⟩, fun x hx => ?_, fun x hx => ?_, fun x i hx hi => ?_, fun i hi => ?_, fun x y hx hy => ?_⟩, ?_⟩
    · rw [q0 0 0 (by decide) (by decide)] at hx
      rw [q0 1 _ (by decide) (by omega), q0 2 _ (by decide) (by omega), q0 3 _ (by decide) (by omega), og 4 (by decide) (by decide) (by decide), og 5 (by decide) (by decide) (by decide), og 6 (by decide) (by decide) (by decide)]
      exact tb x hx
    · rw [q0 0 1 (by decide) (by decide)] at hx
      rw [q0 4 _ (by decide) (by omega), q0 5 _ (by decide) (by omega), q0 6 _ (by decide) (by omega), q0 7 _ (by decide) (by omega), q0 8 _ (by decide) (by omega), og 7 (by decide) (by decide) (by decide), og 8 (by decide) (by decide) (by decide), og 9 (by decide) (by decide) (by decide), og 10 (by decide) (by decide) (by decide), og 11 (by decide) (by decide) (by decide)]
      exact tc x hx
    · rw [q0 0 1 (by decide) (by decide)] at hx
      rw [q0 8 _ (by decide) (by omega)] at hi
      rw [og 12 (by decide) (by decide) (by decide), td x i hx hi]
      unfold et
      rw [q0 9 _ (by decide) (by omega)]
    · rw [q0 0 5 (by decide) (by decide)] at hi
      rw [og 14 (by decide) (by decide) (by decide), te i hi]
      unfold sgn
      rw [q0 10 _ (by decide) (by omega)]
    · rw [e29, up2_other (by decide), e28]
      by_cases c1 : x = b ∧ y = a
      · rw [c1.1, c1.2, up2_at, vn2, vn]
      · rw [up2_ne _ _ _ (by omega), e21]
        by_cases c2 : x = a ∧ y = b
        · rw [c2.1, c2.2, up2_at]
        · rw [up2_ne _ _ _ (by omega), i13, putM_w (by omega) (by omega) hx hy (by omega)]
          exact tf x y hx hy
    · have : putM T a b ago 0 2 = T 0 2 + 1 := if_pos ⟨rfl, rfl⟩
      rw [this, e29, up2_at]
  · rw [e29, e28, e21]
    exact (TL.up (by omega) (by show 64 ≤ _; omega)).tr ((TL.up (by omega) (by show 64 ≤ _; omega)).tr (TL.up (by omega) (by show 6 ≤ 8; omega)))
end PM
