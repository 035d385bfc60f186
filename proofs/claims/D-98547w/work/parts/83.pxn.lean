/-! 83.pxn: the twin reads not, and, or -/
section PT3
variable {tp : Nat → Nat} {n : Nat}
theorem t_nots (k : Nat) {h : Mem} {d : Nat} {r : EX} (p : PX tp n (d + k) r h) (hk : k ≤ 8) {wE : (Mem → Prop) → Mem → Int32 → Prop} {a : Int32} {post : Mem → Prop} (hp : ∀ h', PX tp n d (eR r (fun z => .ok (z.1, z.2 ++ List.replicate k 10028))) h' → TE h h' → post h') : ∃ m, wpLX7_readNot_96 wE post a (nI k) m (h, 0) := by
  refine LW_ix (τ := Mem × Nat) (fun t => (t.1, nI t.2)) (fun t => t.2 ≤ k ∧ PX tp n (d + (k - t.2)) (eR r (fun z => .ok (z.1, z.2 ++ List.replicate t.2 10028))) t.1 ∧ TE h t.1) (fun t => k - t.2) (fun K t ht kk => ?_) (h, 0) ⟨Nat.zero_le _, ?_, TE.rf h⟩
  rotate_left
  · show PX tp n (d + (k - 0)) (eR r (fun z => .ok (z.1, z.2 ++ List.replicate 0 10028))) h
    cases r with
    | error e => exact p
    | ok z =>
      show PX tp n (d + (k - 0)) (.ok (z.1, z.2 ++ [])) h
      rw [List.append_nil]
      exact p
  obtain ⟨y, i⟩ := t
  obtain ⟨hi, py, fy⟩ := ht
  dsimp only at hi py fy
  unfold wpBX7_readNot_96
  try dsimp only
  refine pk_le k i (fun c => ?_) (fun c => ?_)
  · have e : i = k := by omega
    subst e
    rw [Nat.sub_self] at py
    exact hp y py fy
  · rw [show d + (k - i) = d + (k - (i + 1)) + 1 by omega] at py
    refine t_layX py (c := 10028) (by decide) (fun h2 p2 f2 => ?_)
    rw [nI_1]
    refine kk (h2, i + 1) ⟨c, ?_, fy.tr f2⟩ (by show k - (i + 1) < k - i; omega)
    show PX tp n (d + (k - (i + 1))) (eR r (fun z => .ok (z.1, z.2 ++ List.replicate (i + 1) 10028))) h2
    cases r with
    | error e => exact p2
    | ok z =>
      have p2 : PX tp n (d + (k - (i + 1))) (.ok (z.1, z.2 ++ List.replicate i 10028 ++ [10028])) h2 := p2
      rw [List.append_assoc, ← List.replicate_succ'] at p2
      exact p2
theorem t_notT {wE : (Mem → Prop) → Mem → Int32 → Prop} {rec : Nat → List Nat → EX} (hm : Mo n rec) {a : Int32} {d k : Nat} (hk : k ≤ 8) {r : EX} (hE : HO r → HE tp n wE (a + 1) rec) {h : Mem} (p : PX tp n (d + k) r h) {post : Mem → Prop} (hp : ∀ h', PX tp n d (eR r (fun x => eR (pSum tp n rec x.1 x.2) (fun x => eR (pCmp tp n rec x) (fun z => .ok (z.1, z.2 ++ List.replicate k 10028))))) h' → TE h h' → post h') : wpX7_readSum wE (fun h5 => (wpX7_isMarked (fun r6 => ((r6 = true → wpBX7_readNot_63 wE post a h5 (nI k)) ∧ (¬ r6 = true → (wpX7_isMarked (fun r25 => ((r25 = true → wpBX7_readNot_63 wE post a h5 (nI k)) ∧ (¬ r25 = true → (∃ n, wpLX7_readNot_96 wE post a (nI k) n (h5, (0 : Int32)))))) h5 (61 : Int32))))) h5 (60 : Int32))) h a := by
  refine t_sum hm hE p (fun y py fy => ?_)
  have hp2 : ∀ h', PX tp n d (eR (eR (eR r (fun x => pSum tp n rec x.1 x.2)) (pCmp tp n rec)) (fun z => .ok (z.1, z.2 ++ List.replicate k 10028))) h' → TE h h' → post h' := fun h' p' f' => hp h' (by
    cases r with
    | error e => exact p'
    | ok x =>
      show PX tp n d (eR (pSum tp n rec x.1 x.2) (fun x => eR (pCmp tp n rec x) (fun z => .ok (z.1, z.2 ++ List.replicate k 10028)))) h'
      have p' : PX tp n d (eR (eR (pSum tp n rec x.1 x.2) (pCmp tp n rec)) (fun z => .ok (z.1, z.2 ++ List.replicate k 10028))) h' := p'
      cases h9 : pSum tp n rec x.1 x.2 with
      | error e => rw [h9] at p'; exact p'
      | ok x2 => rw [h9] at p'; exact p') f'
  have hor : ∀ x, eR r (fun x => pSum tp n rec x.1 x.2) = .ok x → HO r := fun x hx => by
    obtain ⟨y, e, _⟩ := eR_ok hx
    exact ⟨y, e⟩
  generalize eR r (fun x => pSum tp n rec x.1 x.2) = r2 at py hp2 hor
  clear hp p
  rw [show (60 : Int32) = nI 60 from rfl, show (61 : Int32) = nI 61 from rfl]
  unfold wpBX7_readNot_63 wpBX7_readNot_79
  rw [show (60 : Int32) = nI 60 from rfl]
  cases r2 with
  | error e =>
    exact t_isMarked (r := .error e) py (by decide) (sw_f (show ¬ (false = true) by decide) (t_isMarked (r := .error e) py (by decide) (sw_f (show ¬ (false = true) by decide) (t_nots (r := .error e) k py hk (fun h3 p3 f3 => hp2 h3 p3 (fy.tr f3))))))
  | ok x =>
    obtain ⟨s, cs⟩ := x
    have pq : (PT tp n s y ∧ cs.length + (d + k) ≤ s) ∧ y 3 11 = nI cs.length ∧ ∀ i, i < cs.length → y 14 (600 + i) = sgN (cs.getD i 0) := py
    have po : PO tp n (.ok s) y := pq.1.1
    have ho := hor (s, cs) rfl
    have hp2 : ∀ h', PX tp n d (eR (pCmp tp n rec (s, cs)) (fun z => .ok (z.1, z.2 ++ List.replicate k 10028))) h' → TE h h' → post h' := hp2
    have ce : pCmp tp n rec (s, cs) = (match cdS tp n 60 10024 61 10025 s with | none => (.ok (s, cs) : EX) | some c => eR (pSum tp n rec (nxt tp n s) cs) (fun z => .ok (z.1, z.2 ++ [c]))) := rfl
    rw [ce] at hp2
    have go : ∀ c v, cdS tp n 60 10024 61 10025 s = some c → s < n → v = sgN c → wpX7_stepOn (fun h13 => (wpX7_readSum wE (fun h15 => (wpX7_lay (fun h17 => (∃ n, wpLX7_readNot_96 wE post a (nI k) n (h17, (0 : Int32)))) h15 v)) h13 a)) y := fun c v ec hsn ev => by
      rw [ec] at hp2
      have nl := nxt_lt (tp := tp) hsn
      refine pq.1.1.next (fun h10 p10' f10 => ?_)
      have px : PX tp n (d + k + 1) (.ok (nxt tp n s, cs)) h10 := PX.mv py p10' f10.g (by omega)
      refine t_sum hm (fun _ => hE ho) px (fun h12 p12 f12 => t_layX p12 ev (fun h14 p14 f14 => t_nots k p14 hk (fun h3 p3 f3 => hp2 h3 p3 (fy.tr (f10.g.e.tr (f12.tr (f14.tr f3)))))))
    refine t_isMarked po (by decide) ⟨fun c1 => t_isMarked po (by decide) ?_, fun c1 => t_isMarked po (by decide) ⟨fun c2 => t_isMarked po (by decide) ?_, fun c2 => ?_⟩⟩
    · have c1 : sgS tp n 60 s = true := c1
      rw [show vR (.ok s : ER Nat) (sgS tp n 60) false = true from c1, if_pos rfl]
      exact go 10024 _ (by unfold cdS; rw [if_pos c1]) (sg_lt c1) rfl
    · have c1 : ¬ sgS tp n 60 s = true := c1
      have c2 : sgS tp n 61 s = true := c2
      rw [show vR (.ok s : ER Nat) (sgS tp n 60) false = false from Bool.eq_false_iff.mpr c1, if_neg (by decide)]
      exact go 10025 _ (by unfold cdS; rw [if_neg c1, if_pos c2]) (sg_lt c2) rfl
    · have c1 : ¬ sgS tp n 60 s = true := c1
      have c2 : ¬ sgS tp n 61 s = true := c2
      have ec : cdS tp n 60 10024 61 10025 s = none := by unfold cdS; rw [if_neg c1, if_neg c2]
      rw [ec] at hp2
      exact t_nots k py hk (fun h3 p3 f3 => hp2 h3 p3 (fy.tr f3))
theorem t_not {wE : (Mem → Prop) → Mem → Int32 → Prop} {rec : Nat → List Nat → EX} (hm : Mo n rec) {a : Int32} {d : Nat} {r : EX} (hE : HO r → HE tp n wE (a + 1) rec) {h : Mem} (p : PX tp n d r h) {post : Mem → Prop} (hp : ∀ h', PX tp n d (eR r (fun x => pNot tp n rec x.1 x.2)) h' → TE h h' → post h') : wpX7_readNot wE post h a := by
  unfold wpX7_readNot
  cases r with
  | error e =>
    refine LW_nat (fun _ => (h, (0 : Int32))) 0 (fun _ => True) rfl trivial (fun K i hi _ _ => ?_)
    unfold wpBX7_readNot_2
    try dsimp only
    exact t_isX (r := .error e) p (by decide) (sw_f (show ¬ (false = true) by decide) (t_notT hm (k := 0) (by decide) (r := .error e) hE p hp))
  | ok x =>
    obtain ⟨s0, cs⟩ := x
    have ho : HO (.ok (s0, cs)) := ⟨_, rfl⟩
    have hE := hE ho
    have hp : ∀ h', PX tp n d (eR (pNots tp n 8 s0 0) (fun y => eR (pSum tp n rec y.1 cs) (fun x => eR (pCmp tp n rec x) (fun z => .ok (z.1, z.2 ++ List.replicate y.2 10028))))) h' → TE h h' → post h' := hp
    refine LW_ix (τ := Mem × ER Nat × Nat) (fun t => (t.1, nI t.2.2)) (fun t => t.2.2 ≤ 7 ∧ PX tp n (d + t.2.2) (eR t.2.1 (fun s => .ok (s, cs))) t.1 ∧ TE h t.1 ∧ eR t.2.1 (fun s => pNots tp n (8 - t.2.2) s t.2.2) = pNots tp n 8 s0 0 ∧ ∀ s, t.2.1 = .ok s → t.2.2 ≤ 6) (fun t => 8 - t.2.2) (fun K t ht kk => ?_) (h, .ok s0, 0) ⟨Nat.zero_le 7, p, TE.rf h, rfl, fun _ _ => Nat.zero_le 6⟩
    obtain ⟨y, q, k⟩ := t
    obtain ⟨hk, py, fy, ey, ly⟩ := ht
    dsimp only at hk py fy ey ly
    unfold wpBX7_readNot_2 wpBX7_readNot_23
    try dsimp only
    cases q with
    | error e =>
      have ey : (.error e : ER (Nat × Nat)) = pNots tp n 8 s0 0 := ey
      rw [← ey] at hp
      exact t_isX (r := .error e) py (by decide) (sw_f (show ¬ (false = true) by decide) (t_notT hm (k := k) (by omega) (r := .error e) (fun _ => hE) py (fun h3 p3 f3 => hp h3 p3 (fy.tr f3))))
    | ok s =>
      have pq : (PT tp n s y ∧ cs.length + (d + k) ≤ s) ∧ y 3 11 = nI cs.length ∧ ∀ i, i < cs.length → y 14 (600 + i) = sgN (cs.getD i 0) := py
      have po : PO tp n (.ok s) y := pq.1.1
      have k6 := ly s rfl
      have ey : pNots tp n (8 - k) s k = pNots tp n 8 s0 0 := ey
      rw [show 8 - k = (7 - k) + 1 by omega] at ey
      have es : pNots tp n ((7 - k) + 1) s k = if wdS tp n 14 s = true then (if k = 6 then .error (2, s) else pNots tp n (7 - k) (nxt tp n s) (k + 1)) else .ok (s, k) := rfl
      rw [es] at ey
      rw [nI_1, show (6 : Int32) = nI 6 from rfl]
      refine t_isX po (by decide) ⟨fun c => ?_, fun c => ?_⟩
      · have c : wdS tp n 14 s = true := c
        rw [if_pos c] at ey
        refine pk_eq k 6 (fun e => ?_) (fun e => ?_)
        · rw [if_pos e] at ey
          refine t_wrong (a := 2) pq.1.1 (by decide) (by decide) (fun h2 p2 f2 => sw_f p2.bad ?_)
          exact kk (h2, .error (2, s), k + 1) ⟨by show k + 1 ≤ 7; omega, p2, fy.tr f2.e, ey, fun s h => by cases h⟩ (by show 8 - (k + 1) < 8 - k; omega)
        · rw [if_neg e] at ey
          have nl := nxt_lt (tp := tp) (wd_lt c)
          refine sw_t pq.1.1.ok0 (pq.1.1.next (fun h2 p2 f2 => ?_))
          exact kk (h2, .ok (nxt tp n s), k + 1) ⟨by show k + 1 ≤ 7; omega, PX.mv (d' := d + (k + 1)) py p2 f2.g (by omega), fy.tr f2.g.e, by show pNots tp n (8 - (k + 1)) (nxt tp n s) (k + 1) = _; rw [show 8 - (k + 1) = 7 - k by omega]; exact ey, fun s' _ => by show k + 1 ≤ 6; omega⟩ (by show 8 - (k + 1) < 8 - k; omega)
      · have c : ¬ wdS tp n 14 s = true := c
        rw [if_neg c] at ey
        rw [← ey] at hp
        exact t_notT hm (k := k) (by omega) (r := .ok (s, cs)) (fun _ => hE) py (fun h3 p3 f3 => hp h3 p3 (fy.tr f3))

theorem t_and {wE : (Mem → Prop) → Mem → Int32 → Prop} {rec : Nat → List Nat → EX} (hm : Mo n rec) {a : Int32} {d : Nat} {r : EX} (hE : HO r → HE tp n wE (a + 1) rec) {h : Mem} (p : PX tp n d r h) {post : Mem → Prop} (hp : ∀ h', PX tp n d (eR r (fun x => pAnd tp n rec x.1 x.2)) h' → TE h h' → post h') : wpX7_readAnd wE post h a := by
  unfold wpX7_readAnd
  refine t_not hm hE p (fun h2 p2 f2 => ?_)
  have hp2 : ∀ h', PX tp n d (eR (eR r (fun x => pNot tp n rec x.1 x.2)) (fun x => pLoop tp n (cdW tp n 13 10026) (pNot tp n rec) (n + 1) x.1 x.2)) h' → TE h h' → post h' := fun h' p' f' => hp h' (by
    cases r with
    | error e => exact p'
    | ok x => exact p') f'
  have hle : ∀ x, eR r (fun x => pNot tp n rec x.1 x.2) = .ok x → n < x.1 + (n + 1) := fun x _ => by omega
  have hor : ∀ x, eR r (fun x => pNot tp n rec x.1 x.2) = .ok x → HO r := fun x hx => by
    obtain ⟨y, e, _⟩ := eR_ok hx
    exact ⟨y, e⟩
  generalize eR r (fun x => pNot tp n rec x.1 x.2) = r2 at p2 hp2 hle hor
  clear hp p
  refine LW_ix (τ := Mem × EX × Nat) (fun t => t.1) (fun t => PX tp n d t.2.1 t.1 ∧ TE h t.1 ∧ eR t.2.1 (fun x => pLoop tp n (cdW tp n 13 10026) (pNot tp n rec) t.2.2 x.1 x.2) = eR r2 (fun x => pLoop tp n (cdW tp n 13 10026) (pNot tp n rec) (n + 1) x.1 x.2) ∧ ∀ x, t.2.1 = .ok x → n < x.1 + t.2.2 ∧ HO r) (fun t => t.2.2) (fun K t ht k => ?_) (h2, r2, n + 1) ⟨p2, f2, rfl, fun x hx => ⟨hle x hx, hor x hx⟩⟩
  obtain ⟨y, q, f⟩ := t
  obtain ⟨py, fy, ey, ly⟩ := ht
  dsimp only at py fy ey ly
  unfold wpBX7_readAnd_5
  try dsimp only
  cases q with
  | error e =>
    have out : post y := hp2 y (by rw [← ey]; exact py) fy
    exact t_isX (r := .error e) py (by decide) (sw_f (show ¬ (false = true) by decide) out)
  | ok x =>
    obtain ⟨s, cs⟩ := x
    have pq : (PT tp n s y ∧ cs.length + d ≤ s) ∧ y 3 11 = nI cs.length ∧ ∀ i, i < cs.length → y 14 (600 + i) = sgN (cs.getD i 0) := py
    have po : PO tp n (.ok s) y := pq.1.1
    have hs := pq.1.1.1.2.2
    have lf : n < s + f := (ly (s, cs) rfl).1
    have ho := (ly (s, cs) rfl).2
    cases f with
    | zero => omega
    | succ f =>
      have ey : pLoop tp n (cdW tp n 13 10026) (pNot tp n rec) (f + 1) s cs = eR r2 (fun x => pLoop tp n (cdW tp n 13 10026) (pNot tp n rec) (n + 1) x.1 x.2) := ey
      rw [pLoop_s] at ey
      have go : ∀ c v, cdW tp n 13 10026 s = some c → s < n → v = sgN c → wpX7_stepOn (fun h10 => (wpX7_readNot wE (fun h12 => (wpX7_lay (fun h14 => K h14) h12 v)) h10 a)) y := fun c v ec hsn ev => by
        rw [ec] at ey
        have nl := nxt_lt (tp := tp) hsn
        refine pq.1.1.next (fun h10 p10' f10 => ?_)
        have px : PX tp n (d + 1) (.ok (nxt tp n s, cs)) h10 := PX.mv py p10' f10.g (by omega)
        refine t_not hm (fun _ => hE ho) px (fun h12 p12 f12 => t_layX p12 ev (fun h14 p14 f14 => ?_))
        refine k (h14, _, f) ⟨p14, fy.tr (f10.g.e.tr (f12.tr f14)), ?_, fun x hx => ?_⟩ (by show f < f + 1; omega)
        · show eR (eR (pNot tp n rec (nxt tp n s) cs) (fun x => .ok (x.1, x.2 ++ [c]))) (fun x => pLoop tp n (cdW tp n 13 10026) (pNot tp n rec) f x.1 x.2) = _
          rw [← ey]
          cases pNot tp n rec (nxt tp n s) cs with
          | ok x => rfl
          | error e => rfl
        · have hx : eR (pNot tp n rec (nxt tp n s) cs) (fun x => .ok (x.1, x.2 ++ [c])) = .ok x := hx
          obtain ⟨z, e1, hx⟩ := eR_ok hx
          injection hx with hx
          subst hx
          have g := hm.not _ _ _ (nxt_le (tp := tp) hs).2 e1
          refine ⟨?_, ho⟩
          show n < z.1 + f
          omega
      refine t_isX po (by decide) ⟨fun c1 => ?_, fun c1 => ?_⟩
      · have c1 : wdS tp n 13 s = true := c1
        exact go 10026 _ (by unfold cdW; rw [if_pos c1]) (wd_lt c1) rfl
      · have c1 : ¬ wdS tp n 13 s = true := c1
        have ec : cdW tp n 13 10026 s = none := by unfold cdW; rw [if_neg c1]
        rw [ec] at ey
        exact hp2 y (by rw [← ey]; exact py) fy

theorem t_ex62 {wE : (Mem → Prop) → Mem → Int32 → Prop} {rec : Nat → List Nat → EX} (hm : Mo n rec) {a : Int32} {d : Nat} {r : EX} (hE : HO r → HE tp n wE (a + 1) rec) {h : Mem} (p : PX tp n d r h) {post : Mem → Prop} (hp : ∀ h', PX tp n d (eR r (fun x => eR (pAnd tp n rec x.1 x.2) (fun x => pLoop tp n (cdW tp n 12 10027) (pAnd tp n rec) (n + 1) x.1 x.2))) h' → TE h h' → post h') : wpBX7_readExpression_62 wE post a h := by
  unfold wpBX7_readExpression_62
  refine t_and hm hE p (fun h2 p2 f2 => ?_)
  have hp2 : ∀ h', PX tp n d (eR (eR r (fun x => pAnd tp n rec x.1 x.2)) (fun x => pLoop tp n (cdW tp n 12 10027) (pAnd tp n rec) (n + 1) x.1 x.2)) h' → TE h h' → post h' := fun h' p' f' => hp h' (by
    cases r with
    | error e => exact p'
    | ok x => exact p') f'
  have hle : ∀ x, eR r (fun x => pAnd tp n rec x.1 x.2) = .ok x → n < x.1 + (n + 1) := fun x _ => by omega
  have hor : ∀ x, eR r (fun x => pAnd tp n rec x.1 x.2) = .ok x → HO r := fun x hx => by
    obtain ⟨y, e, _⟩ := eR_ok hx
    exact ⟨y, e⟩
  generalize eR r (fun x => pAnd tp n rec x.1 x.2) = r2 at p2 hp2 hle hor
  clear hp p
  refine LW_ix (τ := Mem × EX × Nat) (fun t => t.1) (fun t => PX tp n d t.2.1 t.1 ∧ TE h t.1 ∧ eR t.2.1 (fun x => pLoop tp n (cdW tp n 12 10027) (pAnd tp n rec) t.2.2 x.1 x.2) = eR r2 (fun x => pLoop tp n (cdW tp n 12 10027) (pAnd tp n rec) (n + 1) x.1 x.2) ∧ ∀ x, t.2.1 = .ok x → n < x.1 + t.2.2 ∧ HO r) (fun t => t.2.2) (fun K t ht k => ?_) (h2, r2, n + 1) ⟨p2, f2, rfl, fun x hx => ⟨hle x hx, hor x hx⟩⟩
  obtain ⟨y, q, f⟩ := t
  obtain ⟨py, fy, ey, ly⟩ := ht
  dsimp only at py fy ey ly
  unfold wpBX7_readExpression_67
  try dsimp only
  cases q with
  | error e =>
    have out : post y := hp2 y (by rw [← ey]; exact py) fy
    exact t_isX (r := .error e) py (by decide) (sw_f (show ¬ (false = true) by decide) out)
  | ok x =>
    obtain ⟨s, cs⟩ := x
    have pq : (PT tp n s y ∧ cs.length + d ≤ s) ∧ y 3 11 = nI cs.length ∧ ∀ i, i < cs.length → y 14 (600 + i) = sgN (cs.getD i 0) := py
    have po : PO tp n (.ok s) y := pq.1.1
    have hs := pq.1.1.1.2.2
    have lf : n < s + f := (ly (s, cs) rfl).1
    have ho := (ly (s, cs) rfl).2
    cases f with
    | zero => omega
    | succ f =>
      have ey : pLoop tp n (cdW tp n 12 10027) (pAnd tp n rec) (f + 1) s cs = eR r2 (fun x => pLoop tp n (cdW tp n 12 10027) (pAnd tp n rec) (n + 1) x.1 x.2) := ey
      rw [pLoop_s] at ey
      have go : ∀ c v, cdW tp n 12 10027 s = some c → s < n → v = sgN c → wpX7_stepOn (fun h10 => (wpX7_readAnd wE (fun h12 => (wpX7_lay (fun h14 => K h14) h12 v)) h10 a)) y := fun c v ec hsn ev => by
        rw [ec] at ey
        have nl := nxt_lt (tp := tp) hsn
        refine pq.1.1.next (fun h10 p10' f10 => ?_)
        have px : PX tp n (d + 1) (.ok (nxt tp n s, cs)) h10 := PX.mv py p10' f10.g (by omega)
        refine t_and hm (fun _ => hE ho) px (fun h12 p12 f12 => t_layX p12 ev (fun h14 p14 f14 => ?_))
        refine k (h14, _, f) ⟨p14, fy.tr (f10.g.e.tr (f12.tr f14)), ?_, fun x hx => ?_⟩ (by show f < f + 1; omega)
        · show eR (eR (pAnd tp n rec (nxt tp n s) cs) (fun x => .ok (x.1, x.2 ++ [c]))) (fun x => pLoop tp n (cdW tp n 12 10027) (pAnd tp n rec) f x.1 x.2) = _
          rw [← ey]
          cases pAnd tp n rec (nxt tp n s) cs with
          | ok x => rfl
          | error e => rfl
        · have hx : eR (pAnd tp n rec (nxt tp n s) cs) (fun x => .ok (x.1, x.2 ++ [c])) = .ok x := hx
          obtain ⟨z, e1, hx⟩ := eR_ok hx
          injection hx with hx
          subst hx
          have g := hm.and _ _ _ (nxt_le (tp := tp) hs).2 e1
          refine ⟨?_, ho⟩
          show n < z.1 + f
          omega
      refine t_isX po (by decide) ⟨fun c1 => ?_, fun c1 => ?_⟩
      · have c1 : wdS tp n 12 s = true := c1
        exact go 10027 _ (by unfold cdW; rw [if_pos c1]) (wd_lt c1) rfl
      · have c1 : ¬ wdS tp n 12 s = true := c1
        have ec : cdW tp n 12 10027 s = none := by unfold cdW; rw [if_neg c1]
        rw [ec] at ey
        exact hp2 y (by rw [← ey]; exact py) fy
end PT3
theorem t_ex {tp : Nat → Nat} {n : Nat} : ∀ dd a, a + dd = 9 → a ≤ 6 → HE tp n (wpX7_readExpression dd) (nI a) (pEx tp n dd a) := by
  intro dd
  induction dd with
  | zero => intro a h1 h2; omega
  | succ dd ih =>
    intro a h1 h2 d r h post p hp
    show wpRX7_readExpression (wpX7_readExpression dd) post h (nI a)
    unfold wpRX7_readExpression wpBX7_readExpression_33 wpBX7_readExpression_38
    cases r with
    | error e => exact sw_f (PO.bad p) (hp h p (TE.rf h))
    | ok x =>
      obtain ⟨s, cs⟩ := x
      have q : (PT tp n s h ∧ cs.length + d ≤ s) ∧ h 3 11 = nI cs.length ∧ ∀ i, i < cs.length → h 14 (600 + i) = sgN (cs.getD i 0) := p
      have po : PO tp n (.ok s) h := q.1.1
      have t4 := ty_le (tp := tp) (n := n) s
      have h20 : h 20 0 = nI (ty tp n s) := q.1.1.2.2.2.2.1
      have hp : ∀ h', PX tp n d (if exB tp n s = false then .error (1, s) else if a = 6 then .error (2, s) else eR (pAnd tp n (pEx tp n dd (a + 1)) s cs) (fun x => pLoop tp n (cdW tp n 12 10027) (pAnd tp n (pEx tp n dd (a + 1))) (n + 1) x.1 x.2)) h' → TE h h' → post h' := hp
      have ra : nI a + 1 = nI (a + 1) := nI_1 a
      have yes : exB tp n s = true → ((1 : Int32) = 0 → wpX7_wrong (fun h20 => wpBX7_readExpression_62 (wpX7_readExpression dd) post (nI a) h20) h 1) ∧ (¬ (1 : Int32) = 0 → ((nI a = 6 → wpX7_wrong (fun h18 => wpBX7_readExpression_62 (wpX7_readExpression dd) post (nI a) h18) h 2) ∧ (¬ nI a = 6 → wpBX7_readExpression_62 (wpX7_readExpression dd) post (nI a) h))) := fun eb => by
        rw [if_neg (by rw [eb]; decide)] at hp
        refine ⟨fun h => absurd h (by decide), fun _ => ?_⟩
        rw [show (6 : Int32) = nI 6 from rfl]
        refine pk_eq a 6 (fun e => ?_) (fun e => ?_)
        · rw [if_pos e] at hp
          refine t_wrong (a := 2) q.1.1 (by decide) (by decide) (fun h2 p2 f2 => ?_)
          exact t_ex62 (rec := pEx tp n dd (a + 1)) (Mo.ex dd (a + 1)) (r := .error (2, s)) (fun h => by obtain ⟨x, hx⟩ := h; cases hx) p2 (fun h3 p3 f3 => hp h3 p3 (f2.e.tr f3))
        · rw [if_neg e] at hp
          exact t_ex62 (rec := pEx tp n dd (a + 1)) (Mo.ex dd (a + 1)) (r := .ok (s, cs)) (fun _ => by rw [ra]; exact ih (a + 1) (by omega) (by omega)) p hp
      refine sw_t q.1.1.ok0 ?_
      rw [h20, show (2 : Int32) = nI 2 from rfl]
      refine ⟨fun c => yes ?_, fun c => ⟨fun c2 => yes ?_, fun c2 => ?_⟩⟩
      · have c := (nI_eq (by omega) (by omega)).mp c
        unfold exB
        rw [decide_eq_true (Or.inl c)]; rfl
      · have c2 : ty tp n s = 1 := (nI_eq (by omega) (by omega)).mp c2
        unfold exB
        rw [decide_eq_true (Or.inr c2)]; rfl
      · have c : ¬ ty tp n s = 2 := fun h => c (by rw [h])
        have c2 : ¬ ty tp n s = 1 := fun h => c2 (by rw [h]; rfl)
        have eb : exB tp n s = sgS tp n 40 s := by
          unfold exB
          rw [decide_eq_false (fun h => h.elim c c2), Bool.false_or]
        rw [show (40 : Int32) = nI 40 from rfl]
        refine t_isMarked po (by decide) ?_
        show ((if sgS tp n 40 s = true then (1 : Int32) else 0) = 0 → _) ∧ (¬ (if sgS tp n 40 s = true then (1 : Int32) else 0) = 0 → _)
        by_cases c3 : sgS tp n 40 s = true
        · rw [if_pos c3]
          exact yes (eb.trans c3)
        · rw [if_neg c3]
          rw [if_pos (by rw [eb]; exact Bool.eq_false_iff.mpr c3)] at hp
          refine ⟨fun _ => ?_, fun h => absurd rfl h⟩
          refine t_wrong (a := 1) q.1.1 (by decide) (by decide) (fun h2 p2 f2 => ?_)
          exact t_ex62 (rec := pEx tp n dd (a + 1)) (Mo.ex dd (a + 1)) (r := .error (1, s)) (fun h => by obtain ⟨x, hx⟩ := h; cases hx) p2 (fun h3 p3 f3 => hp h3 p3 (f2.e.tr f3))
