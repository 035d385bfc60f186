/-! 82.pxt: the twin reads expressions -/
section PT2
variable {tp : Nat → Nat} {n : Nat}
/-- what one level deeper does -/
def HO (r : EX) : Prop := ∃ x, r = .ok x
def HE (tp : Nat → Nat) (n : Nat) (wE : (Mem → Prop) → Mem → Int32 → Prop) (a : Int32) (rec : Nat → List Nat → EX) : Prop := ∀ (d : Nat) (r : EX) (h : Mem) (post : Mem → Prop), PX tp n d r h → (∀ h', PX tp n d (eR r (fun x => rec x.1 x.2)) h' → TE h h' → post h') → wE post h a
theorem txt_ok : ∀ t, t < 30 → (txt t).length < 65536 ∧ ∀ k, k < (txt t).length → (txt t).getD k 0 < 256 := by decide +kernel
theorem t_isX {h : Mem} {r : ER Nat} (p : PO tp n r h) {post : Bool → Prop} {t : Nat} (ht : t < 30) (hp : post (vR r (wdS tp n t) false)) : wpX7_is post h t := t_is p (txt_ok t ht).1 (txt_ok t ht).2 hp
theorem fst1_s (f : Nat → Bool) (m : Nat) (h : fst1 f m = none) : fst1 f (m + 1) = if f m = true then some m else none := by
  show (match fst1 f m with | some i => some i | none => if f m = true then some m else none) = _
  rw [h]
theorem fst1_k {f : Nat → Bool} {m k i : Nat} (h : fst1 f m = some i) (hk : m ≤ k) : fst1 f k = some i := by
  induction k with
  | zero =>
    have e : m = 0 := by omega
    subst e
    exact h
  | succ k ih =>
    by_cases e : m = k + 1
    · rw [← e]; exact h
    · show (match fst1 f k with | some i => some i | none => if f k = true then some k else none) = _
      rw [ih (by omega)]
theorem pLoop_s (tp : Nat → Nat) (n : Nat) (cond : Nat → Option Nat) (sub : Nat → List Nat → EX) (f s : Nat) (cs : List Nat) : pLoop tp n cond sub (f + 1) s cs = match cond s with
    | none => .ok (s, cs)
    | some c => eR (sub (nxt tp n s) cs) (fun x => pLoop tp n cond sub f x.1 (x.2 ++ [c])) := rfl
def opI (o : Option Nat) : Int32 := match o with
  | some i => nI i
  | none => -1
theorem wlen_le (k : Nat) : wlen k ≤ 6 := by
  unfold wlen
  split <;> decide
theorem t_which {h : Mem} {s : Nat} (p : PT tp n s h) {k : Nat} {post : Int32 → Prop} (hp : post (opI (whS tp n k s))) : wpX7_which post h k := by
  have w6 := wlen_le k
  unfold wpX7_which
  unfold whS at hp
  refine LW_nat (fun i => nI i) (wlen k) (fun i => fst1 (fun i => wdS tp n (widx k i) s) i = none) rfl rfl (fun K i hi hI kk => ?_)
  unfold wpBX7_which_2
  try dsimp only
  refine pk_le (wlen k) i (fun c => ?_) (fun c => ?_)
  · have e : i = wlen k := by omega
    subst e
    rw [hI] at hp
    exact hp
  · rw [ixn (by omega)]
    have po : PO tp n (.ok s) h := p
    refine ⟨pk_in i _ c, t_isX po (widx_lt k i) ⟨fun e => ?_, fun e => ?_⟩⟩
    · have e1 : fst1 (fun i => wdS tp n (widx k i) s) (i + 1) = some i := by
        rw [fst1_s _ _ hI]
        exact if_pos e
      rw [fst1_k e1 (show i + 1 ≤ wlen k by omega)] at hp
      exact hp
    · rw [nI_1]
      exact kk c (by rw [fst1_s _ _ hI]; exact if_neg e)
theorem fst1_lt {f : Nat → Bool} : ∀ {m i : Nat}, fst1 f m = some i → i < m := by
  intro m
  induction m with
  | zero => intro i h; cases h
  | succ m ih =>
    intro i h
    have h : (match fst1 f m with | some i => some i | none => if f m = true then some m else none) = some i := h
    cases e : fst1 f m with
    | some j => rw [e] at h; injection h with h; subst h; have := ih e; omega
    | none =>
      rw [e] at h
      have h : (if f m = true then some m else none) = some i := h
      by_cases c : f m = true
      · rw [if_pos c] at h; injection h with h; omega
      · rw [if_neg c] at h; cases h
theorem t_part {wE : (Mem → Prop) → Mem → Int32 → Prop} {rec : Nat → List Nat → EX} (_hm : Mo n rec) {a : Int32} {d : Nat} {r : EX} (hE : HO r → HE tp n wE (a + 1) rec) {h : Mem} (p : PX tp n d r h) {post : Mem → Prop} (hp : ∀ h', PX tp n d (eR r (fun x => pPart tp n rec x.1 x.2)) h' → TE h h' → post h') : wpX7_readPart wE post h a := by
  unfold wpX7_readPart wpBX7_readPart_56
  cases r with
  | error e => exact sw_f (PO.bad p) (hp h p (TE.rf h))
  | ok x =>
    obtain ⟨s, cs⟩ := x
    have q : (PT tp n s h ∧ cs.length + d ≤ s) ∧ h 3 11 = nI cs.length ∧ ∀ i, i < cs.length → h 14 (600 + i) = sgN (cs.getD i 0) := p
    have po : PO tp n (.ok s) h := q.1.1
    have hp : ∀ h', PX tp n d (pPart tp n rec s cs) h' → TE h h' → post h' := hp
    have t4 := ty_le (tp := tp) (n := n) s
    have h20 : h 20 0 = nI (ty tp n s) := q.1.1.2.2.2.2.1
    have lt : ty tp n s ≠ 0 → s < n := fun hh => by
      apply Classical.byContradiction
      intro g
      exact hh (if_pos (by omega))
    unfold pPart at hp
    refine sw_t q.1.1.ok0 ?_
    rw [h20, show (2 : Int32) = nI 2 from rfl, show (1 : Int32) = nI 1 from rfl]
    refine pk_eq (ty tp n s) 2 (fun e => ?_) (fun e => ?_)
    · rw [if_pos e] at hp
      have nl := nxt_lt (tp := tp) (lt (by omega))
      refine t_readNumber (lo := 0) (hi := 9999) po (by decide) (by decide) (fun h2 p2 f2 => ?_)
      have p2 : PO tp n (nuS tp n 0 9999 s) h2 := p2
      unfold nuS at p2
      show wpX7_lay _ h2 (nI (vR (nnS tp n 0 9999 s) (fun v => v) 0))
      cases ev : nnS tp n 0 9999 s with
      | error q =>
        rw [ev] at p2 hp
        have px : PX tp n (d + 1) (.error q) h2 := p2
        exact t_layX px (c := 0) rfl (fun h3 p3 f3 => hp h3 p3 (f2.e.tr f3))
      | ok v =>
        rw [ev] at p2 hp
        have hv := nnS_le ev
        have px : PX tp n (d + 1) (.ok (nxt tp n s, cs)) h2 := PX.mv p p2 f2 (by omega)
        exact t_layX px (c := v) (by unfold sgN; rw [if_pos (by omega)]; rfl) (fun h3 p3 f3 => hp h3 p3 (f2.e.tr f3))
    rw [if_neg e] at hp
    refine pk_eq (ty tp n s) 1 (fun e2 => ?_) (fun e2 => ?_)
    · rw [if_pos e2] at hp
      refine t_which q.1.1 ?_
      cases ev : whS tp n 1 s with
      | none =>
        rw [ev] at hp
        refine sw_t rfl (t_wrong (a := 3) q.1.1 (by decide) (by decide) (fun h2 p2 f2 => ?_))
        have px : PX tp n (d + 1) (.error (3, s)) h2 := p2
        refine t_layX px (c := 0) (by decide) (fun h3 p3 f3 => ?_)
        exact sw_f (PO.bad p3) (hp h3 p3 (f2.e.tr f3))
      | some v =>
        rw [ev] at hp
        have hv := fst1_lt ev
        have w6 := wlen_le 1
        have nl := nxt_lt (tp := tp) (lt (by omega))
        refine sw_f (nIm1 (by omega)) ?_
        have g : ∀ h3, PX tp n 0 (.ok (s, cs ++ [10001 + v])) h3 → TE h h3 → (h3 24 0 = 0 → wpX7_stepOn (fun h17 => post h17) h3) ∧ (¬ h3 24 0 = 0 → post h3) := fun h3 p3 f3 => by
          have q3 : PT tp n s h3 := p3.1.1
          refine sw_t q3.ok0 (q3.next (fun h4 p4 f4 => hp h4 (PX.mv p3 p4 f4.g ?_) (f3.tr f4.g.e)))
          rw [List.length_append]
          show cs.length + 1 + d ≤ _
          omega
        -- the sign is laid before the word is gone over
        unfold wpX7_lay
        have h6 := q.1.1.1.1.1
        refine sw_t q.1.1.ok0 ?_
        rw [q.2.1, show (600 : Int32) = nI 600 from rfl, nI_add, ixn (by have := lt (by omega); omega)]
        have hsn := lt (by omega)
        refine ⟨pk_in (600 + cs.length) 1200 (by omega), fun h3 e3 h4 e4 => ?_⟩
        have f : h3 3 11 = nI cs.length := by rw [e3, up2_other (by decide)]; exact q.2.1
        rw [f, nI_1] at e4
        have p4 : PT tp n s h4 := po.of (h' := h4) (r := .ok s) (fun k hk => by rw [e4, up2_other (by omega), e3, up2_other (by omega)])
        have f4 : TE h h4 := ⟨fun k a b c d => by rw [e4, up2_other c, e3, up2_other d], fun i hi => by rw [e4, up2_ne _ _ _ hi, e3, up2_other (by decide)], fun i hi => by rw [e4, up2_other (by decide), e3, up2_ne _ _ _ (by omega)]⟩
        refine sw_t p4.ok0 (p4.next (fun h5 p5 f5 => hp h5 ⟨⟨p5, ?_⟩, ?_, fun i hi => ?_⟩ (f4.tr f5.g.e)))
        · show (cs ++ [10001 + v]).length + d ≤ nxt tp n s
          rw [List.length_append]
          show cs.length + 1 + d ≤ _
          omega
        · rw [f5.g 3 (by decide) (by decide), e4, up2_at, List.length_append]; rfl
        · have hi : i < (cs ++ [10001 + v]).length := hi
          rw [List.length_append] at hi
          have hi : i < cs.length + 1 := hi
          rw [f5.g 14 (by decide) (by decide), e4, up2_other (by decide), e3]
          show up2 h 14 (600 + cs.length) _ 14 (600 + i) = sgN ((cs ++ [10001 + v]).getD i 0)
          by_cases e : i = cs.length
          · rw [e, up2_at]
            have : (cs ++ [10001 + v]).getD cs.length 0 = 10001 + v := by simp
            rw [this]
            have w : ∀ v, v < 6 → (-1 : Int32) - nI v = sgN (10001 + v) := by decide +kernel
            exact w v (by omega)
          · rw [up2_ne _ _ _ (by omega), q.2.2 i (by omega)]
            congr 1
            simp only [List.getD_eq_getElem?_getD]
            rw [List.getElem?_append_left (by omega)]
    · rw [if_neg e2] at hp
      rw [show (40 : Int32) = nI 40 from rfl, show (41 : Int32) = nI 41 from rfl]
      refine t_mark po (by decide) (fun h2 p2 f2 => ?_)
      have p2 : PO tp n (mkS tp n 40 s) h2 := p2
      have hp : ∀ h', PX tp n d (eR (eR (mkS tp n 40 s) (fun s1 => rec s1 cs)) (fun x => eR (mkS tp n 41 x.1) (fun s3 => .ok (s3, x.2)))) h' → TE h h' → post h' := fun h' p' f' => hp h' (by
        cases h9 : mkS tp n 40 s with
        | error e => rw [h9] at p'; exact p'
        | ok s1 => rw [h9] at p'; exact p') f'
      have px : PX tp n d (eR (mkS tp n 40 s) (fun s1 => .ok (s1, cs))) h2 := by
        cases h9 : mkS tp n 40 s with
        | error e => rw [h9] at p2; exact p2
        | ok s1 =>
          rw [h9] at p2
          have m := mk_ok h9
          have nl := nxt_lt (tp := tp) m.1
          exact PX.mv p p2 f2 (by rw [m.2]; omega)
      refine hE ⟨_, rfl⟩ d _ h2 _ px (fun h3 p3 f3 => ?_)
      have p3 : PX tp n d (eR (mkS tp n 40 s) (fun s1 => rec s1 cs)) h3 := by
        cases h9 : mkS tp n 40 s with
        | error e => rw [h9] at p3; exact p3
        | ok s1 => rw [h9] at p3; exact p3
      generalize eR (mkS tp n 40 s) (fun s1 => rec s1 cs) = r3 at p3 hp
      refine t_mark p3.po (by decide) (fun h4 p4 f4 => hp h4 ?_ (f2.e.tr (f3.tr f4.e)))
      cases r3 with
      | error e => exact p4
      | ok x =>
        obtain ⟨s3, c3⟩ := x
        have p4 : PO tp n (mkS tp n 41 s3) h4 := p4
        show PX tp n d (eR (mkS tp n 41 s3) (fun s4 => .ok (s4, c3))) h4
        cases h9 : mkS tp n 41 s3 with
        | error e => rw [h9] at p4; exact p4
        | ok s4 =>
          rw [h9] at p4
          have m := mk_ok h9
          have nl := nxt_lt (tp := tp) m.1
          have w : (PT tp n s3 h3 ∧ c3.length + d ≤ s3) ∧ _ := p3
          exact PX.mv p3 p4 f4 (by rw [m.2]; have := w.1.2; omega)

theorem t_prod {wE : (Mem → Prop) → Mem → Int32 → Prop} {rec : Nat → List Nat → EX} (hm : Mo n rec) {a : Int32} {d : Nat} {r : EX} (hE : HO r → HE tp n wE (a + 1) rec) {h : Mem} (p : PX tp n d r h) {post : Mem → Prop} (hp : ∀ h', PX tp n d (eR r (fun x => pProd tp n rec x.1 x.2)) h' → TE h h' → post h') : wpX7_readProduct wE post h a := by
  unfold wpX7_readProduct
  refine t_part hm hE p (fun h2 p2 f2 => ?_)
  have hp2 : ∀ h', PX tp n d (eR (eR r (fun x => pPart tp n rec x.1 x.2)) (fun x => pLoop tp n (cdS tp n 42 10022 47 10023) (pPart tp n rec) (n + 1) x.1 x.2)) h' → TE h h' → post h' := fun h' p' f' => hp h' (by
    cases r with
    | error e => exact p'
    | ok x => exact p') f'
  have hle : ∀ x, eR r (fun x => pPart tp n rec x.1 x.2) = .ok x → n < x.1 + (n + 1) := fun x _ => by omega
  have hor : ∀ x, eR r (fun x => pPart tp n rec x.1 x.2) = .ok x → HO r := fun x hx => by
    obtain ⟨y, e, _⟩ := eR_ok hx
    exact ⟨y, e⟩
  generalize eR r (fun x => pPart tp n rec x.1 x.2) = r2 at p2 hp2 hle hor
  clear hp p
  refine LW_ix (τ := Mem × EX × Nat) (fun t => t.1) (fun t => PX tp n d t.2.1 t.1 ∧ TE h t.1 ∧ eR t.2.1 (fun x => pLoop tp n (cdS tp n 42 10022 47 10023) (pPart tp n rec) t.2.2 x.1 x.2) = eR r2 (fun x => pLoop tp n (cdS tp n 42 10022 47 10023) (pPart tp n rec) (n + 1) x.1 x.2) ∧ ∀ x, t.2.1 = .ok x → n < x.1 + t.2.2 ∧ HO r) (fun t => t.2.2) (fun K t ht k => ?_) (h2, r2, n + 1) ⟨p2, f2, rfl, fun x hx => ⟨hle x hx, hor x hx⟩⟩
  obtain ⟨y, q, f⟩ := t
  obtain ⟨py, fy, ey, ly⟩ := ht
  dsimp only at py fy ey ly
  unfold wpBX7_readProduct_5 wpBX7_readProduct_23 wpBX7_readProduct_39
  try dsimp only
  rw [show (42 : Int32) = nI 42 from rfl, show (47 : Int32) = nI 47 from rfl]
  cases q with
  | error e =>
    have out : post y := hp2 y (by rw [← ey]; exact py) fy
    exact t_isMarked (r := .error e) py (by decide) (sw_f (show ¬ (false = true) by decide) (t_isMarked (r := .error e) py (by decide) (sw_f (show ¬ (false = true) by decide) out)))
  | ok x =>
    obtain ⟨s, cs⟩ := x
    have pq : (PT tp n s y ∧ cs.length + d ≤ s) ∧ y 3 11 = nI cs.length ∧ ∀ i, i < cs.length → y 14 (600 + i) = sgN (cs.getD i 0) := py
    have po : PO tp n (.ok s) y := pq.1.1
    have hs := pq.1.1.1.2.2
    have lf : n < s + f := (ly (s, cs) rfl).1
    have ho := (ly (s, cs) rfl).2
    cases f with
    | zero => omega
    | succ f =>
      have ey : pLoop tp n (cdS tp n 42 10022 47 10023) (pPart tp n rec) (f + 1) s cs = eR r2 (fun x => pLoop tp n (cdS tp n 42 10022 47 10023) (pPart tp n rec) (n + 1) x.1 x.2) := ey
      rw [pLoop_s] at ey
      have go : ∀ c v, cdS tp n 42 10022 47 10023 s = some c → s < n → v = sgN c → wpX7_stepOn (fun h10 => (wpX7_readPart wE (fun h12 => (wpX7_lay (fun h14 => K h14) h12 v)) h10 a)) y := fun c v ec hsn ev => by
        rw [ec] at ey
        have nl := nxt_lt (tp := tp) hsn
        refine pq.1.1.next (fun h10 p10' f10 => ?_)
        have px : PX tp n (d + 1) (.ok (nxt tp n s, cs)) h10 := PX.mv py p10' f10.g (by omega)
        refine t_part hm (fun _ => hE ho) px (fun h12 p12 f12 => t_layX p12 ev (fun h14 p14 f14 => ?_))
        refine k (h14, _, f) ⟨p14, fy.tr (f10.g.e.tr (f12.tr f14)), ?_, fun x hx => ?_⟩ (by show f < f + 1; omega)
        · show eR (eR (pPart tp n rec (nxt tp n s) cs) (fun x => .ok (x.1, x.2 ++ [c]))) (fun x => pLoop tp n (cdS tp n 42 10022 47 10023) (pPart tp n rec) f x.1 x.2) = _
          rw [← ey]
          cases pPart tp n rec (nxt tp n s) cs with
          | ok x => rfl
          | error e => rfl
        · have hx : eR (pPart tp n rec (nxt tp n s) cs) (fun x => .ok (x.1, x.2 ++ [c])) = .ok x := hx
          obtain ⟨z, e1, hx⟩ := eR_ok hx
          injection hx with hx
          subst hx
          have g := hm.part _ _ _ (nxt_le (tp := tp) hs).2 e1
          refine ⟨?_, ho⟩
          show n < z.1 + f
          omega
      refine t_isMarked po (by decide) ⟨fun c1 => t_isMarked po (by decide) ?_, fun c1 => t_isMarked po (by decide) ⟨fun c2 => t_isMarked po (by decide) ?_, fun c2 => ?_⟩⟩
      · have c1 : sgS tp n 42 s = true := c1
        rw [show vR (.ok s : ER Nat) (sgS tp n 42) false = true from c1, if_pos rfl]
        exact go 10022 _ (by unfold cdS; rw [if_pos c1]) (sg_lt c1) rfl
      · have c1 : ¬ sgS tp n 42 s = true := c1
        have c2 : sgS tp n 47 s = true := c2
        rw [show vR (.ok s : ER Nat) (sgS tp n 42) false = false from Bool.eq_false_iff.mpr c1, if_neg (by decide)]
        exact go 10023 _ (by unfold cdS; rw [if_neg c1, if_pos c2]) (sg_lt c2) rfl
      · have c1 : ¬ sgS tp n 42 s = true := c1
        have c2 : ¬ sgS tp n 47 s = true := c2
        have ec : cdS tp n 42 10022 47 10023 s = none := by unfold cdS; rw [if_neg c1, if_neg c2]
        rw [ec] at ey
        exact hp2 y (by rw [← ey]; exact py) fy

theorem t_sum {wE : (Mem → Prop) → Mem → Int32 → Prop} {rec : Nat → List Nat → EX} (hm : Mo n rec) {a : Int32} {d : Nat} {r : EX} (hE : HO r → HE tp n wE (a + 1) rec) {h : Mem} (p : PX tp n d r h) {post : Mem → Prop} (hp : ∀ h', PX tp n d (eR r (fun x => pSum tp n rec x.1 x.2)) h' → TE h h' → post h') : wpX7_readSum wE post h a := by
  unfold wpX7_readSum
  refine t_prod hm hE p (fun h2 p2 f2 => ?_)
  have hp2 : ∀ h', PX tp n d (eR (eR r (fun x => pProd tp n rec x.1 x.2)) (fun x => pLoop tp n (cdS tp n 43 10020 45 10021) (pProd tp n rec) (n + 1) x.1 x.2)) h' → TE h h' → post h' := fun h' p' f' => hp h' (by
    cases r with
    | error e => exact p'
    | ok x => exact p') f'
  have hle : ∀ x, eR r (fun x => pProd tp n rec x.1 x.2) = .ok x → n < x.1 + (n + 1) := fun x _ => by omega
  have hor : ∀ x, eR r (fun x => pProd tp n rec x.1 x.2) = .ok x → HO r := fun x hx => by
    obtain ⟨y, e, _⟩ := eR_ok hx
    exact ⟨y, e⟩
  generalize eR r (fun x => pProd tp n rec x.1 x.2) = r2 at p2 hp2 hle hor
  clear hp p
  refine LW_ix (τ := Mem × EX × Nat) (fun t => t.1) (fun t => PX tp n d t.2.1 t.1 ∧ TE h t.1 ∧ eR t.2.1 (fun x => pLoop tp n (cdS tp n 43 10020 45 10021) (pProd tp n rec) t.2.2 x.1 x.2) = eR r2 (fun x => pLoop tp n (cdS tp n 43 10020 45 10021) (pProd tp n rec) (n + 1) x.1 x.2) ∧ ∀ x, t.2.1 = .ok x → n < x.1 + t.2.2 ∧ HO r) (fun t => t.2.2) (fun K t ht k => ?_) (h2, r2, n + 1) ⟨p2, f2, rfl, fun x hx => ⟨hle x hx, hor x hx⟩⟩
  obtain ⟨y, q, f⟩ := t
  obtain ⟨py, fy, ey, ly⟩ := ht
  dsimp only at py fy ey ly
  unfold wpBX7_readSum_5 wpBX7_readSum_23 wpBX7_readSum_39
  try dsimp only
  rw [show (43 : Int32) = nI 43 from rfl, show (45 : Int32) = nI 45 from rfl]
  cases q with
  | error e =>
    have out : post y := hp2 y (by rw [← ey]; exact py) fy
    exact t_isMarked (r := .error e) py (by decide) (sw_f (show ¬ (false = true) by decide) (t_isMarked (r := .error e) py (by decide) (sw_f (show ¬ (false = true) by decide) out)))
  | ok x =>
    obtain ⟨s, cs⟩ := x
    have pq : (PT tp n s y ∧ cs.length + d ≤ s) ∧ y 3 11 = nI cs.length ∧ ∀ i, i < cs.length → y 14 (600 + i) = sgN (cs.getD i 0) := py
    have po : PO tp n (.ok s) y := pq.1.1
    have hs := pq.1.1.1.2.2
    have lf : n < s + f := (ly (s, cs) rfl).1
    have ho := (ly (s, cs) rfl).2
    cases f with
    | zero => omega
    | succ f =>
      have ey : pLoop tp n (cdS tp n 43 10020 45 10021) (pProd tp n rec) (f + 1) s cs = eR r2 (fun x => pLoop tp n (cdS tp n 43 10020 45 10021) (pProd tp n rec) (n + 1) x.1 x.2) := ey
      rw [pLoop_s] at ey
      have go : ∀ c v, cdS tp n 43 10020 45 10021 s = some c → s < n → v = sgN c → wpX7_stepOn (fun h10 => (wpX7_readProduct wE (fun h12 => (wpX7_lay (fun h14 => K h14) h12 v)) h10 a)) y := fun c v ec hsn ev => by
        rw [ec] at ey
        have nl := nxt_lt (tp := tp) hsn
        refine pq.1.1.next (fun h10 p10' f10 => ?_)
        have px : PX tp n (d + 1) (.ok (nxt tp n s, cs)) h10 := PX.mv py p10' f10.g (by omega)
        refine t_prod hm (fun _ => hE ho) px (fun h12 p12 f12 => t_layX p12 ev (fun h14 p14 f14 => ?_))
        refine k (h14, _, f) ⟨p14, fy.tr (f10.g.e.tr (f12.tr f14)), ?_, fun x hx => ?_⟩ (by show f < f + 1; omega)
        · show eR (eR (pProd tp n rec (nxt tp n s) cs) (fun x => .ok (x.1, x.2 ++ [c]))) (fun x => pLoop tp n (cdS tp n 43 10020 45 10021) (pProd tp n rec) f x.1 x.2) = _
          rw [← ey]
          cases pProd tp n rec (nxt tp n s) cs with
          | ok x => rfl
          | error e => rfl
        · have hx : eR (pProd tp n rec (nxt tp n s) cs) (fun x => .ok (x.1, x.2 ++ [c])) = .ok x := hx
          obtain ⟨z, e1, hx⟩ := eR_ok hx
          injection hx with hx
          subst hx
          have g := hm.prod _ _ _ (nxt_le (tp := tp) hs).2 e1
          refine ⟨?_, ho⟩
          show n < z.1 + f
          omega
      refine t_isMarked po (by decide) ⟨fun c1 => t_isMarked po (by decide) ?_, fun c1 => t_isMarked po (by decide) ⟨fun c2 => t_isMarked po (by decide) ?_, fun c2 => ?_⟩⟩
      · have c1 : sgS tp n 43 s = true := c1
        rw [show vR (.ok s : ER Nat) (sgS tp n 43) false = true from c1, if_pos rfl]
        exact go 10020 _ (by unfold cdS; rw [if_pos c1]) (sg_lt c1) rfl
      · have c1 : ¬ sgS tp n 43 s = true := c1
        have c2 : sgS tp n 45 s = true := c2
        rw [show vR (.ok s : ER Nat) (sgS tp n 43) false = false from Bool.eq_false_iff.mpr c1, if_neg (by decide)]
        exact go 10021 _ (by unfold cdS; rw [if_neg c1, if_pos c2]) (sg_lt c2) rfl
      · have c1 : ¬ sgS tp n 43 s = true := c1
        have c2 : ¬ sgS tp n 45 s = true := c2
        have ec : cdS tp n 43 10020 45 10021 s = none := by unfold cdS; rw [if_neg c1, if_neg c2]
        rw [ec] at ey
        exact hp2 y (by rw [← ey]; exact py) fy
end PT2
