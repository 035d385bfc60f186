/-! 81.pex: expressions: what is read, and the twin's reading -/
def sgN (c : Nat) : Int32 := if c < 10000 then nI c else -(nI (c - 10000))
abbrev EX : Type := ER (Nat × List Nat)
def fst1 (f : Nat → Bool) : Nat → Option Nat
  | 0 => none
  | m + 1 => match fst1 f m with
    | some i => some i
    | none => if f m = true then some m else none
def whS (tp : Nat → Nat) (n k s : Nat) : Option Nat := fst1 (fun i => wdS tp n (widx k i) s) (wlen k)
def pPart (tp : Nat → Nat) (n : Nat) (rec : Nat → List Nat → EX) (s : Nat) (cs : List Nat) : EX :=
  if ty tp n s = 2 then eR (nnS tp n 0 9999 s) (fun v => .ok (nxt tp n s, cs ++ [v]))
  else if ty tp n s = 1 then (match whS tp n 1 s with
    | none => .error (3, s)
    | some v => .ok (nxt tp n s, cs ++ [10001 + v]))
  else eR (mkS tp n 40 s) (fun s1 => eR (rec s1 cs) (fun x => eR (mkS tp n 41 x.1) (fun s3 => .ok (s3, x.2))))
def pLoop (tp : Nat → Nat) (n : Nat) (cond : Nat → Option Nat) (sub : Nat → List Nat → EX) : Nat → Nat → List Nat → EX
  | 0, _, _ => .error (1, 0)
  | f + 1, s, cs => match cond s with
    | none => .ok (s, cs)
    | some c => eR (sub (nxt tp n s) cs) (fun x => pLoop tp n cond sub f x.1 (x.2 ++ [c]))
def cdS (tp : Nat → Nat) (n a ca b cb s : Nat) : Option Nat := if sgS tp n a s = true then some ca else if sgS tp n b s = true then some cb else none
def cdW (tp : Nat → Nat) (n t c s : Nat) : Option Nat := if wdS tp n t s = true then some c else none
def pProd (tp : Nat → Nat) (n : Nat) (rec : Nat → List Nat → EX) (s : Nat) (cs : List Nat) : EX := eR (pPart tp n rec s cs) (fun x => pLoop tp n (cdS tp n 42 10022 47 10023) (pPart tp n rec) (n + 1) x.1 x.2)
def pSum (tp : Nat → Nat) (n : Nat) (rec : Nat → List Nat → EX) (s : Nat) (cs : List Nat) : EX := eR (pProd tp n rec s cs) (fun x => pLoop tp n (cdS tp n 43 10020 45 10021) (pProd tp n rec) (n + 1) x.1 x.2)
def pNots (tp : Nat → Nat) (n : Nat) : Nat → Nat → Nat → ER (Nat × Nat)
  | 0, _, _ => .error (1, 0)
  | f + 1, s, k => if wdS tp n 14 s = true then (if k = 6 then .error (2, s) else pNots tp n f (nxt tp n s) (k + 1)) else .ok (s, k)
def pCmp (tp : Nat → Nat) (n : Nat) (rec : Nat → List Nat → EX) (x : Nat × List Nat) : EX := match cdS tp n 60 10024 61 10025 x.1 with
  | none => .ok x
  | some c => eR (pSum tp n rec (nxt tp n x.1) x.2) (fun z => .ok (z.1, z.2 ++ [c]))
def pNot (tp : Nat → Nat) (n : Nat) (rec : Nat → List Nat → EX) (s : Nat) (cs : List Nat) : EX := eR (pNots tp n 8 s 0) (fun y => eR (pSum tp n rec y.1 cs) (fun x => eR (pCmp tp n rec x) (fun z => .ok (z.1, z.2 ++ List.replicate y.2 10028))))
def pAnd (tp : Nat → Nat) (n : Nat) (rec : Nat → List Nat → EX) (s : Nat) (cs : List Nat) : EX := eR (pNot tp n rec s cs) (fun x => pLoop tp n (cdW tp n 13 10026) (pNot tp n rec) (n + 1) x.1 x.2)
def exB (tp : Nat → Nat) (n s : Nat) : Bool := decide (ty tp n s = 2 ∨ ty tp n s = 1) || sgS tp n 40 s
def pEx (tp : Nat → Nat) (n : Nat) : Nat → Nat → Nat → List Nat → EX
  | 0, _, _, _ => .error (1, 0)
  | d + 1, a, s, cs => if exB tp n s = false then .error (1, s) else if a = 6 then .error (2, s) else
      eR (pAnd tp n (pEx tp n d (a + 1)) s cs) (fun x => pLoop tp n (cdW tp n 12 10027) (pAnd tp n (pEx tp n d (a + 1))) (n + 1) x.1 x.2)
/-- one goes on -/
def Mo (n : Nat) (f : Nat → List Nat → EX) : Prop := ∀ s cs x, s ≤ n → f s cs = .ok x → s ≤ x.1 ∧ x.1 ≤ n
theorem eR_ok {α β : Type} {r : ER α} {f : α → ER β} {y : β} (h : eR r f = .ok y) : ∃ a, r = .ok a ∧ f a = .ok y := by
  cases r with
  | ok a => exact ⟨a, rfl, h⟩
  | error e => cases h
section PX
variable {tp : Nat → Nat} {n : Nat}
theorem sg_lt {c s : Nat} (h : sgS tp n c s = true) : s < n := by
  unfold sgS at h
  have h := (of_decide_eq_true h).1
  unfold ty at h
  apply Classical.byContradiction
  intro g
  rw [if_pos (by omega)] at h
  omega
theorem wd_lt {t s : Nat} (h : wdS tp n t s = true) : s < n := by
  unfold wdS at h
  have h : decide (ty tp n s = 1 ∧ en tp n s - s = (txt t).length) = true := by
    cases e : decide (ty tp n s = 1 ∧ en tp n s - s = (txt t).length) with
    | true => rfl
    | false => rw [e, Bool.false_and] at h; cases h
  have h := (of_decide_eq_true h).1
  unfold ty at h
  apply Classical.byContradiction
  intro g
  rw [if_pos (by omega)] at h
  omega
theorem mk_ok {c s y : Nat} (h : mkS tp n c s = .ok y) : s < n ∧ y = nxt tp n s := by
  unfold mkS at h
  by_cases e : sgS tp n c s = true
  · rw [if_pos e] at h
    exact ⟨sg_lt e, by injection h with h; exact h.symm⟩
  · rw [if_neg e] at h; cases h
theorem Mo.part {rec : Nat → List Nat → EX} (hr : Mo n rec) : Mo n (pPart tp n rec) := by
  intro s cs x hs h
  have nl := nxt_le (tp := tp) hs
  unfold pPart at h
  by_cases c : ty tp n s = 2
  · rw [if_pos c] at h
    obtain ⟨v, _, e⟩ := eR_ok h
    injection e with e
    subst e
    exact nl
  rw [if_neg c] at h
  by_cases c2 : ty tp n s = 1
  · rw [if_pos c2] at h
    cases e : whS tp n 1 s with
    | none => rw [e] at h; cases h
    | some v =>
      rw [e] at h
      have h : (Except.ok (nxt tp n s, cs ++ [10001 + v]) : EX) = .ok x := h
      injection h with h
      subst h
      exact nl
  rw [if_neg c2] at h
  obtain ⟨s1, e1, h⟩ := eR_ok h
  obtain ⟨y, e2, h⟩ := eR_ok h
  obtain ⟨s3, e3, h⟩ := eR_ok h
  injection h with h
  subst h
  have m1 := mk_ok e1
  have m3 := mk_ok e3
  have g := hr s1 cs y (by omega) e2
  have nl3 := nxt_le (tp := tp) (show y.1 ≤ n by omega)
  show s ≤ s3 ∧ s3 ≤ n
  omega
theorem Mo.loop {cond : Nat → Option Nat} {sub : Nat → List Nat → EX} (hs : Mo n sub) : ∀ f, Mo n (pLoop tp n cond sub f) := by
  intro f
  induction f with
  | zero => intro s cs x _ h; cases h
  | succ f ih =>
    intro s cs x hsn h
    unfold pLoop at h
    cases e : cond s with
    | none => rw [e] at h; injection h with h; subst h; exact ⟨Nat.le_refl _, hsn⟩
    | some c =>
      rw [e] at h
      obtain ⟨y, e1, h⟩ := eR_ok h
      have nl := nxt_le (tp := tp) hsn
      have g := hs _ _ _ nl.2 e1
      have g2 := ih _ _ _ g.2 h
      omega
theorem Mo.seq {a b : Nat → List Nat → EX} (ha : Mo n a) (hb : Mo n b) : Mo n (fun s cs => eR (a s cs) (fun x => b x.1 x.2)) := by
  intro s cs x hs h
  obtain ⟨y, e1, h⟩ := eR_ok h
  have g := ha _ _ _ hs e1
  have g2 := hb _ _ _ g.2 h
  omega
theorem Mo.prod {rec : Nat → List Nat → EX} (hr : Mo n rec) : Mo n (pProd tp n rec) := Mo.seq hr.part (Mo.loop hr.part (n + 1))
theorem Mo.sum {rec : Nat → List Nat → EX} (hr : Mo n rec) : Mo n (pSum tp n rec) := Mo.seq hr.prod (Mo.loop hr.prod (n + 1))
theorem nots_mo : ∀ f s k y, s ≤ n → pNots tp n f s k = .ok y → s ≤ y.1 ∧ y.1 ≤ n ∧ y.2 + s ≤ y.1 + k ∧ k ≤ y.2 := by
  intro f
  induction f with
  | zero => intro s k y _ h; cases h
  | succ f ih =>
    intro s k y hs h
    unfold pNots at h
    by_cases c : wdS tp n 14 s = true
    · rw [if_pos c] at h
      by_cases c2 : k = 6
      · rw [if_pos c2] at h; cases h
      · rw [if_neg c2] at h
        have nl := nxt_lt (tp := tp) (wd_lt c)
        have g := ih _ _ _ (nxt_le (tp := tp) hs).2 h
        omega
    · rw [if_neg c] at h
      injection h with h
      subst h
      exact ⟨Nat.le_refl _, hs, by show k + s ≤ s + k; omega, Nat.le_refl _⟩
theorem Mo.cmp {rec : Nat → List Nat → EX} (hr : Mo n rec) : Mo n (fun s cs => pCmp tp n rec (s, cs)) := by
  intro s cs x hs h
  have h : pCmp tp n rec (s, cs) = .ok x := h
  unfold pCmp at h
  cases e : cdS tp n 60 10024 61 10025 s with
  | none =>
    have h : (match cdS tp n 60 10024 61 10025 s with | none => (.ok (s, cs) : EX) | some c => eR (pSum tp n rec (nxt tp n s) cs) (fun z => .ok (z.1, z.2 ++ [c]))) = .ok x := h
    rw [e] at h
    injection h with h
    subst h
    exact ⟨Nat.le_refl _, hs⟩
  | some c =>
    have h : (match cdS tp n 60 10024 61 10025 s with | none => (.ok (s, cs) : EX) | some c => eR (pSum tp n rec (nxt tp n s) cs) (fun z => .ok (z.1, z.2 ++ [c]))) = .ok x := h
    rw [e] at h
    obtain ⟨z, e1, h⟩ := eR_ok h
    injection h with h
    subst h
    have nl := nxt_le (tp := tp) hs
    have g := hr.sum _ _ _ nl.2 e1
    show s ≤ z.1 ∧ z.1 ≤ n
    omega
theorem Mo.not {rec : Nat → List Nat → EX} (hr : Mo n rec) : Mo n (pNot tp n rec) := by
  intro s cs x hs h
  unfold pNot at h
  obtain ⟨y, e1, h⟩ := eR_ok h
  obtain ⟨z, e2, h⟩ := eR_ok h
  obtain ⟨w, e3, h⟩ := eR_ok h
  injection h with h
  subst h
  have g1 := nots_mo _ _ _ _ hs e1
  have g2 := hr.sum _ _ _ g1.2.1 e2
  have g3 := hr.cmp z.1 z.2 w g2.2 e3
  show s ≤ w.1 ∧ w.1 ≤ n
  omega
theorem Mo.and {rec : Nat → List Nat → EX} (hr : Mo n rec) : Mo n (pAnd tp n rec) := Mo.seq hr.not (Mo.loop hr.not (n + 1))
theorem Mo.ex : ∀ d a, Mo n (pEx tp n d a) := by
  intro d
  induction d with
  | zero => intro a s cs x _ h; cases h
  | succ d ih =>
    intro a s cs x hs h
    unfold pEx at h
    by_cases c : exB tp n s = false
    · rw [if_pos c] at h; cases h
    rw [if_neg c] at h
    by_cases c2 : a = 6
    · rw [if_pos c2] at h; cases h
    rw [if_neg c2] at h
    exact Mo.seq (ih (a + 1)).and (Mo.loop (ih (a + 1)).and (n + 1)) s cs x hs h
/-- where the twin stands in an expression; d more signs there is room for -/
def PX (tp : Nat → Nat) (n d : Nat) (r : EX) (h : Mem) : Prop := match r with
  | .ok x => (PT tp n x.1 h ∧ x.2.length + d ≤ x.1) ∧ h 3 11 = nI x.2.length ∧ ∀ i, i < x.2.length → h 14 (600 + i) = sgN (x.2.getD i 0)
  | .error e => PO tp n (.error e) h
/-- what reading changes -/
def TE (h h' : Mem) : Prop := (∀ k, k ≠ 18 → ¬ (20 ≤ k ∧ k ≤ 25) → k ≠ 3 → k ≠ 14 → h' k = h k) ∧ (∀ i, i ≠ 11 → h' 3 i = h 3 i) ∧ ∀ i, i < 600 → h' 14 i = h 14 i
theorem TE.rf (h : Mem) : TE h h := ⟨fun _ _ _ _ _ => rfl, fun _ _ => rfl, fun _ _ => rfl⟩
theorem TE.tr {h h1 h2 : Mem} (a : TE h h1) (b : TE h1 h2) : TE h h2 := ⟨fun k c d e f => (b.1 k c d e f).trans (a.1 k c d e f), fun i hi => (b.2.1 i hi).trans (a.2.1 i hi), fun i hi => (b.2.2 i hi).trans (a.2.2 i hi)⟩
theorem TG.e {h h' : Mem} (a : TG h h') : TE h h' := ⟨fun k c d _ _ => a k c d, fun i _ => by rw [a 3 (by decide) (by decide)], fun i _ => by rw [a 14 (by decide) (by decide)]⟩
theorem PX.po {d : Nat} {r : EX} {h : Mem} (p : PX tp n d r h) : PO tp n (eR r (fun x => .ok x.1)) h := by
  cases r with
  | ok x => exact p.1.1
  | error e => exact p
theorem PX.mv {d d' : Nat} {s s' : Nat} {cs : List Nat} {h h' : Mem} (p : PX tp n d (.ok (s, cs)) h) (q : PT tp n s' h') (g : TG h h') (hd : cs.length + d' ≤ s') : PX tp n d' (.ok (s', cs)) h' := by
  have p : (PT tp n s h ∧ cs.length + d ≤ s) ∧ h 3 11 = nI cs.length ∧ ∀ i, i < cs.length → h 14 (600 + i) = sgN (cs.getD i 0) := p
  exact ⟨⟨q, hd⟩, by rw [g 3 (by decide) (by decide)]; exact p.2.1, fun i hi => by rw [g 14 (by decide) (by decide)]; exact p.2.2 i hi⟩
theorem t_layX {h : Mem} {d : Nat} {r : EX} (p : PX tp n (d + 1) r h) {c : Nat} {v : Int32} (hv : v = sgN c) {post : Mem → Prop} (hp : ∀ h', PX tp n d (eR r (fun x => .ok (x.1, x.2 ++ [c]))) h' → TE h h' → post h') : wpX7_lay post h v := by
  unfold wpX7_lay
  cases r with
  | error e => exact sw_f (PO.bad p) (hp h p (TE.rf h))
  | ok x =>
    obtain ⟨s, cs⟩ := x
    have q : (PT tp n s h ∧ cs.length + (d + 1) ≤ s) ∧ h 3 11 = nI cs.length ∧ ∀ i, i < cs.length → h 14 (600 + i) = sgN (cs.getD i 0) := p
    have h6 := q.1.1.1.1.1
    have hs := q.1.1.1.2.2
    refine sw_t q.1.1.ok0 ?_
    rw [q.2.1, show (600 : Int32) = nI 600 from rfl, nI_add, ixn (by omega)]
    refine ⟨pk_in (600 + cs.length) 1200 (by omega), fun h3 e3 h4 e4 => hp h4 ?_ ?_⟩
    · have f : h3 3 11 = nI cs.length := by rw [e3, up2_other (by decide)]; exact q.2.1
      rw [f, nI_1] at e4
      have op : PO tp n (.ok s) h := q.1.1
      refine ⟨⟨op.of (fun k hk => by rw [e4, up2_other (by omega), e3, up2_other (by omega)]), ?_⟩, ?_, fun i hi => ?_⟩
      · show (cs ++ [c]).length + d ≤ s
        rw [List.length_append]
        show cs.length + 1 + d ≤ s
        omega
      · rw [e4, up2_at, List.length_append]; rfl
      · have hi : i < (cs ++ [c]).length := hi
        rw [List.length_append] at hi
        have hi : i < cs.length + 1 := hi
        rw [e4, up2_other (by decide), e3]
        show up2 h 14 (600 + cs.length) v 14 (600 + i) = sgN ((cs ++ [c]).getD i 0)
        by_cases e : i = cs.length
        · rw [e, up2_at, hv]
          congr 1
          simp
        · rw [up2_ne _ _ _ (by omega), q.2.2 i (by omega)]
          congr 1
          simp only [List.getD_eq_getElem?_getD]
          rw [List.getElem?_append_left (by omega)]
    · refine ⟨fun k a b c d => by rw [e4, up2_other c, e3, up2_other d], fun i hi => ?_, fun i hi => ?_⟩
      · rw [e4, up2_ne _ _ _ hi, e3, up2_other (by decide)]
      · rw [e4, up2_other (by decide), e3, up2_ne _ _ _ (by omega)]
end PX
