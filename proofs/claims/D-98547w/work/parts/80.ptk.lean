/-! 80.ptk: parsing steps in plain words (first fault: kind, place), and the twin's -/
abbrev ER (α : Type) : Type := Except (Nat × Nat) α
def sgS (tp : Nat → Nat) (n c s : Nat) : Bool := decide (ty tp n s = 3 ∧ tp s = c)
/-- a sign that must be there -/
def mkS (tp : Nat → Nat) (n c s : Nat) : ER Nat := if sgS tp n c s = true then .ok (nxt tp n s) else .error (1, s)
def nvs (tp : Nat → Nat) (n s : Nat) : Nat := nv tp s (en tp n s - s)
/-- a number, not gone over -/
def nnS (tp : Nat → Nat) (n lo hi s : Nat) : ER Nat := if ty tp n s = 2 then (if 4 < en tp n s - s ∨ nvs tp n s < lo ∨ hi < nvs tp n s then .error (2, s) else .ok (nvs tp n s)) else .error (1, s)
/-- somebody of many, not gone over -/
def pnS (tp : Nat → Nat) (n many s : Nat) : ER Nat := match nnS tp n 0 9999 s with
  | .ok v => if v < many then .ok v else .error (3, s)
  | .error e => .error e
def wdS (tp : Nat → Nat) (n t s : Nat) : Bool := decide (ty tp n s = 1 ∧ en tp n s - s = (txt t).length) && allB (fun k => decide ((txt t).getD k 0 = tp (s + k))) (txt t).length
def eR {α β : Type} (r : ER α) (f : α → ER β) : ER β := match r with
  | .ok a => f a
  | .error e => .error e
def vR {α β : Type} (r : ER α) (f : α → β) (d : β) : β := match r with
  | .ok a => f a
  | .error _ => d
section PK
variable {tp : Nat → Nat} {n : Nat}
/-- where the twin stands -/
def PO (tp : Nat → Nat) (n : Nat) (r : ER Nat) (h : Mem) : Prop := match r with
  | .ok s => PT tp n s h
  | .error e => (TX tp n h ∧ 0 < e.1 ∧ e.1 < 10) ∧ h 24 0 = nI e.1 ∧ h 25 0 = nI e.2
/-- what parsing changes -/
def TG (h h' : Mem) : Prop := ∀ k, k ≠ 18 → ¬ (20 ≤ k ∧ k ≤ 25) → h' k = h k
theorem TG.rf (h : Mem) : TG h h := fun _ _ _ => rfl
theorem TG.tr {h h1 h2 : Mem} (a : TG h h1) (b : TG h1 h2) : TG h h2 := fun k c d => (b k c d).trans (a k c d)
theorem TF.g {h h' : Mem} (a : TF h h') : TG h h' := fun k c d => a k c (by omega) (by omega) (by omega) (by omega)
theorem PT.ok0 {h : Mem} {s : Nat} (p : PT tp n s h) : h 24 0 = 0 := p.1.2.1
theorem PO.bad {h : Mem} {e : Nat × Nat} (p : PO tp n (.error e) h) : ¬ h 24 0 = 0 := by
  have p : (TX tp n h ∧ 0 < e.1 ∧ e.1 < 10) ∧ h 24 0 = nI e.1 ∧ h 25 0 = nI e.2 := p
  rw [p.2.1]
  exact nI_ne0 (by omega) (by omega)
theorem PO.of {h h' : Mem} {r : ER Nat} (p : PO tp n r h) (e : ∀ k, k = 16 ∨ (18 ≤ k ∧ k ≤ 25) → h' k = h k) : PO tp n r h' := by
  cases r with
  | ok s =>
    have p : PT tp n s h := p
    obtain ⟨⟨x, a, b⟩, c, d, f, g, i⟩ := p
    exact ⟨⟨x.of (e 16 (by omega)) (e 19 (by omega)), by rw [e 24 (by omega)]; exact a, b⟩, by rw [e 22 (by omega)]; exact c, by rw [e 23 (by omega)]; exact d, by rw [e 18 (by omega)]; exact f, by rw [e 20 (by omega)]; exact g, by rw [e 21 (by omega)]; exact i⟩
  | error q =>
    have p : (TX tp n h ∧ 0 < q.1 ∧ q.1 < 10) ∧ h 24 0 = nI q.1 ∧ h 25 0 = nI q.2 := p
    exact ⟨⟨p.1.1.of (e 16 (by omega)) (e 19 (by omega)), p.1.2⟩, by rw [e 24 (by omega)]; exact p.2.1, by rw [e 25 (by omega)]; exact p.2.2⟩
theorem t_wrong_e {h : Mem} {e : Nat × Nat} (p : PO tp n (.error e) h) {post : Mem → Prop} {a : Int32} (hp : post h) : wpX7_wrong post h a := by
  unfold wpX7_wrong
  exact sw_f p.bad hp
theorem t_wrong {h : Mem} {s : Nat} (p : PT tp n s h) {post : Mem → Prop} {a : Nat} (h0 : 0 < a) (h9 : a < 10) (hp : ∀ h', PO tp n (.error (a, s)) h' → TG h h' → post h') : wpX7_wrong post h (nI a) := by
  unfold wpX7_wrong
  refine sw_t p.ok0 (fun h2 e2 h3 e3 => hp h3 ?_ ?_)
  · have f : h2 22 0 = nI s := by rw [e2, up2_other (by decide)]; exact p.2.1
    refine ⟨⟨p.1.1.of ?_ ?_, h0, h9⟩, ?_, ?_⟩
    · rw [e3, up2_other (by decide), e2, up2_other (by decide)]
    · rw [e3, up2_other (by decide), e2, up2_other (by decide)]
    · rw [e3, up2_other (by decide), e2, up2_at]
    · rw [e3, up2_at]; exact f
  · exact fun k a b => by rw [e3, up2_other (by omega), e2, up2_other (by omega)]
theorem t_isMarked {h : Mem} {r : ER Nat} (p : PO tp n r h) {post : Bool → Prop} {c : Nat} (hc : c < 256) (hp : post (vR r (sgS tp n c) false)) : wpX7_isMarked post h (nI c) := by
  unfold wpX7_isMarked
  cases r with
  | error e => exact sw_f p.bad hp
  | ok s =>
    have p : PT tp n s h := p
    have hp : post (sgS tp n c s) := hp
    refine sw_t p.ok0 ?_
    have h20 : h 20 0 = nI (ty tp n s) := p.2.2.2.2.1
    rw [h20, show (3 : Int32) = nI 3 from rfl]
    unfold sgS at hp
    have t4 : ty tp n s ≤ 4 := by
      unfold ty
      split
      · omega
      split
      · omega
      split
      · omega
      split <;> omega
    refine pk_eq (ty tp n s) 3 (fun e => ?_) (fun e => ?_)
    · have hs : s < n := by
        apply Classical.byContradiction
        intro h
        have : ty tp n s = 0 := if_pos (by omega)
        omega
      have h6 := p.1.1.1
      rw [p.2.1, ixn (by omega), (p.1.1.2.2 s hs).1]
      have h2 := (p.1.1.2.2 s hs).2
      refine ⟨pk_in s 600 (by omega), ?_⟩
      by_cases e2 : tp s = c
      · rw [decide_eq_true ⟨e, e2⟩] at hp
        rw [if_pos (by rw [e2])]
        exact hp
      · rw [decide_eq_false (fun h => e2 h.2)] at hp
        rw [if_neg (fun h => e2 ((nI_eq (by omega) (by omega)).mp h))]
        exact hp
    · rw [decide_eq_false (fun h => e h.1)] at hp
      exact hp
theorem t_mark {h : Mem} {r : ER Nat} (p : PO tp n r h) {post : Mem → Prop} {c : Nat} (hc : c < 256) (hp : ∀ h', PO tp n (eR r (mkS tp n c)) h' → TG h h' → post h') : wpX7_mark post h (nI c) := by
  unfold wpX7_mark wpBX7_mark_20
  cases r with
  | error e => exact sw_f p.bad (sw_f p.bad (hp h p (TG.rf h)))
  | ok s =>
    have q : PT tp n s h := p
    refine sw_t q.ok0 (t_isMarked (r := .ok s) p hc ?_)
    show (sgS tp n c s = true → _) ∧ (¬ sgS tp n c s = true → _)
    have hp : ∀ h', PO tp n (mkS tp n c s) h' → TG h h' → post h' := hp
    unfold mkS at hp
    refine ⟨fun e => sw_t q.ok0 (q.next (fun h' p' f' => ?_)), fun e => t_wrong (a := 1) q (by decide) (by decide) (fun h' p' f' => sw_f p'.bad ?_)⟩
    · rw [if_pos e] at hp
      exact hp h' p' f'.g
    · rw [if_neg e] at hp
      exact hp h' p' f'
theorem t_numberNow {h : Mem} {r : ER Nat} (p : PO tp n r h) {post : Int32 → Mem → Prop} {lo hi : Nat} (hl : lo ≤ 9999) (hh : hi ≤ 9999) (hp : ∀ h', PO tp n (eR r (fun s => eR (nnS tp n lo hi s) (fun _ => .ok s))) h' → TG h h' → post (nI (vR r (fun s => vR (nnS tp n lo hi s) (fun v => v) 0) 0)) h') : wpX7_numberNow post h (nI lo) (nI hi) := by
  unfold wpX7_numberNow wpBX7_numberNow_54 wpBX7_numberNow_59
  cases r with
  | error e => exact sw_f p.bad (hp h p (TG.rf h))
  | ok s =>
    have q : PT tp n s h := p
    have hp : ∀ h', PO tp n (eR (nnS tp n lo hi s) (fun _ => .ok s)) h' → TG h h' → post (nI (vR (nnS tp n lo hi s) (fun v => v) 0)) h' := hp
    have h20 : h 20 0 = nI (ty tp n s) := q.2.2.2.2.1
    have t4 : ty tp n s ≤ 4 := by
      unfold ty
      split
      · omega
      split
      · omega
      split
      · omega
      split <;> omega
    have bad : ∀ k, 0 < k → k < 10 → nnS tp n lo hi s = .error (k, s) → wpX7_wrong (fun h5 => post (if (h5 24 0) = 0 then (h5 21 0) else (0 : Int32)) h5) h (nI k) := fun k k0 k9 e => by
      refine t_wrong q k0 k9 (fun h' p' f' => ?_)
      rw [e] at hp
      rw [if_neg p'.bad]
      exact hp h' p' f'
    refine sw_t q.ok0 ?_
    rw [h20, show (2 : Int32) = nI 2 from rfl]
    refine pk_eq (ty tp n s) 2 (fun e => ?_) (fun e => ?_)
    · have el := en_le (tp := tp) q.1.2.2
      have h6 := q.1.1.1
      have h21 := q.2.2.2.2.2 e
      have hv : h 21 0 = nI (min 100000 (nvs tp n s)) := h21
      have two : (4 < en tp n s - s ∨ nvs tp n s < lo ∨ hi < nvs tp n s) → nnS tp n lo hi s = .error (2, s) := fun c => by
        unfold nnS
        rw [if_pos e, if_pos c]
      rw [q.2.1, q.2.2.1, pk_sub (by omega), hv, show (4 : Int32) = nI 4 from rfl]
      refine pk_lt 4 (en tp n s - s) (fun c => bad 2 (by decide) (by decide) (two (Or.inl c))) (fun c => ?_)
      refine pk_lt (min 100000 (nvs tp n s)) lo (fun c2 => bad 2 (by decide) (by decide) (two (Or.inr (Or.inl (by omega))))) (fun c2 => ?_)
      refine pk_le (min 100000 (nvs tp n s)) hi (fun c3 => ?_) (fun c3 => bad 2 (by decide) (by decide) (two (Or.inr (Or.inr (by omega)))))
      have ok : nnS tp n lo hi s = .ok (nvs tp n s) := by
        unfold nnS
        rw [if_pos e, if_neg (by omega)]
      rw [ok] at hp
      rw [if_pos q.ok0]
      have g := hp h p (TG.rf h)
      have em : min 100000 (nvs tp n s) = nvs tp n s := by omega
      rw [em]
      exact g
    · exact bad 1 (by decide) (by decide) (by unfold nnS; rw [if_neg e])
/-- and gone over -/
def nuS (tp : Nat → Nat) (n lo hi s : Nat) : ER Nat := eR (nnS tp n lo hi s) (fun _ => .ok (nxt tp n s))
theorem t_next {h : Mem} {r : ER Nat} (p : PO tp n r h) {post : Mem → Prop} (hp : ∀ h', PO tp n (eR r (fun s => .ok (nxt tp n s))) h' → TG h h' → post h') : (h 24 0 = 0 → wpX7_stepOn post h) ∧ (¬ h 24 0 = 0 → post h) := by
  cases r with
  | error e => exact sw_f p.bad (hp h p (TG.rf h))
  | ok s => exact sw_t (PT.ok0 p) (PT.next p (fun h' p' f' => hp h' p' f'.g))
theorem t_readNumber {h : Mem} {r : ER Nat} (p : PO tp n r h) {post : Int32 → Mem → Prop} {lo hi : Nat} (hl : lo ≤ 9999) (hh : hi ≤ 9999) (hp : ∀ h', PO tp n (eR r (nuS tp n lo hi)) h' → TG h h' → post (nI (vR r (fun s => vR (nnS tp n lo hi s) (fun v => v) 0) 0)) h') : wpX7_readNumber post h (nI lo) (nI hi) := by
  unfold wpX7_readNumber
  refine t_numberNow p hl hh (fun h' p' f' => ?_)
  refine t_next p' (fun h2 p2 f2 => hp h2 ?_ (f'.tr f2))
  cases r with
  | error e => exact p2
  | ok s =>
    show PO tp n (nuS tp n lo hi s) h2
    unfold nuS
    have p2 : PO tp n (eR (eR (nnS tp n lo hi s) (fun _ => .ok s)) (fun s => .ok (nxt tp n s))) h2 := p2
    cases e : nnS tp n lo hi s with
    | error e => rw [e] at p2; exact p2
    | ok v => rw [e] at p2; exact p2
theorem nnS_le {lo hi s v : Nat} (e : nnS tp n lo hi s = .ok v) : lo ≤ v ∧ v ≤ hi := by
  unfold nnS at e
  by_cases c : ty tp n s = 2
  · rw [if_pos c] at e
    by_cases c2 : 4 < en tp n s - s ∨ nvs tp n s < lo ∨ hi < nvs tp n s
    · rw [if_pos c2] at e; cases e
    · rw [if_neg c2] at e
      have e : nvs tp n s = v := by injection e
      omega
  · rw [if_neg c] at e; cases e
theorem t_personNow {h : Mem} {r : ER Nat} (p : PO tp n r h) {many : Nat} (hm : many ≤ 8) (e36 : h 3 6 = nI many) {post : Int32 → Mem → Prop} (hp : ∀ h', PO tp n (eR r (fun s => eR (pnS tp n many s) (fun _ => .ok s))) h' → TG h h' → post (nI (vR r (fun s => vR (pnS tp n many s) (fun v => v) 0) 0)) h') : wpX7_personNow post h := by
  unfold wpX7_personNow wpBX7_personNow_32
  refine t_numberNow (lo := 0) (hi := 9999) p (by decide) (by decide) (fun h' p' f' => ?_)
  have e36' : h' 3 6 = nI many := by rw [f' 3 (by decide) (by decide)]; exact e36
  cases r with
  | error e =>
    refine sw_f (PO.bad p') ?_
    rw [if_neg (PO.bad p')]
    exact hp h' p' f'
  | ok s =>
    have p' : PO tp n (eR (nnS tp n 0 9999 s) (fun _ => .ok s)) h' := p'
    have hp : ∀ h', PO tp n (eR (pnS tp n many s) (fun _ => .ok s)) h' → TG h h' → post (nI (vR (pnS tp n many s) (fun v => v) 0)) h' := hp
    rw [show vR (Except.ok s : ER Nat) (fun s => vR (nnS tp n 0 9999 s) (fun v => v) 0) 0 = vR (nnS tp n 0 9999 s) (fun v => v) 0 from rfl]
    unfold pnS at hp
    cases e : nnS tp n 0 9999 s with
    | error q =>
      rw [e] at p' hp
      refine sw_f (PO.bad p') ?_
      rw [if_neg (PO.bad p')]
      exact hp h' p' f'
    | ok v =>
      rw [e] at p' hp
      have q : PT tp n s h' := p'
      have hv := nnS_le e
      refine sw_t q.ok0 ?_
      rw [e36']
      show (nI v < nI many → post (if h' 24 0 = 0 then nI v else 0) h') ∧ (¬ nI v < nI many → wpX7_wrong (fun h10 => post (if h10 24 0 = 0 then nI v else 0) h10) h' 3)
      have hp : ∀ h', PO tp n (eR (if v < many then .ok v else .error (3, s) : ER Nat) (fun _ => .ok s)) h' → TG h h' → post (nI (vR (if v < many then .ok v else .error (3, s) : ER Nat) (fun v => v) 0)) h' := hp
      refine pk_lt v many (fun c => ?_) (fun c => ?_)
      · rw [if_pos c] at hp
        rw [if_pos q.ok0]
        exact hp h' p' f'
      · rw [if_neg (by omega)] at hp
        refine t_wrong (a := 3) q (by decide) (by decide) (fun h2 p2 f2 => ?_)
        rw [if_neg p2.bad]
        exact hp h2 p2 (f'.tr f2)
theorem ty_le (s : Nat) : ty tp n s ≤ 4 := by
  unfold ty
  split
  · omega
  split
  · omega
  split
  · omega
  split <;> omega
theorem t_is {h : Mem} {r : ER Nat} (p : PO tp n r h) {post : Bool → Prop} {t : Nat} (ht : (txt t).length < 65536) (hc : ∀ k, k < (txt t).length → (txt t).getD k 0 < 256) (hp : post (vR r (wdS tp n t) false)) : wpX7_is post h t := by
  unfold wpX7_is wpBX7_is_35
  have no : vR r (wdS tp n t) false = false → ∃ m, wpLX7_is_39 post t h m (0, 0) := fun e => by
    rw [e] at hp
    refine LW_nat (fun _ => ((0 : Int32), (0 : Int32))) 0 (fun _ => True) rfl trivial (fun K i hi _ _ => ?_)
    unfold wpBX7_is_39
    try dsimp only
    exact sw_t rfl ⟨false, rfl, hp⟩
  cases r with
  | error e => exact sw_f p.bad (no rfl)
  | ok s =>
    have q : PT tp n s h := p
    have no : wdS tp n t s = false → ∃ m, wpLX7_is_39 post t h m (0, 0) := no
    have hp : post (wdS tp n t s) := hp
    refine sw_t q.ok0 ?_
    have h20 : h 20 0 = nI (ty tp n s) := q.2.2.2.2.1
    have t4 := ty_le (tp := tp) (n := n) s
    rw [h20, show (1 : Int32) = nI 1 from rfl]
    have el := en_le (tp := tp) q.1.2.2
    have h6 := q.1.1.1
    refine pk_eq (ty tp n s) 1 (fun e => ?_) (fun e => no (by unfold wdS; rw [decide_eq_false (fun h => e h.1)]; rfl))
    rw [q.2.1, q.2.2.1, pk_sub (by omega)]
    by_cases e2 : en tp n s - s = (txt t).length
    · rw [if_pos (by rw [e2])]
      have ew : wdS tp n t s = allB (fun k => decide ((txt t).getD k 0 = tp (s + k))) (txt t).length := by
        unfold wdS
        rw [decide_eq_true ⟨e, e2⟩, Bool.true_and]
      rw [ew] at hp
      clear no ew
      generalize hf : (fun k => decide ((txt t).getD k 0 = tp (s + k))) = f at hp
      refine LW_nat (fun i => ((if allB f i = true then (1 : Int32) else 0), nI i)) (txt t).length (fun _ => True) rfl trivial (fun K i hi _ k => ?_)
      unfold wpBX7_is_39
      try dsimp only
      by_cases c3 : allB f i = true
      · rw [if_pos c3]
        refine sw_f (by decide) ?_
        refine pk_le (txt t).length i (fun c => ?_) (fun c => ?_)
        · have ei : i = (txt t).length := by omega
          subst ei
          rw [c3] at hp
          exact ⟨true, rfl, hp⟩
        · have k : K ((if allB f (i + 1) = true then (1 : Int32) else 0), nI (i + 1)) := k c trivial
          rw [allB_s, c3, Bool.true_and] at k
          have hsn : s + i < n := by omega
          have h2 := (q.1.1.2.2 (s + i) hsn).2
          have h3 := hc i c
          rw [q.2.1, nI_add, ixn (by omega), ixn (by omega), (q.1.1.2.2 (s + i) hsn).1, nI_1]
          refine ⟨pk_in i _ (by omega), pk_in (s + i) 600 (by omega), ?_⟩
          have ef : f i = decide ((txt t).getD i 0 = tp (s + i)) := by rw [← hf]
          by_cases c4 : (txt t).getD i 0 = tp (s + i)
          · rw [ef, decide_eq_true c4, if_pos rfl] at k
            rw [if_pos (by rw [c4])]
            exact k
          · rw [ef, decide_eq_false c4, if_neg (by decide)] at k
            rw [if_neg (fun h => c4 ((nI_eq (by omega) (by omega)).mp h))]
            exact k
      · have c3' : allB f i = false := Bool.eq_false_iff.mpr c3
        rw [if_neg c3]
        refine sw_t rfl ⟨false, rfl, ?_⟩
        have : allB f (txt t).length = false := by
          cases e5 : allB f (txt t).length with
          | false => rfl
          | true => exact absurd (allB_t.mpr (fun w hw => allB_t.mp e5 w (by omega))) c3
        rw [this] at hp
        exact hp
    · have enn : ¬ nI (txt t).length = nI (en tp n s - s) := fun h => e2 ((nI_eq (by omega) (by omega)).mp h).symm
      rw [if_neg enn]
      exact no (by unfold wdS; rw [decide_eq_false (fun h => e2 h.2)]; rfl)
end PK
