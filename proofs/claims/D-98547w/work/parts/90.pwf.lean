/-! 90.pwf: signs read are well formed -/
section PWF
variable {tp : Nat → Nat} {n : Nat}
def GW (k : Nat) (w : List Nat) : Prop := ∀ m r, m + k ≤ 64 → wfc (m + 1) r → wfc m (w.map sgN ++ r)
def GL (k : Nat) (w : List Nat) : Prop := ∀ m r, m + 1 + k ≤ 64 → wfc (m + 1) r → wfc (m + 1) (w.map sgN ++ r)
def GX (n k : Nat) (f : Nat → List Nat → EX) : Prop := ∀ s cs x, s ≤ n → f s cs = .ok x → (∃ w, x.2 = cs ++ w ∧ GW k w) ∧ x.2.length + s ≤ cs.length + x.1
def GY (n k : Nat) (f : Nat → List Nat → EX) : Prop := ∀ s cs x, s ≤ n → f s cs = .ok x → (∃ w, x.2 = cs ++ w ∧ GL k w) ∧ x.2.length + s ≤ cs.length + x.1
theorem wf_bin {c : Nat} (h1 : ¬ -20 < sgN c) (h2 : ¬ sgN c = -28) {m : Nat} {r : List Int32} (h : wfc (m + 1) r) : wfc (m + 2) (sgN c :: r) := by
  show if -20 < sgN c then _ else if sgN c = -28 then _ else _
  rw [if_neg h1, if_neg h2]
  exact ⟨by omega, h⟩
theorem GW.lit {v : Nat} (h : -20 < sgN v ∧ (0 ≤ sgN v ∨ ∃ i : Nat, i < 6 ∧ sgN v = -1 - nI i)) {k : Nat} (hk : 1 ≤ k) : GW k [v] := by
  intro m r hm hr
  show if -20 < sgN v then _ else _
  rw [if_pos h.1]
  exact ⟨⟨by omega, h.2⟩, hr⟩
theorem GW.mono {k k' : Nat} {w : List Nat} (h : GW k w) (hk : k ≤ k') : GW k' w := fun m r hm hr => h m r (by omega) hr
theorem GL.nil (k : Nat) : GL k [] := fun _ _ _ h => h
theorem GW.seq {k : Nat} {w v : List Nat} (h : GW k w) (g : GL k v) : GW (k + 1) (w ++ v) := by
  intro m r hm hr
  rw [List.map_append, List.append_assoc]
  exact h m _ (by omega) (g m r (by omega) hr)
theorem GL.op {k c : Nat} {w v : List Nat} (h : GW k w) (h1 : ¬ -20 < sgN c) (h2 : ¬ sgN c = -28) (g : GL k v) : GL k (w ++ ([c] ++ v)) := by
  intro m r hm hr
  rw [List.map_append, List.append_assoc]
  refine h (m + 1) _ (by omega) ?_
  exact wf_bin h1 h2 (g m r (by omega) hr)
theorem GL.nots {k : Nat} {w : List Nat} (h : GW k w) : ∀ j, GW k (w ++ List.replicate j 10028) := by
  intro j m r hm hr
  rw [List.map_append, List.append_assoc]
  refine h m _ hm ?_
  induction j with
  | zero => exact hr
  | succ j ih =>
    rw [List.replicate_succ]
    show if -20 < sgN 10028 then _ else if sgN 10028 = -28 then _ else _
    rw [if_neg (by decide), if_pos (by decide)]
    exact ⟨by omega, ih⟩
theorem gx_part {rec : Nat → List Nat → EX} (hm : Mo n rec) {k : Nat} (hk : 1 ≤ k) (hr : GX n k rec) : GX n k (pPart tp n rec) := by
  intro s cs x hs h
  have lt : ty tp n s ≠ 0 → s < n := fun hh => by
    apply Classical.byContradiction
    intro g
    exact hh (if_pos (by omega))
  unfold pPart at h
  by_cases c : ty tp n s = 2
  · rw [if_pos c] at h
    obtain ⟨v, ev, e⟩ := eR_ok h
    injection e with e
    subst e
    have hv := nnS_le ev
    have nl := nxt_lt (tp := tp) (lt (by omega))
    refine ⟨⟨[v], rfl, GW.lit ?_ hk⟩, ?_⟩
    · have e : sgN v = nI v := if_pos (by omega)
      rw [e]
      have p := nI_pos (n := v) (by omega)
      refine ⟨?_, Or.inl ?_⟩
      · rw [lt_II, nI_toInt (by omega)]
        have z : (-20 : Int32).toInt = -20 := rfl
        rw [z]; omega
      · rw [le_II, nI_toInt (by omega)]
        have z : (0 : Int32).toInt = 0 := rfl
        rw [z]; omega
    · show (cs ++ [v]).length + s ≤ cs.length + nxt tp n s
      rw [List.length_append]
      show cs.length + 1 + s ≤ _
      omega
  rw [if_neg c] at h
  by_cases c2 : ty tp n s = 1
  · rw [if_pos c2] at h
    cases e : whS tp n 1 s with
    | none => rw [e] at h; cases h
    | some v =>
      rw [e] at h
      have h : (Except.ok (nxt tp n s, cs ++ [10001 + v]) : EX) = .ok x := h
      injection h with h
      subst h
      have hv : v < 6 := fst1_lt e
      have nl := nxt_lt (tp := tp) (lt (by omega))
      refine ⟨⟨[10001 + v], rfl, GW.lit ?_ hk⟩, ?_⟩
      · have w : ∀ v, v < 6 → -20 < sgN (10001 + v) ∧ sgN (10001 + v) = -1 - nI v := by decide +kernel
        exact ⟨(w v hv).1, Or.inr ⟨v, hv, (w v hv).2⟩⟩
      · show (cs ++ [10001 + v]).length + s ≤ cs.length + nxt tp n s
        rw [List.length_append]
        show cs.length + 1 + s ≤ _
        omega
  rw [if_neg c2] at h
  obtain ⟨s1, e1, h⟩ := eR_ok h
  obtain ⟨y, e2, h⟩ := eR_ok h
  obtain ⟨s3, e3, h⟩ := eR_ok h
  injection h with h
  subst h
  have m1 := mk_ok e1
  have m3 := mk_ok e3
  have n1 := nxt_lt (tp := tp) m1.1
  have n3 := nxt_lt (tp := tp) m3.1
  have l1 := (nxt_le (tp := tp) (show s ≤ n by omega)).2
  have g := hr s1 cs y (by omega) e2
  exact ⟨g.1, by show y.2.length + s ≤ cs.length + s3; have := g.2; omega⟩
theorem gx_loop {cond : Nat → Option Nat} (hc : ∀ s c, cond s = some c → ¬ -20 < sgN c ∧ ¬ sgN c = -28 ∧ s < n) {sub : Nat → List Nat → EX} (hm : Mo n sub) {k : Nat} (hs : GX n k sub) : ∀ f, GY n k (pLoop tp n cond sub f) := by
  intro f
  induction f with
  | zero => intro s cs x _ h; cases h
  | succ f ih =>
    intro s cs x hsn h
    rw [pLoop_s] at h
    cases e : cond s with
    | none => rw [e] at h; injection h with h; subst h; exact ⟨⟨[], (List.append_nil cs).symm, GL.nil k⟩, Nat.le_refl _⟩
    | some c =>
      rw [e] at h
      obtain ⟨y, e1, h⟩ := eR_ok h
      have cc := hc s c e
      have nl := nxt_lt (tp := tp) cc.2.2
      have nl2 := (nxt_le (tp := tp) hsn).2
      obtain ⟨⟨w, ew, gw⟩, lw⟩ := hs _ _ _ nl2 e1
      obtain ⟨⟨v, ev, gv⟩, lv⟩ := ih _ _ _ (hm _ _ _ nl2 e1).2 h
      refine ⟨⟨w ++ ([c] ++ v), ?_, GL.op gw cc.1 cc.2.1 gv⟩, ?_⟩
      · rw [ev, ew]; simp [List.append_assoc]
      · rw [List.length_append] at lv
        have lv : x.2.length + y.1 ≤ y.2.length + 1 + x.1 := lv
        omega
theorem gx_seq {a b : Nat → List Nat → EX} {k : Nat} (ma : Mo n a) (ha : GX n k a) (hb : GY n k b) : GX n (k + 1) (fun s cs => eR (a s cs) (fun x => b x.1 x.2)) := by
  intro s cs x hs h
  obtain ⟨y, e1, h⟩ := eR_ok h
  obtain ⟨⟨w, ew, gw⟩, lw⟩ := ha _ _ _ hs e1
  obtain ⟨⟨v, ev, gv⟩, lv⟩ := hb _ _ _ (ma _ _ _ hs e1).2 h
  exact ⟨⟨w ++ v, by rw [ev, ew, List.append_assoc], gw.seq gv⟩, by omega⟩
theorem cdS_c {a ca b cb : Nat} (h1 : ¬ -20 < sgN ca ∧ ¬ sgN ca = -28) (h2 : ¬ -20 < sgN cb ∧ ¬ sgN cb = -28) : ∀ s c, cdS tp n a ca b cb s = some c → ¬ -20 < sgN c ∧ ¬ sgN c = -28 ∧ s < n := by
  intro s c h
  unfold cdS at h
  by_cases e : sgS tp n a s = true
  · rw [if_pos e] at h; injection h with h; subst h; exact ⟨h1.1, h1.2, sg_lt e⟩
  · rw [if_neg e] at h
    by_cases e2 : sgS tp n b s = true
    · rw [if_pos e2] at h; injection h with h; subst h; exact ⟨h2.1, h2.2, sg_lt e2⟩
    · rw [if_neg e2] at h; cases h
theorem cdW_c {t ca : Nat} (h1 : ¬ -20 < sgN ca ∧ ¬ sgN ca = -28) : ∀ s c, cdW tp n t ca s = some c → ¬ -20 < sgN c ∧ ¬ sgN c = -28 ∧ s < n := by
  intro s c h
  unfold cdW at h
  by_cases e : wdS tp n t s = true
  · rw [if_pos e] at h; injection h with h; subst h; exact ⟨h1.1, h1.2, wd_lt e⟩
  · rw [if_neg e] at h; cases h
theorem gx_prod {rec : Nat → List Nat → EX} (hm : Mo n rec) {k : Nat} (hk : 1 ≤ k) (hr : GX n k rec) : GX n (k + 1) (pProd tp n rec) :=
  gx_seq hm.part (gx_part hm hk hr) (gx_loop (cdS_c (by decide) (by decide)) hm.part (gx_part hm hk hr) (n + 1))
theorem gx_sum {rec : Nat → List Nat → EX} (hm : Mo n rec) {k : Nat} (hk : 1 ≤ k) (hr : GX n k rec) : GX n (k + 2) (pSum tp n rec) :=
  gx_seq hm.prod (gx_prod hm hk hr) (gx_loop (cdS_c (by decide) (by decide)) hm.prod (gx_prod hm hk hr) (n + 1))
theorem gx_not {rec : Nat → List Nat → EX} (hm : Mo n rec) {k : Nat} (hk : 1 ≤ k) (hr : GX n k rec) : GX n (k + 3) (pNot tp n rec) := by
  intro s cs x hs h
  unfold pNot at h
  obtain ⟨y, e1, h⟩ := eR_ok h
  obtain ⟨z, e2, h⟩ := eR_ok h
  obtain ⟨w, e3, h⟩ := eR_ok h
  injection h with h
  subst h
  have g1 := nots_mo _ _ _ _ hs e1
  have mz := hm.sum _ _ _ g1.2.1 e2
  obtain ⟨⟨a, ea, ga⟩, la⟩ := gx_sum hm hk hr _ _ _ g1.2.1 e2
  have ce : pCmp tp n rec z = (match cdS tp n 60 10024 61 10025 z.1 with | none => (.ok z : EX) | some c => eR (pSum tp n rec (nxt tp n z.1) z.2) (fun z => .ok (z.1, z.2 ++ [c]))) := rfl
  rw [ce] at e3
  have key : (∃ v, w.2 = cs ++ v ∧ GW (k + 3) v) ∧ w.2.length + z.1 ≤ z.2.length + w.1 := by
    cases ec : cdS tp n 60 10024 61 10025 z.1 with
    | none =>
      rw [ec] at e3
      injection e3 with e3
      subst e3
      exact ⟨⟨a, ea, ga.mono (by omega)⟩, Nat.le_refl _⟩
    | some c =>
      rw [ec] at e3
      obtain ⟨u, e4, e3⟩ := eR_ok e3
      injection e3 with e3
      subst e3
      have cc := cdS_c (tp := tp) (n := n) (by decide) (by decide) _ _ ec
      have nl := nxt_lt (tp := tp) cc.2.2
      obtain ⟨⟨b, eb, gb⟩, lb⟩ := gx_sum hm hk hr _ _ _ (nxt_le (tp := tp) mz.2).2 e4
      refine ⟨⟨a ++ (b ++ ([c] ++ [])), ?_, ga.seq (GL.op gb cc.1 cc.2.1 (GL.nil _))⟩, ?_⟩
      · show u.2 ++ [c] = _
        rw [eb, ea]; simp [List.append_assoc]
      · show (u.2 ++ [c]).length + z.1 ≤ z.2.length + u.1
        rw [List.length_append]
        show u.2.length + 1 + z.1 ≤ _
        omega
  obtain ⟨⟨v, ev, gv⟩, lv⟩ := key
  refine ⟨⟨v ++ List.replicate y.2 10028, ?_, GL.nots gv y.2⟩, ?_⟩
  · show w.2 ++ List.replicate y.2 10028 = _
    rw [ev, List.append_assoc]
  · show (w.2 ++ List.replicate y.2 10028).length + s ≤ cs.length + w.1
    rw [List.length_append, List.length_replicate]
    omega
theorem gx_and {rec : Nat → List Nat → EX} (hm : Mo n rec) {k : Nat} (hk : 1 ≤ k) (hr : GX n k rec) : GX n (k + 4) (pAnd tp n rec) :=
  gx_seq hm.not (gx_not hm hk hr) (gx_loop (cdW_c (by decide)) hm.not (gx_not hm hk hr) (n + 1))
/-- at depth 6 nothing is read -/
theorem gx_ex : ∀ d a, a + d = 9 → a ≤ 6 → GX n (5 * (d - 3) + 1) (pEx tp n d a) := by
  intro d
  induction d with
  | zero => intro a h1 h2; omega
  | succ d ih =>
    intro a h1 h2 s cs x hs h
    unfold pEx at h
    by_cases c : exB tp n s = false
    · rw [if_pos c] at h; cases h
    rw [if_neg c] at h
    by_cases c2 : a = 6
    · rw [if_pos c2] at h; cases h
    rw [if_neg c2] at h
    have hr := ih (a + 1) (by omega) (by omega)
    have hm : Mo n (pEx tp n d (a + 1)) := Mo.ex d (a + 1)
    have g := gx_seq hm.and (gx_and hm (by omega) hr) (gx_loop (cond := cdW tp n 12 10027) (cdW_c (by decide)) hm.and (gx_and hm (by omega) hr) (n + 1)) s cs x hs h
    rw [show 5 * (d + 1 - 3) + 1 = 5 * (d - 3) + 1 + 4 + 1 by omega]
    exact g
end PWF
