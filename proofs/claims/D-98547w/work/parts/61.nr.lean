/-! 61.nr: both searches find the same -/
section NR
variable {T : TT} {R : Nat → Int32}
theorem feB_cong {c c1 : Nat → Int32} {k p : Nat} (h : ∀ b, b < k → c b = c1 b) : feB T R c k p = feB T R c1 k p := by
  unfold feB
  have : chB c k p = chB c1 k p := by
    funext b
    unfold chB
    by_cases hb : b < k
    · rw [h b hb]
    · rw [decide_eq_false hb]; rfl
  rw [this]
theorem feB_out {c : Nat → Int32} {k p : Nat} (h : ¬ c k = nI p) : feB T R c (k + 1) p = feB T R c k p := by
  unfold feB
  have : chB c (k + 1) p = chB c k p := by
    funext b
    unfold chB
    by_cases hb : b = k
    · subst hb; rw [decide_eq_false h, Bool.and_false, Bool.and_false]
    · by_cases h1 : b < k
      · rw [decide_eq_true h1, decide_eq_true (show b < k + 1 by omega)]
      · rw [decide_eq_false h1, decide_eq_false (show ¬ b < k + 1 by omega)]
  rw [this]
  exact tT_ext (by omega) _ _ _ (fun i hi => by unfold chB; rw [decide_eq_false (by omega)]; rfl)
theorem feB_mono {c : Nat → Int32} {k p : Nat} (h : feB T R c (k + 1) p = true) : feB T R c k p = true := by
  by_cases e : c k = nI p
  · unfold feB at h ⊢
    rw [← tT_ext (show k ≤ k + 1 by omega) _ _ (chB c k p) (fun i hi => by unfold chB; rw [decide_eq_false (by omega)]; rfl)]
    refine tT_one 24 0 _ _ k (fun b hb => ?_) h
    unfold chB
    by_cases eb : b = k
    · subst eb; rw [decide_eq_true e, decide_eq_true (show b < b + 1 by omega), decide_eq_true (show b = b from rfl)]; simp
    · rw [decide_eq_true (show b < k by omega), decide_eq_true (show b < k + 1 by omega), decide_eq_false eb]; simp
  · rw [← feB_out e]; exact h
theorem feB_mono2 {c : Nat → Int32} {k p : Nat} : ∀ w, feB T R c (k + w) p = true → feB T R c k p = true
  | 0, h => h
  | w + 1, h => feB_mono2 w (feB_mono h)
theorem cS_11 {b : Nat} : ∀ (d l car : Nat) (h : Mem), b < l → cS T R d l car h 11 b = h 11 b := by
  intro d
  induction d with
  | zero => intro l car h _; rfl
  | succ d ih =>
    intro l car h hb
    unfold cS
    split
    · rfl
    split
    · split
      · rw [cpM_o (by decide), up2_other (by decide)]
      · rfl
    split
    · refine (it_inv (fun h' : Mem => h' 11 b = up2 h 11 l (-1) 11 b) rfl (fun p h' _ e => ?_)).trans (up2_ne _ _ _ (by omega))
      split
      · rw [ih _ _ _ (by omega), up2_ne _ _ _ (by omega)]; exact e
      · exact e
    · rw [ih _ _ _ (by omega), up2_ne _ _ _ (by omega)]
theorem cS_bad : ∀ (d l car : Nat) (h : Mem) (p : Nat), p < T 0 0 → l ≤ T 0 1 → feB T R (h 11) l p = false → cS T R d l car h 13 = h 13 ∧ cS T R d l car h 12 = h 12 := by
  intro d
  induction d with
  | zero => intro l car h p _ _ _; exact ⟨rfl, rfl⟩
  | succ d ih =>
    intro l car h p hp hl hf
    have nx : ∀ (h' : Mem) (v : Int32), (∀ b, b < l → h' 11 b = h 11 b) → feB T R (up2 h' 11 l v 11) (l + 1) p = false := by
      intro h' v e
      cases c : feB T R (up2 h' 11 l v 11) (l + 1) p with
      | false => rfl
      | true =>
        have := feB_mono c
        rw [feB_cong (c1 := h 11) (fun b hb => by rw [up2_ne _ _ _ (by omega)]; exact e b hb), hf] at this
        cases this
    unfold cS
    split
    · exact ⟨rfl, rfl⟩
    split
    · rename_i el
      subst el
      rw [if_neg (by rw [show alB T R (h 11) = false from allB_f hp hf]; decide)]
      exact ⟨rfl, rfl⟩
    split
    · have := it_inv (n := T 0 0) (f := fun p h => if canB T R p l = true then cS T R d (l + 1) (car + dsN T p l) (up2 h 11 l (nI p)) else h) (a := up2 h 11 l (-1)) (fun h' : Mem => h' 13 = h 13 ∧ h' 12 = h 12 ∧ ∀ b, b < l → h' 11 b = h 11 b) ⟨up2_other (by decide), up2_other (by decide), fun b hb => up2_ne _ _ _ (by omega)⟩ (fun q h' hq e => by
        show (if canB T R q l = true then cS T R d (l + 1) (car + dsN T q l) (up2 h' 11 l (nI q)) else h') 13 = h 13 ∧ _
        split
        · have := ih (l + 1) (car + dsN T q l) (up2 h' 11 l (nI q)) p hp (by omega) (nx h' _ e.2.2)
          exact ⟨this.1.trans ((up2_other (by decide)).trans e.1), this.2.trans ((up2_other (by decide)).trans e.2.1), fun b hb => (cS_11 _ _ _ _ (by omega)).trans ((up2_ne _ _ _ (by omega)).trans (e.2.2 b hb))⟩
        · exact e)
      exact ⟨this.1, this.2.1⟩
    · have := ih (l + 1) car (up2 h 11 l (-1)) p hp (by omega) (nx h _ (fun _ _ => rfl))
      exact ⟨this.1.trans (up2_other (by decide)), this.2.trans (up2_other (by decide))⟩
def NRel (T : TT) (l : Nat) (hx h7 : Mem) : Prop := ((h7 46 0 = 0 ∧ hx 13 0 = -1) ∨ (h7 46 0 = 1 ∧ hx 13 0 = h7 44 0 ∧ (∃ c, c ≤ 1000 ∧ hx 13 0 = nI c) ∧ ∀ b, b < T 0 1 → hx 12 b = h7 43 b)) ∧ ∀ b, b < l → hx 11 b = h7 42 b
theorem nS (hT : TOK T) : ∀ (d l car : Nat) (hx h7 : Mem), l ≤ T 0 1 → car + 9 * (T 0 1 - l) ≤ 1000 → (∀ p, p < T 0 0 → feB T R (hx 11) l p = true) → (R 0 = 0 ∨ ∀ b, l ≤ b → b < T 0 1 → R (66 + b) ≠ -1) → NRel T l hx h7 → NRel T l (cS T R d l car hx) (tS T R d l car h7) := by
  have h8 := hT.n8
  have h6 := hT.n6
  intro d
  induction d with
  | zero => intro l car hx h7 _ _ _ _ h; exact h
  | succ d ih =>
    intro l car hx h7 hl hc hF hday hN
    have body : NRel T l (if l = T 0 1 then (if alB T R (hx 11) = true then cpM (up2 hx 13 0 (nI car)) 12 11 6 else hx)
      else if R (66 + l) = -1 then it (fun p h => if canB T R p l = true then cS T R d (l + 1) (car + dsN T p l) (up2 h 11 l (nI p)) else h) (T 0 0) (up2 hx 11 l (-1)) else cS T R d (l + 1) car (up2 hx 11 l (-1)))
      (if l = T 0 1 then cp43 (up2 (up2 h7 46 0 1) 44 0 (nI car))
      else if R (66 + l) = -1 then (if R 0 = 0 then it (fun p h => if canB T R p l = true then (if feB T R (up2 h 42 l (nI p) 42) (l + 1) p = true then tS T R d (l + 1) (car + dsN T p l) (up2 h 42 l (nI p)) else up2 h 42 l (nI p)) else h) (T 0 0) (up2 h7 42 l (-1)) else up2 h7 42 l (-1)) else tS T R d (l + 1) car (up2 h7 42 l (-1))) := by
      by_cases el : l = T 0 1
      · rw [if_pos el, if_pos el]
        subst el
        rw [if_pos (show alB T R (hx 11) = true from allB_t.mpr hF)]
        refine ⟨Or.inr ⟨?_, ?_, ⟨car, by omega, ?_⟩, fun b hb => ?_⟩, fun b hb => ?_⟩
        · rw [cp43_o (by decide), up2_other (by decide), up2_at]
        · rw [cpM_o (by decide), up2_at, cp43_o (by decide), up2_at]
        · rw [cpM_o (by decide), up2_at]
        · rw [cp43_v (by omega), up2_other (by decide), up2_other (by decide), cpM_eq, setp_same]
          show va_cpy _ _ 0 0 6 b = _
          unfold va_cpy
          rw [if_pos (by omega), show 0 + (b - 0) = b by omega, up2_other (by decide)]
          exact hN.2 b hb
        · rw [cpM_o (by decide), up2_other (by decide), cp43_o (by decide), up2_other (by decide), up2_other (by decide)]
          exact hN.2 b hb
      · rw [if_neg el, if_neg el]
        have dn : ∀ {hx' h7' : Mem} (v : Int32), NRel T l hx' h7' → NRel T (l + 1) (up2 hx' 11 l v) (up2 h7' 42 l v) := by
          intro hx' h7' v h
          refine ⟨?_, fun b hb => ?_⟩
          · rw [up2_other (show 13 ≠ 11 by decide), up2_other (show 46 ≠ 42 by decide), up2_other (show 44 ≠ 42 by decide), up2_other (show 12 ≠ 11 by decide), up2_other (show 43 ≠ 42 by decide)]
            exact h.1
          · by_cases eb : b = l
            · subst eb; rw [up2_at, up2_at]
            · rw [up2_ne _ _ _ eb, up2_ne _ _ _ eb]; exact h.2 b (by omega)
        have wk : ∀ {hx' h7' : Mem}, NRel T (l + 1) hx' h7' → NRel T l hx' h7' := fun h => ⟨h.1, fun b hb => h.2 b (by omega)⟩
        by_cases ec : R (66 + l) = -1
        · rw [if_pos ec, if_pos ec]
          have e0 : R 0 = 0 := by
            rcases hday with h | h
            · exact h
            · exact absurd ec (h l (Nat.le_refl _) (by omega))
          rw [if_pos e0]
          refine (it_rel (fun hx' h7' : Mem => NRel T l hx' h7' ∧ ∀ p, p < T 0 0 → feB T R (hx' 11) l p = true) ⟨wk (dn (-1) hN), fun p hp => ?_⟩ (fun p hx' h7' hp hR => ?_)).1
          · rw [feB_cong (c1 := hx 11) (fun b hb => up2_ne _ _ _ (by omega))]
            exact hF p hp
          · by_cases cc : canB T R p l = true
            · rw [if_pos cc, if_pos cc]
              have hN2 := dn (nI p) hR.1
              have pre : ∀ p', p' < T 0 0 → feB T R (up2 hx' 11 l (nI p) 11) l p' = true := fun p' hp' => by
                rw [feB_cong (c1 := hx' 11) (fun b hb => up2_ne _ _ _ (by omega))]
                exact hR.2 p' hp'
              have keep : ∀ p', p' < T 0 0 → feB T R (cS T R d (l + 1) (car + dsN T p l) (up2 hx' 11 l (nI p)) 11) l p' = true := fun p' hp' => by
                rw [feB_cong (c1 := up2 hx' 11 l (nI p) 11) (fun b hb => cS_11 _ _ _ _ (by omega))]
                exact pre p' hp'
              have ef : feB T R (up2 h7' 42 l (nI p) 42) (l + 1) p = feB T R (up2 hx' 11 l (nI p) 11) (l + 1) p := feB_cong (fun b hb => (hN2.2 b hb).symm)
              have hpi := hT.p hp
              have hlb := hT.l (show l < T 0 1 by omega)
              have hds : dsN T p l ≤ 9 := by unfold dsN; omega
              rw [ef]
              by_cases cf : feB T R (up2 hx' 11 l (nI p) 11) (l + 1) p = true
              · rw [if_pos cf]
                refine ⟨wk (ih (l + 1) (car + dsN T p l) _ _ (by omega) (by omega) (fun p' hp' => ?_) (Or.inl e0) hN2), keep⟩
                by_cases ep : p' = p
                · subst ep; exact cf
                · rw [feB_out (by rw [up2_at]; intro h9; exact ep ((nI_eq (by omega) (by omega)).mp h9).symm)]
                  exact pre p' hp'
              · rw [if_neg cf]
                have bad := cS_bad d (l + 1) (car + dsN T p l) (up2 hx' 11 l (nI p)) p hp (by omega) (Bool.eq_false_iff.mpr cf)
                refine ⟨⟨?_, fun b hb => ?_⟩, keep⟩
                · rw [bad.1, bad.2]
                  exact hN2.1
                · rw [cS_11 _ _ _ _ (by omega)]
                  exact hN2.2 b (by omega)
            · rw [if_neg cc, if_neg cc]
              exact hR
        · rw [if_neg ec, if_neg ec]
          refine wk (ih (l + 1) car _ _ (by omega) (by omega) (fun p hp => ?_) (hday.imp id (fun h b h1 h2 => h b (by omega) h2)) (dn (-1) hN))
          rw [feB_out (by rw [up2_at]; intro h9; exact nIm1 (by omega) h9.symm), feB_cong (c1 := hx 11) (fun b hb => up2_ne _ _ _ (by omega))]
          exact hF p hp
    unfold cS tS
    rcases hN.1 with ⟨h1, h2⟩ | ⟨h1, h2, ⟨c, hc2, h3⟩, h4⟩
    · rw [if_neg (show ¬ (hx 13 0 ≠ -1 ∧ ¬ nI car < hx 13 0) from fun h => h.1 h2), if_neg (show ¬ (h7 46 0 ≠ 0 ∧ ¬ nI car < h7 44 0) from fun h => h.1 h1)]
      exact body
    · by_cases cc : nI car < hx 13 0
      · rw [if_neg (show ¬ (hx 13 0 ≠ -1 ∧ ¬ nI car < hx 13 0) from fun h => h.2 cc), if_neg (show ¬ (h7 46 0 ≠ 0 ∧ ¬ nI car < h7 44 0) from fun h => h.2 (h2 ▸ cc))]
        exact body
      · rw [if_pos ⟨by rw [h3]; exact nIm1 (by omega), cc⟩, if_pos ⟨by rw [h1]; decide, h2 ▸ cc⟩]
        exact hN
end NR
