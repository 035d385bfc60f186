/-! 68.he: help on both sides -/
section S4
variable {T : TT} {hx h : Mem} {km : KM}
-- ===== help
abbrev HS : Type := (Nat → Int32) × (Nat → Int32)
def hpL (rec : Nat → HS → Bool × HS) (cb : Nat → Bool) (x : Int32) : Nat → Nat → HS → Bool × HS
  | 0, _, s => (false, s)
  | r + 1, i, s => if cb i = false then hpL rec cb x r (i + 1) s else if ¬ s.2 i = 0 then hpL rec cb x r (i + 1) s else if s.1 i = -1 then (true, (upd s.1 i x, upd s.2 i 1)) else
      if (rec (ix (s.1 i)) (s.1, upd s.2 i 1)).1 = true then (true, (upd (rec (ix (s.1 i)) (s.1, upd s.2 i 1)).2.1 i x, (rec (ix (s.1 i)) (s.1, upd s.2 i 1)).2.2)) else hpL rec cb x r (i + 1) (rec (ix (s.1 i)) (s.1, upd s.2 i 1)).2
def HP (T : TT) (R : Nat → Int32) : Nat → Nat → HS → Bool × HS
  | 0, _, s => (false, s)
  | d + 1, l, s => hpL (HP T R d) (fun i => canB T R i l) (nI l) (T 0 0) 0 s
def okH (T : TT) (s : HS) : Prop := ∀ i, i < T 0 0 → s.1 i = -1 ∨ ∃ l, l < T 0 1 ∧ s.1 i = nI l
def unq (T : TT) (g : Nat → Int32) : Nat := ctB (fun i => decide (g i = 0)) (T 0 0)
theorem ctB_mono {f g : Nat → Bool} {n : Nat} (h : ∀ i, i < n → f i = true → g i = true) : ctB f n ≤ ctB g n := by
  induction n with
  | zero => exact Nat.le_refl _
  | succ n ih =>
    rw [ctB_s, ctB_s]
    have := ih (fun i hi => h i (by omega))
    by_cases c : f n = true
    · rw [if_pos c, if_pos (h n (by omega) c)]; omega
    · rw [if_neg c]; omega
theorem unq_upd (T : TT) {g : Nat → Int32} {i : Nat} (hi : i < T 0 0) (e : g i = 0) : unq T (upd g i 1) + 1 = unq T g := by
  unfold unq
  have h1 := ctB_flip (f := fun k => decide (upd g i 1 k = 0)) (n := T 0 0) hi (by
    show decide (upd g i 1 i = 0) = false
    unfold upd
    rw [if_pos rfl]
    decide)
  rw [← h1]
  refine ctB_cong (fun k hk => ?_)
  by_cases ek : k = i
  · rw [ek, decide_eq_true (show i = i from rfl), e]; rfl
  · rw [decide_eq_false ek, Bool.false_or]
    unfold upd
    rw [if_neg ek]
theorem HP_inv {T : TT} (hT : TOK T) (R : Nat → Int32) : ∀ (d l : Nat) (s : HS), l < T 0 1 → okH T s → okH T (HP T R d l s).2 ∧ unq T (HP T R d l s).2.2 ≤ unq T s.2 := by
  have h6 := hT.n6
  intro d
  induction d with
  | zero => intro l s _ h; exact ⟨h, Nat.le_refl _⟩
  | succ d ih =>
    intro l s hl h
    have loop : ∀ (r i : Nat) (s : HS), i + r = T 0 0 → okH T s → okH T (hpL (HP T R d) (fun i => canB T R i l) (nI l) r i s).2 ∧ unq T (hpL (HP T R d) (fun i => canB T R i l) (nI l) r i s).2.2 ≤ unq T s.2 := by
      intro r
      induction r with
      | zero => intro i s _ h; exact ⟨h, Nat.le_refl _⟩
      | succ r ih2 =>
        intro i s hi h
        have up : ∀ (q : Nat → Int32), (∀ j, j < T 0 0 → q j = -1 ∨ ∃ l, l < T 0 1 ∧ q j = nI l) → ∀ j, j < T 0 0 → upd q i (nI l) j = -1 ∨ ∃ w, w < T 0 1 ∧ upd q i (nI l) j = nI w := fun q hq j hj => by
          by_cases e : j = i
          · exact Or.inr ⟨l, hl, if_pos e⟩
          · rw [show upd q i (nI l) j = q j from if_neg e]; exact hq j hj
        unfold hpL
        by_cases c1 : canB T R i l = false
        · rw [if_pos c1]; exact ih2 (i + 1) s (by omega) h
        rw [if_neg c1]
        by_cases c2 : ¬ s.2 i = 0
        · rw [if_pos c2]; exact ih2 (i + 1) s (by omega) h
        rw [if_neg c2]
        have c2 : s.2 i = 0 := Classical.byContradiction c2
        have hu := unq_upd T (show i < T 0 0 by omega) c2
        by_cases c3 : s.1 i = -1
        · rw [if_pos c3]
          exact ⟨up s.1 h, by show unq T (upd s.2 i 1) ≤ _; omega⟩
        rw [if_neg c3]
        obtain ⟨l2, hl2, e2⟩ := (h i (by omega)).resolve_left c3
        have hr := ih (ix (s.1 i)) (s.1, upd s.2 i 1) (by rw [e2, ixn (by omega)]; exact hl2) h
        by_cases c4 : (HP T R d (ix (s.1 i)) (s.1, upd s.2 i 1)).1 = true
        · rw [if_pos c4]
          exact ⟨up _ hr.1, by show unq T (HP T R d (ix (s.1 i)) (s.1, upd s.2 i 1)).2.2 ≤ unq T s.2; have h9 : unq T (HP T R d (ix (s.1 i)) (s.1, upd s.2 i 1)).2.2 ≤ unq T (upd s.2 i 1) := hr.2; omega⟩
        · rw [if_neg c4]
          have h9 : unq T (HP T R d (ix (s.1 i)) (s.1, upd s.2 i 1)).2.2 ≤ unq T (upd s.2 i 1) := hr.2
          have g := ih2 (i + 1) _ (by omega) hr.1
          exact ⟨g.1, by have := g.2; omega⟩
    exact loop (T 0 0) 0 s (by omega) h
theorem setp_up (h : Mem) (f : Nat → Int32) (i : Nat) (v : Int32) : up2 (setp h 15 f) 15 i v = setp h 15 (upd f i v) := by
  funext k
  by_cases e : k = 15
  · subst e; rw [up2_same, setp_same, setp_same]
  · rw [up2_other e, setp_other e, setp_other e]
theorem c_isHelped {R : Nat → Int32} (hT : TOK T) {h0 : Mem} (hS : SRel T (sub h0 40) R) : ∀ (d l : Nat) (s : HS) (post : HPT), l < T 0 1 → okH T s → unq T s.2 < d → post (HP T R d l s).1 (setp h0 15 (HP T R d l s).2.1) (HP T R d l s).2.2 → wpX1_isHelped T d post (setp h0 15 s.1) s.2 (nI l) := by
  have h8 := hT.n8
  have h6 := hT.n6
  intro d
  induction d with
  | zero => intro l s post _ _ h; omega
  | succ d ih =>
    intro l s post hl hs hu hp
    have hS' : ∀ f, SRel T (sub (setp h0 15 f) 40) R := fun f => hS.of (fun k hk => setp_other (show 40 + k ≠ 15 by omega))
    refine c_whoCan hT (hS' s.1) hl ?_
    have hml := mN_lt (fun p => canB T R p l) (T 0 0)
    have hm10 := p10 (show T 0 0 ≤ 10 by omega)
    have loop : ∀ (r i : Nat) (s : HS), i + r = T 0 0 → okH T s → unq T s.2 < d + 1 → post (hpL (HP T R d) (fun i => canB T R i l) (nI l) r i s).1 (setp h0 15 (hpL (HP T R d) (fun i => canB T R i l) (nI l) r i s).2.1) (hpL (HP T R d) (fun i => canB T R i l) (nI l) r i s).2.2 → iHp (wpX1_isHelped T d) post (nI l) (nI (mN (fun p => canB T R p l) (T 0 0))) r i (setp h0 15 s.1) s.2 := by
      intro r
      induction r with
      | zero => intro i s _ _ _ hp; exact hp
      | succ r ih2 =>
        intro i s hi hs hu hp
        unfold hpL at hp
        unfold iHp
        rw [bit_I0 _ (by omega) i (by omega), mN_bit, decide_eq_true (show i < T 0 0 by omega), Bool.true_and]
        refine ⟨fun c1 => ?_, fun c1 => ⟨fun c2 => ?_, fun c2 => ⟨fun c3 => ?_, fun c3 => ?_⟩⟩⟩
        · rw [if_pos c1] at hp
          exact ih2 (i + 1) s (by omega) hs hu hp
        · rw [if_neg c1, if_pos c2] at hp
          exact ih2 (i + 1) s (by omega) hs hu hp
        · rw [setp_same] at c3
          rw [if_neg c1, if_neg (fun h => h c2), if_pos c3] at hp
          rw [setp_up]
          exact hp
        · rw [setp_same] at c3 ⊢
          rw [if_neg c1, if_neg (fun h => h c2), if_neg c3] at hp
          obtain ⟨l2, hl2, e2⟩ := (hs i (by omega)).resolve_left c3
          rw [e2, ixn (by omega)] at hp
          rw [e2]
          have hu2 := unq_upd T (show i < T 0 0 by omega) c2
          have hinv := HP_inv hT R d l2 (s.1, upd s.2 i 1) hl2 hs
          refine ih l2 (s.1, upd s.2 i 1) _ hl2 hs (by show unq T (upd s.2 i 1) < d; omega) ⟨fun c4 => ?_, fun c4 => ?_⟩
          · rw [if_pos c4] at hp
            rw [setp_up]
            exact hp
          · rw [if_neg (by rw [c4]; decide)] at hp
            have h9 : unq T (HP T R d l2 (s.1, upd s.2 i 1)).2.2 ≤ unq T (upd s.2 i 1) := hinv.2
            exact ih2 (i + 1) _ (by omega) hinv.1 (by omega) hp
    exact loop (T 0 0) 0 s (by omega) hs hu hp
/-- the twin's cells of help -/
def H7 (T : TT) (h0 : Mem) (s : HS) (h : Mem) : Prop := (∀ k, k ≠ 49 → k ≠ 50 → h k = h0 k) ∧ (∀ i, i < T 0 0 → h 49 i = s.1 i) ∧ h 50 0 = nI (mN (fun i => decide (¬ s.2 i = 0)) (T 0 0))
theorem t_isHelped (hT : TOK T) {h0 : Mem} (hM : TM T h0) : ∀ (d l : Nat) (s : HS) (post : Bool → Mem → Prop) (h : Mem), l < T 0 1 → okH T s → unq T s.2 < d → H7 T h0 s h → (∀ h', H7 T h0 (HP T (rowM h0) d l s).2 h' → post (HP T (rowM h0) d l s).1 h') → wpX7_isHelped d post h (nI l) := by
  have h8 := hT.n8
  have h6 := hT.n6
  intro d
  induction d with
  | zero => intro l s post h _ _ hu; omega
  | succ d ih =>
    intro l s post h hl hs hu hH hp
    show wpRX7_isHelped (wpX7_isHelped d) post h (nI l)
    unfold wpRX7_isHelped
    refine LW_ix (τ := Mem × HS × Nat) (fun t => (t.1, nI t.2.2)) (fun t => t.2.2 ≤ T 0 0 ∧ okH T t.2.1 ∧ unq T t.2.1.2 < d + 1 ∧ H7 T h0 t.2.1 t.1 ∧ hpL (HP T (rowM h0) d) (fun i => canB T (rowM h0) i l) (nI l) (T 0 0 - t.2.2) t.2.2 t.2.1 = HP T (rowM h0) (d + 1) l s) (fun t => T 0 0 - t.2.2) (fun K t ht k => ?_) (h, s, 0) ⟨Nat.zero_le _, hs, hu, hH, rfl⟩
    obtain ⟨h, s', i⟩ := t
    obtain ⟨hi, hs, hu, hH, he⟩ := ht
    dsimp only at hi hs hu hH he
    have hM' : TM T h := hM.of (fun k h1 h2 _ => hH.1 k (by omega) (by omega))
    have hR' : rowM h = rowM h0 := rowM_of (fun k hk => hH.1 k (by omega) (by omega))
    have hml := mN_lt (fun i => decide (¬ s'.2 i = 0)) (T 0 0)
    have hm10 := p10 (show T 0 0 ≤ 10 by omega)
    unfold wpBX7_isHelped_2
    try dsimp only
    rw [hM'.n, hH.2.2]
    refine pk_le (T 0 0) i (fun q => ?_) (fun q => ?_)
    · have e : i = T 0 0 := by omega
      rw [e, show T 0 0 - T 0 0 = 0 by omega] at he
      have he : (false, s') = HP T (rowM h0) (d + 1) l s := he
      rw [← he] at hp
      exact hp h hH
    · rw [show T 0 0 - i = (T 0 0 - (i + 1)) + 1 by omega] at he
      unfold hpL at he
      have nx : hpL (HP T (rowM h0) d) (fun i => canB T (rowM h0) i l) (nI l) (T 0 0 - (i + 1)) (i + 1) s' = HP T (rowM h0) (d + 1) l s → K (h, nI i + 1) := fun e => by
        rw [nI_1]
        exact k (h, s', i + 1) ⟨q, hs, hu, hH, e⟩ (by show T 0 0 - (i + 1) < T 0 0 - i; omega)
      refine t_isOf (by omega) (by omega) ?_
      rw [mN_bit, decide_eq_true q, Bool.true_and]
      refine ⟨fun c2 => nx ?_, fun c2 => t_canCut hT hM' q hl ?_⟩
      · have c2 := of_decide_eq_true c2
        by_cases c1 : canB T (rowM h0) i l = false
        · rw [if_pos c1] at he; exact he
        · rw [if_neg c1, if_pos c2] at he; exact he
      · have c2 : s'.2 i = 0 := Classical.byContradiction (fun h => c2 (decide_eq_true h))
        rw [hR']
        refine ⟨fun c1 => ?_, fun c1 => nx ?_⟩
        · rw [if_neg (by rw [c1]; decide), if_neg (fun h => h c2)] at he
          intro h8' e8'
          have hu2 := unq_upd T q c2
          have mk : nI (mN (fun i => decide (¬ s'.2 i = 0)) (T 0 0)) ||| ((1 : Int32) <<< (nI i &&& 31)) = nI (mN (fun w => decide (¬ upd s'.2 i 1 w = 0)) (T 0 0)) := by
            rw [(or_h i (by omega) _ (by omega)).1]
            congr 1
            apply Nat.eq_of_testBit_eq
            intro w
            rw [Nat.testBit_or, mN_bit, mN_bit, Nat.testBit_two_pow]
            by_cases ew : w = i
            · rw [ew, decide_eq_true q, decide_eq_true (show i = i from rfl)]
              unfold upd
              rw [if_pos rfl]
              simp
            · rw [decide_eq_false (show ¬ i = w from fun h => ew h.symm), Bool.or_false]
              unfold upd
              rw [if_neg ew]
          have hH8 : H7 T h0 (s'.1, upd s'.2 i 1) h8' := ⟨fun k a b => by rw [e8', up2_other b]; exact hH.1 k a b, fun j hj => by rw [e8', up2_other (by decide)]; exact hH.2.1 j hj, by rw [e8', up2_at]; exact mk⟩
          have fin : ∀ (h9 : Mem) (s9 : HS), H7 T h0 s9 h9 → HP T (rowM h0) (d + 1) l s = (true, (upd s9.1 i (nI l), s9.2)) → wpBX7_isHelped_73 (wpX7_isHelped d) post (nI l) h9 (nI i) := fun h9 s9 hH9 e9 => by
            unfold wpBX7_isHelped_73
            rw [ixn (by omega)]
            refine ⟨pk_in i 8 (by omega), fun h12 e12 => ?_⟩
            rw [e9] at hp
            refine hp h12 ⟨fun k a b => by rw [e12, up2_other a]; exact hH9.1 k a b, fun j hj => ?_, by rw [e12, up2_other (by decide)]; exact hH9.2.2⟩
            show h12 49 j = upd s9.1 i (nI l) j
            unfold upd
            by_cases ej : j = i
            · rw [if_pos ej, e12, ej, up2_at]
            · rw [if_neg ej, e12, up2_ne _ _ _ ej]; exact hH9.2.1 j hj
          rw [ixn (by omega), hH8.2.1 i q]
          refine ⟨pk_in i 8 (by omega), fun c3 => ?_, fun c3 => ?_⟩
          · have c3 : s'.1 i = -1 := c3
            rw [if_pos c3] at he
            exact fin h8' (s'.1, upd s'.2 i 1) hH8 he.symm
          · have c3 : ¬ s'.1 i = -1 := c3
            rw [if_neg c3] at he
            obtain ⟨l2, hl2, e2⟩ := (hs i q).resolve_left c3
            rw [e2, ixn (by omega)] at he
            show wpX7_isHelped d _ h8' (s'.1 i)
            rw [e2]
            have hinv := HP_inv hT (rowM h0) d l2 (s'.1, upd s'.2 i 1) hl2 hs
            have h9 : unq T (HP T (rowM h0) d l2 (s'.1, upd s'.2 i 1)).2.2 ≤ unq T (upd s'.2 i 1) := hinv.2
            refine ih l2 (s'.1, upd s'.2 i 1) _ h8' hl2 hs (by show unq T (upd s'.2 i 1) < d; omega) hH8 (fun h14 hH14 => ⟨fun c4 => ?_, fun c4 => ?_⟩)
            · rw [if_pos c4] at he
              exact fin h14 _ hH14 he.symm
            · rw [if_neg c4] at he
              rw [nI_1]
              exact k (h14, (HP T (rowM h0) d l2 (s'.1, upd s'.2 i 1)).2, i + 1) ⟨q, hinv.1, by show unq T (HP T (rowM h0) d l2 (s'.1, upd s'.2 i 1)).2.2 < d + 1; omega, hH14, he⟩ (by show T 0 0 - (i + 1) < T 0 0 - i; omega)
        · rw [if_pos (Bool.eq_false_iff.mpr c1)] at he
          exact he
def hl1 (T : TT) (R : Nat → Int32) (l : Nat) (x : Nat × (Nat → Int32)) : Nat × (Nat → Int32) := if R (66 + l) = -1 then (if (HP T R 10 l (x.2, fun _ => 0)).1 = true then x.1 else x.1 + 1, (HP T R 10 l (x.2, fun _ => 0)).2.1) else x
def hlI (T : TT) (R : Nat → Int32) (g0 : Nat → Int32) (n : Nat) : Nat × (Nat → Int32) := it (hl1 T R) n (0, g0)
theorem hlI_ok {T : TT} (hT : TOK T) (R : Nat → Int32) {g0 : Nat → Int32} (h0 : ∀ i, i < T 0 0 → g0 i = -1) : ∀ n, n ≤ T 0 1 → okH T ((hlI T R g0 n).2, fun _ => 0) ∧ (hlI T R g0 n).1 ≤ n := by
  intro n
  induction n with
  | zero => intro _; exact ⟨fun i hi => Or.inl (h0 i hi), Nat.le_refl _⟩
  | succ n ih =>
    intro hn
    have g := ih (by omega)
    have e : hlI T R g0 (n + 1) = hl1 T R n (hlI T R g0 n) := rfl
    rw [e]
    unfold hl1
    by_cases c : R (66 + n) = -1
    · rw [if_pos c]
      refine ⟨(HP_inv hT R 10 n ((hlI T R g0 n).2, fun _ => 0) (by omega) g.1).1, ?_⟩
      have g2 := g.2
      show (if (HP T R 10 n ((hlI T R g0 n).2, fun _ => 0)).1 = true then (hlI T R g0 n).1 else (hlI T R g0 n).1 + 1) ≤ n + 1
      by_cases c2 : (HP T R 10 n ((hlI T R g0 n).2, fun _ => 0)).1 = true
      · rw [if_pos c2]; omega
      · rw [if_neg c2]; omega
    · rw [if_neg c]
      exact ⟨g.1, by omega⟩
theorem unq_0 (hT : TOK T) : unq T (fun _ => 0) < 10 := by
  have h8 := hT.n8
  have := ctB_le (fun i => decide ((fun _ => (0 : Int32)) i = 0)) (T 0 0)
  unfold unq
  omega
theorem c_help {R : Nat → Int32} (hT : TOK T) {h0 : Mem} (hS : SRel T (sub h0 40) R) {g0 : Nat → Int32} (hg : ∀ i, i < T 0 0 → g0 i = -1) {post : Int32 → Mem → Prop} (hp : ∀ g, post (nI (hlI T R g0 (T 0 1)).1) (setp h0 15 g)) : ∀ r i, i + r = T 0 1 → hlp T post r i (nI (hlI T R g0 i).1) (setp h0 15 (hlI T R g0 i).2) := by
  have h6 := hT.n6
  intro r
  induction r with
  | zero =>
    intro i hi
    have e : i = T 0 1 := by omega
    subst e
    exact hp _
  | succ r ih =>
    intro i hi
    unfold hlp
    have ec : setp h0 15 (hlI T R g0 i).2 41 i = R (66 + i) := by
      rw [setp_other (show (41 : Nat) ≠ 15 by decide)]
      exact hS.2.2.2.1 i (by omega)
    have nx := ih (i + 1) (by omega)
    rw [show hlI T R g0 (i + 1) = hl1 T R i (hlI T R g0 i) from rfl] at nx
    unfold hl1 at nx
    rw [ec]
    have g := hlI_ok hT R hg i (by omega)
    refine ⟨fun c => ?_, fun c => ?_⟩
    · rw [if_pos c] at nx
      refine c_isHelped hT hS 10 i ((hlI T R g0 i).2, fun _ => 0) _ (by omega) g.1 (unq_0 hT) ?_
      dsimp only at nx ⊢
      by_cases c2 : (HP T R 10 i ((hlI T R g0 i).2, fun _ => 0)).1 = true
      · rw [if_pos c2] at nx ⊢
        exact nx
      · rw [if_neg c2] at nx ⊢
        rw [nI_1]
        exact nx
    · rw [if_neg c] at nx
      exact nx
theorem t_help (hT : TOK T) {h0 h : Mem} (hM : TM T h0) {g0 : Nat → Int32} (hg : ∀ i, i < T 0 0 → g0 i = -1) (e0 : ∀ k, k ≠ 2 → k ≠ 49 → k ≠ 50 → h k = h0 k) {Q : Int32 → Mem → Prop} (hQ : ∀ h', (∀ k, k ≠ 49 → k ≠ 50 → h' k = up2 h0 2 0 0 k) → Q (nI (hlI T (rowM h0) g0 (T 0 1)).1) h') : (∀ k, k ≠ 49 → h k = up2 h0 2 0 0 k) → (∀ i, i < 8 → h 49 i = -1) → ∃ n, wpLX7_help_30 Q n (h, 0, 0) := by
  intro e1 e49
  have h8 := hT.n8
  have h6 := hT.n6
  have hM1 : TM T (up2 h0 2 0 0) := hM.of (fun k h1 h2 _ => up2_other (by omega))
  have hR1 : rowM (up2 h0 2 0 0) = rowM h0 := rowM_of (fun k hk => up2_other (by omega))
  refine LW_ix (τ := Mem × Nat) (fun t => (t.1, nI (hlI T (rowM h0) g0 t.2).1, nI t.2)) (fun t => t.2 ≤ T 0 1 ∧ (∀ k, k ≠ 49 → k ≠ 50 → t.1 k = up2 h0 2 0 0 k) ∧ ∀ i, i < T 0 0 → t.1 49 i = (hlI T (rowM h0) g0 t.2).2 i) (fun t => T 0 1 - t.2) (fun K t ht k => ?_) (h, 0) ⟨Nat.zero_le _, fun k a b => e1 k a, fun i hi => (e49 i (by omega)).trans (hg i hi).symm⟩
  obtain ⟨h, i⟩ := t
  obtain ⟨hi, hk, h49⟩ := ht
  dsimp only at hi hk h49
  have hM' : TM T h := hM1.of (fun k h1 h2 _ => hk k (by omega) (by omega))
  unfold wpBX7_help_30
  try dsimp only
  rw [hM'.1.2.1]
  refine pk_le (T 0 1) i (fun q => ?_) (fun q => ?_)
  · have e : i = T 0 1 := by omega
    subst e
    exact hQ h hk
  · rw [ixn (by omega), nI_1]
    refine ⟨pk_in i 6 (by omega), fun c => ?_, fun c => ?_⟩
    · have c : rowM h0 (66 + i) = -1 := by
        rw [← hR1, rowM_cut _ (by omega), ← hk 27 (by decide) (by decide)]
        exact c
      intro h6' e6
      have g := hlI_ok hT (rowM h0) hg i (by omega)
      have hR6 : rowM (up2 h0 2 0 0) = rowM h0 := hR1
      have H := t_isHelped hT hM1 10 i ((hlI T (rowM h0) g0 i).2, fun _ => 0)
      rw [hR6] at H
      refine H _ h6' q g.1 (unq_0 hT) ⟨fun k a b => by rw [e6, up2_other b]; exact hk k a b, fun j hj => by rw [e6, up2_other (by decide)]; exact h49 j hj, ?_⟩ (fun h' hH => ?_)
      · rw [e6, up2_at]
        have z : mN (fun _ => decide (¬ (0 : Int32) = 0)) (T 0 0) = 0 := by
          apply Nat.eq_of_testBit_eq
          intro w
          rw [mN_bit, decide_eq_false (show ¬ ¬ (0 : Int32) = 0 by decide), Bool.and_false, Nat.zero_testBit]
        show (0 : Int32) = nI (mN (fun _ => decide (¬ (0 : Int32) = 0)) (T 0 0))
        rw [z]
        rfl
      · unfold wpBX7_help_72
        have e : hlI T (rowM h0) g0 (i + 1) = hl1 T (rowM h0) i (hlI T (rowM h0) g0 i) := rfl
        unfold hl1 at e
        rw [if_pos c] at e
        have k := k (h', i + 1) ⟨q, hH.1, fun j hj => by rw [e]; exact hH.2.1 j hj⟩ (by show T 0 1 - (i + 1) < T 0 1 - i; omega)
        rw [e] at k
        dsimp only at k ⊢
        by_cases c2 : (HP T (rowM h0) 10 i ((hlI T (rowM h0) g0 i).2, fun _ => 0)).1 = true
        · rw [if_pos c2] at k ⊢
          rw [nI_1, addI0]
          exact k
        · rw [if_neg c2] at k ⊢
          rw [nI_1, nI_1]
          exact k
    · have c : ¬ rowM h0 (66 + i) = -1 := by
        rw [← hR1, rowM_cut _ (by omega), ← hk 27 (by decide) (by decide)]
        exact c
      have e : hlI T (rowM h0) g0 (i + 1) = hl1 T (rowM h0) i (hlI T (rowM h0) g0 i) := rfl
      unfold hl1 at e
      rw [if_neg c] at e
      have k := k (h, i + 1) ⟨q, hk, fun j hj => by rw [e]; exact h49 j hj⟩ (by show T 0 1 - (i + 1) < T 0 1 - i; omega)
      rw [e] at k
      exact k
theorem s_help {P : Int32 → Mem → Prop} (r : Rel T hx km h) (hP : ∀ v hx', LkN T (fun Q => wpX7_help Q h) v hx' km → P v hx') : wpX1_help P T hx := by
  have hT := r.T
  have h8 := hT.n8
  unfold wpX1_help
  have hg : ∀ i, i < T 0 0 → (fun j => if j < 8 then (-1 : Int32) else hx 15 j) i = -1 := fun i hi => if_pos (by omega)
  refine c_help hT r.S hg (fun g => ?_) (T 0 1) 0 (by omega)
  refine hP _ _ (fun Q hQ => ?_)
  unfold wpX7_help
  intro h1 e1
  refine LW_ix (τ := Mem × Nat) (fun t => (t.1, nI t.2)) (fun t => t.2 ≤ 8 ∧ (∀ k, k ≠ 49 → t.1 k = up2 h 2 0 0 k) ∧ ∀ i, i < t.2 → t.1 49 i = -1) (fun t => 8 - t.2) (fun K t ht k => ?_) (h1, 0) ⟨Nat.zero_le _, fun k _ => by rw [e1], fun i hi => by exact absurd hi (Nat.not_lt_zero _)⟩
  obtain ⟨h2, i⟩ := t
  obtain ⟨hi, hk, h49⟩ := ht
  dsimp only at hi hk h49
  unfold wpBX7_help_9
  try dsimp only
  rw [show (8 : Int32) = nI 8 from rfl]
  refine pk_le 8 i (fun q => ?_) (fun q => ?_)
  · have e : i = 8 := by omega
    subst e
    refine t_help hT r.M hg (fun k a b _ => by rw [hk k b, up2_other a]) (fun h' hh => hQ _ ?_) hk h49
    exact (r.c 0).of (fun k hk => setp_other (by unfold rlX at hk; omega)) (fun k hk => hh k (by unfold rl7 at hk; omega) (by unfold rl7 at hk; omega))
  · rw [ixn (by omega)]
    refine ⟨pk_in i 8 (by omega), fun h15 e15 => ?_⟩
    rw [nI_1]
    refine k (h15, i + 1) ⟨q, fun k a => by show h15 k = _; rw [e15, up2_other a]; exact hk k a, fun j hj => ?_⟩ (by show 8 - (i + 1) < 8 - i; omega)
    show h15 49 j = -1
    rw [e15]
    by_cases e : j = i
    · rw [e, up2_at]
    · rw [up2_ne _ _ _ e]
      exact h49 j (by have : j < i + 1 := hj; omega)
end S4
