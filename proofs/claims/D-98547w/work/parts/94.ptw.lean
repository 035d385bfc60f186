/-! 94.ptw: the twin's town -/
section PTW
variable {tp : Nat → Nat}
/-- what the twin's reading changes -/
def TZ (h h' : Mem) : Prop := (∀ k, k ≠ 15 → ¬ (17 ≤ k ∧ k ≤ 26) → ¬ (3 ≤ k ∧ k ≤ 14) → h' k = up2 h 2 0 0 k) ∧ (∀ k i, 3 ≤ k → k ≤ 14 → i < haf k → h' k i = h k i) ∧ h' 17 0 = 0
theorem t_town {h : Mem} {t : Nat} (ht : t ≤ 600) (h17 : h 17 0 = nI t) (hb : ∀ j, j < t → h 16 j = nI (tp j) ∧ tp j < 256) {a1 : Int32} {post : Int32 → Mem → Prop} (no : (a1 < 0 ∨ ¬ a1 ≤ nI t) → post 0 (up2 (up2 h 2 0 0) 2 0 1))
    (bad : ∀ n e h', n ≤ t → a1 = nI n → pTown tp n = .error e → TZ h h' → h' 26 0 = nI e.2 → h' 15 0 = h 15 0 + 1 → (∀ j, j ≠ 0 → h' 15 j = h 15 j) → post (nI e.1) h')
    (good : ∀ n T' h1 h', n ≤ t → a1 = nI n → pTown tp n = .ok T' → TOK T' → MOK T' → SGOK T' → THp T' h1 → TZ h h1 → h1 26 0 = -1 → h1 15 = h 15 → TkO h1 h' → post 0 h') : wpX7_town post h a1 := by
  unfold wpX7_town wpBX7_town_17
  intro h1 e1
  have e17 : h1 17 0 = nI t := by rw [e1, up2_other (by decide)]; exact h17
  rw [e17]
  refine ⟨fun c => t_fail (by rw [e1]; exact no (Or.inl c)), fun c => ⟨fun c2 h6 e6 h7 e7 h8 e8 h9 e9 h10 e10 => ?_, fun c2 => t_fail (by rw [e1]; exact no (Or.inr c2))⟩⟩
  have c0 : (0 : Int32) ≤ a1 := by
    rw [lt_II] at c
    rw [le_II]
    omega
  obtain ⟨n, hn, en⟩ := (w_in (n := t) (x := a1) (by omega)).mp ⟨c0, c2⟩
  subst en
  have o10 : ∀ k, ¬ (17 ≤ k ∧ k ≤ 26) → h10 k = h1 k := fun k hk => by rw [e10, up2_other (by omega), e9, up2_other (by omega), e8, up2_other (by omega), e7, up2_other (by omega), e6, up2_other (by omega)]
  have v17 : h10 17 0 = 0 := by rw [e10, up2_other (by decide), e9, up2_other (by decide), e8, up2_other (by decide), e7, up2_other (by decide), e6, up2_at]
  have v19 : h10 19 0 = nI n := by rw [e10, up2_other (by decide), e9, up2_other (by decide), e8, up2_other (by decide), e7, up2_at]
  have v18 : h10 18 0 = nI 0 := by rw [e10, up2_other (by decide), e9, up2_other (by decide), e8, up2_at]; rfl
  have v24 : h10 24 0 = 0 := by rw [e10, up2_other (by decide), e9, up2_at]
  have v26 : h10 26 0 = -1 := by rw [e10, up2_at]
  clear e6 e7 e8 e9 e10
  have w : ∀ i, i < 6 → (if nI i = (3 : Int32) then (365 : Int32) else (if nI i = (4 : Int32) then (12 : Int32) else (0 : Int32))) = nI (T00 0 i) := by decide +kernel
  refine LW_ix (τ := Mem × Nat) (fun t => (t.1, nI t.2)) (fun t => t.2 ≤ 6 ∧ (∀ k, k ≠ 3 → t.1 k = h10 k) ∧ (∀ i, i < 6 → t.1 3 i = h10 3 i) ∧ ∀ i, i < t.2 → t.1 3 (6 + i) = nI (T00 0 i)) (fun t => 6 - t.2) (fun K t ht k => ?_) (h10, 0) ⟨Nat.zero_le 6, fun _ _ => rfl, fun _ _ => rfl, fun i hi => absurd hi (Nat.not_lt_zero _)⟩
  obtain ⟨x, i⟩ := t
  obtain ⟨hi, ox, fx, vx⟩ := ht
  dsimp only at hi ox fx vx
  unfold wpBX7_town_50 wpBX7_town_86
  try dsimp only
  rw [show (6 : Int32) = nI 6 from rfl]
  refine pk_le 6 i (fun q => ?_) (fun q => ?_)
  rotate_left
  · rw [w i q, nI_add, ixn (by omega), nI_1]
    refine ⟨pk_in (6 + i) 12 (by omega), fun h30 e30 => k (h30, i + 1) ⟨q, fun k hk => ?_, fun j hj => ?_, fun j hj => ?_⟩ (by show 6 - (i + 1) < 6 - i; omega)⟩
    · show h30 k = _
      rw [e30, up2_other hk]; exact ox k hk
    · show h30 3 j = _
      rw [e30, up2_ne _ _ _ (by omega)]; exact fx j hj
    · have hj : j < i + 1 := hj
      show h30 3 (6 + j) = _
      rw [e30]
      by_cases e : j = i
      · rw [e, up2_at]
      · rw [up2_ne _ _ _ (by omega)]; exact vx j (by omega)
  have ei : i = 6 := by omega
  subst ei
  refine LW_ix (τ := Mem × Nat) (fun t => (t.1, nI t.2)) (fun t => t.2 ≤ 64 ∧ (∀ k, k ≠ 13 → t.1 k = x k) ∧ (∀ i, i < 64 → t.1 13 i = x 13 i) ∧ ∀ i, i < t.2 → t.1 13 (64 + i) = -100000) (fun t => 64 - t.2) (fun K t ht k => ?_) (x, 0) ⟨Nat.zero_le 64, fun _ _ => rfl, fun _ _ => rfl, fun i hi => absurd hi (Nat.not_lt_zero _)⟩
  obtain ⟨y, i⟩ := t
  obtain ⟨hi, oy, fy, vy⟩ := ht
  dsimp only at hi oy fy vy
  unfold wpBX7_town_95
  try dsimp only
  rw [show (64 : Int32) = nI 64 from rfl]
  refine pk_le 64 i (fun q => ?_) (fun q => ?_)
  rotate_left
  · rw [nI_add, ixn (by omega), nI_1]
    refine ⟨pk_in (64 + i) 128 (by omega), fun h30 e30 => k (h30, i + 1) ⟨q, fun k hk => ?_, fun j hj => ?_, fun j hj => ?_⟩ (by show 64 - (i + 1) < 64 - i; omega)⟩
    · show h30 k = _
      rw [e30, up2_other hk]; exact oy k hk
    · show h30 13 j = _
      rw [e30, up2_ne _ _ _ (by omega)]; exact fy j hj
    · have hj : j < i + 1 := hj
      show h30 13 (64 + j) = _
      rw [e30]
      by_cases e : j = i
      · rw [e, up2_at]
      · rw [up2_ne _ _ _ (by omega)]; exact vy j (by omega)
  have ei : i = 64 := by omega
  subst ei
  have oz : ∀ k, k ≠ 3 → k ≠ 13 → y k = h10 k := fun k a b => by rw [oy k b, ox k a]
  have tx : TX tp n y := ⟨by omega, by rw [oz 19 (by decide) (by decide)]; exact v19, fun j hj => by rw [oz 16 (by decide) (by decide), o10 16 (by decide), e1, up2_other (by decide)]; exact hb j (by omega)⟩
  refine t_stepOn tx (by rw [oz 24 (by decide) (by decide)]; exact v24) (b := 0) (Nat.zero_le _) (by rw [oz 18 (by decide) (by decide)]; exact v18) (fun z pz fz => ?_)
  have z3 : ∀ k, 3 ≤ k → k ≤ 14 → z k = y k := fun k a b => fz k (by omega) (by omega) (by omega) (by omega) (by omega)
  have thz : THp T00 z := by
    have r3 : ∀ i, i < 6 → z 3 (6 + i) = nI (T00 0 i) := fun i hi => by rw [z3 3 (by decide) (by decide), oy 3 (by decide)]; exact vx i hi
    refine ⟨⟨⟨r3 0 (by decide), r3 1 (by decide), r3 3 (by decide), r3 4 (by decide), r3 5 (by decide)⟩, fun p hp => absurd hp (by show ¬ p < 0; omega), fun b hb => absurd hb (by show ¬ b < 0; omega), fun b i hb => absurd hb (by show ¬ b < 0; omega), fun k hk => absurd hk (by show ¬ k < 0; omega), fun a b ha hb => ?_⟩, r3 2 (by decide)⟩
    rw [z3 13 (by decide) (by decide), vy _ (by omega)]
    refine (AGv_0 ?_).symm
    unfold T00
    rw [if_neg (by omega), if_neg (by omega)]
  -- what is changed
  have tz : ∀ u, TL z u → u 17 0 = 0 ∧ u 26 0 = -1 ∧ u 15 = h 15 ∧ TZ h u := fun u fu => by
    have b0 : ∀ k, k ≠ 18 → ¬ (20 ≤ k ∧ k ≤ 25) → ¬ (3 ≤ k ∧ k ≤ 14) → u k = h10 k := fun k a b c => by rw [fu.1 k a b c, fz k a (by omega) (by omega) (by omega) (by omega), oz k (by omega) (by omega)]
    have e17' : u 17 0 = 0 := by rw [b0 17 (by decide) (by decide) (by decide)]; exact v17
    refine ⟨e17', by rw [b0 26 (by decide) (by decide) (by decide)]; exact v26, by rw [b0 15 (by decide) (by decide) (by decide), o10 15 (by decide), e1, up2_other (by decide)], fun k a b c => ?_, fun k i a b c => ?_, e17'⟩
    · rw [b0 k (by omega) (by omega) c, o10 k b, e1]
    · have u1 : u k i = y k i := by rw [fu.2 k i a b c, z3 k a b]
      have hk : h10 k i = h k i := by rw [o10 k (by omega), e1, up2_other (by omega)]
      rw [u1, ← hk]
      by_cases k3 : k = 3
      · subst k3
        rw [oy 3 (by decide)]
        exact fx i c
      by_cases k13 : k = 13
      · subst k13
        rw [fy i c, ox 13 (by decide)]
      · rw [oz k k3 k13]
  refine t_lines pz thz IV_0 (by decide) (f0 := n + 1) (by omega) (fun e u eu pu fu => ?_) (fun T' s' u eu hT hM hG pu tu fu => ?_)
  · have g := tz u fu
    unfold wpBX7_town_148
    have pe : (TX tp n u ∧ 0 < e.1 ∧ e.1 < 10) ∧ u 24 0 = nI e.1 ∧ u 25 0 = nI e.2 := pu
    refine sw_f (PO.bad pu) (fun h19 e19 h20 e20 => ?_)
    have v : h20 24 0 = nI e.1 := by rw [e20, up2_other (by decide), e19, up2_other (by decide)]; exact pe.2.1
    rw [v]
    have v15 : h19 15 = h 15 := by rw [e19, up2_other (by decide)]; exact g.2.2.1
    refine bad n e h20 (by omega) rfl eu ⟨fun k a b c => ?_, fun k i a b c => ?_, ?_⟩ ?_ ?_ (fun j hj => ?_)
    · rw [e20, up2_other a, e19, up2_other (by omega)]; exact g.2.2.2.1 k a b c
    · rw [e20, up2_other (by omega), e19, up2_other (by omega)]; exact g.2.2.2.2.1 k i a b c
    · rw [e20, up2_other (by decide), e19, up2_other (by decide)]; exact g.1
    · rw [e20, up2_other (by decide), e19, up2_at]; exact pe.2.2
    · rw [e20, up2_at, v15]
    · rw [e20, up2_ne _ _ _ hj, v15]
  · have g := tz u fu
    unfold wpBX7_town_148
    exact sw_t pu.ok0 (t_takeOver (fun h' o => good n T' u h' (by omega) rfl eu hT hM hG tu g.2.2.2 g.2.1 g.2.2.1 o))
end PTW
