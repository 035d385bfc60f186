/-! 70.im: image and restore on both sides -/
section S6
variable {T : TT} {hx h : Mem} {km : KM} {R : Nat → Int32}
theorem bkLike_3 (h g : Mem) : bkLike h g 28 0 = g 28 0 ∧ bkLike h g 29 0 = g 29 0 ∧ bkLike h g 30 0 = g 30 0 := ⟨rfl, rfl, rfl⟩
theorem bkLike_6 {h g : Mem} {k j : Nat} (hk : k = 22 ∨ k = 23 ∨ k = 24) (hj : j < 6) : bkLike h g k j = g k j := by
  have e : bkLike h g k j = va_cpy (g k) (h k) 0 0 6 j := by
    rcases hk with e | e | e <;> subst e <;> rfl
  rw [e]
  unfold va_cpy
  rw [if_pos (by omega), show 0 + (j - 0) = j by omega]
theorem bkLike_4 {h g : Mem} {k j : Nat} (hk : k = 25 ∨ k = 26) (hj : j < 4) : bkLike h g k j = g k j := by
  have e : bkLike h g k j = va_cpy (g k) (h k) 0 0 4 j := by
    rcases hk with e | e <;> subst e <;> rfl
  rw [e]
  unfold va_cpy
  rw [if_pos (by omega), show 0 + (j - 0) = j by omega]
theorem bkLike_s {h g : Mem} {j : Nat} (hj : j < 3) : bkLike h g 27 j = g 27 j := by
  have e : bkLike h g 27 j = va_cpy (g 27) (h 27) 0 0 3 j := rfl
  rw [e]
  unfold va_cpy
  rw [if_pos (by omega), show 0 + (j - 0) = j by omega]
theorem cpB_o {h g : Mem} {k n j : Nat} (hj : j ≠ k) : cpB h g k n j = h j := setp_other hj
theorem bkLike_o {h g : Mem} {k : Nat} (hk : ¬ (22 ≤ k ∧ k ≤ 30) ∧ ¬ (40 ≤ k ∧ k < 45)) : bkLike h g k = h k := by
  unfold bkLike bkInt bkArr bkNow
  rw [up2_other (by omega), up2_other (by omega), up2_other (by omega)]
  rw [cpB_o (by omega), cpB_o (by omega), cpB_o (by omega), cpB_o (by omega), cpB_o (by omega), cpB_o (by omega), put5_o (by omega)]
theorem bkLike_n {h g : Mem} {k : Nat} (hk : k < 5) : sub (bkLike h g) 40 k = likeM (sub h 40) (sub g 40) k := by
  show bkLike h g (40 + k) = _
  unfold bkLike bkInt bkArr bkNow
  rw [up2_other (by omega), up2_other (by omega), up2_other (by omega)]
  rw [cpB_o (by omega), cpB_o (by omega), cpB_o (by omega), cpB_o (by omega), cpB_o (by omega), cpB_o (by omega)]
  exact sub_put _ _ _ hk
theorem BRel.like {g : Mem} {M M0 : Nat → Mem} {row past past' : Nat → Int32} {ac se ba : Int32} {sl sa sm bw bl st sl' sa' sm' bw' bl' st' : Nat → Int32} (hT : TOK T) (h : Mem) (b : BRel T g M row past ac se ba sl sa sm bw bl st)
    {n : Nat} (hn : n ≤ 40) (en : g 28 0 = nI n) (eP : ∀ i, i < 3200 → past' i = past i) (e1 : ∀ j, j < 6 → sl' j = sl j) (e2 : ∀ j, j < 6 → sa' j = sa j) (e3 : ∀ j, j < 6 → sm' j = sm j) (e4 : ∀ j, j < 4 → bw' j = bw j) (e5 : ∀ j, j < 4 → bl' j = bl j) (e6 : ∀ j, j < 3 → st' j = st j) :
    BRel T (bkLike h g) (plLike n M0 M) row past' ac se ba sl' sa' sm' bw' bl' st' := by
  obtain ⟨⟨b1, b2⟩, ⟨n', hn', g28, hac, hp⟩, ⟨s, hs, g29, hse, h22⟩, ⟨q, hq, g30, hba, h25⟩, h27⟩ := b
  have enn : n' = n := (nI_eq (by omega) (by omega)).mp (g28.symm.trans en)
  subst enn
  have w := bkLike_3 h g
  refine ⟨⟨(like_SRel hT b1).of (fun k hk => bkLike_n hk), b2⟩, ⟨n', hn', by rw [w.1, g28], hac, fun j hj => ?_⟩, ⟨s, hs, by rw [w.2.1, g29], hse, fun j hj => ?_⟩, ⟨q, hq, by rw [w.2.2, g30], hba, fun j hj => ?_⟩, fun j hj => ?_⟩
  · have eR : rowA past' (80 * j) = rowA past (80 * j) := by
      funext i
      unfold rowA
      by_cases c : i < 80
      · rw [if_pos c, if_pos c, eP _ (by omega)]
      · rw [if_neg c, if_neg c]
    rw [eR]
    show PRel T (if j < n' then likeM (M0 j) (M j) else M0 j) _
    rw [if_pos hj]
    exact ⟨like_SRel hT (hp j hj).1, (hp j hj).2⟩
  · rw [bkLike_6 (by omega) (by omega), bkLike_6 (by omega) (by omega), bkLike_6 (by omega) (by omega), e1 j (by omega), e2 j (by omega), e3 j (by omega)]
    exact h22 j hj
  · rw [bkLike_4 (by omega) (by omega), bkLike_4 (by omega) (by omega), e4 j (by omega), e5 j (by omega)]
    exact h25 j hj
  · rw [bkLike_s hj, e6 j hj]
    exact h27 j hj
/-- the twin's image, in one -/
def im0 (h : Mem) : Mem := packP (up2 (up2 (up2 (up2 (up2 h 2 0 0) 57 0 1) 58 0 (h 32 0)) 59 0 (h 33 0)) 60 0 (h 34 0)) 61 0 80
def imM (h : Mem) : Mem := beM (beM (beM (beM (beM (beM (beM (im0 h) 62 29 3200) 63 51 6) 64 52 6) 65 53 6) 66 54 4) 67 55 4) 68 15 3
theorem im0_o {h : Mem} {k : Nat} (hk : k ≠ 2 ∧ ¬ (57 ≤ k ∧ k ≤ 61)) : im0 h k = h k := by
  unfold im0
  rw [packP_o (by omega), up2_other (by omega), up2_other (by omega), up2_other (by omega), up2_other (by omega), up2_other (by omega)]
theorem imM_o {h : Mem} {k : Nat} (hk : k ≠ 2 ∧ ¬ (57 ≤ k ∧ k ≤ 68)) : imM h k = h k := by
  unfold imM
  rw [beM_o (by omega), beM_o (by omega), beM_o (by omega), beM_o (by omega), beM_o (by omega), beM_o (by omega), beM_o (by omega), im0_o (by omega)]
theorem imM_i {h : Mem} {k : Nat} (hk : 57 ≤ k ∧ k ≤ 61) : imM h k = im0 h k := by
  unfold imM
  rw [beM_o (by omega), beM_o (by omega), beM_o (by omega), beM_o (by omega), beM_o (by omega), beM_o (by omega), beM_o (by omega)]
theorem t_image {Q : Mem → Prop} (hQ : Q (imM h)) : wpX7_image Q h := by
  unfold wpX7_image
  intro h1 e1 h2 e2 h3 e3 h4 e4 h5 e5
  refine t_pack (k := 61) (a := 0) ⟨by decide, by decide, by decide, by decide, by decide⟩ (by decide) (by decide) ?_
  refine t_be (n := 3200) (by decide) rfl rfl (by decide) (t_be (n := 6) (by decide) rfl rfl (by decide) (t_be (n := 6) (by decide) rfl rfl (by decide) (t_be (n := 6) (by decide) rfl rfl (by decide) (t_be (n := 4) (by decide) rfl rfl (by decide) (t_be (n := 4) (by decide) rfl rfl (by decide) (t_be (n := 3) (by decide) rfl rfl (by decide) ?_))))))
  have e : h5 = up2 (up2 (up2 (up2 (up2 h 2 0 0) 57 0 1) 58 0 (h 32 0)) 59 0 (h 33 0)) 60 0 (h 34 0) := by
    rw [e5, e4, e3, e2, e1, up2_other (show (32 : Nat) ≠ 57 by decide), up2_other (show (32 : Nat) ≠ 2 by decide)]
    rw [up2_other (show (33 : Nat) ≠ 58 by decide), up2_other (show (33 : Nat) ≠ 57 by decide), up2_other (show (33 : Nat) ≠ 2 by decide)]
    rw [up2_other (show (34 : Nat) ≠ 59 by decide), up2_other (show (34 : Nat) ≠ 58 by decide), up2_other (show (34 : Nat) ≠ 57 by decide), up2_other (show (34 : Nat) ≠ 2 by decide)]
  rw [e]
  exact hQ
theorem s_image {P : Mem → KM → Prop} {px : Nat → Prop} (r : Rel T hx km h) (hP : ∀ hx' km', (∀ Q : Mem → Prop, (∀ h', Rel T hx' km' h' → Q h') → wpX7_image Q h) → P hx' km') : wpX1_image P hx T px km := by
  obtain ⟨n, hn, x28, h32, hp⟩ := r.2.1.2.1
  unfold wpX1_image
  refine ⟨n, hn, x28, fun km2 e2 h3 e3 => hP _ _ (fun Q hQ => t_image (hQ _ ?_))⟩
  subst e2 e3
  have hB := BRel.like r.T km.2.1 r.2.1 (M0 := km.2.2) hn x28 (past' := imM h 62) (sl' := imM h 63) (sa' := imM h 64) (sm' := imM h 65) (bw' := imM h 66) (bl' := imM h 67) (st' := imM h 68)
    (fun i hi => by
      unfold imM
      rw [beM_o (by decide), beM_o (by decide), beM_o (by decide), beM_o (by decide), beM_o (by decide), beM_o (by decide), beM_v hi, im0_o (by decide)])
    (fun i hi => by
      unfold imM
      rw [beM_o (by decide), beM_o (by decide), beM_o (by decide), beM_o (by decide), beM_o (by decide), beM_v hi, beM_o (by decide), im0_o (by decide)])
    (fun i hi => by
      unfold imM
      rw [beM_o (by decide), beM_o (by decide), beM_o (by decide), beM_o (by decide), beM_v hi, beM_o (by decide), beM_o (by decide), im0_o (by decide)])
    (fun i hi => by
      unfold imM
      rw [beM_o (by decide), beM_o (by decide), beM_o (by decide), beM_v hi, beM_o (by decide), beM_o (by decide), beM_o (by decide), im0_o (by decide)])
    (fun i hi => by
      unfold imM
      rw [beM_o (by decide), beM_o (by decide), beM_v hi, beM_o (by decide), beM_o (by decide), beM_o (by decide), beM_o (by decide), im0_o (by decide)])
    (fun i hi => by
      unfold imM
      rw [beM_o (by decide), beM_v hi, beM_o (by decide), beM_o (by decide), beM_o (by decide), beM_o (by decide), beM_o (by decide), im0_o (by decide)])
    (fun i hi => by
      unfold imM
      rw [beM_v hi, beM_o (by decide), beM_o (by decide), beM_o (by decide), beM_o (by decide), beM_o (by decide), beM_o (by decide), im0_o (by decide)])
  have eR : rowM (imM h) = rowM h := rowM_of (fun k hk => imM_o (by omega))
  have e61 : rowA (imM h 61) 0 = rowM h := by
    rw [imM_i (by decide)]
    unfold im0
    rw [rowA_pack]
    exact rowM_of (fun k hk => by rw [up2_other (by omega), up2_other (by omega), up2_other (by omega), up2_other (by omega), up2_other (by omega)])
  have e57 : imM h 57 0 = 1 := by
    rw [imM_i (by decide)]
    unfold im0
    rw [packP_o (by decide), up2_other (by decide), up2_other (by decide), up2_other (by decide), up2_at]
  have e58 : imM h 58 0 = h 32 0 := by
    rw [imM_i (by decide)]
    unfold im0
    rw [packP_o (by decide), up2_other (by decide), up2_other (by decide), up2_at]
  have e59 : imM h 59 0 = h 33 0 := by
    rw [imM_i (by decide)]
    unfold im0
    rw [packP_o (by decide), up2_other (by decide), up2_at]
  have e60 : imM h 60 0 = h 34 0 := by
    rw [imM_i (by decide)]
    unfold im0
    rw [packP_o (by decide), up2_at]
  refine ⟨⟨r.T, r.G, r.M.of (fun k h1 h2 _ => imM_o (by omega))⟩, ?_, ⟨by rw [up2_at, e57], Or.inr ⟨up2_at _ _ _ _, ?_⟩⟩, ?_, ?_, ?_⟩
  · rw [eR, imM_o (show (29 : Nat) ≠ 2 ∧ _ by decide), imM_o (show (32 : Nat) ≠ 2 ∧ _ by decide), imM_o (show (33 : Nat) ≠ 2 ∧ _ by decide), imM_o (show (34 : Nat) ≠ 2 ∧ _ by decide), imM_o (show (51 : Nat) ≠ 2 ∧ _ by decide), imM_o (show (52 : Nat) ≠ 2 ∧ _ by decide), imM_o (show (53 : Nat) ≠ 2 ∧ _ by decide), imM_o (show (54 : Nat) ≠ 2 ∧ _ by decide), imM_o (show (55 : Nat) ≠ 2 ∧ _ by decide), imM_o (show (15 : Nat) ≠ 2 ∧ _ by decide)]
    have b := r.2.1
    unfold BRel at b ⊢
    rw [up2_other (show (28 : Nat) ≠ 5 by decide), up2_other (show (29 : Nat) ≠ 5 by decide), up2_other (show (30 : Nat) ≠ 5 by decide), up2_other (show (22 : Nat) ≠ 5 by decide), up2_other (show (23 : Nat) ≠ 5 by decide), up2_other (show (24 : Nat) ≠ 5 by decide), up2_other (show (25 : Nat) ≠ 5 by decide), up2_other (show (26 : Nat) ≠ 5 by decide), up2_other (show (27 : Nat) ≠ 5 by decide)]
    exact ⟨⟨b.1.1.of (fun k hk => up2_other (by omega)), b.1.2⟩, b.2⟩
  · rw [e61, e58, e59, e60]
    exact hB
  · rw [up2_other (by decide), up2_other (by decide), imM_o (by decide), imM_o (by decide)]
    exact r.2.2.2.1
  · rw [up2_other (by decide), imM_o (by decide)]
    exact r.2.2.2.2.1
  · rw [up2_other (by decide), up2_other (by decide), imM_o (by decide), imM_o (by decide)]
    exact r.2.2.2.2.2
/-- the twin's restore, in one -/
def re0 (h : Mem) : Mem := unM (up2 (up2 (up2 (up2 h 2 0 0) 32 0 (h 58 0)) 33 0 (h 59 0)) 34 0 (h 60 0)) 61 0 64 6 8
def reM (h : Mem) : Mem := beM (beM (beM (beM (beM (beM (beM (re0 h) 29 62 3200) 51 63 6) 52 64 6) 53 65 6) 54 66 4) 55 67 4) 15 68 3
theorem re0_o {h : Mem} {k : Nat} (hk : k ≠ 2 ∧ ¬ (30 ≤ k ∧ k ≤ 34) ∧ k ≠ 13 ∧ k ≠ 27 ∧ k ≠ 28) : re0 h k = h k := by
  unfold re0
  rw [unM_o ⟨by omega, by omega, by omega, by omega, by omega⟩, up2_other (by omega), up2_other (by omega), up2_other (by omega), up2_other (by omega)]
theorem reM_o {h : Mem} {k : Nat} (hk : k ≠ 2 ∧ ¬ (27 ≤ k ∧ k ≤ 34) ∧ k ≠ 13 ∧ k ≠ 15 ∧ ¬ (51 ≤ k ∧ k ≤ 55)) : reM h k = h k := by
  unfold reM
  rw [beM_o (by omega), beM_o (by omega), beM_o (by omega), beM_o (by omega), beM_o (by omega), beM_o (by omega), beM_o (by omega), re0_o (by omega)]
theorem reM_i {h : Mem} {k : Nat} (hk : k ≠ 29 ∧ k ≠ 15 ∧ ¬ (51 ≤ k ∧ k ≤ 55)) : reM h k = re0 h k := by
  unfold reM
  rw [beM_o (by omega), beM_o (by omega), beM_o (by omega), beM_o (by omega), beM_o (by omega), beM_o (by omega), beM_o (by omega)]
theorem t_restore {Q : Bool → Mem → Prop} (hQ : (h 57 0 = 0 → Q false (up2 h 2 0 0)) ∧ (¬ h 57 0 = 0 → Q true (reM h))) : wpX7_restore Q h := by
  unfold wpX7_restore
  intro h1 e1
  have e57 : h1 57 0 = h 57 0 := by rw [e1, up2_other (by decide)]
  rw [e57]
  refine ⟨fun c => by rw [e1]; exact hQ.1 c, fun c => ?_⟩
  intro h3 e3 h4 e4 h5 e5
  refine t_unpack (k := 61) (a := 0) ⟨by decide, by decide, by decide, by decide, by decide⟩ (by decide) (by decide) ?_
  refine t_be (n := 3200) (by decide) rfl rfl (by decide) (t_be (n := 6) (by decide) rfl rfl (by decide) (t_be (n := 6) (by decide) rfl rfl (by decide) (t_be (n := 6) (by decide) rfl rfl (by decide) (t_be (n := 4) (by decide) rfl rfl (by decide) (t_be (n := 4) (by decide) rfl rfl (by decide) (t_be (n := 3) (by decide) rfl rfl (by decide) ?_))))))
  have e : h5 = up2 (up2 (up2 (up2 h 2 0 0) 32 0 (h 58 0)) 33 0 (h 59 0)) 34 0 (h 60 0) := by
    rw [e5, e4, e3, e1, up2_other (show (58 : Nat) ≠ 2 by decide)]
    rw [up2_other (show (59 : Nat) ≠ 32 by decide), up2_other (show (59 : Nat) ≠ 2 by decide)]
    rw [up2_other (show (60 : Nat) ≠ 33 by decide), up2_other (show (60 : Nat) ≠ 32 by decide), up2_other (show (60 : Nat) ≠ 2 by decide)]
  rw [e]
  exact hQ.2 c
theorem s_restore {P : Bool → Mem → KM → Prop} {px : Nat → Prop} (r : Rel T hx km h) (hP : ∀ v hx' km', LkN T (fun Q => wpX7_restore Q h) v hx' km' → P v hx' km') : wpX1_restore P hx T px km := by
  obtain ⟨ei, hi⟩ := r.2.2.1
  unfold wpX1_restore
  refine ⟨fun c => hP _ _ _ (fun Q hQ => t_restore ⟨fun _ => hQ _ (r.c 0), fun c2 => absurd (ei.symm.trans c) c2⟩), fun c => ?_⟩
  obtain ⟨_, b⟩ := hi.resolve_left c
  have b' := b
  obtain ⟨_, ⟨n, hn, g28, _, _⟩, _⟩ := b'
  refine ⟨n, hn, g28, fun h3 e3 km4 e4 => hP _ _ _ (fun Q hQ => t_restore ⟨fun c2 => absurd (ei.trans c2) c, fun _ => hQ _ ?_⟩)⟩
  subst e3 e4
  have hB := BRel.like r.T hx b (M0 := km.1) hn g28 (past' := reM h 29) (sl' := reM h 51) (sa' := reM h 52) (sm' := reM h 53) (bw' := reM h 54) (bl' := reM h 55) (st' := reM h 15)
    (fun i hi => by
      unfold reM
      rw [beM_o (by decide), beM_o (by decide), beM_o (by decide), beM_o (by decide), beM_o (by decide), beM_o (by decide), beM_v hi, re0_o (by decide)])
    (fun i hi => by
      unfold reM
      rw [beM_o (by decide), beM_o (by decide), beM_o (by decide), beM_o (by decide), beM_o (by decide), beM_v hi, beM_o (by decide), re0_o (by decide)])
    (fun i hi => by
      unfold reM
      rw [beM_o (by decide), beM_o (by decide), beM_o (by decide), beM_o (by decide), beM_v hi, beM_o (by decide), beM_o (by decide), re0_o (by decide)])
    (fun i hi => by
      unfold reM
      rw [beM_o (by decide), beM_o (by decide), beM_o (by decide), beM_v hi, beM_o (by decide), beM_o (by decide), beM_o (by decide), re0_o (by decide)])
    (fun i hi => by
      unfold reM
      rw [beM_o (by decide), beM_o (by decide), beM_v hi, beM_o (by decide), beM_o (by decide), beM_o (by decide), beM_o (by decide), re0_o (by decide)])
    (fun i hi => by
      unfold reM
      rw [beM_o (by decide), beM_v hi, beM_o (by decide), beM_o (by decide), beM_o (by decide), beM_o (by decide), beM_o (by decide), re0_o (by decide)])
    (fun i hi => by
      unfold reM
      rw [beM_v hi, beM_o (by decide), beM_o (by decide), beM_o (by decide), beM_o (by decide), beM_o (by decide), beM_o (by decide), re0_o (by decide)])
  have eR : rowM (reM h) = rowA (h 61) 0 := by
    rw [rowM_of (h := re0 h) (fun k hk => reM_i (by omega))]
    unfold re0
    rw [rowM_un, up2_other (by decide), up2_other (by decide), up2_other (by decide), up2_other (by decide)]
  have e32 : reM h 32 0 = h 58 0 := by
    rw [reM_i (by decide)]
    unfold re0
    rw [unM_o (by decide), up2_other (by decide), up2_other (by decide), up2_at]
  have e33 : reM h 33 0 = h 59 0 := by
    rw [reM_i (by decide)]
    unfold re0
    rw [unM_o (by decide), up2_other (by decide), up2_at]
  have e34 : reM h 34 0 = h 60 0 := by
    rw [reM_i (by decide)]
    unfold re0
    rw [unM_o (by decide), up2_at]
  refine ⟨⟨r.T, r.G, r.M.of (fun k h1 h2 h3 => reM_o (by omega))⟩, ?_, ?_, ?_, ?_, ?_⟩
  · rw [eR, e32, e33, e34]
    exact hB
  · rw [bkLike_o (by decide), reM_o (show (57 : Nat) ≠ 2 ∧ _ by decide), reM_o (show (58 : Nat) ≠ 2 ∧ _ by decide), reM_o (show (59 : Nat) ≠ 2 ∧ _ by decide), reM_o (show (60 : Nat) ≠ 2 ∧ _ by decide), reM_o (show (61 : Nat) ≠ 2 ∧ _ by decide), reM_o (show (62 : Nat) ≠ 2 ∧ _ by decide), reM_o (show (63 : Nat) ≠ 2 ∧ _ by decide), reM_o (show (64 : Nat) ≠ 2 ∧ _ by decide), reM_o (show (65 : Nat) ≠ 2 ∧ _ by decide), reM_o (show (66 : Nat) ≠ 2 ∧ _ by decide), reM_o (show (67 : Nat) ≠ 2 ∧ _ by decide), reM_o (show (68 : Nat) ≠ 2 ∧ _ by decide)]
    exact r.2.2.1
  · rw [bkLike_o (by decide), bkLike_o (by decide), reM_o (by decide), reM_o (by decide)]
    exact r.2.2.2.1
  · rw [bkLike_o (by decide), reM_o (by decide)]
    exact r.2.2.2.2.1
  · rw [bkLike_o (by decide), bkLike_o (by decide), reM_o (by decide), reM_o (by decide)]
    exact r.2.2.2.2.2
end S6
