/-! 64.s1, printed by tools/mk_sim1.py: what is asked of both: the same answers -/
theorem sw_t {c A B : Prop} (h : c) (a : A) : (c → A) ∧ (¬ c → B) := ⟨fun _ => a, fun n => absurd h n⟩
theorem sw_f {c A B : Prop} (h : ¬ c) (b : B) : (c → A) ∧ (¬ c → B) := ⟨fun y => absurd y h, fun _ => b⟩
theorem bo_t {b : Bool} {A B : Prop} (h : b = true) (a : A) : (b = true → A) ∧ (¬ b = true → B) := sw_t h a
theorem bo_f {b : Bool} {A B : Prop} (h : b = false) (a : B) : (b = true → A) ∧ (¬ b = true → B) := sw_f (by rw [h]; decide) a
/-- what the twin answers beside the component's outcome k, answer v -/
abbrev LkI (T : TT) (W : (Int32 → Mem → Prop) → Prop) (k : Int32) (v : Int64) (hx : Mem) (km : KM) : Prop := ∀ Q : Int32 → Mem → Prop, (∀ b h', Rel T hx km h' → h' 2 0 = k → (k = 0 → v = b.toInt64) → Q b h') → W Q
abbrev LkZ (T : TT) (W : (Bool → Mem → Prop) → Prop) (k : Int32) (v : Int64) (hx : Mem) (km : KM) : Prop := ∀ Q : Bool → Mem → Prop, (∀ b h', Rel T hx km h' → h' 2 0 = k → (k = 0 → v = if b = true then 1 else 0) → Q b h') → W Q
/-- and of those that do not throw -/
abbrev LkN {α : Type} (T : TT) (W : (α → Mem → Prop) → Prop) (v : α) (hx : Mem) (km : KM) : Prop := ∀ Q : α → Mem → Prop, (∀ h', Rel T hx km h' → Q v h') → W Q
theorem w_in {x : Int32} {n : Nat} (hn : n < 1000) : ((0 : Int32) ≤ x ∧ x ≤ nI n) ↔ ∃ j, j ≤ n ∧ x = nI j := by
  constructor
  · rintro ⟨h1, h2⟩
    obtain ⟨j, hj, e⟩ := nI_of (x := x) (by rw [lt_II]; rw [le_II] at h1; omega)
    refine ⟨j, ?_, e⟩
    rw [e, le_II, nI_toInt hj, nI_toInt (by omega)] at h2
    omega
  · rintro ⟨j, hj, rfl⟩
    exact ⟨nI_pos' (by omega), nI_le hj (by omega)⟩
section S1
variable {T : TT} {hx h : Mem} {km : KM} {o : Int64}
theorem t_fail {post : Int32 → Mem → Prop} {v : Int32} (hp : post 0 (up2 h 2 0 v)) : wpX7_fail post h v := by
  unfold wpX7_fail
  intro h1 e1
  rw [e1]
  exact hp
theorem t_failing {post : Bool → Mem → Prop} {v : Int32} (hp : post false (up2 h 2 0 v)) : wpX7_failing post h v := by
  unfold wpX7_failing
  intro h1 e1
  rw [e1]
  exact hp
theorem t_cut_loop (hT : TOK T) (hM : TM T h) {post : Int32 → Mem → Prop} {a1 : Int32} (hp : post (nI (ctB (fun b => decide (rowM h (66 + b) ≠ -1)) (T 0 1))) h) : ∃ n, wpLX7_count_110 post a1 h n ((0 : Int32), (0 : Int32)) := by
  have h6 := hT.n6
  refine LW_nat (fun i => (nI (ctB (fun b => decide (rowM h (66 + b) ≠ -1)) i), nI i)) (T 0 1) (fun _ => True) rfl trivial (fun K i hi _ k => ?_)
  unfold wpBX7_count_110 wpBX7_count_136
  try dsimp only
  rw [hM.m]
  refine pk_le (T 0 1) i (fun q => ?_) (fun q => ?_)
  · have e : i = T 0 1 := by omega
    subst e
    exact hp
  · have k : K (nI (ctB (fun b => decide (rowM h (66 + b) ≠ -1)) i + (if decide (rowM h (66 + i) ≠ -1) = true then 1 else 0)), nI (i + 1)) := k q trivial
    rw [ixn (by omega), ← rowM_cut h (by omega), nI_1]
    refine ⟨pk_in i 6 (by omega), ?_⟩
    by_cases c : rowM h (66 + i) = -1
    · rw [if_pos c, addI0]
      rw [if_neg (by rw [decide_eq_false (fun h => h c)]; decide)] at k
      exact k
    · rw [if_neg c, nI_1]
      rw [if_pos (decide_eq_true c)] at k
      exact k
theorem s_count {P : LPT} {a1 : Int32} (r : Rel T hx km h) (hP : ∀ k v, LkI T (fun Q => wpX7_count Q h a1) k v hx km → P k v hx km) : wpX0_count P T hx km o a1 := by
  have hT := r.T
  have r1 := r.c 0
  have r2 := r1.c 1
  have eR : rowM (up2 h 2 0 0) = rowM h := rowM_of (fun k hk => up2_other (by omega))
  have hM1 : TM T (up2 h 2 0 0) := r1.M
  obtain ⟨n, hn, n1, n2, _⟩ := r.2.1.2.1
  obtain ⟨s, hs, s1, s2, _⟩ := r.2.1.2.2.1
  obtain ⟨q, hq, q1, q2, _⟩ := r.2.1.2.2.2.1
  have st := r.2.1.2.2.2.2
  obtain ⟨t, ht, t1, t2, _⟩ := r.2.2.2.1
  unfold wpX0_count wpX1_count
  refine c_within ⟨fun e => ?_, fun e => ⟨rfl, ?_⟩⟩
  · obtain ⟨j, hj, rfl⟩ := (w_in (n := 14) (by decide)).mp (of_decide_eq_true e)
    match j, hj with
    | 0, _ =>
      have g : P 0 ((nI (T 0 0))).toInt64 hx km := hP 0 _ (fun Q hQ => by
        unfold wpX7_count
        intro h1 e1
        subst e1
        exact sw_t rfl (⟨by unfold vp_in; decide, hQ _ _ r1 (code_at h 0) (fun _ => congrArg Int32.toInt64 (r.M.n.symm))⟩)
        )
      exact sw_t rfl (g)
    | 1, _ =>
      have g : P 0 ((nI (T 0 1))).toInt64 hx km := hP 0 _ (fun Q hQ => by
        unfold wpX7_count
        intro h1 e1
        subst e1
        exact sw_f (by decide) (sw_t rfl (⟨by unfold vp_in; decide, hQ _ _ r1 (code_at h 0) (fun _ => congrArg Int32.toInt64 (r.M.m.symm))⟩))
        )
      exact sw_f (by decide) (sw_t rfl (g))
    | 2, _ =>
      have g : P 0 ((nI (T 0 3))).toInt64 hx km := hP 0 _ (fun Q hQ => by
        unfold wpX7_count
        intro h1 e1
        subst e1
        exact sw_f (by decide) (sw_f (by decide) (sw_t rfl (⟨by unfold vp_in; decide, hQ _ _ r1 (code_at h 0) (fun _ => congrArg Int32.toInt64 (r.M.1.2.2.1.symm))⟩)))
        )
      exact sw_f (by decide) (sw_f (by decide) (sw_t rfl (g)))
    | 3, _ =>
      have g : P 0 ((nI (T 0 4))).toInt64 hx km := hP 0 _ (fun Q hQ => by
        unfold wpX7_count
        intro h1 e1
        subst e1
        exact sw_f (by decide) (sw_f (by decide) (sw_f (by decide) (sw_t rfl (⟨by unfold vp_in; decide, hQ _ _ r1 (code_at h 0) (fun _ => congrArg Int32.toInt64 (r.M.1.2.2.2.1.symm))⟩))))
        )
      exact sw_f (by decide) (sw_f (by decide) (sw_f (by decide) (sw_t rfl (g))))
    | 4, _ =>
      have g : P 0 ((hx 43 0)).toInt64 hx km := hP 0 _ (fun Q hQ => by
        unfold wpX7_count
        intro h1 e1
        subst e1
        exact sw_f (by decide) (sw_f (by decide) (sw_f (by decide) (sw_f (by decide) (sw_t rfl (hQ _ _ r1 (code_at h 0) (fun _ => congrArg Int32.toInt64 (r.S.1)))))))
        )
      exact sw_f (by decide) (sw_f (by decide) (sw_f (by decide) (sw_f (by decide) (sw_t rfl (g)))))
    | 5, _ =>
      have g : P 0 ((hx 44 0)).toInt64 hx km := hP 0 _ (fun Q hQ => by
        unfold wpX7_count
        intro h1 e1
        subst e1
        exact sw_f (by decide) (sw_f (by decide) (sw_f (by decide) (sw_f (by decide) (sw_f (by decide) (sw_t rfl (hQ _ _ r1 (code_at h 0) (fun _ => congrArg Int32.toInt64 (r.S.2.1))))))))
        )
      exact sw_f (by decide) (sw_f (by decide) (sw_f (by decide) (sw_f (by decide) (sw_f (by decide) (sw_t rfl (g))))))
    | 6, _ =>
      have g : P 0 ((nI (ctB (fun b => decide (rowM h (66 + b) ≠ -1)) (T 0 1)))).toInt64 hx km := hP 0 _ (fun Q hQ => by
        unfold wpX7_count
        intro h1 e1
        subst e1
        exact sw_f (by decide) (sw_f (by decide) (sw_f (by decide) (sw_f (by decide) (sw_f (by decide) (sw_f (by decide) (sw_t rfl (t_cut_loop hT hM1 (hQ _ _ r1 (code_at h 0) (fun _ => congrArg Int32.toInt64 (by rw [eR]))))))))))
        )
      exact sw_f (by decide) (sw_f (by decide) (sw_f (by decide) (sw_f (by decide) (sw_f (by decide) (sw_f (by decide) (sw_t rfl (c_cutMany hT r.S g)))))))
    | 7, _ =>
      have g : P 0 ((coupI T (rowM h))).toInt64 hx km := hP 0 _ (fun Q hQ => by
        unfold wpX7_count
        intro h1 e1
        subst e1
        exact sw_f (by decide) (sw_f (by decide) (sw_f (by decide) (sw_f (by decide) (sw_f (by decide) (sw_f (by decide) (sw_f (by decide) (sw_t rfl (t_knownBoth hT hM1 (hQ _ _ r1 (code_at h 0) (fun _ => congrArg Int32.toInt64 (by rw [eR])))))))))))
        )
      exact sw_f (by decide) (sw_f (by decide) (sw_f (by decide) (sw_f (by decide) (sw_f (by decide) (sw_f (by decide) (sw_f (by decide) (sw_t rfl (c_couples hT r.S g))))))))
    | 8, _ =>
      have g : P 0 ((hx 28 0)).toInt64 hx km := hP 0 _ (fun Q hQ => by
        unfold wpX7_count
        intro h1 e1
        subst e1
        exact sw_f (by decide) (sw_f (by decide) (sw_f (by decide) (sw_f (by decide) (sw_f (by decide) (sw_f (by decide) (sw_f (by decide) (sw_f (by decide) (sw_t rfl (hQ _ _ r1 (code_at h 0) (fun _ => congrArg Int32.toInt64 (n1.trans n2.symm)))))))))))
        )
      exact sw_f (by decide) (sw_f (by decide) (sw_f (by decide) (sw_f (by decide) (sw_f (by decide) (sw_f (by decide) (sw_f (by decide) (sw_f (by decide) (sw_t rfl (g)))))))))
    | 9, _ =>
      have g : P 0 ((hx 29 0)).toInt64 hx km := hP 0 _ (fun Q hQ => by
        unfold wpX7_count
        intro h1 e1
        subst e1
        exact sw_f (by decide) (sw_f (by decide) (sw_f (by decide) (sw_f (by decide) (sw_f (by decide) (sw_f (by decide) (sw_f (by decide) (sw_f (by decide) (sw_f (by decide) (sw_t rfl (hQ _ _ r1 (code_at h 0) (fun _ => congrArg Int32.toInt64 (s1.trans s2.symm))))))))))))
        )
      exact sw_f (by decide) (sw_f (by decide) (sw_f (by decide) (sw_f (by decide) (sw_f (by decide) (sw_f (by decide) (sw_f (by decide) (sw_f (by decide) (sw_f (by decide) (sw_t rfl (g))))))))))
    | 10, _ =>
      have g : P 0 ((hx 30 0)).toInt64 hx km := hP 0 _ (fun Q hQ => by
        unfold wpX7_count
        intro h1 e1
        subst e1
        exact sw_f (by decide) (sw_f (by decide) (sw_f (by decide) (sw_f (by decide) (sw_f (by decide) (sw_f (by decide) (sw_f (by decide) (sw_f (by decide) (sw_f (by decide) (sw_f (by decide) (sw_t rfl (hQ _ _ r1 (code_at h 0) (fun _ => congrArg Int32.toInt64 (q1.trans q2.symm)))))))))))))
        )
      exact sw_f (by decide) (sw_f (by decide) (sw_f (by decide) (sw_f (by decide) (sw_f (by decide) (sw_f (by decide) (sw_f (by decide) (sw_f (by decide) (sw_f (by decide) (sw_f (by decide) (sw_t rfl (g)))))))))))
    | 11, _ =>
      have g : P 0 ((hx 7 0)).toInt64 hx km := hP 0 _ (fun Q hQ => by
        unfold wpX7_count
        intro h1 e1
        subst e1
        exact sw_f (by decide) (sw_f (by decide) (sw_f (by decide) (sw_f (by decide) (sw_f (by decide) (sw_f (by decide) (sw_f (by decide) (sw_f (by decide) (sw_f (by decide) (sw_f (by decide) (sw_f (by decide) (sw_t rfl (hQ _ _ r1 (code_at h 0) (fun _ => congrArg Int32.toInt64 (t1.trans t2.symm))))))))))))))
        )
      exact sw_f (by decide) (sw_f (by decide) (sw_f (by decide) (sw_f (by decide) (sw_f (by decide) (sw_f (by decide) (sw_f (by decide) (sw_f (by decide) (sw_f (by decide) (sw_f (by decide) (sw_f (by decide) (sw_t rfl (g))))))))))))
    | 12, _ =>
      have g : P 0 ((hx 27 0)).toInt64 hx km := hP 0 _ (fun Q hQ => by
        unfold wpX7_count
        intro h1 e1
        subst e1
        exact sw_f (by decide) (sw_f (by decide) (sw_f (by decide) (sw_f (by decide) (sw_f (by decide) (sw_f (by decide) (sw_f (by decide) (sw_f (by decide) (sw_f (by decide) (sw_f (by decide) (sw_f (by decide) (sw_f (by decide) (sw_t rfl (⟨by unfold vp_in; decide, hQ _ _ r1 (code_at h 0) (fun _ => congrArg Int32.toInt64 (st 0 (by decide)))⟩)))))))))))))
        )
      exact sw_f (by decide) (sw_f (by decide) (sw_f (by decide) (sw_f (by decide) (sw_f (by decide) (sw_f (by decide) (sw_f (by decide) (sw_f (by decide) (sw_f (by decide) (sw_f (by decide) (sw_f (by decide) (sw_f (by decide) (⟨by unfold vp_in; decide, g⟩))))))))))))
    | 13, _ =>
      have g : P 0 ((hx 27 1)).toInt64 hx km := hP 0 _ (fun Q hQ => by
        unfold wpX7_count
        intro h1 e1
        subst e1
        exact sw_f (by decide) (sw_f (by decide) (sw_f (by decide) (sw_f (by decide) (sw_f (by decide) (sw_f (by decide) (sw_f (by decide) (sw_f (by decide) (sw_f (by decide) (sw_f (by decide) (sw_f (by decide) (sw_f (by decide) (sw_f (by decide) (sw_t rfl (⟨by unfold vp_in; decide, hQ _ _ r1 (code_at h 0) (fun _ => congrArg Int32.toInt64 (st 1 (by decide)))⟩))))))))))))))
        )
      exact sw_f (by decide) (sw_f (by decide) (sw_f (by decide) (sw_f (by decide) (sw_f (by decide) (sw_f (by decide) (sw_f (by decide) (sw_f (by decide) (sw_f (by decide) (sw_f (by decide) (sw_f (by decide) (sw_f (by decide) (⟨by unfold vp_in; decide, g⟩))))))))))))
    | 14, _ =>
      have g : P 0 ((hx 27 2)).toInt64 hx km := hP 0 _ (fun Q hQ => by
        unfold wpX7_count
        intro h1 e1
        subst e1
        exact sw_f (by decide) (sw_f (by decide) (sw_f (by decide) (sw_f (by decide) (sw_f (by decide) (sw_f (by decide) (sw_f (by decide) (sw_f (by decide) (sw_f (by decide) (sw_f (by decide) (sw_f (by decide) (sw_f (by decide) (sw_f (by decide) (sw_f (by decide) (sw_t rfl (⟨by unfold vp_in; decide, hQ _ _ r1 (code_at h 0) (fun _ => congrArg Int32.toInt64 (st 2 (by decide)))⟩)))))))))))))))
        )
      exact sw_f (by decide) (sw_f (by decide) (sw_f (by decide) (sw_f (by decide) (sw_f (by decide) (sw_f (by decide) (sw_f (by decide) (sw_f (by decide) (sw_f (by decide) (sw_f (by decide) (sw_f (by decide) (sw_f (by decide) (⟨by unfold vp_in; decide, g⟩))))))))))))
  · have c : ¬ ((0 : Int32) ≤ a1 ∧ a1 ≤ 14) := fun h => e (decide_eq_true h)
    refine hP 1 _ (fun Q hQ => ?_)
    unfold wpX7_count
    intro h1 e1
    subst e1
    exact sw_f (fun e => c (by rw [e]; decide)) (sw_f (fun e => c (by rw [e]; decide)) (sw_f (fun e => c (by rw [e]; decide)) (sw_f (fun e => c (by rw [e]; decide)) (sw_f (fun e => c (by rw [e]; decide)) (sw_f (fun e => c (by rw [e]; decide)) (sw_f (fun e => c (by rw [e]; decide)) (sw_f (fun e => c (by rw [e]; decide)) (sw_f (fun e => c (by rw [e]; decide)) (sw_f (fun e => c (by rw [e]; decide)) (sw_f (fun e => c (by rw [e]; decide)) (sw_f (fun e => c (by rw [e]; decide)) (sw_f (fun e => c (by rw [e]; decide)) (sw_f (fun e => c (by rw [e]; decide)) (sw_f (fun e => c (by rw [e]; decide)) (t_fail (hQ _ _ r2 (code_at _ 1) (fun h => absurd h (by decide))))))))))))))))))
theorem s_person {P : LPT} {a1 a2 : Int32} (r : Rel T hx km h) (hP : ∀ k v, LkI T (fun Q => wpX7_person Q h a1 a2) k v hx km → P k v hx km) : wpX0_person P T hx km o a1 a2 := by
  have hT := r.T
  have h8 := hT.n8
  have r1 := r.c 0
  have r2 := r1.c 1
  have eR : rowM (up2 h 2 0 0) = rowM h := rowM_of (fun k hk => up2_other (by omega))
  have hM1 : TM T (up2 h 2 0 0) := r1.M
  have bad : (∀ p, p < T 0 0 → ¬ a1 = nI p) → P 1 o hx km := fun c => hP 1 _ (fun Q hQ => by
    unfold wpX7_person
    intro h1 e1
    subst e1
    exact t_isPerson hT hM1 (fun p hp e => absurd e (c p hp)) (fun _ => bo_f rfl (t_fail (hQ _ _ r2 (code_at _ 1) (fun h => absurd h (by decide))))))
  unfold wpX0_person wpX1_person
  refine ⟨fun p hp ep => ?_, fun c => ⟨rfl, bad c⟩⟩
  subst ep
  have go : ∀ v : Int32, (∀ Q : Int32 → Mem → Prop, (∀ h', Rel T hx km h' → h' 2 0 = 0 → Q v h') → (wpX7_person Q h (nI p) a2)) → P 0 v.toInt64 hx km := fun v hv => hP 0 _ (fun Q hQ => hv Q (fun h' a b => hQ v h' a b (fun _ => rfl)))
  have hpp := hT.p hp
  refine c_within ⟨fun e => ?_, fun e => ⟨rfl, ?_⟩⟩
  · obtain ⟨j, hj, rfl⟩ := (w_in (n := 5) (by decide)).mp (of_decide_eq_true e)
    match j, hj with
    | 0, _ =>
      have g : P 0 ((nI (T 1 p))).toInt64 hx km := go _ (fun Q hQ => by
        unfold wpX7_person
        intro h1 e1
        subst e1
        refine t_isPerson hT hM1 (fun _ _ _ => bo_t rfl ?_) (fun c => absurd rfl (c p hp))
        have q := hQ _ r1 (code_at h 0)
        exact sw_t rfl (by rw [ixn (by omega), hM1.k hp]; exact ⟨pk_in p 16 (by omega), q⟩))
      exact sw_t rfl (g)
    | 1, _ =>
      have g : P 0 ((nI (T 2 p))).toInt64 hx km := go _ (fun Q hQ => by
        unfold wpX7_person
        intro h1 e1
        subst e1
        refine t_isPerson hT hM1 (fun _ _ _ => bo_t rfl ?_) (fun c => absurd rfl (c p hp))
        have q := hQ _ r1 (code_at h 0)
        exact sw_f (by decide) (sw_t rfl (by rw [ixn (by omega), hM1.h hp]; exact ⟨pk_in p 16 (by omega), q⟩)))
      exact sw_f (by decide) (sw_t rfl (g))
    | 2, _ =>
      have g : P 0 ((nI (T 3 p))).toInt64 hx km := go _ (fun Q hQ => by
        unfold wpX7_person
        intro h1 e1
        subst e1
        refine t_isPerson hT hM1 (fun _ _ _ => bo_t rfl ?_) (fun c => absurd rfl (c p hp))
        have q := hQ _ r1 (code_at h 0)
        exact sw_f (by decide) (sw_f (by decide) (sw_t rfl (by rw [ixn (by omega), (hM1.2.1 p hp).2.2]; exact ⟨pk_in p 16 (by omega), q⟩))))
      exact sw_f (by decide) (sw_f (by decide) (sw_t rfl (g)))
    | 3, _ =>
      have g : P 0 ((twI T p)).toInt64 hx km := go _ (fun Q hQ => by
        unfold wpX7_person
        intro h1 e1
        subst e1
        refine t_isPerson hT hM1 (fun _ _ _ => bo_t rfl ?_) (fun c => absurd rfl (c p hp))
        have q := hQ _ r1 (code_at h 0)
        exact sw_f (by decide) (sw_f (by decide) (sw_f (by decide) (sw_t rfl (t_twinOf hT hM1 hp q)))))
      exact sw_f (by decide) (sw_f (by decide) (sw_f (by decide) (sw_t rfl (⟨pk_in p 8 (by omega), by rw [ixn (by omega)]; exact g⟩))))
    | 4, _ =>
      have g : P 0 ((hx 42 p)).toInt64 hx km := go _ (fun Q hQ => by
        unfold wpX7_person
        intro h1 e1
        subst e1
        refine t_isPerson hT hM1 (fun _ _ _ => bo_t rfl ?_) (fun c => absurd rfl (c p hp))
        have q := hQ _ r1 (code_at h 0)
        exact sw_f (by decide) (sw_f (by decide) (sw_f (by decide) (sw_f (by decide) (sw_t rfl (by rw [ixn (by omega), show up2 h 2 0 0 28 p = hx 42 p by rw [← rowM_th (up2 h 2 0 0) (show p < 8 by omega), eR]; exact (r.S.2.2.2.2 p (by omega)).symm]; exact ⟨pk_in p 8 (by omega), q⟩))))))
      exact sw_f (by decide) (sw_f (by decide) (sw_f (by decide) (sw_f (by decide) (sw_t rfl (⟨pk_in p 8 (by omega), by rw [ixn (by omega)]; exact g⟩)))))
    | 5, _ =>
      have g : P 0 ((nI (mN (knmB T (rowM h) p) (T 0 0)))).toInt64 hx km := go _ (fun Q hQ => by
        unfold wpX7_person
        intro h1 e1
        subst e1
        refine t_isPerson hT hM1 (fun _ _ _ => bo_t rfl ?_) (fun c => absurd rfl (c p hp))
        have q := hQ _ r1 (code_at h 0)
        exact sw_f (by decide) (sw_f (by decide) (sw_f (by decide) (sw_f (by decide) (sw_f (by decide) (sw_t rfl (t_kn_loop hT hM1 hp (by rw [eR]; exact q))))))))
      exact sw_f (by decide) (sw_f (by decide) (sw_f (by decide) (sw_f (by decide) (sw_f (by decide) (c_knownBy hT r.S hp g)))))
  · have c : ¬ ((0 : Int32) ≤ a2 ∧ a2 ≤ 5) := fun h => e (decide_eq_true h)
    refine hP 1 _ (fun Q hQ => ?_)
    unfold wpX7_person
    intro h1 e1
    subst e1
    refine t_isPerson hT hM1 (fun _ _ _ => bo_t rfl ?_) (fun c => absurd rfl (c p hp))
    exact sw_f (fun e => c (by rw [e]; decide)) (sw_f (fun e => c (by rw [e]; decide)) (sw_f (fun e => c (by rw [e]; decide)) (sw_f (fun e => c (by rw [e]; decide)) (sw_f (fun e => c (by rw [e]; decide)) (sw_f (fun e => c (by rw [e]; decide)) (t_fail (hQ _ _ r2 (code_at _ 1) (fun h => absurd h (by decide)))))))))
theorem c_eat_loop (hT : TOK T) {post : Int32 → Mem → Prop} {px : Nat → Prop} {a1 a2 : Int32} {b : Nat} (hb : b < T 0 1) (hp : post (nI (eaN T b (T 8 b))) hx) : ∃ n, wpLX1_loaf_87 post T px a1 a2 hx b n ((0 : Int32), (0 : Int32)) := by
  have h8 := hT.n8
  have hl := hT.l hb
  refine LW_nat (fun i => (nI (eaN T b i), nI i)) (T 8 b) (fun _ => True) rfl trivial (fun K i hi _ k => ?_)
  unfold wpBX1_loaf_87
  try dsimp only
  refine pk_le (T 8 b) i (fun q => ?_) (fun q => ?_)
  · have e : i = T 8 b := by omega
    subst e
    exact hp
  · have he : et T b i < T 0 0 := hT.e hb q
    rw [ixn (by omega), nI_1]
    refine ⟨pk_in i (T 8 b) q, ?_⟩
    show K (nI (eaN T b i) ||| ((1 : Int32) <<< (nI (et T b i) &&& 31)), _)
    rw [(or_p (et T b i) (by omega) _ (eaN_lt hT hb hi)).1]
    exact k q trivial
theorem c_may_loop (hT : TOK T) (hS : SRel T (sub hx 40) (rowM h)) {post : Int32 → Mem → Prop} {px : Nat → Prop} {a2 : Int32} {b : Nat} (hb : b < T 0 1) (hp : post (nI (mN (fun p => decide (mayI T (rowM h) p b = 0)) (T 0 0))) hx) : ∃ n, wpLX1_loaf_142 post T px (nI b) a2 hx n ((0 : Int32), (0 : Int32)) := by
  have h8 := hT.n8
  refine LW_nat (fun i => (nI (mN (fun p => decide (mayI T (rowM h) p b = 0)) i), nI i)) (T 0 0) (fun _ => True) rfl trivial (fun K i hi _ k => ?_)
  unfold wpBX1_loaf_142 wpX1_people
  try dsimp only
  refine pk_le (T 0 0) i (fun q => ?_) (fun q => ?_)
  · have e : i = T 0 0 := by omega
    subst e
    exact hp
  · have k := k q trivial
    rw [← mN_Is (fun p => decide (mayI T (rowM h) p b = 0)) (by omega) q, ← nI_1] at k
    refine c_may hT hS q hb ?_
    by_cases c : mayI T (rowM h) i b = 0
    · rw [if_pos c]
      rw [if_pos (by exact decide_eq_true c)] at k
      exact k
    · rw [if_neg c]
      rw [if_neg (by rw [decide_eq_false c]; decide)] at k
      exact k
theorem s_loaf {P : LPT} {a1 a2 : Int32} (r : Rel T hx km h) (hP : ∀ k v, LkI T (fun Q => wpX7_loaf Q h a1 a2) k v hx km → P k v hx km) : wpX0_loaf P T hx km o a1 a2 := by
  have hT := r.T
  have h6 := hT.n6
  have r1 := r.c 0
  have r2 := r1.c 1
  have eR : rowM (up2 h 2 0 0) = rowM h := rowM_of (fun k hk => up2_other (by omega))
  have hM1 : TM T (up2 h 2 0 0) := r1.M
  have bad : (∀ p, p < T 0 1 → ¬ a1 = nI p) → P 1 o hx km := fun c => hP 1 _ (fun Q hQ => by
    unfold wpX7_loaf
    intro h1 e1
    subst e1
    exact t_isLoaf hT hM1 (fun p hp e => absurd e (c p hp)) (fun _ => bo_f rfl (t_fail (hQ _ _ r2 (code_at _ 1) (fun h => absurd h (by decide))))))
  unfold wpX0_loaf wpX1_loaf
  refine ⟨fun b hb eb => ?_, fun c => ⟨rfl, bad c⟩⟩
  subst eb
  have go : ∀ v : Int32, (∀ Q : Int32 → Mem → Prop, (∀ h', Rel T hx km h' → h' 2 0 = 0 → Q v h') → (wpX7_loaf Q h (nI b) a2)) → P 0 v.toInt64 hx km := fun v hv => hP 0 _ (fun Q hQ => hv Q (fun h' a c => hQ v h' a c (fun _ => rfl)))
  have hlb := hM1.2.2.1 b hb
  refine c_within ⟨fun e => ?_, fun e => ⟨rfl, ?_⟩⟩
  · obtain ⟨j, hj, rfl⟩ := (w_in (n := 7) (by decide)).mp (of_decide_eq_true e)
    match j, hj with
    | 0, _ =>
      have g : P 0 ((nI (T 4 b))).toInt64 hx km := go _ (fun Q hQ => by
        unfold wpX7_loaf
        intro h1 e1
        subst e1
        refine t_isLoaf hT hM1 (fun _ _ _ => bo_t rfl ?_) (fun c => absurd rfl (c b hb))
        have q := hQ _ r1 (code_at h 0)
        exact sw_t rfl (by rw [ixn (by omega), hlb.1]; exact ⟨pk_in b 12 (by omega), q⟩))
      exact sw_t rfl (g)
    | 1, _ =>
      have g : P 0 ((nI (T 5 b))).toInt64 hx km := go _ (fun Q hQ => by
        unfold wpX7_loaf
        intro h1 e1
        subst e1
        refine t_isLoaf hT hM1 (fun _ _ _ => bo_t rfl ?_) (fun c => absurd rfl (c b hb))
        have q := hQ _ r1 (code_at h 0)
        exact sw_f (by decide) (sw_t rfl (by rw [ixn (by omega), hlb.2.1]; exact ⟨pk_in b 12 (by omega), q⟩)))
      exact sw_f (by decide) (sw_t rfl (g))
    | 2, _ =>
      have g : P 0 ((nI (T 6 b))).toInt64 hx km := go _ (fun Q hQ => by
        unfold wpX7_loaf
        intro h1 e1
        subst e1
        refine t_isLoaf hT hM1 (fun _ _ _ => bo_t rfl ?_) (fun c => absurd rfl (c b hb))
        have q := hQ _ r1 (code_at h 0)
        exact sw_f (by decide) (sw_f (by decide) (sw_t rfl (by rw [ixn (by omega), hlb.2.2.1]; exact ⟨pk_in b 12 (by omega), q⟩))))
      exact sw_f (by decide) (sw_f (by decide) (sw_t rfl (g)))
    | 3, _ =>
      have g : P 0 ((nI (T 7 b))).toInt64 hx km := go _ (fun Q hQ => by
        unfold wpX7_loaf
        intro h1 e1
        subst e1
        refine t_isLoaf hT hM1 (fun _ _ _ => bo_t rfl ?_) (fun c => absurd rfl (c b hb))
        have q := hQ _ r1 (code_at h 0)
        exact sw_f (by decide) (sw_f (by decide) (sw_f (by decide) (sw_t rfl (by rw [ixn (by omega), hlb.2.2.2.1]; exact ⟨pk_in b 12 (by omega), q⟩)))))
      exact sw_f (by decide) (sw_f (by decide) (sw_f (by decide) (sw_t rfl (g))))
    | 4, _ =>
      have g : P 0 ((nI (eaN T b (T 8 b)))).toInt64 hx km := go _ (fun Q hQ => by
        unfold wpX7_loaf
        intro h1 e1
        subst e1
        refine t_isLoaf hT hM1 (fun _ _ _ => bo_t rfl ?_) (fun c => absurd rfl (c b hb))
        have q := hQ _ r1 (code_at h 0)
        exact sw_f (by decide) (sw_f (by decide) (sw_f (by decide) (sw_f (by decide) (sw_t rfl (t_eatersOf hT hM1 hb q))))))
      exact sw_f (by decide) (sw_f (by decide) (sw_f (by decide) (sw_f (by decide) (sw_t rfl (c_eat_loop hT hb g)))))
    | 5, _ =>
      have g : P 0 ((nI (nsN T b))).toInt64 hx km := go _ (fun Q hQ => by
        unfold wpX7_loaf
        intro h1 e1
        subst e1
        refine t_isLoaf hT hM1 (fun _ _ _ => bo_t rfl ?_) (fun c => absurd rfl (c b hb))
        exact sw_f (by decide) (sw_f (by decide) (sw_f (by decide) (sw_f (by decide) (sw_f (by decide) (sw_t rfl (t_tellUnits hT hM1 hb (fun h9 o9 _ e9 => by rw [e9]; exact hQ _ (r1.of (fun _ _ => rfl) (fun k hk => o9 k (by unfold rl7 at hk; omega) (by unfold rl7 at hk; omega))) ((congrFun (o9 2 (by decide) (by decide)) 0).trans (code_at h 0))))))))))
      exact sw_f (by decide) (sw_f (by decide) (sw_f (by decide) (sw_f (by decide) (sw_f (by decide) (sw_t rfl (c_slices hT hb g))))))
    | 6, _ =>
      have g : P 0 ((hx 41 b)).toInt64 hx km := go _ (fun Q hQ => by
        unfold wpX7_loaf
        intro h1 e1
        subst e1
        refine t_isLoaf hT hM1 (fun _ _ _ => bo_t rfl ?_) (fun c => absurd rfl (c b hb))
        have q := hQ _ r1 (code_at h 0)
        exact sw_f (by decide) (sw_f (by decide) (sw_f (by decide) (sw_f (by decide) (sw_f (by decide) (sw_f (by decide) (sw_t rfl (by rw [ixn (by omega), show up2 h 2 0 0 27 b = hx 41 b by rw [← rowM_cut (up2 h 2 0 0) (show b < 6 by omega), eR]; exact (r.S.2.2.2.1 b (by omega)).symm]; exact ⟨pk_in b 6 (by omega), q⟩))))))))
      exact sw_f (by decide) (sw_f (by decide) (sw_f (by decide) (sw_f (by decide) (sw_f (by decide) (sw_f (by decide) (sw_t rfl (⟨pk_in b 6 (by omega), by rw [ixn (by omega)]; exact g⟩)))))))
    | 7, _ =>
      have g : P 0 ((nI (mN (fun p => decide (mayI T (rowM h) p b = 0)) (T 0 0)))).toInt64 hx km := go _ (fun Q hQ => by
        unfold wpX7_loaf
        intro h1 e1
        subst e1
        refine t_isLoaf hT hM1 (fun _ _ _ => bo_t rfl ?_) (fun c => absurd rfl (c b hb))
        have q := hQ _ r1 (code_at h 0)
        exact sw_f (by decide) (sw_f (by decide) (sw_f (by decide) (sw_f (by decide) (sw_f (by decide) (sw_f (by decide) (sw_f (by decide) (sw_t rfl (t_answering hT hM1 hb (by rw [eR]; exact q))))))))))
      exact sw_f (by decide) (sw_f (by decide) (sw_f (by decide) (sw_f (by decide) (sw_f (by decide) (sw_f (by decide) (sw_f (by decide) (c_may_loop hT r.S hb g)))))))
  · have c : ¬ ((0 : Int32) ≤ a2 ∧ a2 ≤ 7) := fun h => e (decide_eq_true h)
    refine hP 1 _ (fun Q hQ => ?_)
    unfold wpX7_loaf
    intro h1 e1
    subst e1
    refine t_isLoaf hT hM1 (fun _ _ _ => bo_t rfl ?_) (fun c => absurd rfl (c b hb))
    exact sw_f (fun e => c (by rw [e]; decide)) (sw_f (fun e => c (by rw [e]; decide)) (sw_f (fun e => c (by rw [e]; decide)) (sw_f (fun e => c (by rw [e]; decide)) (sw_f (fun e => c (by rw [e]; decide)) (sw_f (fun e => c (by rw [e]; decide)) (sw_f (fun e => c (by rw [e]; decide)) (sw_f (fun e => c (by rw [e]; decide)) (t_fail (hQ _ _ r2 (code_at _ 1) (fun h => absurd h (by decide)))))))))))
theorem s_met {P : LPT} {a1 a2 : Int32} (r : Rel T hx km h) (hP : ∀ k v, LkI T (fun Q => wpX7_met Q h a1 a2) k v hx km → P k v hx km) : wpX0_met P T hx km o a1 a2 := by
  have hT := r.T
  have h8 := hT.n8
  have h6 := hT.n6
  have r1 := r.c 0
  have r2 := r1.c 1
  have eR : rowM (up2 h 2 0 0) = rowM h := rowM_of (fun k hk => up2_other (by omega))
  have hM1 : TM T (up2 h 2 0 0) := r1.M
  have bad1 : (∀ p, p < T 0 0 → ¬ a1 = nI p) → P 1 o hx km := fun c => hP 1 _ (fun Q hQ => by
    unfold wpX7_met
    intro h1 e1
    subst e1
    refine t_isPerson hT hM1 (fun p hp e => absurd e (c p hp)) (fun _ => bo_f rfl ?_)
    unfold wpBX7_met_21; exact t_fail (hQ _ _ r2 (code_at _ 1) (fun h => absurd h (by decide)))
    try dsimp only
    )
  have bad2 : ∀ q, q < T 0 0 → a1 = nI q → (∀ p, p < T 0 0 → ¬ a2 = nI p) → P 1 o hx km := fun q hq eq c => hP 1 _ (fun Q hQ => by
    unfold wpX7_met
    intro h1 e1
    subst e1
    refine t_isPerson hT hM1 (fun _ _ _ => bo_t rfl ?_) (fun c9 => absurd eq (c9 q hq))
    refine t_isPerson hT hM1 (fun p hp e => absurd e (c p hp)) (fun _ => bo_f rfl ?_)
    unfold wpBX7_met_21; exact t_fail (hQ _ _ r2 (code_at _ 1) (fun h => absurd h (by decide)))
    try dsimp only
    )
  unfold wpX0_met wpX1_met
  refine ⟨fun p hp ep => ⟨fun q hq eq => ?_, fun c => Or.inl ⟨rfl, bad2 p hp ep c⟩⟩, fun c => Or.inl ⟨rfl, bad1 c⟩⟩
  subst ep eq
  clear bad1 bad2
  unfold wpBX1_met_22
  try dsimp only
  by_cases e : p = q
  · subst e
    rw [if_pos rfl]
    refine ⟨fun h => absurd rfl h, fun _ => ?_⟩
    exact Or.inr ⟨rfl, hP 2 _ (fun Q hQ => by
      unfold wpX7_met
      intro h1 e1
      subst e1
      exact t_isPerson hT hM1 (fun _ _ _ => bo_t rfl (t_isPerson hT hM1 (fun _ _ _ => bo_t rfl (sw_t rfl (t_fail (hQ _ _ (r1.c 2) (code_at _ 2) (fun h => absurd h (by decide)))))) (fun c => absurd rfl (c p hp)))) (fun c => absurd rfl (c p hp)))⟩
  · have ne : ¬ nI p = nI q := fun h => e ((nI_eq (by omega) (by omega)).mp h)
    rw [if_neg ne]
    refine ⟨fun _ => ?_, fun h => absurd h (by decide)⟩
    rw [e8, ixn (by omega), show hx 40 (8 * p + q) = lastD T (rowM h) p q from r.S.2.2.1 p q hp hq e, show hx 43 0 = rowM h 0 from r.S.1]
    refine ⟨pk_in (8 * p + q) 64 (by omega), hP 0 _ (fun Q hQ => ?_)⟩
    unfold wpX7_met
    intro h1 e1
    subst e1
    refine t_isPerson hT hM1 (fun _ _ _ => bo_t rfl (t_isPerson hT hM1 (fun _ _ _ => bo_t rfl (sw_f ne (t_lastDay hT hM1 hp hq ?_))) (fun c => absurd rfl (c q hq)))) (fun c => absurd rfl (c p hp))
    rw [eR]
    refine ⟨fun e => ?_, fun e => t_lastDay hT hM1 hp hq ?_⟩
    · exact hQ _ _ r1 (code_at h 0) (fun _ => by rw [if_pos e])
    · refine hQ _ _ r1 (code_at h 0) (fun _ => ?_)
      rw [if_neg e, eR]
      rfl
theorem s_knows {P : LPT} {a1 a2 : Int32} (r : Rel T hx km h) (hP : ∀ k v, LkZ T (fun Q => wpX7_knows Q h a1 a2) k v hx km → P k v hx km) : wpX0_knows P T hx km o a1 a2 := by
  have hT := r.T
  have h8 := hT.n8
  have h6 := hT.n6
  have r1 := r.c 0
  have r2 := r1.c 1
  have eR : rowM (up2 h 2 0 0) = rowM h := rowM_of (fun k hk => up2_other (by omega))
  have hM1 : TM T (up2 h 2 0 0) := r1.M
  have bad1 : (∀ p, p < T 0 0 → ¬ a1 = nI p) → P 1 o hx km := fun c => hP 1 _ (fun Q hQ => by
    unfold wpX7_knows
    intro h1 e1
    subst e1
    refine t_isPerson hT hM1 (fun p hp e => absurd e (c p hp)) (fun _ => bo_f rfl ?_)
    unfold wpBX7_knows_30; exact t_failing (hQ _ _ r2 (code_at _ 1) (fun h => absurd h (by decide)))
    try dsimp only
    )
  have bad2 : ∀ q, q < T 0 0 → a1 = nI q → (∀ p, p < T 0 0 → ¬ a2 = nI p) → P 1 o hx km := fun q hq eq c => hP 1 _ (fun Q hQ => by
    unfold wpX7_knows
    intro h1 e1
    subst e1
    refine t_isPerson hT hM1 (fun _ _ _ => bo_t rfl ?_) (fun c9 => absurd eq (c9 q hq))
    refine t_isPerson hT hM1 (fun p hp e => absurd e (c p hp)) (fun _ => bo_f rfl ?_)
    unfold wpBX7_knows_30; exact t_failing (hQ _ _ r2 (code_at _ 1) (fun h => absurd h (by decide)))
    try dsimp only
    )
  unfold wpX0_knows wpX1_knows
  refine ⟨fun p hp ep => ⟨fun q hq eq => ?_, fun c => ⟨rfl, bad2 p hp ep c⟩⟩, fun c => ⟨rfl, bad1 c⟩⟩
  subst ep eq
  clear bad1 bad2
  refine c_knows hT r.S hp hq (hP 0 _ (fun Q hQ => ?_))
  unfold wpX7_knows
  intro h1 e1
  subst e1
  refine t_isPerson hT hM1 (fun _ _ _ => bo_t rfl (t_isPerson hT hM1 (fun _ _ _ => bo_t rfl (t_isKnown hT hM1 hp hq ?_)) (fun c => absurd rfl (c q hq)))) (fun c => absurd rfl (c p hp))
  rw [eR]
  exact hQ _ _ r1 (code_at h 0) (fun _ => rfl)
theorem s_may {P : LPT} {a1 a2 : Int32} (r : Rel T hx km h) (hP : ∀ k v, LkI T (fun Q => wpX7_may Q h a1 a2) k v hx km → P k v hx km) : wpX0_may P T hx km o a1 a2 := by
  have hT := r.T
  have h8 := hT.n8
  have h6 := hT.n6
  have r1 := r.c 0
  have r2 := r1.c 1
  have eR : rowM (up2 h 2 0 0) = rowM h := rowM_of (fun k hk => up2_other (by omega))
  have hM1 : TM T (up2 h 2 0 0) := r1.M
  have bad1 : (∀ p, p < T 0 0 → ¬ a1 = nI p) → P 1 o hx km := fun c => hP 1 _ (fun Q hQ => by
    unfold wpX7_may
    intro h1 e1
    subst e1
    refine t_isPerson hT hM1 (fun p hp e => absurd e (c p hp)) (fun _ => bo_f rfl ?_)
    unfold wpBX7_may_30; exact t_fail (hQ _ _ r2 (code_at _ 1) (fun h => absurd h (by decide)))
    try dsimp only
    )
  have bad2 : ∀ q, q < T 0 0 → a1 = nI q → (∀ p, p < T 0 1 → ¬ a2 = nI p) → P 1 o hx km := fun q hq eq c => hP 1 _ (fun Q hQ => by
    unfold wpX7_may
    intro h1 e1
    subst e1
    refine t_isPerson hT hM1 (fun _ _ _ => bo_t rfl ?_) (fun c9 => absurd eq (c9 q hq))
    refine t_isLoaf hT hM1 (fun p hp e => absurd e (c p hp)) (fun _ => bo_f rfl ?_)
    unfold wpBX7_may_30; exact t_fail (hQ _ _ r2 (code_at _ 1) (fun h => absurd h (by decide)))
    try dsimp only
    )
  unfold wpX0_may wpX1_may
  refine ⟨fun p hp ep => ⟨fun q hq eq => ?_, fun c => ⟨rfl, bad2 p hp ep c⟩⟩, fun c => ⟨rfl, bad1 c⟩⟩
  subst ep eq
  clear bad1 bad2
  refine c_may hT r.S hp hq (hP 0 _ (fun Q hQ => ?_))
  unfold wpX7_may
  intro h1 e1
  subst e1
  refine t_isPerson hT hM1 (fun _ _ _ => bo_t rfl (t_isLoaf hT hM1 (fun _ _ _ => bo_t rfl (t_mayNow hT hM1 hp hq ?_)) (fun c => absurd rfl (c q hq)))) (fun c => absurd rfl (c p hp))
  rw [eR]
  exact hQ _ _ r1 (code_at h 0) (fun _ => rfl)
theorem c_why_loop (hT : TOK T) (hS : SRel T (sub hx 40) (rowM h)) {post : Int32 → Mem → Prop} {px : Nat → Prop} {a2 : Int32} {b : Nat} (hb : b < T 0 1) (hp : post (nI (mN (fun p => decide (mayI T (rowM h) p b = a2)) (T 0 0))) hx) : ∃ n, wpLX1_why_21 post T px (nI b) a2 hx n ((0 : Int32), (0 : Int32)) := by
  have h8 := hT.n8
  refine LW_nat (fun i => (nI (mN (fun p => decide (mayI T (rowM h) p b = a2)) i), nI i)) (T 0 0) (fun _ => True) rfl trivial (fun K i hi _ k => ?_)
  unfold wpBX1_why_21 wpX1_people
  try dsimp only
  refine pk_le (T 0 0) i (fun q => ?_) (fun q => ?_)
  · have e : i = T 0 0 := by omega
    subst e
    exact hp
  · have k := k q trivial
    rw [← mN_Is (fun p => decide (mayI T (rowM h) p b = a2)) (by omega) q, ← nI_1] at k
    refine c_may hT hS q hb ?_
    by_cases c : mayI T (rowM h) i b = a2
    · rw [if_pos c]
      rw [if_pos (by exact decide_eq_true c)] at k
      exact k
    · rw [if_neg c]
      rw [if_neg (by rw [decide_eq_false c]; decide)] at k
      exact k
theorem s_why {P : LPT} {a1 a2 : Int32} (r : Rel T hx km h) (hP : ∀ k v, LkI T (fun Q => wpX7_why Q h a1 a2) k v hx km → P k v hx km) : wpX0_why P T hx km o a1 a2 := by
  have hT := r.T
  have h8 := hT.n8
  have h6 := hT.n6
  have r1 := r.c 0
  have r2 := r1.c 1
  have eR : rowM (up2 h 2 0 0) = rowM h := rowM_of (fun k hk => up2_other (by omega))
  have hM1 : TM T (up2 h 2 0 0) := r1.M
  have bad1 : (∀ p, p < T 0 1 → ¬ a1 = nI p) → P 1 o hx km := fun c => hP 1 _ (fun Q hQ => by
    unfold wpX7_why wpBX7_why_34
    intro h1 e1
    subst e1
    exact t_isLoaf hT hM1 (fun p hp e => absurd e (c p hp)) (fun _ => bo_f rfl (t_fail (hQ _ _ r2 (code_at _ 1) (fun h => absurd h (by decide))))))
  unfold wpX0_why wpX1_why
  refine ⟨fun b hb eb => ?_, fun c => ⟨rfl, bad1 c⟩⟩
  subst eb
  clear bad1
  refine c_within ⟨fun e => ?_, fun e => ⟨rfl, ?_⟩⟩
  · refine c_why_loop hT r.S hb (hP 0 _ (fun Q hQ => ?_))
    unfold wpX7_why
    intro h1 e1
    subst e1
    refine t_isLoaf hT hM1 (fun _ _ _ => bo_t rfl (t_isInL (a := 0) (b := 6) rfl rfl (bo_t e (t_answering hT hM1 hb ?_)))) (fun c => absurd rfl (c b hb))
    rw [eR]
    exact hQ _ _ r1 (code_at h 0) (fun _ => rfl)
  · refine hP 1 _ (fun Q hQ => ?_)
    unfold wpX7_why wpBX7_why_34
    intro h1 e1
    subst e1
    exact t_isLoaf hT hM1 (fun _ _ _ => bo_t rfl (t_isInL (a := 0) (b := 6) rfl rfl (bo_f (Bool.eq_false_iff.mpr e) (t_fail (hQ _ _ r2 (code_at _ 1) (fun h => absurd h (by decide))))))) (fun c => absurd rfl (c b hb))
theorem s_carried {P : LPT} {a1 : Int32} (r : Rel T hx km h) (hP : ∀ k v, LkI T (fun Q => wpX7_carried Q h a1) k v hx km → P k v hx km) : wpX0_carried P T hx km o a1 := by
  have hT := r.T
  have h8 := hT.n8
  have h6 := hT.n6
  have r1 := r.c 0
  have r2 := r1.c 1
  have eR : rowM (up2 h 2 0 0) = rowM h := rowM_of (fun k hk => up2_other (by omega))
  have hM1 : TM T (up2 h 2 0 0) := r1.M
  have bad1 : (∀ p, p < T 0 1 → ¬ a1 = nI p) → P 1 o hx km := fun c => hP 1 _ (fun Q hQ => by
    unfold wpX7_carried wpBX7_carried_29
    intro h1 e1
    subst e1
    exact t_isLoaf hT hM1 (fun p hp e => absurd e (c p hp)) (fun _ => bo_f rfl (t_fail (hQ _ _ r2 (code_at _ 1) (fun h => absurd h (by decide))))))
  have hk := r.2.2.2.2.2
  have e45 : up2 h 2 0 0 45 0 = hx 14 0 := hk.1.symm
  unfold wpX0_carried wpX1_carried
  refine ⟨fun b hb eb => ?_, fun c => ⟨rfl, bad1 c⟩⟩
  subst eb
  clear bad1
  refine ⟨fun e => ?_, fun e => ⟨rfl, ?_⟩⟩
  · have hrow := (hk.2.resolve_left e).2 b hb
    rw [ixn (by omega)]
    refine ⟨pk_in b 6 (by omega), hP 0 _ (fun Q hQ => ?_)⟩
    unfold wpX7_carried
    intro h1 e1
    subst e1
    refine t_isLoaf hT hM1 (fun _ _ _ => bo_t rfl (sw_f (fun h => e (e45.symm.trans h)) ?_)) (fun c => absurd rfl (c b hb))
    rw [ixn (by omega)]
    exact ⟨pk_in b 6 (by omega), hQ _ _ r1 (code_at h 0) (fun _ => congrArg Int32.toInt64 hrow)⟩
  · refine hP 1 _ (fun Q hQ => ?_)
    unfold wpX7_carried wpBX7_carried_29
    intro h1 e1
    subst e1
    exact t_isLoaf hT hM1 (fun _ _ _ => bo_t rfl (sw_t (e45.trans e) (t_fail (hQ _ _ r2 (code_at _ 1) (fun h => absurd h (by decide)))))) (fun c => absurd rfl (c b hb))
end S1
