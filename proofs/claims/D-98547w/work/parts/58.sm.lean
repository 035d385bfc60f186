/-! 58.sm: the twin's slices -/
theorem LW_ixE {σ τ : Type} {B : (σ → Prop) → σ → Prop} (st : τ → σ) (I : τ → Prop) (μ : τ → Nat)
    (hs : ∀ (K : σ → Prop) (t : τ), I t → (∀ t', I t' → μ t' < μ t → K (st t')) → B K (st t)) (t : τ) (ht : I t) {s0 : σ} (e : s0 = st t) : ∃ n, LW B n s0 := e ▸ LW_ix st I μ hs t ht
/-- a list of signs that can be worked on a stack of n numbers, one number left -/
def wfc : Nat → List Int32 → Prop
  | n, [] => n = 1
  | n, sg :: r => if -20 < sg then (n < 64 ∧ (0 ≤ sg ∨ ∃ i : Nat, i < 6 ∧ sg = -1 - nI i)) ∧ wfc (n + 1) r else if sg = -28 then 1 ≤ n ∧ wfc n r else 2 ≤ n ∧ wfc (n - 1) r
def SGOK (T : TT) : Prop := T 0 5 = 0 ∨ wfc 0 (sgns T)
/-- a stack in the twin's memory -/
def SK (h : Mem) : List Int32 → Prop
  | [] => True
  | x :: r => h 36 r.length = x ∧ SK h r
theorem SK.up {h : Mem} {i : Nat} {v : Int32} : ∀ {st : List Int32}, st.length ≤ i → SK h st → SK (up2 h 36 i v) st
  | [], _, _ => trivial
  | x :: r, hl, hS => ⟨by rw [up2_ne _ _ _ (by have : r.length + 1 ≤ i := hl; omega)]; exact hS.1, SK.up (by have : r.length + 1 ≤ i := hl; omega) hS.2⟩
/-- what the slices change of the twin's memory -/
def Sh7 (h0 h : Mem) : Prop := ∀ k, (k < 35 ∨ 41 < k) → h k = h0 k
theorem Sh7.u {h0 h : Mem} (hO : Sh7 h0 h) {k i : Nat} {v : Int32} (hk : 35 ≤ k ∧ k ≤ 41) : Sh7 h0 (up2 h k i v) := fun j hj => by
  rw [up2_other (by omega)]
  exact hO j hj
theorem Sh7.rf (h : Mem) : Sh7 h h := fun _ _ => rfl
theorem TM.sh {T : TT} {h0 h : Mem} (hM : TM T h0) (hO : Sh7 h0 h) : TM T h := hM.of (fun k _ h2 _ => hO k (by omega))
section SM
variable {T : TT} {p b : Nat} {th : Int32}
theorem t_reckon {h : Mem} {post : Int32 → Prop} {sg a c : Int32} (hp : post (reck sg a c)) : wpX7_reckon post h sg a c := by
  unfold wpX7_reckon
  unfold reck at hp
  refine ⟨fun e => ?_, fun e1 => ⟨fun e => ?_, fun e2 => ⟨fun e => ?_, fun e3 => ⟨fun e => ?_, fun e4 => ⟨fun e => ?_, fun e5 => ⟨fun e => ?_, fun e6 => ⟨fun e => ?_, fun e7 => ?_⟩⟩⟩⟩⟩⟩⟩
  · subst e
    rw [if_neg (by decide), if_neg (by decide), if_neg (by decide), if_neg (by decide), if_neg (by decide), if_neg (by decide), if_pos rfl] at hp
    by_cases h1 : a = 0
    · rw [if_pos h1]
      rw [if_neg (fun h => h.1 h1)] at hp
      exact hp
    · rw [if_neg h1]
      by_cases h2 : c = 0
      · rw [if_pos h2]
        rw [if_neg (fun h => h.2 h2)] at hp
        exact hp
      · rw [if_neg h2]
        rw [if_pos ⟨h1, h2⟩] at hp
        exact hp
  · subst e
    rw [if_neg (by decide), if_neg (by decide), if_neg (by decide), if_neg (by decide), if_neg (by decide), if_pos rfl] at hp
    exact hp
  · subst e
    rw [if_neg (by decide), if_neg (by decide), if_neg (by decide), if_neg (by decide), if_pos rfl] at hp
    by_cases h1 : a < c
    · rw [if_neg (by rw [le_II]; rw [lt_II] at h1; omega)]
      rw [if_pos h1] at hp
      exact hp
    · rw [if_pos (by rw [le_II]; rw [lt_II] at h1; omega)]
      rw [if_neg h1] at hp
      exact hp
  · subst e
    rw [if_neg (by decide), if_neg (by decide), if_neg (by decide), if_pos rfl] at hp
    exact ⟨fun h => by rw [if_pos h] at hp; exact hp, fun h => ⟨h, by rw [if_neg h] at hp; exact hp⟩⟩
  · subst e
    rw [if_neg (by decide), if_neg (by decide), if_pos rfl] at hp
    exact hp
  · subst e
    rw [if_neg (by decide), if_pos rfl] at hp
    exact hp
  · subst e
    rw [if_pos rfl] at hp
    exact hp
  · rw [if_neg e7, if_neg e6, if_neg e5, if_neg e4, if_neg e3, if_neg e2, if_neg e1] at hp
    by_cases h1 : a = 0
    · rw [if_pos h1]
      by_cases h2 : c = 0
      · rw [if_pos h2]
        rw [if_neg (fun h => h.elim (fun h => h h1) (fun h => h h2))] at hp
        exact hp
      · rw [if_neg h2]
        rw [if_pos (Or.inr h2)] at hp
        exact hp
    · rw [if_neg h1]
      rw [if_pos (Or.inl h1)] at hp
      exact hp
theorem sgns_get {T : TT} {k : Nat} (hk : k < T 0 5) : (sgns T).drop k = sgn T k :: (sgns T).drop (k + 1) := by
  unfold sgns
  rw [← List.map_drop, ← List.map_drop]
  have : (List.range (T 0 5)).drop k = k :: (List.range (T 0 5)).drop (k + 1) := by
    rw [List.drop_eq_getElem_cons (by rw [List.length_range]; exact hk), List.getElem_range]
  rw [this]
  rfl
theorem t_valueNow (hT : TOK T) (h5 : ¬ T 0 5 = 0) (hW : wfc 0 (sgns T)) {h : Mem} (hM : TM T h) {env : Nat → Int32} (he : ∀ i, i < 6 → h 35 i = env i) {post : Int32 → Mem → Prop} (hp : ∀ h', (∀ k, k ≠ 36 → h' k = h k) → post (evalc (sgns T) env) h') : wpX7_valueNow post h := by
  have hc := hT.c
  have e5 := hM.1.2.2.2.2
  unfold wpX7_valueNow
  refine LW_ix (τ := Mem × List Int32 × Nat) (fun t => (t.1, nI t.2.1.length, nI t.2.2)) (fun t => t.2.2 ≤ T 0 5 ∧ (∀ k, k ≠ 36 → t.1 k = h k) ∧ SK t.1 t.2.1 ∧ t.2.1.length ≤ 64 ∧ wfc t.2.1.length ((sgns T).drop t.2.2) ∧ ((sgns T).drop t.2.2).foldl (stp env) t.2.1 = (sgns T).foldl (stp env) []) (fun t => T 0 5 - t.2.2) (fun K t ht kk => ?_) (h, [], 0) ⟨Nat.zero_le _, fun _ _ => rfl, trivial, Nat.zero_le _, hW, rfl⟩
  obtain ⟨h1, st, k⟩ := t
  obtain ⟨hk, hO, hS, hl, hw, hf⟩ := ht
  try dsimp only at hO hS
  have hk : k ≤ T 0 5 := hk
  have hl : st.length ≤ 64 := hl
  have hS : SK h1 st := hS
  unfold wpBX7_valueNow_4
  try dsimp only
  rw [hO 3 (by decide), hO 14 (by decide), e5]
  refine pk_le (T 0 5) k (fun q => ?_) (fun q => ?_)
  · have e : k = T 0 5 := by omega
    have e9 : (sgns T).drop k = [] := by
      apply List.drop_eq_nil_of_le
      unfold sgns
      rw [List.length_map, List.length_range]
      omega
    have hw : wfc st.length ((sgns T).drop k) := hw
    have hf : ((sgns T).drop k).foldl (stp env) st = (sgns T).foldl (stp env) [] := hf
    rw [e9] at hw hf
    have hw : st.length = 1 := hw
    have hf : st = (sgns T).foldl (stp env) [] := hf
    match st, hw, hS with
    | [x], _, hS =>
      have := hp h1 hO
      rw [show evalc (sgns T) env = x by unfold evalc; rw [← hf]; rfl] at this
      rw [show h1 36 0 = x from hS.1]
      exact this
  · have hsg := hM.2.2.2.2 k q
    have hw : wfc st.length ((sgns T).drop k) := hw
    have hf : ((sgns T).drop k).foldl (stp env) st = (sgns T).foldl (stp env) [] := hf
    rw [sgns_get q] at hw hf
    rw [ixn (by omega), hsg]
    generalize sgn T k = sg at hw hf ⊢
    refine ⟨pk_in k 1200 (by omega), fun e => ?_, fun e => ?_⟩
    · have e1 : ¬ -20 < sg := by rw [lt_II]; rw [le_II] at e; omega
      unfold wfc at hw
      rw [if_neg e1] at hw
      refine ⟨fun e2 => ?_, fun e2 => ?_⟩
      · rw [if_pos e2] at hw
        match st, hw.1, hS, hl, hw, hf with
        | x :: r, _, hS, hl, hw, hf =>
          have hl : r.length + 1 ≤ 64 := hl
          have hx : h1 36 r.length = x := hS.1
          subst hx
          rw [show nI (h1 36 r.length :: r).length - 1 = nI r.length from pk_s1 (by show 1 ≤ r.length + 1; omega), ixn (by omega)]
          refine ⟨pk_in r.length 64 (by omega), ?_⟩
          unfold wpBX7_valueNow_84
          try dsimp only
          rw [ixn (by omega), nI_1]
          refine ⟨pk_in r.length 64 (by omega), fun h13 e13 => ?_⟩
          refine kk (h13, (if h1 36 r.length = 0 then 1 else 0) :: r, k + 1) ⟨q, fun j hj => by (try dsimp only); rw [e13, up2_other hj]; exact hO j hj, ⟨by (try dsimp only); rw [e13, up2_at], by (try dsimp only); rw [e13]; exact SK.up (Nat.le_refl _) hS.2⟩, hl, hw.2, ?_⟩ (by show T 0 5 - (k + 1) < T 0 5 - k; omega)
          rw [← hf]
          show _ = List.foldl (stp env) (stp env (h1 36 r.length :: r) sg) _
          unfold stp
          rw [if_neg e1, if_pos e2]
      · rw [if_neg e2] at hw
        match st, hw.1, hS, hl, hw, hf with
        | x :: y :: r, _, hS, hl, hw, hf =>
          have hl : r.length + 1 + 1 ≤ 64 := hl
          have hx : h1 36 (r.length + 1) = x := hS.1
          have hy : h1 36 r.length = y := hS.2.1
          rw [show nI (x :: y :: r).length + (-1 : Int32) = nI (r.length + 1) from pk_m1 _, show nI (r.length + 1) - 1 = nI r.length from nI_pred _, ixn (by omega), ixn (by omega), hx, hy]
          refine ⟨pk_in r.length 64 (by omega), pk_in (r.length + 1) 64 (by omega), t_reckon (fun h9 e9 => ?_)⟩
          rw [nI_1]
          refine kk (h9, reck sg y x :: r, k + 1) ⟨q, fun j hj => by (try dsimp only); rw [e9, up2_other hj]; exact hO j hj, ⟨by (try dsimp only); rw [e9, up2_at], by (try dsimp only); rw [e9]; exact SK.up (Nat.le_refl _) hS.2.2⟩, by show r.length + 1 ≤ 64; omega, hw.2, ?_⟩ (by show T 0 5 - (k + 1) < T 0 5 - k; omega)
          rw [← hf]
          show _ = List.foldl (stp env) (stp env (x :: y :: r) sg) _
          unfold stp
          rw [if_neg e1, if_neg e2]
        | [x], h2, _, _, _, _ => exact absurd (show 2 ≤ 1 from h2) (by decide)
        | [], h2, _, _, _, _ => exact absurd (show 2 ≤ 0 from h2) (by decide)
    · have e1 : -20 < sg := by rw [lt_II]; rw [le_II] at e; omega
      unfold wfc at hw
      rw [if_pos e1] at hw
      have push : ∀ v : Int32, v = (if 0 ≤ sg then sg else env (ix (-1 - sg))) → wpBX7_valueNow_48 post (fun h x1 x2 => K (h, x1, x2)) h1 (nI st.length) (nI k) v (nI st.length) := by
        intro v ev
        unfold wpBX7_valueNow_48
        try dsimp only
        rw [ixn (by omega), nI_1, nI_1]
        refine ⟨pk_in st.length 64 hw.1.1, fun h20 e20 => ?_⟩
        refine kk (h20, v :: st, k + 1) ⟨q, fun j hj => by (try dsimp only); rw [e20, up2_other hj]; exact hO j hj, ⟨by (try dsimp only); rw [e20, up2_at], by (try dsimp only); rw [e20]; exact SK.up (Nat.le_refl _) hS⟩, hw.1.1, hw.2, ?_⟩ (by show T 0 5 - (k + 1) < T 0 5 - k; omega)
        rw [← hf]
        show _ = List.foldl (stp env) (stp env st sg) _
        unfold stp
        rw [if_pos e1, ev]
      refine ⟨fun e2 => ?_, fun e2 => ?_⟩
      · have e3 : ¬ 0 ≤ sg := by rw [le_II]; rw [lt_II] at e2; omega
        obtain ⟨i, hi, ei⟩ := hw.1.2.resolve_left e3
        have e4 : (-1 : Int32) - sg = nI i := by
          rw [ei]
          exact (by decide +kernel : ∀ i, i < 6 → (-1 : Int32) - (-1 - nI i) = nI i) i hi
        rw [e4, ixn (by omega)]
        refine ⟨pk_in i 6 hi, push _ ?_⟩
        rw [if_neg e3, e4, ixn (by omega), hO 35 (by decide)]
        exact he i hi
      · exact push sg (by rw [if_pos (by rw [le_II]; rw [lt_II] at e2; omega)])
theorem t_shareOf (hT : TOK T) (hG : SGOK T) {h : Mem} (hM : TM T h) (hp : p < T 0 0) (hb : b < T 0 1) (eth : h 28 p = th) {i n : Nat} (e40 : h 40 0 = nI n) {post : Int32 → Mem → Prop} (hq : ∀ h', (∀ k, k ≠ 35 → k ≠ 36 → h' k = h k) → post (wgt T p b th (nI i) (nI n)) h') : wpX7_shareOf post h (nI p) (nI b) (nI i) := by
  have h8 := hT.n8
  have h6 := hT.n6
  have hc := hT.c
  have hpp := hT.p hp
  unfold wpX7_shareOf
  try dsimp only
  rw [ixn (by omega), hM.k hp, hM.1.2.2.2.2]
  unfold wgt at hq
  refine pk_e0 (T 0 5) (fun e => ?_) (fun e => ⟨pk_in p 16 (by omega), pk_eq (T 1 p) 2 (fun e2 => ?_) (fun e2 => ?_)⟩)
  · have := hq h (fun _ _ _ => rfl)
    rw [if_pos (Or.inl e)] at this
    exact this
  · have := hq h (fun _ _ _ => rfl)
    rw [if_pos (Or.inr e2)] at this
    exact this
  · unfold wpBX7_shareOf_48
    intro h5 e5 h6' e6
    rw [ixn (by omega), ixn (by omega)]
    refine ⟨pk_in b 12 (by omega), fun h8' e8' => ⟨pk_in p 16 (by omega), fun h10 e10 => ⟨pk_in p 16 (by omega), fun h12 e12 => ⟨pk_in p 8 (by omega), fun h14 e14 => ?_⟩⟩⟩⟩
    have o : ∀ k, k ≠ 35 → h14 k = h k := fun k hk => by (try dsimp only); rw [e14, up2_other hk, e12, up2_other hk, e10, up2_other hk, e8', up2_other hk, e6, up2_other hk, e5, up2_other hk]
    refine t_valueNow hT e (hG.resolve_left e) (hM.of (fun k _ h2 _ => o k (by omega))) (env := wenv T p b th (nI i) (nI n)) (fun j hj => ?_) (fun h' hO => ?_)
    · have o12 : ∀ k, k ≠ 35 → h12 k = h k := fun k hk => by (try dsimp only); rw [e12, up2_other hk, e10, up2_other hk, e8', up2_other hk, e6, up2_other hk, e5, up2_other hk]
      have o10 : ∀ k, k ≠ 35 → h10 k = h k := fun k hk => by (try dsimp only); rw [e10, up2_other hk, e8', up2_other hk, e6, up2_other hk, e5, up2_other hk]
      have o8 : ∀ k, k ≠ 35 → h8' k = h k := fun k hk => by rw [e8', up2_other hk, e6, up2_other hk, e5, up2_other hk]
      have o6 : ∀ k, k ≠ 35 → h6' k = h k := fun k hk => by (try dsimp only); rw [e6, up2_other hk, e5, up2_other hk]
      have o5 : ∀ k, k ≠ 35 → h5 k = h k := fun k hk => by (try dsimp only); rw [e5, up2_other hk]
      match j, hj with
      | 0, _ =>
        rw [e14, up2_ne _ _ _ (by decide), e12, up2_ne _ _ _ (by decide), e10, up2_ne _ _ _ (by decide), e8', up2_ne _ _ _ (by decide), e6, up2_ne _ _ _ (by decide), e5, up2_at, e40]
        show _ = ksl (T 1 p) (nI i) (nI n)
        unfold ksl
        by_cases e1 : T 1 p = 1
        · rw [if_pos e1, e1]; rfl
        · rw [if_neg e1, if_neg (fun e9 => e1 ((nI_eq (by omega) (by decide)).mp (e9.trans (show (1 : Int32) = nI 1 from rfl))))]
      | 1, _ => rw [e14, up2_ne _ _ _ (by decide), e12, up2_ne _ _ _ (by decide), e10, up2_ne _ _ _ (by decide), e8', up2_ne _ _ _ (by decide), e6, up2_at, o5 40 (by decide)]; exact e40
      | 2, _ => rw [e14, up2_ne _ _ _ (by decide), e12, up2_ne _ _ _ (by decide), e10, up2_ne _ _ _ (by decide), e8', up2_at, o6 8 (by decide)]; exact (hM.2.2.1 b hb).2.1
      | 3, _ => rw [e14, up2_ne _ _ _ (by decide), e12, up2_ne _ _ _ (by decide), e10, up2_at, o8 4 (by decide)]; exact hM.k hp
      | 4, _ => rw [e14, up2_ne _ _ _ (by decide), e12, up2_at, o10 6 (by decide)]; exact (hM.2.1 p hp).2.2
      | 5, _ => rw [e14, up2_at, o12 28 (by decide)]; exact eth
    · have := hq h' (fun k h1 h2 => (hO k h2).trans (o k h1))
      rw [if_neg (fun h => h.elim e e2)] at this
      exact this
theorem t_tellUnits (hT : TOK T) {h : Mem} (hM : TM T h) (hb : b < T 0 1) {post : Mem → Prop} (hq : ∀ h', (∀ k, k ≠ 38 → k ≠ 40 → h' k = h k) → (∀ i, i < T 8 b → h' 38 i = nI (unN T b i)) → h' 40 0 = nI (nsN T b) → post h') : wpX7_tellUnits post h (nI b) := by
  have h8 := hT.n8
  have h6 := hT.n6
  have hl := hT.l hb
  unfold wpX7_tellUnits
  intro h1 e1
  refine LW_ix (τ := Mem × Nat) (fun t => (t.1, nI t.2)) (fun t => t.2 ≤ T 8 b ∧ (∀ k, k ≠ 38 → k ≠ 40 → t.1 k = h k) ∧ (∀ i, i < t.2 → t.1 38 i = nI (unN T b i)) ∧ t.1 40 0 = nI (ctB (laB T b) t.2)) (fun t => T 8 b - t.2) (fun K t ht kk => ?_) (h1, 0) ⟨Nat.zero_le _, fun k _ hk => by (try dsimp only); rw [e1, up2_other hk], fun i h => absurd h (Nat.not_lt_zero _), by (try dsimp only); rw [e1, up2_at]; rfl⟩
  obtain ⟨h2, i⟩ := t
  obtain ⟨hi, hO, hU, hC⟩ := ht
  try dsimp only at hO hU hC
  have hi : i ≤ T 8 b := hi
  have hM2 : TM T h2 := hM.of (fun k _ h2 _ => hO k (by omega) (by omega))
  unfold wpBX7_tellUnits_7
  try dsimp only
  rw [ixn (by omega), hM2.em hb]
  refine ⟨pk_in b 12 (by omega), pk_le (T 8 b) i (fun q => ?_) (fun q => ?_)⟩
  · have e : i = T 8 b := by omega
    exact hq h2 hO (fun j hj => hU j (by omega)) (by rw [hC, e]; rfl)
  · rw [ixn (by omega)]
    refine ⟨pk_in i 6 (by omega), fun h5 e5 => ?_⟩
    have hu := unN_s hT hb q
    refine LW_ix (τ := Mem × Nat) (fun t => (t.1, nI t.2)) (fun t => t.2 ≤ T 8 b ∧ (∀ k, k ≠ 38 → k ≠ 40 → t.1 k = h k) ∧ (∀ j, j < i → t.1 38 j = nI (unN T b j)) ∧ t.1 40 0 = nI (ctB (laB T b) i) ∧ t.1 38 i = nI (it (fun k x => if twI T (et T b i) = nI (et T b k) then max i k else x) t.2 i)) (fun t => T 8 b - t.2) (fun K2 t ht k2 => ?_) (h5, 0) ⟨Nat.zero_le _, fun k h1 h2 => by (try dsimp only); rw [e5, up2_other h1]; exact hO k h1 h2, fun j hj => by (try dsimp only); rw [e5, up2_ne _ _ _ (by omega)]; exact hU j hj, by (try dsimp only); rw [e5, up2_other (by decide)]; exact hC, by (try dsimp only); rw [e5, up2_at]; rfl⟩
    obtain ⟨h7, w⟩ := t
    obtain ⟨hw, hO, hU, hC, hX⟩ := ht
    try dsimp only at hO hU hC hX
    have hw : w ≤ T 8 b := hw
    have hX : h7 38 i = nI (it (fun k x => if twI T (et T b i) = nI (et T b k) then max i k else x) w i) := hX
    have hM7 : TM T h7 := hM.of (fun k _ h2 _ => hO k (by omega) (by omega))
    have hbd : it (fun k x => if twI T (et T b i) = nI (et T b k) then max i k else x) w i < 8 := by
      rcases hu w hw with ⟨k, h1, _, h3⟩ | ⟨_, h3⟩ <;> omega
    unfold wpBX7_tellUnits_26
    try dsimp only
    rw [ixn (by omega), hM7.em hb, ixn (by omega)]
    refine ⟨pk_in b 12 (by omega), pk_le (T 8 b) w (fun q2 => ?_) (fun q2 => ?_)⟩
    · have e : w = T 8 b := by omega
      subst e
      have hX : h7 38 i = nI (unN T b i) := hX
      have hbd : unN T b i < 8 := hbd
      rw [hX]
      have hun := (unN_t hT hb q).1
      have hU' : ∀ (h' : Mem), h' 38 = h7 38 → ∀ j, j < i + 1 → h' 38 j = nI (unN T b j) := fun h' eh j hj => by
        rw [eh]
        by_cases ej : j = i
        · subst ej; exact hX
        · exact hU j (by omega)
      refine ⟨pk_in i 6 (by omega), pk_eq (unN T b i) i (fun e => ?_) (fun e => ?_)⟩
      · intro h10 e10
        rw [nI_1]
        refine kk (h10, i + 1) ⟨q, fun k h1 h2 => by (try dsimp only); rw [e10, up2_other h2]; exact hO k h1 h2, hU' h10 (by (try dsimp only); rw [e10, up2_other (by decide)]), ?_⟩ (by show T 8 b - (i + 1) < T 8 b - i; omega)
        show h10 40 0 = _
        rw [e10, up2_at, hC, nI_1, ctB_s, if_pos (hun.mp e)]
      · rw [nI_1]
        refine kk (h7, i + 1) ⟨q, hO, hU' h7 rfl, ?_⟩ (by show T 8 b - (i + 1) < T 8 b - i; omega)
        show h7 40 0 = _
        rw [hC, ctB_s, if_neg (fun e9 => e (hun.mpr e9))]
        rfl
    · have aw : et T b i < T 0 0 := hT.e hb q
      have av : et T b w < T 0 0 := hT.e hb q2
      rw [e6, ixn (by omega), e6, ixn (by omega), hM7.e hb q, hM7.e hb q2, nI_1]
      have stp : it (fun k x => if twI T (et T b i) = nI (et T b k) then max i k else x) (w + 1) i = if twI T (et T b i) = nI (et T b w) then max i w else it (fun k x => if twI T (et T b i) = nI (et T b k) then max i k else x) w i := rfl
      refine ⟨pk_in (6 * b + i) 72 (by omega), t_twinOf hT hM7 aw ⟨pk_in (6 * b + w) 72 (by omega), fun e => ⟨pk_in i 6 (by omega), fun h17 e17 => ?_⟩, fun e => ?_⟩⟩
      · refine k2 (h17, w + 1) ⟨q2, fun k h1 h2 => by (try dsimp only); rw [e17, up2_other h1]; exact hO k h1 h2, fun j hj => by (try dsimp only); rw [e17, up2_ne _ _ _ (by omega)]; exact hU j hj, by (try dsimp only); rw [e17, up2_other (by decide)]; exact hC, ?_⟩ (by show T 8 b - (w + 1) < T 8 b - w; omega)
        show h17 38 i = _
        rw [e17, up2_at, stp, if_pos e, mxI_n _ _ (by omega) (by omega)]
      · refine k2 (h7, w + 1) ⟨q2, hO, hU, hC, ?_⟩ (by show T 8 b - (w + 1) < T 8 b - w; omega)
        show h7 38 i = _
        rw [hX, stp, if_neg e]
theorem tk_bit (T : TT) (p b : Nat) (th : Int32) (j n : Nat) (q : Nat) (hq : q < n) (hn : n ≤ 10) (hf : tkF T p b th j q = false) : nI (mN (tkF T p b th j) n) ||| ((1 : Int32) <<< (nI q &&& 31)) = nI (mN (fun k => decide (k = q) || tkF T p b th j k) n) := by
  have hl := mN_lt (tkF T p b th j) n
  have h10 := p10 hn
  rw [(or_h q (by omega) _ (by omega)).1]
  congr 1
  apply Nat.eq_of_testBit_eq
  intro i
  rw [Nat.testBit_or, mN_bit, mN_bit, Nat.testBit_two_pow]
  by_cases e : q = i
  · subst e
    simp [hq]
  · rw [decide_eq_false e, show decide (i = q) = false from decide_eq_false (fun h => e h.symm)]
    simp
theorem t_tellSlices (hT : TOK T) (hG : SGOK T) {h : Mem} (hM : TM T h) (hp : p < T 0 0) (hb : b < T 0 1) (eth : h 28 p = th) {post : Mem → Prop}
    (hq : ∀ h', Sh7 h h' → (∀ k, k < T 8 b → h' 39 k = nI (finG T p b th k)) → h' 41 0 = crI T p b th → h' 40 0 = nI (nsN T b) → (∀ i, i < nsN T b → h' 37 i = nI (slN T p b th i)) → post h') : wpX7_tellSlices post h (nI p) (nI b) := by
  have h8 := hT.n8
  have h6 := hT.n6
  have hl := hT.l hb
  have hn := nsN_pos hT hb
  have wt := fun i => wtI_c (T := T) (p := p) (b := b) (th := th) i
  have sb := smF_b (f := wtN T p b th) (n := nsN T b) (fun i => (wt i).2)
  have sl := fun i => slN_lt (T := T) (p := p) (b := b) (th := th) hT hb i
  unfold wpX7_tellSlices
  refine t_tellUnits hT hM hb (fun h1 hO1 hU1 hC1 => ?_)
  have hS1 : Sh7 h h1 := fun k hk => hO1 k (by omega) (by omega)
  -- weights
  refine LW_ix (τ := Mem × Nat) (fun t => (t.1, nI (smF (wtN T p b th) t.2), nI t.2)) (fun t => t.2 ≤ nsN T b ∧ Sh7 h t.1 ∧ (∀ i, i < T 8 b → t.1 38 i = nI (unN T b i)) ∧ t.1 40 0 = nI (nsN T b) ∧ (∀ i, i < t.2 → t.1 37 i = nI (wtN T p b th i))) (fun t => nsN T b - t.2) (fun K t ht k => ?_) (h1, 0) ⟨Nat.zero_le _, hS1, hU1, hC1, fun i h => absurd h (Nat.not_lt_zero _)⟩
  obtain ⟨h2, i⟩ := t
  obtain ⟨hi, hO, hU, hC, hW⟩ := ht
  try dsimp only at hO hU hC hW
  have hM2 := hM.sh hO
  have hC : h2 40 0 = nI (nsN T b) := hC
  unfold wpBX7_tellSlices_10
  try dsimp only
  rw [hC, ixn (by omega), (hM2.2.2.1 b hb).2.1]
  refine pk_le (nsN T b) i (fun q => ?_) (fun q => ?_)
  · have e : i = nsN T b := by omega
    subst e
    clear k hi
    refine ⟨pk_in b 12 (by omega), fun h5 e5 => ?_⟩
    -- slices
    refine LW_ix (τ := Mem × Nat) (fun t => (t.1, nI t.2)) (fun t => t.2 ≤ nsN T b ∧ Sh7 h t.1 ∧ (∀ i, i < T 8 b → t.1 38 i = nI (unN T b i)) ∧ t.1 40 0 = nI (nsN T b) ∧ (∀ i, i < nsN T b → t.1 37 i = if i < t.2 then nI (slN T p b th i) else nI (wtN T p b th i)) ∧ t.1 41 0 = it (fun i x => x - nI (slN T p b th i)) t.2 (nI (T 5 b))) (fun t => nsN T b - t.2) (fun K t ht k => ?_) (h5, 0) ⟨Nat.zero_le _, by (try dsimp only); rw [e5]; exact hO.u ⟨by omega, by omega⟩, fun i h => by (try dsimp only); rw [e5, up2_other (by decide)]; exact hU i h, by (try dsimp only); rw [e5, up2_other (by decide)]; exact hC, fun i h => by (try dsimp only); rw [e5, up2_other (by decide), if_neg (Nat.not_lt_zero _)]; exact hW i h, by (try dsimp only); rw [e5, up2_at]; rfl⟩
    obtain ⟨h3, i⟩ := t
    obtain ⟨hi, hO, hU, hC, hW, hR⟩ := ht
    try dsimp only at hO hU hC hW hR
    have hM3 := hM.sh hO
    have hC : h3 40 0 = nI (nsN T b) := hC
    unfold wpBX7_tellSlices_63
    try dsimp only
    rw [hC, ixn (by omega), (hM3.2.2.1 b hb).2.1, hM3.em hb]
    refine pk_le (nsN T b) i (fun q => ?_) (fun q => ?_)
    · have e : i = nsN T b := by omega
      subst e
      clear k hi
      have hW : ∀ i, i < nsN T b → h3 37 i = nI (slN T p b th i) := fun i hi => (hW i hi).trans (if_pos hi)
      have hR : h3 41 0 = crI T p b th := hR
      refine ⟨pk_in b 12 (by omega), ?_⟩
      rw [show nI (T 8 b) - (1 : Int32) = nI (T 8 b - 1) from pk_s1 (by omega), show nI (T 8 b - 1) = (if 0 = T 8 b then (-1 : Int32) else nI (T 8 b - 1 - 0)) from (if_neg (by omega)).symm]
      refine LW_ixE (τ := Mem × Nat) (fun t => (t.1, nI (mN (tkF T p b th t.2) (nsN T b)), if t.2 = T 8 b then (-1 : Int32) else nI (T 8 b - 1 - t.2))) (fun t => t.2 ≤ T 8 b ∧ Sh7 h t.1 ∧ (∀ i, i < T 8 b → t.1 38 i = nI (unN T b i)) ∧ t.1 40 0 = nI (nsN T b) ∧ (∀ i, i < nsN T b → t.1 37 i = nI (slN T p b th i)) ∧ t.1 41 0 = crI T p b th ∧ (∀ k, T 8 b - t.2 ≤ k → k < T 8 b → t.1 39 k = nI (finG T p b th k))) (fun t => T 8 b - t.2) (fun K t ht k => ?_) (h3, 0) ⟨Nat.zero_le _, hO, hU, hC, hW, hR, fun k h1 h2 => by have : T 8 b - 0 ≤ k := h1; omega⟩ (by
        show (h3, (0 : Int32), _) = (h3, nI (mN (fun _ => false) (nsN T b)), _)
        rw [mN_0.mpr (fun _ _ => rfl)]
        rfl)
      obtain ⟨h4, j⟩ := t
      obtain ⟨hj, hO, hU, hC, hW, hR, hF⟩ := ht
      try dsimp only at hO hU hC hW hR hF
      have hj : j ≤ T 8 b := hj
      have hC : h4 40 0 = nI (nsN T b) := hC
      have hF : ∀ k, T 8 b - j ≤ k → k < T 8 b → h4 39 k = nI (finG T p b th k) := hF
      unfold wpBX7_tellSlices_130
      try dsimp only
      show ((if j = T 8 b then (-1 : Int32) else nI (T 8 b - 1 - j)) < 0 → _) ∧ (¬ (if j = T 8 b then (-1 : Int32) else nI (T 8 b - 1 - j)) < 0 → _)
      by_cases ej : j = T 8 b
      · rw [if_pos ej]
        exact ⟨fun _ => hq h4 hO (fun k hk => hF k (by omega) hk) hR hC hW, fun h => absurd (by decide) h⟩
      · rw [if_neg ej]
        have hjl : j < T 8 b := by omega
        refine ⟨fun h => absurd h (nI_pos (by omega)), fun _ => ?_⟩
        have nx : (if j + 1 = T 8 b then (-1 : Int32) else nI (T 8 b - 1 - (j + 1))) = nI (T 8 b - 1 - j) + (-1 : Int32) := by
          by_cases e : j + 1 = T 8 b
          · rw [if_pos e, show T 8 b - 1 - j = 0 by omega]; rfl
          · rw [if_neg e, show T 8 b - 1 - j = (T 8 b - 1 - (j + 1)) + 1 by omega, pk_m1]
        have hun := unN_t hT hb (show T 8 b - 1 - j < T 8 b by omega)
        have hul : unN T b (T 8 b - 1 - j) < 8 := by
          rcases unN_s hT hb (show T 8 b - 1 - j < T 8 b by omega) (T 8 b) (Nat.le_refl _) with ⟨k, h1, _, h3⟩ | ⟨_, h3⟩
          · have h3 : unN T b (T 8 b - 1 - j) = _ := h3; omega
          · have h3 : unN T b (T 8 b - 1 - j) = _ := h3; omega
        rw [ixn (by omega), hU _ (by omega)]
        refine ⟨pk_in (T 8 b - 1 - j) 6 (by omega), pk_eq (unN T b (T 8 b - 1 - j)) (T 8 b - 1 - j) (fun eU => ?_) (fun eU => ?_)⟩
        · have eL := hun.1.mp eU
          have hb0 := (tkF_ct (T := T) (p := p) (b := b) (th := th) j hj).2 _ hjl rfl eL
          have hble := bsN_le (slN T p b th) (tkF T p b th j) (nsN T b)
          refine LW_nat (fun c => (encO (bsN (slN T p b th) (tkF T p b th j) c), nI c)) (nsN T b) (fun _ => True) rfl trivial (fun K2 c hc _ k2 => ?_)
          unfold wpBX7_tellSlices_175
          try dsimp only
          rw [hC]
          refine pk_le (nsN T b) c (fun q2 => ?_) (fun q2 => ?_)
          · have e : c = nsN T b := by omega
            subst e
            have e2 : encO (bsN (slN T p b th) (tkF T p b th j) (nsN T b)) = nI (qN T p b th j) := if_neg hb0
            have hqn : qN T p b th j < nsN T b := by unfold qN; omega
            have hqf : tkF T p b th j (qN T p b th j) = false := bsN_f _ _ _ hb0
            have etk : tkF T p b th (j + 1) = fun k => decide (k = qN T p b th j) || tkF T p b th j k := by
              funext x
              show (if laB T b (T 8 b - 1 - j) = true then _ else _) = _
              rw [if_pos eL]
              rfl
            rw [e2, ixn (by omega), ixn (by omega), tk_bit T p b th j _ _ hqn (by omega) hqf, ← etk]
            refine ⟨pk_in (qN T p b th j) 6 (by omega), pk_in (T 8 b - 1 - j) 6 (by omega), fun h14 e14 => ?_⟩
            rw [← nx]
            refine k (h14, j + 1) ⟨hjl, by (try dsimp only); rw [e14]; exact hO.u ⟨by omega, by omega⟩, fun i hi => by (try dsimp only); rw [e14, up2_other (by decide)]; exact hU i hi, by (try dsimp only); rw [e14, up2_other (by decide)]; exact hC, fun i hi => by (try dsimp only); rw [e14, up2_other (by decide)]; exact hW i hi, by (try dsimp only); rw [e14, up2_other (by decide)]; exact hR, fun x h1 h2 => ?_⟩ (by show T 8 b - (j + 1) < T 8 b - j; omega)
            show h14 39 x = _
            rw [e14]
            by_cases ex : x = T 8 b - 1 - j
            · rw [ex, up2_at, hW _ hqn]
              unfold finG
              rw [if_pos eL]
              unfold vL
              rw [show T 8 b - 1 - (T 8 b - 1 - j) = j by omega]
            · rw [up2_ne _ _ _ ex]
              exact hF x (by have : T 8 b - (j + 1) ≤ x := h1; omega) h2
          · have k2 : K2 (encO (bs1 (slN T p b th) (tkF T p b th j) c (bsN (slN T p b th) (tkF T p b th j) c)), nI (c + 1)) := k2 q2 trivial
            have hbc := bsN_le (slN T p b th) (tkF T p b th j) c
            have hml := mN_lt (tkF T p b th j) (nsN T b)
            have hm10 := p10 (show nsN T b ≤ 10 by omega)
            refine t_isOf (by omega) (by omega) ?_
            rw [mN_bit, decide_eq_true q2, Bool.true_and, nI_1]
            unfold bs1 at k2
            refine ⟨fun ec => ?_, fun ec => ?_⟩
            · rw [if_pos ec] at k2
              exact k2
            · rw [if_neg ec] at k2
              refine ⟨fun e0 => ?_, fun e0 => ?_⟩
              · have : bsN (slN T p b th) (tkF T p b th j) c = 0 := by
                  by_cases c0 : bsN (slN T p b th) (tkF T p b th j) c = 0
                  · exact c0
                  · rw [show encO _ = nI (bsN (slN T p b th) (tkF T p b th j) c - 1) from if_neg c0] at e0
                    exact absurd e0 (nIm1 (by omega))
                unfold wpBX7_tellSlices_217
                try dsimp only
                rw [if_pos (Or.inl this)] at k2
                rw [nI_1]
                exact k2
              · have c0 : bsN (slN T p b th) (tkF T p b th j) c ≠ 0 := fun h => e0 (by rw [h]; rfl)
                have e2 : encO (bsN (slN T p b th) (tkF T p b th j) c) = nI (bsN (slN T p b th) (tkF T p b th j) c - 1) := if_neg c0
                have s1 := sl c
                have s2 := sl (bsN (slN T p b th) (tkF T p b th j) c - 1)
                rw [e2, ixn (by omega), ixn (by omega), hW _ q2, hW _ (by omega)]
                refine ⟨pk_in c 6 (by omega), pk_in (bsN (slN T p b th) (tkF T p b th j) c - 1) 6 (by omega), ?_⟩
                by_cases c3 : slN T p b th (bsN (slN T p b th) (tkF T p b th j) c - 1) < slN T p b th c
                · rw [if_neg (nI_ge c3 (by omega))]
                  rw [if_pos (Or.inr c3)] at k2
                  exact k2
                · rw [if_pos (nI_le (by omega) (by omega))]
                  rw [if_neg (fun h => h.elim c0 c3), e2] at k2
                  exact k2
        · have eL : laB T b (T 8 b - 1 - j) = false := Bool.eq_false_iff.mpr (fun h => eU (hun.1.mpr h))
          obtain ⟨u1, u2, u3, u4⟩ := hun.2 eL
          rw [ixn (by omega), hF _ (by omega) u2]
          refine ⟨pk_in (unN T b (T 8 b - 1 - j)) 6 (by omega), pk_in (T 8 b - 1 - j) 6 (by omega), fun h28 e28 => ?_⟩
          have etk : tkF T p b th (j + 1) = tkF T p b th j := by
            funext x
            show (if laB T b (T 8 b - 1 - j) = true then _ else _) = _
            rw [eL, if_neg (by decide)]
          rw [← nx, ← etk]
          refine k (h28, j + 1) ⟨hjl, by (try dsimp only); rw [e28]; exact hO.u ⟨by omega, by omega⟩, fun i hi => by (try dsimp only); rw [e28, up2_other (by decide)]; exact hU i hi, by (try dsimp only); rw [e28, up2_other (by decide)]; exact hC, fun i hi => by (try dsimp only); rw [e28, up2_other (by decide)]; exact hW i hi, by (try dsimp only); rw [e28, up2_other (by decide)]; exact hR, fun x h1 h2 => ?_⟩ (by show T 8 b - (j + 1) < T 8 b - j; omega)
          show h28 39 x = _
          rw [e28]
          by_cases ex : x = T 8 b - 1 - j
          · rw [ex, up2_at]
            unfold finG
            rw [if_pos u4, eL, if_neg (show ¬ (false = true) by decide)]
          · rw [up2_ne _ _ _ ex]
            exact hF x (by have : T 8 b - (j + 1) ≤ x := h1; omega) h2
    · have w1 := wt i
      have hm : T 5 b * wtN T p b th i ≤ 98901 := Nat.mul_le_mul hl.2.1.2 w1.2.2
      rw [ixn (by omega), (hW i q).trans (if_neg (Nat.lt_irrefl _)), pk_mul, pk_div (by omega) (by omega) (by omega)]
      refine ⟨pk_in b 12 (by omega), pk_in i 6 (by omega), nI_ne0 (by omega) (by omega), fun h32 e32 h33 e33 => ?_⟩
      rw [nI_1]
      have e37 : h32 37 i = nI (slN T p b th i) := by (try dsimp only); rw [e32, up2_at]; rfl
      refine k (h33, i + 1) ⟨q, by (try dsimp only); rw [e33, e32]; exact (hO.u ⟨by omega, by omega⟩).u ⟨by omega, by omega⟩, fun j hj => by (try dsimp only); rw [e33, up2_other (by decide), e32, up2_other (by decide)]; exact hU j hj, by (try dsimp only); rw [e33, up2_other (by decide), e32, up2_other (by decide)]; exact hC, fun j hj => ?_, ?_⟩ (by show nsN T b - (i + 1) < nsN T b - i; omega)
      · show h33 37 j = if j < i + 1 then _ else _
        rw [e33, up2_other (by decide)]
        by_cases ej : j = i
        · rw [ej, if_pos (by omega)]; exact e37
        · rw [e32, up2_ne _ _ _ ej, hW j hj]
          by_cases e9 : j < i
          · rw [if_pos e9, if_pos (by omega)]
          · rw [if_neg e9, if_neg (by omega)]
      · show h33 41 0 = _ - nI (slN T p b th i)
        rw [e33, up2_at, e37, e32, up2_other (by decide), hR]
  · have w1 := wt i
    have hM2' := hM2
    refine t_shareOf hT hG hM2 hp hb (th := th) ((congrFun (hO 28 (by omega)) p).trans eth) hC (fun h36 h36O => ⟨by rw [show vp_in (nI i) (mlen 37) = vp_in (nI i) 6 from rfl]; exact pk_in i 6 (by omega), fun h38 e38 => ?_⟩)
    have e9 : h38 37 (ix (nI i)) = nI (wtN T p b th i) := by (try dsimp only); rw [e38, up2_at]; exact w1.1
    rw [e9, nI_add, nI_1]
    refine k (h38, i + 1) ⟨q, fun x hx => ?_, fun j hj => ?_, ?_, fun j hj => ?_⟩ (by show nsN T b - (i + 1) < nsN T b - i; omega)
    · show h38 x = _
      rw [e38, up2_other (by omega), h36O x (by omega) (by omega)]
      exact hO x hx
    · show h38 38 j = _
      rw [e38, up2_other (by decide), h36O 38 (by decide) (by decide)]
      exact hU j hj
    · show h38 40 0 = _
      rw [e38, up2_other (by decide), h36O 40 (by decide) (by decide)]
      exact hC
    · show h38 37 j = _
      by_cases ej : j = i
      · rw [ixn (by omega)] at e9
        rw [ej]; exact e9
      · rw [e38, ixn (by omega), up2_ne _ _ _ ej, h36O 37 (by decide) (by decide)]
        exact hW j (by have : j < i + 1 := hj; omega)
end SM
