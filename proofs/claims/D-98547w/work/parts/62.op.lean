/-! 62.op: the twin's rows: packed, unpacked, kept; arrays copied -/
def rowA (f : Nat → Int32) (a : Nat) : Nat → Int32 := fun i => if i < 80 then f (a + i) else 0
/-- c numbers of the state, packed into k from a on -/
def packP (h : Mem) (k a c : Nat) : Mem := fun j => if j = k then (fun i => if a ≤ i ∧ i < a + c then rowM h (i - a) else h k i) else h j
theorem packP_o {h : Mem} {k a c j : Nat} (hj : j ≠ k) : packP h k a c j = h j := if_neg hj
theorem packP_k (h : Mem) (k a c : Nat) : packP h k a c k = fun i => if a ≤ i ∧ i < a + c then rowM h (i - a) else h k i := if_pos rfl
theorem packP_0 (h : Mem) (k a : Nat) : packP h k a 0 = h := by
  funext j
  unfold packP
  by_cases e : j = k
  · subst e
    rw [if_pos rfl]
    funext i
    rw [if_neg (by omega)]
  · rw [if_neg e]
theorem packP_s {h : Mem} {k a c : Nat} {v : Int32} (hv : v = rowM h c) : up2 (packP h k a c) k (a + c) v = packP h k a (c + 1) := by
  subst hv
  funext j
  by_cases e : j = k
  · subst e
    funext i
    by_cases ei : i = a + c
    · subst ei
      rw [up2_at, packP_k]
      show _ = if a ≤ a + c ∧ a + c < a + (c + 1) then _ else _
      rw [if_pos (by omega), show a + c - a = c by omega]
    · rw [up2_ne _ _ _ ei, packP_k, packP_k]
      show (if a ≤ i ∧ i < a + c then _ else _) = if a ≤ i ∧ i < a + (c + 1) then _ else _
      by_cases c1 : a ≤ i ∧ i < a + c
      · rw [if_pos c1, if_pos (by omega)]
      · rw [if_neg c1, if_neg (by omega)]
  · rw [up2_other e, packP_o e, packP_o e]
def pkK (k : Nat) : Prop := k ≠ 30 ∧ k ≠ 31 ∧ k ≠ 13 ∧ k ≠ 27 ∧ k ≠ 28
theorem t_pack {h : Mem} {post : Mem → Prop} {k a : Nat} (hk : pkK k) (ha : a + 80 ≤ mlen k) (hm : mlen k ≤ 3200) (hp : post (packP h k a 80)) : wpX7_pack post h k (nI a) := by
  unfold wpX7_pack
  try dsimp only
  rw [ixn (by omega), nI_1, ixn (by omega)]
  refine ⟨pk_in a (mlen k) (by omega), fun h2 e2 => ⟨pk_in (a + 1) (mlen k) (by omega), fun h4 e4 => ?_⟩⟩
  have e4' : h4 = packP h k a 2 := by
    rw [e4, e2, up2_other (show 31 ≠ k from fun e => hk.2.1 e.symm)]
    have s0 : up2 h k a (h 30 0) = packP h k a 1 := by
      have := packP_s (h := h) (k := k) (a := a) (c := 0) (v := h 30 0) rfl
      rw [packP_0] at this
      exact this
    rw [s0]
    exact packP_s (c := 1) rfl
  rw [e4', show nI a + (2 : Int32) = nI (a + 2) from nI_add a 2]
  have o13 : ∀ c, packP h k a c 13 = h 13 := fun c => packP_o (fun e => hk.2.2.1 e.symm)
  have o27 : ∀ c, packP h k a c 27 = h 27 := fun c => packP_o (fun e => hk.2.2.2.1 e.symm)
  have o28 : ∀ c, packP h k a c 28 = h 28 := fun c => packP_o (fun e => hk.2.2.2.2 e.symm)
  refine LW_nat (fun i => (packP h k a (2 + i), nI i)) 64 (fun _ => True) rfl trivial (fun K i hi _ kk => ?_)
  unfold wpBX7_pack_23
  try dsimp only
  refine pk_le 64 i (fun q => ?_) (fun q => ?_)
  · have e : i = 64 := by omega
    subst e
    clear kk
    rw [show nI (a + 2) + (64 : Int32) = nI (a + 66) from nI_add (a + 2) 64]
    refine LW_nat (fun i => (packP h k a (66 + i), nI i)) 6 (fun _ => True) rfl trivial (fun K i hi _ kk => ?_)
    unfold wpBX7_pack_55
    try dsimp only
    refine pk_le 6 i (fun q => ?_) (fun q => ?_)
    · have e : i = 6 := by omega
      subst e
      clear kk
      refine LW_nat (fun i => (packP h k a (72 + i), nI i)) 8 (fun _ => True) rfl trivial (fun K i hi _ kk => ?_)
      unfold wpBX7_pack_84
      try dsimp only
      refine pk_le 8 i (fun q => ?_) (fun q => ?_)
      · have e : i = 8 := by omega
        subst e
        exact hp
      · rw [show nI (a + 66) + (6 : Int32) = nI (a + 72) from nI_add (a + 66) 6, nI_add, ixn (by omega), ixn (by omega), o28]
        refine ⟨pk_in i 8 q, pk_in (a + 72 + i) (mlen k) (by omega), fun h10 e10 => ?_⟩
        rw [nI_1, e10, show a + 72 + i = a + (72 + i) by omega, packP_s (rowM_th h q).symm]
        exact kk q trivial
    · rw [nI_add, ixn (by omega), ixn (by omega), o27]
      refine ⟨pk_in i 6 q, pk_in (a + 66 + i) (mlen k) (by omega), fun h14 e14 => ?_⟩
      rw [nI_1, e14, show a + 66 + i = a + (66 + i) by omega, packP_s (rowM_cut h q).symm]
      exact kk q trivial
  · rw [nI_add, ixn (by omega), ixn (by omega), o13]
    refine ⟨pk_in i 128 (by omega), pk_in (a + 2 + i) (mlen k) (by omega), fun h18 e18 => ?_⟩
    rw [nI_1, e18, show a + 2 + i = a + (2 + i) by omega, packP_s (rowM_md h q).symm]
    exact kk q trivial
theorem rowA_pack (h : Mem) (k a : Nat) : rowA (packP h k a 80 k) a = rowM h := by
  funext i
  unfold rowA
  rw [packP_k]
  by_cases hi : i < 80
  · rw [if_pos hi]
    show (if a ≤ a + i ∧ a + i < a + 80 then _ else _) = _
    rw [if_pos (by omega), show a + i - a = i by omega]
  · rw [if_neg hi]
    unfold rowM
    rw [if_neg (by omega), if_neg (by omega), if_neg (by omega), if_neg (by omega), if_neg hi]
theorem rowA_pack_o {h : Mem} {k a b : Nat} (hab : b + 80 ≤ a ∨ a + 80 ≤ b) : rowA (packP h k a 80 k) b = rowA (h k) b := by
  funext i
  unfold rowA
  rw [packP_k]
  by_cases hi : i < 80
  · rw [if_pos hi, if_pos hi]
    show (if a ≤ b + i ∧ b + i < a + 80 then _ else _) = _
    rw [if_neg (by omega)]
  · rw [if_neg hi, if_neg hi]
theorem rowM_pack {h : Mem} {k a c : Nat} (hk : pkK k) : rowM (packP h k a c) = rowM h := rowM_of (fun j hj => packP_o (by
  rcases hj with rfl | rfl | rfl | rfl | rfl
  · exact fun e => hk.1 e.symm
  · exact fun e => hk.2.1 e.symm
  · exact fun e => hk.2.2.1 e.symm
  · exact fun e => hk.2.2.2.1 e.symm
  · exact fun e => hk.2.2.2.2 e.symm))
/-- arrays of the state, taken from k from a on: so many of each -/
def unM (h : Mem) (k a c d e : Nat) : Mem := fun j => if j = 30 then upd (h 30) 0 (h k a) else if j = 31 then upd (h 31) 0 (h k (a + 1)) else if j = 13 then (fun i => if i < c then h k (a + 2 + i) else h 13 i) else if j = 27 then (fun i => if i < d then h k (a + 66 + i) else h 27 i) else if j = 28 then (fun i => if i < e then h k (a + 72 + i) else h 28 i) else h j
theorem unM_o {h : Mem} {k a c d e j : Nat} (hj : j ≠ 30 ∧ j ≠ 31 ∧ j ≠ 13 ∧ j ≠ 27 ∧ j ≠ 28) : unM h k a c d e j = h j := by
  unfold unM
  rw [if_neg hj.1, if_neg hj.2.1, if_neg hj.2.2.1, if_neg hj.2.2.2.1, if_neg hj.2.2.2.2]
theorem if_up (f g : Nat → Int32) (c : Nat) : upd (fun i => if i < c then g i else f i) c (g c) = fun i => if i < c + 1 then g i else f i := by
  funext i
  unfold upd
  by_cases e : i = c
  · subst e; rw [if_pos rfl, if_pos (by omega)]
  · rw [if_neg e]
    dsimp only
    by_cases c1 : i < c
    · rw [if_pos c1, if_pos (by omega)]
    · rw [if_neg c1, if_neg (by omega)]
theorem t_unpack {h : Mem} {post : Mem → Prop} {k a : Nat} (hk : pkK k) (ha : a + 80 ≤ mlen k) (hm : mlen k ≤ 3200) (hp : post (unM h k a 64 6 8)) : wpX7_unpack post h k (nI a) := by
  have ok : ∀ c d e, unM h k a c d e k = h k := fun c d e => unM_o hk
  unfold wpX7_unpack
  try dsimp only
  rw [ixn (by omega), nI_1, ixn (by omega)]
  refine ⟨pk_in a (mlen k) (by omega), fun h2 e2 => ⟨pk_in (a + 1) (mlen k) (by omega), fun h4 e4 => ?_⟩⟩
  have e4' : h4 = unM h k a 0 0 0 := by
    rw [e4, e2, up2_other hk.1]
    funext j
    unfold unM up2
    by_cases j0 : j = 31
    · subst j0
      rfl
    · rw [if_neg j0]
      by_cases j1 : j = 30
      · subst j1
        rfl
      · rw [if_neg j1, if_neg j1, if_neg j0]
        by_cases j2 : j = 13
        · subst j2; rfl
        · rw [if_neg j2]
          by_cases j3 : j = 27
          · subst j3; rfl
          · rw [if_neg j3]
            by_cases j4 : j = 28
            · subst j4; rfl
            · rw [if_neg j4]
  rw [e4', show nI a + (2 : Int32) = nI (a + 2) from nI_add a 2]
  refine LW_nat (fun i => (unM h k a i 0 0, nI i)) 64 (fun _ => True) rfl trivial (fun K i hi _ kk => ?_)
  unfold wpBX7_unpack_23
  try dsimp only
  refine pk_le 64 i (fun q => ?_) (fun q => ?_)
  · have e : i = 64 := by omega
    subst e
    clear kk
    rw [show nI (a + 2) + (64 : Int32) = nI (a + 66) from nI_add (a + 2) 64]
    refine LW_nat (fun i => (unM h k a 64 i 0, nI i)) 6 (fun _ => True) rfl trivial (fun K i hi _ kk => ?_)
    unfold wpBX7_unpack_55
    try dsimp only
    refine pk_le 6 i (fun q => ?_) (fun q => ?_)
    · have e : i = 6 := by omega
      subst e
      clear kk
      refine LW_nat (fun i => (unM h k a 64 6 i, nI i)) 8 (fun _ => True) rfl trivial (fun K i hi _ kk => ?_)
      unfold wpBX7_unpack_84
      try dsimp only
      refine pk_le 8 i (fun q => ?_) (fun q => ?_)
      · have e : i = 8 := by omega
        subst e
        exact hp
      · rw [show nI (a + 66) + (6 : Int32) = nI (a + 72) from nI_add (a + 66) 6, nI_add, ixn (by omega), ixn (by omega), ok]
        refine ⟨pk_in (a + 72 + i) (mlen k) (by omega), pk_in i 8 q, fun h10 e10 => ?_⟩
        have : h10 = unM h k a 64 6 (i + 1) := by
          rw [e10]
          funext j
          by_cases ej : j = 28
          · subst ej
            rw [up2_same]
            exact if_up (h 28) (fun i => h k (a + 72 + i)) i
          · rw [up2_other ej]
            unfold unM
            rw [if_neg ej, if_neg ej]
        rw [nI_1, this]
        exact kk q trivial
    · rw [nI_add, ixn (by omega), ixn (by omega), ok]
      refine ⟨pk_in (a + 66 + i) (mlen k) (by omega), pk_in i 6 q, fun h14 e14 => ?_⟩
      have : h14 = unM h k a 64 (i + 1) 0 := by
        rw [e14]
        funext j
        by_cases ej : j = 27
        · subst ej
          rw [up2_same]
          exact if_up (h 27) (fun i => h k (a + 66 + i)) i
        · rw [up2_other ej]
          unfold unM
          rw [if_neg ej, if_neg ej]
      rw [nI_1, this]
      exact kk q trivial
  · rw [nI_add, ixn (by omega), ixn (by omega), ok]
    refine ⟨pk_in (a + 2 + i) (mlen k) (by omega), pk_in i 128 (by omega), fun h18 e18 => ?_⟩
    have : h18 = unM h k a (i + 1) 0 0 := by
      rw [e18]
      funext j
      by_cases ej : j = 13
      · subst ej
        rw [up2_same]
        exact if_up (h 13) (fun i => h k (a + 2 + i)) i
      · rw [up2_other ej]
        unfold unM
        rw [if_neg ej, if_neg ej]
    rw [nI_1, this]
    exact kk q trivial
theorem rowM_un (h : Mem) (k a : Nat) : rowM (unM h k a 64 6 8) = rowA (h k) a := by
  funext i
  unfold rowM rowA
  by_cases h0 : i = 0
  · subst h0; rfl
  rw [if_neg h0]
  by_cases h1 : i = 1
  · subst h1; rfl
  rw [if_neg h1]
  by_cases h2 : i < 66
  · rw [if_pos h2, if_pos (by omega)]
    show (if i - 2 < 64 then h k (a + 2 + (i - 2)) else _) = _
    rw [if_pos (by omega), show a + 2 + (i - 2) = a + i by omega]
  rw [if_neg h2]
  by_cases h3 : i < 72
  · rw [if_pos h3, if_pos (by omega)]
    show (if i - 66 < 6 then h k (a + 66 + (i - 66)) else _) = _
    rw [if_pos (by omega), show a + 66 + (i - 66) = a + i by omega]
  rw [if_neg h3]
  by_cases h4 : i < 80
  · rw [if_pos h4, if_pos h4]
    show (if i - 72 < 8 then h k (a + 72 + (i - 72)) else _) = _
    rw [if_pos (by omega), show a + 72 + (i - 72) = a + i by omega]
  · rw [if_neg h4, if_neg h4]
/-- the past, moved by a row -/
def shP (h : Mem) (c : Nat) : Mem := fun j => if j = 29 then (fun i => if i < c then h 29 (i + 80) else h 29 i) else h j
theorem shP_o {h : Mem} {c j : Nat} (hj : j ≠ 29) : shP h c j = h j := if_neg hj
theorem shP_s (h : Mem) (c : Nat) : up2 (shP h c) 29 c (h 29 (c + 80)) = shP h (c + 1) := by
  funext j
  by_cases ej : j = 29
  · subst ej
    rw [up2_same]
    exact if_up (h 29) (fun i => h 29 (i + 80)) c
  · rw [up2_other ej, shP_o ej, shP_o ej]
def keep7 (h : Mem) (n : Nat) : Mem := if n = 40 then up2 (packP (up2 (shP h 3120) 32 0 (nI 39)) 29 3120 80) 32 0 (nI 40) else up2 (packP h 29 (80 * n) 80) 32 0 (nI (n + 1))
theorem t_keep {h : Mem} {post : Mem → Prop} {n : Nat} (hn : n ≤ 40) (e : h 32 0 = nI n) (hp : post (keep7 h n)) : wpX7_keep post h := by
  have k29 : pkK 29 := ⟨by decide, by decide, by decide, by decide, by decide⟩
  have tail : ∀ (h' : Mem) (w : Nat), w < 40 → h' 32 0 = nI w → post (up2 (packP h' 29 (80 * w) 80) 32 0 (nI (w + 1))) → wpBX7_keep_52 post h' := by
    intro h' w hw e' hp'
    unfold wpBX7_keep_52
    try dsimp only
    rw [e', show (80 : Int32) * nI w = nI (80 * w) from pk_mul 80 w]
    refine t_pack k29 (by show 80 * w + 80 ≤ 3200; omega) (by decide) (fun h4 e4 => ?_)
    rw [e4, packP_o (by decide), e', nI_1]
    exact hp'
  unfold wpX7_keep
  unfold keep7 at hp
  rw [e]
  refine pk_eq n 40 (fun c => ?_) (fun c => ?_)
  · rw [if_pos c] at hp
    refine LW_nat (fun i => (shP h i, nI (80 + i))) 3120 (fun _ => True) (by
      show (h, (80 : Int32)) = (shP h 0, nI 80)
      have : shP h 0 = h := by
        funext j
        by_cases ej : j = 29
        · subst ej; rfl
        · exact shP_o ej
      rw [this]
      rfl) trivial (fun K i hi _ kk => ?_)
    unfold wpBX7_keep_12
    try dsimp only
    refine pk_le 3200 (80 + i) (fun q => ?_) (fun q => ?_)
    · have e9 : i = 3120 := by omega
      subst e9
      intro h6 e6
      rw [shP_o (show 32 ≠ 29 by decide), e, c, show nI 40 - (1 : Int32) = nI 39 from rfl] at e6
      refine tail h6 39 (by omega) (by (try dsimp only); rw [e6, up2_at]) ?_
      rw [e6]
      exact hp
    · rw [show nI (80 + i) - (80 : Int32) = nI i by rw [show (80 : Int32) = nI 80 from rfl, pk_sub (by omega), show 80 + i - 80 = i by omega], ixn (by omega), ixn (by omega)]
      refine ⟨pk_in (80 + i) 3200 q, pk_in i 3200 (by omega), fun h9 e9 => ?_⟩
      have : h9 = shP h (i + 1) := by
        rw [e9, ← shP_s]
        congr 1
        show (if 80 + i < i then _ else h 29 (80 + i)) = _
        rw [if_neg (by omega), Nat.add_comm]
      rw [nI_1, this]
      exact kk (by omega) trivial
  · rw [if_neg c] at hp
    exact tail h n (by omega) e hp
theorem keep7_o {h : Mem} {n j : Nat} (hj : j ≠ 29 ∧ j ≠ 32) : keep7 h n j = h j := by
  unfold keep7
  split
  · rw [up2_other hj.2, packP_o hj.1, up2_other hj.2, shP_o hj.1]
  · rw [up2_other hj.2, packP_o hj.1]
theorem keep7_n {h : Mem} {n : Nat} (hn : n ≤ 40) : keep7 h n 32 0 = nI (if n = 40 then 40 else n + 1) := by
  unfold keep7
  split
  · rw [up2_at]
  · rw [up2_at]
/-- the rows that are kept -/
theorem keep7_r {h : Mem} {n j : Nat} (hn : n ≤ 40) (hj : j < if n = 40 then 40 else n + 1) : rowA (keep7 h n 29) (80 * j) = if j = (if n = 40 then 39 else n) then rowM h else rowA (h 29) (80 * (if n = 40 then j + 1 else j)) := by
  unfold keep7
  by_cases c : n = 40
  · rw [if_pos c] at hj ⊢
    rw [if_pos c, if_pos c, up2_other (by decide)]
    have e9 : rowM (up2 (shP h 3120) 32 0 (nI 39)) = rowM h := rowM_of (fun k hk => by rw [up2_other (by omega), shP_o (by omega)])
    by_cases ej : j = 39
    · rw [if_pos ej, ej, show 80 * 39 = 3120 from rfl, rowA_pack, e9]
    · rw [if_neg ej, rowA_pack_o (by omega), up2_other (by decide)]
      funext i
      unfold rowA
      by_cases hi : i < 80
      · rw [if_pos hi, if_pos hi]
        show (if 80 * j + i < 3120 then h 29 (80 * j + i + 80) else _) = _
        rw [if_pos (by omega), show 80 * j + i + 80 = 80 * (j + 1) + i by omega]
      · rw [if_neg hi, if_neg hi]
  · rw [if_neg c] at hj ⊢
    rw [if_neg c, if_neg c, up2_other (by decide)]
    by_cases ej : j = n
    · rw [if_pos ej, ej, rowA_pack]
    · rw [if_neg ej, rowA_pack_o (by omega)]
/-- an array copied -/
def beM (h : Mem) (k0 k1 c : Nat) : Mem := fun j => if j = k0 then (fun i => if i < c then h k1 i else h k0 i) else h j
theorem beM_o {h : Mem} {k0 k1 c j : Nat} (hj : j ≠ k0) : beM h k0 k1 c j = h j := if_neg hj
theorem beM_v {h : Mem} {k0 k1 c i : Nat} (hi : i < c) : beM h k0 k1 c k0 i = h k1 i := by
  unfold beM
  rw [if_pos rfl]
  exact if_pos hi
theorem t_be {h : Mem} {post : Mem → Prop} {k0 k1 n : Nat} (hk : k1 ≠ k0) (h0 : mlen k0 = n) (h1 : mlen k1 = n) (hn : n ≤ 3200) (hp : post (beM h k0 k1 n)) : wpX7_be post h k0 k1 := by
  unfold wpX7_be
  refine LW_nat (fun i => (beM h k0 k1 i, nI i)) n (fun _ => True) (by
    show (h, (0 : Int32)) = (beM h k0 k1 0, nI 0)
    have : beM h k0 k1 0 = h := by
      funext j
      by_cases ej : j = k0
      · subst ej
        unfold beM
        rw [if_pos rfl]
        rfl
      · exact beM_o ej
    rw [this]
    rfl) trivial (fun K i hi _ kk => ?_)
  unfold wpBX7_be_2
  try dsimp only
  rw [h0, h1]
  refine pk_le n i (fun q => ?_) (fun q => ?_)
  · have e : i = n := by omega
    subst e
    exact hp
  · rw [ixn (by omega)]
    refine ⟨pk_in i n q, pk_in i n q, fun h4 e4 => ?_⟩
    have : h4 = beM h k0 k1 (i + 1) := by
      rw [e4, beM_o hk]
      funext j
      by_cases ej : j = k0
      · subst ej
        rw [up2_same]
        unfold beM
        rw [if_pos rfl, if_pos rfl]
        exact if_up (h j) (fun i => h k1 i) i
      · rw [up2_other ej, beM_o ej, beM_o ej]
    rw [nI_1, this]
    exact kk q trivial
