/-! 86.plf: loaves told; the twin's reading -/
def pEat (tp : Nat → Nat) (n many : Nat) : Nat → Nat → List Nat → EX
  | 0, _, _ => .error (1, 0)
  | f + 1, s, es => if ty tp n s = 2 then (if es.length = 6 then .error (2, s) else eR (pnS tp n many s) (fun v => if v ∈ es then .error (4, s) else pEat tp n many f (nxt tp n s) (es ++ [v]))) else .ok (s, es)
def putL (T : TT) (a b c d : Nat) (es : List Nat) : TT := fun i j => if i = 0 ∧ j = 1 then T 0 1 + 1 else if i = 4 ∧ j = T 0 1 then a else if i = 5 ∧ j = T 0 1 then b else if i = 6 ∧ j = T 0 1 then c else if i = 7 ∧ j = T 0 1 then d else if i = 8 ∧ j = T 0 1 then es.length else if i = 9 ∧ 6 * T 0 1 ≤ j ∧ j < 6 * T 0 1 + 6 then es.getD (j - 6 * T 0 1) 0 else T i j
def pLoaf (tp : Nat → Nat) (n s : Nat) (T : TT) : LN := if T 0 1 = 6 then .error (2, s) else
  eR (nuP tp n 0 9 (nxt tp n s)) (fun a => eR (nuP tp n 1 999 a.2) (fun b => eR (nuP tp n 0 23 b.2) (fun c => eR (nuP tp n 1 23 c.2) (fun d =>
    if ty tp n d.2 = 2 then eR (pEat tp n (T 0 0) 7 d.2 []) (fun e => .ok (e.1, putL T a.1 b.1 c.1 d.1 e.2)) else .error (1, d.2)))))
section PF
variable {tp : Nat → Nat} {n : Nat}
def lfE (post : Mem → Prop) (x1 : Int32) (h : Mem) : Prop := (((h 24 0) = 0 → (((h 20 0) = (2 : Int32) → (∃ n, wpLX7_readLoaf_117 post x1 n (h, (0 : Int32), (0 : Int32)))) ∧ (¬ (h 20 0) = (2 : Int32) → (wpX7_wrong (fun h47 => (∃ n, wpLX7_readLoaf_117 post x1 n (h47, (0 : Int32), (0 : Int32)))) h (1 : Int32))))) ∧ (¬ (h 24 0) = 0 → (∃ n, wpLX7_readLoaf_117 post x1 n (h, (0 : Int32), (0 : Int32)))))
/-- a number, put into the table k of loaves -/
def lfN (next : Mem → Prop) (x1 : Int32) (k lo hi : Nat) (h : Mem) : Prop := wpX7_readNumber (fun r h2 => (vp_in x1 (mlen k) ∧ (∀ h3 : Mem, h3 = up2 h2 k (ix x1) r → next h3))) h (nI lo) (nI hi)
theorem lf_e {post : Mem → Prop} {B : Nat} (hB : B < 6) {e : Nat × Nat} {h0 h : Mem} (p : PO tp n (.error e) h) (f : TL h0 h) (hq : ∀ h', PO tp n (.error e) h' → TL h0 h' → post h') {x2 x3 : Int32} : ∃ m, wpLX7_readLoaf_117 post (nI (6 + B)) m (h, x2, x3) := by
  refine LW_nat (fun _ => (h, x2, x3)) 0 (fun _ => True) rfl trivial (fun K i hi _ _ => ?_)
  unfold wpBX7_readLoaf_117 wpBX7_readLoaf_210
  try dsimp only
  refine sw_f p.bad ?_
  rw [ixn (by omega)]
  refine ⟨pk_in (6 + B) 12 (by omega), fun h24 e24 h25 e25 => hq h25 ?_ (f.tr ?_)⟩
  · exact p.of (fun k hk => by rw [e25, up2_other (by omega), e24, up2_other (by omega)])
  · rw [e25, e24]
    exact (TL.up (by omega) (by show 6 ≤ _; omega)).tr (TL.up (by omega) (by show 6 ≤ 7; omega))
theorem lfE_e {post : Mem → Prop} {B : Nat} (hB : B < 6) {e : Nat × Nat} {h0 h : Mem} (p : PO tp n (.error e) h) (f : TL h0 h) (hq : ∀ h', PO tp n (.error e) h' → TL h0 h' → post h') : lfE post (nI (6 + B)) h := by
  unfold lfE
  exact sw_f p.bad (lf_e hB p f hq)
theorem lfN_e {next : Mem → Prop} {B k lo hi : Nat} (hB : B < 6) (hk : 7 ≤ k ∧ k ≤ 10) (hl : lo ≤ 9999) (hh : hi ≤ 9999) {e : Nat × Nat} {h0 h : Mem} (p : PO tp n (.error e) h) (f : TL h0 h) (hq : ∀ h', PO tp n (.error e) h' → TL h0 h' → next h') : lfN next (nI (6 + B)) k lo hi h := by
  unfold lfN
  refine t_numE p hl hh (fun h2 p2 f2 => ?_)
  have hm : mlen k = 12 := by
    have : k = 7 ∨ k = 8 ∨ k = 9 ∨ k = 10 := by omega
    rcases this with e | e | e | e <;> subst e <;> rfl
  rw [ixn (by omega), hm]
  refine ⟨pk_in (6 + B) 12 (by omega), fun h3 e3 => hq h3 (p2.of (fun j hj => by rw [e3, up2_other (by omega)])) (f.tr (f2.l.tr ?_))⟩
  rw [e3]
  exact TL.up (by omega) (by unfold haf; rw [if_neg (by omega), if_neg (by omega), if_pos (by omega)]; omega)
theorem lfN_ok {next : Mem → Prop} {B k lo hi s : Nat} (hB : B < 6) (hk : 7 ≤ k ∧ k ≤ 10) (hl : lo ≤ 9999) (hh : hi ≤ 9999) {h : Mem} (p : PT tp n s h)
    (he : ∀ e h', nuP tp n lo hi s = .error e → PO tp n (.error e) h' → TL h h' → next h') (hp : ∀ v s' h', nuP tp n lo hi s = .ok (v, s') → lo ≤ v → v ≤ hi → PT tp n s' h' → TL h h' → h' k (6 + B) = nI v → (∀ i, i ≠ 6 + B → h' k i = h k i) → (∀ j, 3 ≤ j → j ≤ 14 → j ≠ k → h' j = h j) → next h') : lfN next (nI (6 + B)) k lo hi h := by
  unfold lfN
  have hm : mlen k = 12 := by
    have : k = 7 ∨ k = 8 ∨ k = 9 ∨ k = 10 := by omega
    rcases this with e | e | e | e <;> subst e <;> rfl
  have up : ∀ (h2 : Mem) v, TL h2 (up2 h2 k (6 + B) v) := fun h2 v => TL.up (by omega) (by unfold haf; rw [if_neg (by omega), if_neg (by omega), if_pos (by omega)]; omega)
  refine t_numP p hl hh (fun e h2 ee p2 f2 => ?_) (fun v s' h2 ev l1 l2 p2 f2 => ?_)
  · rw [ixn (by omega), hm]
    refine ⟨pk_in (6 + B) 12 (by omega), fun h3 e3 => he e h3 ee (p2.of (fun j hj => by rw [e3, up2_other (by omega)])) (f2.l.tr ?_)⟩
    rw [e3]; exact up _ _
  · rw [ixn (by omega), hm]
    have p2 : PO tp n (.ok s') h2 := p2
    refine ⟨pk_in (6 + B) 12 (by omega), fun h3 e3 => hp v s' h3 ev l1 l2 (p2.of (fun j hj => by rw [e3, up2_other (by omega)])) (f2.l.tr (by rw [e3]; exact up _ _)) (by rw [e3, up2_at]) (fun i hi => ?_) (fun j a b c => ?_)⟩
    · rw [e3, up2_ne _ _ _ hi, f2 k (by omega) (by omega)]
    · rw [e3, up2_other c, f2 j (by omega) (by omega)]
theorem pn_lt {many s v : Nat} (e : pnS tp n many s = .ok v) : v < many := by
  unfold pnS at e
  cases e2 : nnS tp n 0 9999 s with
  | error q => rw [e2] at e; cases e
  | ok w =>
    rw [e2] at e
    have e : (if w < many then .ok w else .error (3, s) : ER Nat) = .ok v := e
    by_cases c : w < many
    · rw [if_pos c] at e; injection e with e; omega
    · rw [if_neg c] at e; cases e
/-- the row of eaters -/
theorem t_eatRow {post : Mem → Prop} {B many s0 : Nat} (hB : B < 6) (hm : many ≤ 8) {h0 h : Mem} (f0 : TL h0 h) (p : PT tp n s0 h) (e36 : h 3 6 = nI many) (e37 : h 3 7 = nI B)
    (he : ∀ e h', pEat tp n many 7 s0 [] = .error e → PO tp n (.error e) h' → TL h0 h' → post h')
    (hp : ∀ s' es h', pEat tp n many 7 s0 [] = .ok (s', es) → es.length ≤ 6 → PT tp n s' h' → TL h0 h' → h' 11 (6 + B) = nI es.length → (∀ i, i ≠ 6 + B → h' 11 i = h 11 i) → h' 3 7 = nI (B + 1) → (∀ i, i ≠ 7 → h' 3 i = h 3 i) → (∀ j, 4 ≤ j → j ≤ 14 → j ≠ 11 → j ≠ 12 → h' j = h j) → (∀ j, j < es.length → h' 12 (36 + (6 * B + j)) = nI (es.getD j 0)) → (∀ i, (i < 36 + 6 * B ∨ 36 + 6 * B + 6 ≤ i) → h' 12 i = h 12 i) → post h') :
    ∃ m, wpLX7_readLoaf_117 post (nI (6 + B)) m (h, 0, 0) := by
  refine LW_ix (τ := Mem × ER Nat × List Nat × Nat) (fun t => (t.1, nI t.2.2.1.length, nI (mN (fun q => decide (q ∈ t.2.2.1)) 8))) (fun t => (t.2.2.1.length ≤ 6 ∧ (∀ v, v ∈ t.2.2.1 → v < 8)) ∧ PO tp n t.2.1 t.1 ∧ TL h0 t.1 ∧ eR t.2.1 (fun s => pEat tp n many (7 - t.2.2.1.length) s t.2.2.1) = pEat tp n many 7 s0 [] ∧ ∀ s, t.2.1 = .ok s → 8 - t.2.2.1.length ≤ t.2.2.2 ∧ (∀ k, 3 ≤ k → k ≤ 14 → k ≠ 12 → t.1 k = h k) ∧ (∀ j, j < t.2.2.1.length → t.1 12 (36 + (6 * B + j)) = nI (t.2.2.1.getD j 0)) ∧ (∀ i, (i < 36 + 6 * B ∨ 36 + 6 * B + 6 ≤ i) → t.1 12 i = h 12 i)) (fun t => t.2.2.2) (fun K t ht kk => ?_) (h, .ok s0, [], 8) ⟨⟨Nat.zero_le 6, fun v hv => by cases hv⟩, p, f0, rfl, fun _ _ => ⟨Nat.le_refl 8, fun _ _ _ _ => rfl, fun j hj => absurd hj (Nat.not_lt_zero _), fun _ _ => rfl⟩⟩
  obtain ⟨y, q, es, μ⟩ := t
  obtain ⟨⟨hl, h8⟩, py, fy, ey, oy⟩ := ht
  dsimp only at hl h8 py fy ey oy
  have up11 : ∀ z : Mem, TL z (up2 (up2 z 11 (6 + B) (nI es.length)) 3 7 (nI (B + 1))) := fun z => (TL.up (by omega) (by show 6 ≤ _; omega)).tr (TL.up (by omega) (by show 6 ≤ 7; omega))
  have hml := mN_lt (fun q => decide (q ∈ es)) 8
  cases q with
  | error e =>
    have ey : (.error e : EX) = pEat tp n many 7 s0 [] := ey
    unfold wpBX7_readLoaf_117 wpBX7_readLoaf_210
    try dsimp only
    refine sw_f (PO.bad py) ?_
    rw [ixn (by omega)]
    refine ⟨pk_in (6 + B) 12 (by omega), fun h24 e24 h25 e25 => he e h25 ey.symm ?_ (fy.tr ?_)⟩
    · exact PO.of py (fun k hk => by rw [e25, up2_other (by omega), e24, up2_other (by omega)])
    · rw [e25, e24]
      exact (TL.up (by omega) (by show 6 ≤ _; omega)).tr (TL.up (by omega) (by show 6 ≤ 7; omega))
  | ok s =>
    have q : PT tp n s y := py
    have ey : pEat tp n many (7 - es.length) s es = pEat tp n many 7 s0 [] := ey
    obtain ⟨hμ, oy, vy, wy⟩ := oy s rfl
    have h20 : y 20 0 = nI (ty tp n s) := q.2.2.2.2.1
    have t4 := ty_le (tp := tp) (n := n) s
    have y36 : y 3 6 = nI many := by rw [oy 3 (by decide) (by decide) (by decide)]; exact e36
    have y37 : y 3 7 = nI B := by rw [oy 3 (by decide) (by decide) (by decide)]; exact e37
    rw [show 7 - es.length = (6 - es.length) + 1 by omega] at ey
    have es1 : pEat tp n many ((6 - es.length) + 1) s es = if ty tp n s = 2 then (if es.length = 6 then .error (2, s) else eR (pnS tp n many s) (fun v => if v ∈ es then .error (4, s) else pEat tp n many (6 - es.length) (nxt tp n s) (es ++ [v]))) else .ok (s, es) := rfl
    rw [es1] at ey
    -- once bad, it goes round once more
    have bad : ∀ e (z : Mem) x4, (.error e : EX) = pEat tp n many 7 s0 [] → PO tp n (.error e) z → TL h0 z → wpBX7_readLoaf_170 post (fun h x2 x3 => K (h, x2, x3)) z (nI (6 + B)) (nI es.length) (nI (mN (fun q => decide (q ∈ es)) 8)) x4 := fun e z x4 ee pz fz => by
      unfold wpBX7_readLoaf_170
      exact sw_f pz.bad (kk (z, .error e, es, 0) ⟨⟨hl, h8⟩, pz, fz, ee, fun s h => by cases h⟩ (by show 0 < μ; omega))
    unfold wpBX7_readLoaf_117
    try dsimp only
    refine sw_t q.ok0 ?_
    rw [h20, show (2 : Int32) = nI 2 from rfl]
    refine pk_eq (ty tp n s) 2 (fun c => ?_) (fun c => ?_)
    · rw [if_pos c] at ey
      rw [show (6 : Int32) = nI 6 from rfl]
      refine pk_eq es.length 6 (fun c2 => ?_) (fun c2 => ?_)
      · rw [if_pos c2] at ey
        refine t_wrong (a := 2) q (by decide) (by decide) (fun z pz fz => ?_)
        unfold wpBX7_readLoaf_143
        have z36 : z 3 6 = nI many := by rw [fz 3 (by decide) (by decide)]; exact y36
        exact t_persE pz hm z36 (fun z2 pz2 fz2 => sw_f (PO.bad pz2) (bad _ z2 _ ey pz2 (fy.tr (fz.l.tr fz2.l))))
      · rw [if_neg c2] at ey
        unfold wpBX7_readLoaf_143
        refine t_pers q hm y36 (fun e z ee pz fz => ?_) (fun v z ev hv pz fz => ?_)
        · rw [ee] at ey
          exact sw_f (PO.bad pz) (bad e z _ ey pz (fy.tr fz.l))
        · rw [ev] at ey
          have ey : (if v ∈ es then .error (4, s) else pEat tp n many (6 - es.length) (nxt tp n s) (es ++ [v]) : EX) = pEat tp n many 7 s0 [] := ey
          refine sw_t pz.ok0 (t_isOf (by omega) (by omega) ?_)
          rw [mN_bit, decide_eq_true (show v < 8 by omega), Bool.true_and]
          refine ⟨fun c3 => ?_, fun c3 => ?_⟩
          · have c3 := of_decide_eq_true c3
            rw [if_pos c3] at ey
            exact t_wrong (a := 4) pz (by decide) (by decide) (fun z2 pz2 fz2 => bad _ z2 _ ey pz2 (fy.tr (fz.l.tr fz2.l)))
          · have c3 : ¬ v ∈ es := fun h => c3 (decide_eq_true h)
            rw [if_neg c3] at ey
            unfold wpBX7_readLoaf_170
            refine sw_t pz.ok0 ?_
            have ei : (6 : Int32) * nI (6 + B) + nI es.length = nI (36 + (6 * B + es.length)) := by
              rw [e6]
              congr 1
              omega
            rw [ei, ixn (by omega), (or_h v (by omega) _ (by omega)).1, nI_1]
            refine ⟨pk_in (36 + (6 * B + es.length)) 72 (by omega), fun h33 e33 => ?_⟩
            have p33 : PT tp n s h33 := by
              have pz : PO tp n (.ok s) z := pz
              exact pz.of (fun k hk => by rw [e33, up2_other (by omega)])
            have em : mN (fun q => decide (q ∈ es)) 8 ||| 2 ^ v = mN (fun q => decide (q ∈ es ++ [v])) 8 := by
              apply Nat.eq_of_testBit_eq
              intro w
              rw [Nat.testBit_or, mN_bit, mN_bit, Nat.testBit_two_pow]
              by_cases ew : w = v
              · rw [ew, decide_eq_true (show v < 8 by omega), decide_eq_true (show v = v from rfl), decide_eq_true (show v ∈ es ++ [v] by simp)]
                simp
              · rw [decide_eq_false (show ¬ v = w from fun h => ew h.symm), Bool.or_false]
                congr 1
                apply decide_eq_decide.mpr
                simp [ew]
            rw [em]
            refine p33.next (fun h35 p35 f35 => ?_)
            have el : (es ++ [v]).length = es.length + 1 := by rw [List.length_append]; rfl
            have g := kk (h35, .ok (nxt tp n s), es ++ [v], 7 - es.length) ⟨⟨by show (es ++ [v]).length ≤ 6; omega, fun w hw => by
              have hw : w ∈ es ++ [v] := hw
              rw [List.mem_append] at hw
              rcases hw with hw | hw
              · exact h8 w hw
              · have : w = v := by simpa using hw
                omega⟩, p35, fy.tr (fz.l.tr (TL.tr (by rw [e33]; exact TL.up (by omega) (by show 36 ≤ _; omega)) f35.g.l)), by show pEat tp n many (7 - (es ++ [v]).length) (nxt tp n s) (es ++ [v]) = _; rw [el, show 7 - (es.length + 1) = 6 - es.length by omega]; exact ey, fun s' _ => ⟨by show 8 - (es ++ [v]).length ≤ 7 - es.length; omega, fun k a b c => ?_, fun j hj => ?_, fun i hi => ?_⟩⟩ (by show 7 - es.length < μ; omega)
            · have g : K (h35, nI (es ++ [v]).length, nI (mN (fun q => decide (q ∈ es ++ [v])) 8)) := g
              rw [el] at g
              exact g
            · show h35 k = h k
              rw [f35.g k (by omega) (by omega), e33, up2_other c, fz k (by omega) (by omega)]
              exact oy k a b c
            · have hj : j < (es ++ [v]).length := hj
              show h35 12 (36 + (6 * B + j)) = nI ((es ++ [v]).getD j 0)
              rw [f35.g 12 (by decide) (by decide), e33]
              by_cases ej : j = es.length
              · rw [ej, up2_at]
                congr 1
                simp
              · rw [up2_ne _ _ _ (by omega), fz 12 (by decide) (by decide), vy j (by omega)]
                congr 1
                simp only [List.getD_eq_getElem?_getD]
                rw [List.getElem?_append_left (by omega)]
            · show h35 12 i = h 12 i
              rw [f35.g 12 (by decide) (by decide), e33, up2_ne _ _ _ (by omega), fz 12 (by decide) (by decide)]
              exact wy i hi
    · rw [if_neg c] at ey
      unfold wpBX7_readLoaf_210
      rw [ixn (by omega)]
      refine ⟨pk_in (6 + B) 12 (by omega), fun h24 e24 h25 e25 => ?_⟩
      have f : h24 3 7 = nI B := by rw [e24, up2_other (by decide)]; exact y37
      rw [f, nI_1] at e25
      refine hp s es h25 ey.symm hl ?_ (fy.tr (by rw [e25, e24]; exact up11 y)) (by rw [e25, up2_other (by decide), e24, up2_at]) (fun i hi => ?_) (by rw [e25, up2_at]) (fun i hi => ?_) (fun j a b c d => ?_) (fun j hj => ?_) (fun i hi => ?_)
      · have py : PO tp n (.ok s) y := py
        exact py.of (fun k hk => by rw [e25, up2_other (by omega), e24, up2_other (by omega)])
      · rw [e25, up2_other (by decide), e24, up2_ne _ _ _ hi, oy 11 (by decide) (by decide) (by decide)]
      · rw [e25, up2_ne _ _ _ hi, e24, up2_other (by decide), oy 3 (by decide) (by decide) (by decide)]
      · rw [e25, up2_other (by omega), e24, up2_other c, oy j (by omega) b d]
      · rw [e25, up2_other (by decide), e24, up2_other (by decide)]
        exact vy j hj
      · rw [e25, up2_other (by decide), e24, up2_other (by decide)]
        exact wy i hi
theorem putL_TH {T : TT} {h h' : Mem} {a b c d : Nat} {es : List Nat} (t : THp T h) (hT : TOK T) (hl : es.length ≤ 6) (o4 : ∀ k, 4 ≤ k → k ≤ 6 → h' k = h k) (h3 : ∀ i, i ≠ 7 → h' 3 i = h 3 i) (h37 : h' 3 7 = nI (T 0 1 + 1))
    (v7 : h' 7 (6 + T 0 1) = nI a) (v8 : h' 8 (6 + T 0 1) = nI b) (v9 : h' 9 (6 + T 0 1) = nI c) (v10 : h' 10 (6 + T 0 1) = nI d) (v11 : h' 11 (6 + T 0 1) = nI es.length) (o7 : ∀ k i, 7 ≤ k → k ≤ 11 → i ≠ 6 + T 0 1 → h' k i = h k i)
    (v12 : ∀ j, j < es.length → h' 12 (36 + (6 * T 0 1 + j)) = nI (es.getD j 0)) (o12 : ∀ i, (i < 36 + 6 * T 0 1 ∨ 36 + 6 * T 0 1 + 6 ≤ i) → h' 12 i = h 12 i) (o13 : h' 13 = h 13) (o14 : h' 14 = h 14) : THp (putL T a b c d es) h' := by
  have q0 : ∀ i j, ¬ (i = 0 ∧ j = 1) → ¬ (4 ≤ i ∧ i ≤ 9) → putL T a b c d es i j = T i j := fun i j e f => by
    unfold putL
    rw [if_neg e, if_neg (by omega), if_neg (by omega), if_neg (by omega), if_neg (by omega), if_neg (by omega), if_neg (by omega)]
  have q1 : putL T a b c d es 0 1 = T 0 1 + 1 := if_pos ⟨rfl, rfl⟩
  have qk : ∀ i j, i ≠ 9 → i ≠ 0 → j ≠ T 0 1 → putL T a b c d es i j = T i j := fun i j e f g => by
    unfold putL
    rw [if_neg (by omega), if_neg (by omega), if_neg (by omega), if_neg (by omega), if_neg (by omega), if_neg (by omega), if_neg (by omega)]
  have q4 : putL T a b c d es 4 (T 0 1) = a := by unfold putL; rw [if_neg (by omega), if_pos ⟨rfl, rfl⟩]
  have q5 : putL T a b c d es 5 (T 0 1) = b := by unfold putL; rw [if_neg (by omega), if_neg (by omega), if_pos ⟨rfl, rfl⟩]
  have q6 : putL T a b c d es 6 (T 0 1) = c := by unfold putL; rw [if_neg (by omega), if_neg (by omega), if_neg (by omega), if_pos ⟨rfl, rfl⟩]
  have q7 : putL T a b c d es 7 (T 0 1) = d := by unfold putL; rw [if_neg (by omega), if_neg (by omega), if_neg (by omega), if_neg (by omega), if_pos ⟨rfl, rfl⟩]
  have q8 : putL T a b c d es 8 (T 0 1) = es.length := by unfold putL; rw [if_neg (by omega), if_neg (by omega), if_neg (by omega), if_neg (by omega), if_neg (by omega), if_pos ⟨rfl, rfl⟩]
  have q9 : ∀ j, j < 6 → putL T a b c d es 9 (6 * T 0 1 + j) = es.getD j 0 := fun j hj => by
    unfold putL
    rw [if_neg (by omega), if_neg (by omega), if_neg (by omega), if_neg (by omega), if_neg (by omega), if_neg (by omega), if_pos ⟨rfl, by omega, by omega⟩, show 6 * T 0 1 + j - 6 * T 0 1 = j by omega]
  have q9o : ∀ j, (j < 6 * T 0 1) → putL T a b c d es 9 j = T 9 j := fun j hj => by
    unfold putL
    rw [if_neg (by omega), if_neg (by omega), if_neg (by omega), if_neg (by omega), if_neg (by omega), if_neg (by omega), if_neg (by omega)]
  obtain ⟨⟨⟨a1, a2, a3, a4, a5⟩, tb, tc, td, te, tf⟩, tg⟩ := t
  refine ⟨⟨⟨by rw [q0 0 0 (by decide) (by decide), h3 6 (by decide)]; exact a1, by rw [q1]; exact h37, by rw [q0 0 3 (by decide) (by decide), h3 9 (by decide)]; exact a3, by rw [q0 0 4 (by decide) (by decide), h3 10 (by decide)]; exact a4, by rw [q0 0 5 (by decide) (by decide), h3 11 (by decide)]; exact a5⟩, fun p hp => ?_, fun x hx => ?_, fun x i hx hi => ?_, fun i hi => ?_, fun x y hx hy => ?_⟩, by rw [q0 0 2 (by decide) (by decide), h3 8 (by decide)]; exact tg⟩
  · rw [q0 0 0 (by decide) (by decide)] at hp
    rw [q0 1 _ (by omega) (by decide), q0 2 _ (by omega) (by decide), q0 3 _ (by omega) (by decide), o4 4 (by decide) (by decide), o4 5 (by decide) (by decide), o4 6 (by decide) (by decide)]
    exact tb p hp
  · rw [q1] at hx
    by_cases e : x = T 0 1
    · subst e
      rw [q4, q5, q6, q7, q8]
      exact ⟨v7, v8, v9, v10, v11⟩
    · rw [qk 4 _ (by decide) (by decide) e, qk 5 _ (by decide) (by decide) e, qk 6 _ (by decide) (by decide) e, qk 7 _ (by decide) (by decide) e, qk 8 _ (by decide) (by decide) e, o7 7 _ (by decide) (by decide) (by omega), o7 8 _ (by decide) (by decide) (by omega), o7 9 _ (by decide) (by decide) (by omega), o7 10 _ (by decide) (by decide) (by omega), o7 11 _ (by decide) (by decide) (by omega)]
      exact tc x (by omega)
  · rw [q1] at hx
    unfold et
    by_cases e : x = T 0 1
    · subst e
      rw [q8] at hi
      rw [q9 i (by omega)]
      exact v12 i hi
    · rw [qk 8 _ (by decide) (by decide) e] at hi
      have hl8 := hT.l (show x < T 0 1 by omega)
      rw [q9o _ (by omega), o12 _ (by omega)]
      exact td x i (by omega) hi
  · rw [q0 0 5 (by decide) (by decide)] at hi
    rw [o14, te i hi]
    unfold sgn
    rw [q0 10 _ (by omega) (by decide)]
  · rw [o13, tf x y hx hy]
    unfold AGv agI
    rw [q0 11 _ (by omega) (by decide)]
theorem t_loaf {s : Nat} {T : TT} {h : Mem} (p : PT tp n s h) (hT : TOK T) (t : THp T h) {post : Mem → Prop} (hp : ∀ h', LO tp n (pLoaf tp n s T) h' → TL h h' → post h') : wpX7_readLoaf post h := by
  have h8 := hT.n8
  have h6 := hT.n6
  have e37 : h 3 7 = nI (T 0 1) := t.1.1.2.1
  have e36 : h 3 6 = nI (T 0 0) := t.1.1.1
  unfold wpX7_readLoaf
  unfold pLoaf at hp
  rw [e37, show (6 : Int32) = nI 6 from rfl]
  refine pk_eq (T 0 1) 6 (fun c => ?_) (fun c => ?_)
  · rw [if_pos c] at hp
    refine t_wrong (a := 2) p (by decide) (by decide) (fun h2 p2 f2 => ?_)
    unfold wpBX7_readLoaf_17
    exact sw_f p2.bad (hp h2 p2 f2.l)
  rw [if_neg c] at hp
  unfold wpBX7_readLoaf_17
  refine sw_t p.ok0 (p.next (fun h4 p4 f4 => ?_))
  have e4 : h4 3 7 = nI (T 0 1) := by rw [f4.g 3 (by decide) (by decide)]; exact e37
  rw [e4, show (6 : Int32) = nI 6 from rfl, nI_add]
  have hB : T 0 1 < 6 := by omega
  have f0 := f4.g.l
  show lfN (lfN (lfN (lfN (lfE post (nI (6 + T 0 1))) (nI (6 + T 0 1)) 10 1 23) (nI (6 + T 0 1)) 9 0 23) (nI (6 + T 0 1)) 8 1 999) (nI (6 + T 0 1)) 7 0 9 h4
  refine lfN_ok hB (by decide) (by decide) (by decide) p4 (fun e h5 ee p5 f5 => ?_) (fun a s1 h5 ea _ _ p5 f5 v7 o7 w7 => ?_)
  · rw [ee] at hp
    exact lfN_e hB (by decide) (by decide) (by decide) p5 (f0.tr f5) (fun h' p' f' => lfN_e hB (by decide) (by decide) (by decide) p' f' (fun h' p' f' => lfN_e hB (by decide) (by decide) (by decide) p' f' (fun h' p' f' => lfE_e hB p' f' hp)))
  rw [ea] at hp
  have f1 := f0.tr f5
  refine lfN_ok hB (by decide) (by decide) (by decide) p5 (fun e h5 ee p5 f5 => ?_) (fun b s2 h6' eb _ _ p6 f6 v8 o8 w8 => ?_)
  · have hp : ∀ h', LO tp n (eR (nuP tp n 1 999 s1) (fun b => eR (nuP tp n 0 23 b.2) (fun c => eR (nuP tp n 1 23 c.2) (fun d => if ty tp n d.2 = 2 then eR (pEat tp n (T 0 0) 7 d.2 []) (fun e => .ok (e.1, putL T a b.1 c.1 d.1 e.2)) else .error (1, d.2))))) h' → TL h h' → post h' := hp
    rw [ee] at hp
    exact lfN_e hB (by decide) (by decide) (by decide) p5 (f1.tr f5) (fun h' p' f' => lfN_e hB (by decide) (by decide) (by decide) p' f' (fun h' p' f' => lfE_e hB p' f' hp))
  have hp : ∀ h', LO tp n (eR (nuP tp n 1 999 s1) (fun b => eR (nuP tp n 0 23 b.2) (fun c => eR (nuP tp n 1 23 c.2) (fun d => if ty tp n d.2 = 2 then eR (pEat tp n (T 0 0) 7 d.2 []) (fun e => .ok (e.1, putL T a b.1 c.1 d.1 e.2)) else .error (1, d.2))))) h' → TL h h' → post h' := hp
  rw [eb] at hp
  have f2 := f1.tr f6
  have hp : ∀ h', LO tp n (eR (nuP tp n 0 23 s2) (fun c => eR (nuP tp n 1 23 c.2) (fun d => if ty tp n d.2 = 2 then eR (pEat tp n (T 0 0) 7 d.2 []) (fun e => .ok (e.1, putL T a b c.1 d.1 e.2)) else .error (1, d.2)))) h' → TL h h' → post h' := hp
  refine lfN_ok hB (by decide) (by decide) (by decide) p6 (fun e h5 ee p5 f5 => ?_) (fun c1 s3 h7 ec _ _ p7 f7 v9 o9 w9 => ?_)
  · rw [ee] at hp
    exact lfN_e hB (by decide) (by decide) (by decide) p5 (f2.tr f5) (fun h' p' f' => lfE_e hB p' f' hp)
  rw [ec] at hp
  have f3 := f2.tr f7
  have hp : ∀ h', LO tp n (eR (nuP tp n 1 23 s3) (fun d => if ty tp n d.2 = 2 then eR (pEat tp n (T 0 0) 7 d.2 []) (fun e => .ok (e.1, putL T a b c1 d.1 e.2)) else .error (1, d.2))) h' → TL h h' → post h' := hp
  refine lfN_ok hB (by decide) (by decide) (by decide) p7 (fun e h5 ee p5 f5 => ?_) (fun d s4 h8' ed _ _ p8 f8 v10 o10 w10 => ?_)
  · rw [ee] at hp
    exact lfE_e hB p5 (f3.tr f5) hp
  rw [ed] at hp
  have f9 := f3.tr f8
  have hp : ∀ h', LO tp n (if ty tp n s4 = 2 then eR (pEat tp n (T 0 0) 7 s4 []) (fun e => .ok (e.1, putL T a b c1 d e.2)) else .error (1, s4)) h' → TL h h' → post h' := hp
  unfold lfE
  have h20 : h8' 20 0 = nI (ty tp n s4) := p8.2.2.2.2.1
  have t4 := ty_le (tp := tp) (n := n) s4
  refine sw_t p8.ok0 ?_
  rw [h20, show (2 : Int32) = nI 2 from rfl]
  refine pk_eq (ty tp n s4) 2 (fun c2 => ?_) (fun c2 => ?_)
  rotate_left
  · rw [if_neg c2] at hp
    exact t_wrong (a := 1) p8 (by decide) (by decide) (fun h2 p2 f2 => lf_e hB p2 (f9.tr f2.l) hp)
  rw [if_pos c2] at hp
  have g4 : ∀ j, 3 ≤ j → j ≤ 14 → h4 j = h j := fun j a b => f4.g j (by omega) (by omega)
  have g8 : ∀ j, 3 ≤ j → j ≤ 14 → j ≠ 7 → j ≠ 8 → j ≠ 9 → j ≠ 10 → h8' j = h j := fun j a b c d e f => by rw [w10 j a b f, w9 j a b e, w8 j a b d, w7 j a b c, g4 j a b]
  have g36 : h8' 3 6 = nI (T 0 0) := by rw [g8 3 (by decide) (by decide) (by decide) (by decide) (by decide) (by decide)]; exact e36
  have g37 : h8' 3 7 = nI (T 0 1) := by rw [g8 3 (by decide) (by decide) (by decide) (by decide) (by decide) (by decide)]; exact e37
  refine t_eatRow hB h8 f9 p8 g36 g37 (fun e h' ee p' f' => ?_) (fun s' es h' ee hl p' f' v11 o11 v37 o37 oo v12 o12 => ?_)
  · rw [ee] at hp
    exact hp h' p' f'
  · rw [ee] at hp
    refine hp h' ⟨p', ?_⟩ f'
    refine putL_TH t hT hl (fun k a b => ?_) (fun i hi => ?_) v37 ?_ ?_ ?_ ?_ v11 (fun k i a b hi => ?_) v12 (fun i hi => ?_) ?_ ?_
    · rw [oo k a (by omega) (by omega) (by omega), g8 k (by omega) (by omega) (by omega) (by omega) (by omega) (by omega)]
    · rw [o37 i hi, g8 3 (by decide) (by decide) (by decide) (by decide) (by decide) (by decide)]
    · rw [oo 7 (by decide) (by decide) (by decide) (by decide), w10 7 (by decide) (by decide) (by decide), w9 7 (by decide) (by decide) (by decide), w8 7 (by decide) (by decide) (by decide)]; exact v7
    · rw [oo 8 (by decide) (by decide) (by decide) (by decide), w10 8 (by decide) (by decide) (by decide), w9 8 (by decide) (by decide) (by decide)]; exact v8
    · rw [oo 9 (by decide) (by decide) (by decide) (by decide), w10 9 (by decide) (by decide) (by decide)]; exact v9
    · rw [oo 10 (by decide) (by decide) (by decide) (by decide)]; exact v10
    · have : k = 7 ∨ k = 8 ∨ k = 9 ∨ k = 10 ∨ k = 11 := by omega
      rcases this with e | e | e | e | e <;> subst e
      · rw [oo 7 (by decide) (by decide) (by decide) (by decide), w10 7 (by decide) (by decide) (by decide), w9 7 (by decide) (by decide) (by decide), w8 7 (by decide) (by decide) (by decide), o7 i hi, g4 7 (by decide) (by decide)]
      · rw [oo 8 (by decide) (by decide) (by decide) (by decide), w10 8 (by decide) (by decide) (by decide), w9 8 (by decide) (by decide) (by decide), o8 i hi, w7 8 (by decide) (by decide) (by decide), g4 8 (by decide) (by decide)]
      · rw [oo 9 (by decide) (by decide) (by decide) (by decide), w10 9 (by decide) (by decide) (by decide), o9 i hi, w8 9 (by decide) (by decide) (by decide), w7 9 (by decide) (by decide) (by decide), g4 9 (by decide) (by decide)]
      · rw [oo 10 (by decide) (by decide) (by decide) (by decide), o10 i hi, w9 10 (by decide) (by decide) (by decide), w8 10 (by decide) (by decide) (by decide), w7 10 (by decide) (by decide) (by decide), g4 10 (by decide) (by decide)]
      · rw [o11 i hi, g8 11 (by decide) (by decide) (by decide) (by decide) (by decide) (by decide)]
    · rw [o12 i hi, g8 12 (by decide) (by decide) (by decide) (by decide) (by decide) (by decide)]
    · rw [oo 13 (by decide) (by decide) (by decide) (by decide), g8 13 (by decide) (by decide) (by decide) (by decide) (by decide) (by decide)]
    · rw [oo 14 (by decide) (by decide) (by decide) (by decide), g8 14 (by decide) (by decide) (by decide) (by decide) (by decide) (by decide)]
end PF
