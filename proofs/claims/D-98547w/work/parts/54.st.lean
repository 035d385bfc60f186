/-! 54.st: meetings: what they do to a state and to a row -/
theorem it_rel {α β : Type} (Rl : α → β → Prop) {f : Nat → α → α} {g : Nat → β → β} {n : Nat} {a : α} {b : β} (h0 : Rl a b) (h : ∀ i a b, i < n → Rl a b → Rl (f i a) (g i b)) : Rl (it f n a) (it g n b) := by
  induction n with
  | zero => exact h0
  | succ n ih => exact h n _ _ (by omega) (ih (fun i a b hi => h i a b (by omega)))
theorem it_inv {α : Type} (P : α → Prop) {f : Nat → α → α} {n : Nat} {a : α} (h0 : P a) (h : ∀ i a, i < n → P a → P (f i a)) : P (it f n a) := by
  induction n with
  | zero => exact h0
  | succ n ih => exact h n _ (by omega) (ih (fun i a hi => h i a (by omega)))
theorem it_pl {f : Nat → Mem → Mem} {n : Nat} {S : Mem} {k : Nat} (h : ∀ i S, i < n → f i S k = S k) : it f n S k = S k :=
  it_inv (fun S' => S' k = S k) rfl (fun i a hi e => (h i a hi).trans e)
theorem up2_at (S : Mem) (k i : Nat) (v : Int32) : up2 S k i v k i = v := by rw [up2_same]; unfold upd; rw [if_pos rfl]
theorem up2_ne (S : Mem) (k : Nat) {i j : Nat} (v : Int32) (h : j ≠ i) : up2 S k i v k j = S k j := by rw [up2_same]; unfold upd; rw [if_neg h]
def setR (R : Nat → Int32) (a b : Nat) (v : Int32) : Nat → Int32 := fun k => if k = 2 + (8 * a + b) then v else if k = 2 + (8 * b + a) then v else R k
theorem setR_md (R : Nat → Int32) {a b x y : Nat} (v : Int32) (ha : a < 8) (hb : b < 8) (hx : x < 8) (hy : y < 8) : mdR (setR R a b v) x y = if (x = a ∧ y = b) ∨ (x = b ∧ y = a) then v else mdR R x y := by
  unfold mdR setR
  by_cases h1 : x = a ∧ y = b
  · rw [if_pos (by omega), if_pos (Or.inl h1)]
  · rw [if_neg (by omega)]
    by_cases h2 : x = b ∧ y = a
    · rw [if_pos (by omega), if_pos (Or.inr h2)]
    · rw [if_neg (by omega), if_neg (by omega)]
theorem setR_o (R : Nat → Int32) {a b k : Nat} (v : Int32) (ha : a < 8) (hb : b < 8) (hk : k < 2 ∨ 66 ≤ k) : setR R a b v k = R k := by
  unfold setR
  rw [if_neg (by omega), if_neg (by omega)]
def RSym (R : Nat → Int32) : Prop := ∀ a b, a < 8 → b < 8 → mdR R a b = mdR R b a
theorem RSym.set {R : Nat → Int32} (h : RSym R) {a b : Nat} (v : Int32) (ha : a < 8) (hb : b < 8) : RSym (setR R a b v) := by
  intro x y hx hy
  rw [setR_md R v ha hb hx hy, setR_md R v ha hb hy hx, h x y hx hy]
  by_cases c : (x = a ∧ y = b) ∨ (x = b ∧ y = a)
  · rw [if_pos c, if_pos (by omega)]
  · rw [if_neg c, if_neg (by omega)]
theorem mxI_toInt (a b : Int32) : (mxI a b).toInt = max a.toInt b.toInt := by
  unfold mxI
  split
  · rename_i h; rw [lt_II] at h; omega
  · rename_i h; rw [lt_II] at h; omega
theorem mxI_comm (a b : Int32) : mxI a b = mxI b a := Int32.toInt_inj.mp (by rw [mxI_toInt, mxI_toInt]; omega)
theorem mxI_assoc (a b c : Int32) : mxI (mxI a b) c = mxI a (mxI b c) := Int32.toInt_inj.mp (by simp only [mxI_toInt]; omega)
theorem mxI_self (a : Int32) : mxI a a = a := mxI_le (leI_refl a)
noncomputable def bmp (c : Prop) (x on : Int32) : Int32 := @ite _ c (Classical.propDecidable c) (mxI x on) x
theorem bmp_t {c : Prop} {x on : Int32} (h : c) : bmp c x on = mxI x on := by unfold bmp; rw [if_pos h]
theorem bmp_f {c : Prop} {x on : Int32} (h : ¬ c) : bmp c x on = x := by unfold bmp; rw [if_neg h]
theorem bmp_mx (c d : Prop) (x y on : Int32) : mxI (bmp c x on) (bmp d y on) = bmp (c ∨ d) (mxI x y) on := by
  by_cases hc : c
  · rw [bmp_t hc, bmp_t (Or.inl hc)]
    by_cases hd : d
    · rw [bmp_t hd]; exact Int32.toInt_inj.mp (by simp only [mxI_toInt]; omega)
    · rw [bmp_f hd]; exact Int32.toInt_inj.mp (by simp only [mxI_toInt]; omega)
  · rw [bmp_f hc]
    by_cases hd : d
    · rw [bmp_t hd, bmp_t (Or.inr hd)]; exact Int32.toInt_inj.mp (by simp only [mxI_toInt]; omega)
    · rw [bmp_f hd, bmp_f (by intro h; exact h.elim hc hd)]
theorem bmp_bmp (c d : Prop) (x on : Int32) : bmp d (bmp c x on) on = bmp (c ∨ d) x on := by
  by_cases hc : c
  · rw [bmp_t hc, bmp_t (show c ∨ d from Or.inl hc)]
    by_cases hd : d
    · rw [bmp_t hd]; exact Int32.toInt_inj.mp (by simp only [mxI_toInt]; omega)
    · rw [bmp_f hd]
  · rw [bmp_f hc]
    by_cases hd : d
    · rw [bmp_t hd, bmp_t (show c ∨ d from Or.inr hd)]
    · rw [bmp_f hd, bmp_f (by intro h; exact h.elim hc hd)]
theorem bmp_iff {c d : Prop} (h : c ↔ d) (x on : Int32) : bmp c x on = bmp d x on := by rw [propext h]
theorem twR_s {T : TT} (hT : TOK T) {x y : Nat} (hx : x < T 0 0) (hy : y < T 0 0) : twI T x = nI y ↔ twI T y = nI x := by
  have h8 := hT.n8
  have one : ∀ x y, x < T 0 0 → y < T 0 0 → twI T x = nI y → twI T y = nI x := by
    intro x y hx hy e
    rcases twI_c hT hx with h | ⟨q, hq, e1, _, e2⟩
    · rw [h] at e; exact absurd e.symm (nIm1 (by omega))
    · rw [e1] at e
      rw [← (nI_eq (by omega) (by omega)).mp e]
      exact e2
  exact ⟨one x y hx hy, one y x hy hx⟩
section MEET
variable {T : TT} {R : Nat → Int32}
theorem md_bmp (hs : RSym R) {a b : Nat} (on : Int32) (ha : a < 8) (hb : b < 8) {x y : Nat} (hx : x < 8) (hy : y < 8) : mdR (setR R a b (mxI (mdR R a b) on)) x y = bmp ((x = a ∧ y = b) ∨ (x = b ∧ y = a)) (mdR R x y) on := by
  rw [setR_md R _ ha hb hx hy]
  by_cases c : (x = a ∧ y = b) ∨ (x = b ∧ y = a)
  · rw [if_pos c, bmp_t c]
    rcases c with ⟨h1, h2⟩ | ⟨h1, h2⟩
    · rw [h1, h2]
    · rw [h1, h2, hs a b ha hb]
  · rw [if_neg c, bmp_f c]
/-- the pairs that a meeting of a, b reaches -/
def hitP (T : TT) (a b u v : Nat) : Prop := ((u = a ∧ v = b) ∨ (u = b ∧ v = a)) ∨ ((twI T u = nI a ∧ v = b) ∨ (twI T u = nI b ∧ v = a)) ∨ ((u = a ∧ twI T v = nI b) ∨ (u = b ∧ twI T v = nI a)) ∨ ((twI T u = nI a ∧ twI T v = nI b) ∨ (twI T u = nI b ∧ twI T v = nI a))
theorem ld_bmp (hT : TOK T) (hs : RSym R) {a b : Nat} (on : Int32) (ha : a < T 0 0) (hb : b < T 0 0) {u v : Nat} (hu : u < T 0 0) (hv : v < T 0 0) : ld3 T (setR R a b (mxI (mdR R a b) on)) u v = bmp (hitP T a b u v) (ld3 T R u v) on := by
  have h8 := hT.n8
  have md := fun x y hx hy => md_bmp hs on (show a < 8 by omega) (show b < 8 by omega) (x := x) (y := y) hx hy
  have n1 : ∀ x, x < T 0 0 → ¬ nI x = -1 := fun x hx => nIm1 (by omega)
  rcases twI_c hT hu with eu | ⟨c, hc, eu, _, _⟩
  · have fu : ∀ x, x < T 0 0 → ¬ twI T u = nI x := fun x hx e => n1 x hx (e.symm.trans eu)
    rcases twI_c hT hv with ev | ⟨d, hd, ev, _, _⟩
    · have fv : ∀ x, x < T 0 0 → ¬ twI T v = nI x := fun x hx e => n1 x hx (e.symm.trans ev)
      unfold ld3 ld2 ld1
      simp only [eu, ev, if_true]
      rw [md u v (by omega) (by omega)]
      refine bmp_iff ?_ _ _
      unfold hitP
      simp only [fu a ha, fu b hb, fv a ha, fv b hb, false_and, and_false, or_false]
    · have gv : ∀ x, x < T 0 0 → (twI T v = nI x ↔ d = x) := fun x hx => by rw [ev]; exact nI_eq (by omega) (by omega)
      unfold ld3 ld2 ld1
      simp only [eu, if_true]
      rw [ev, if_neg (n1 d hd), if_neg (n1 d hd), ixn (by omega), md u v (by omega) (by omega), md u d (by omega) (by omega), bmp_mx]
      refine bmp_iff ?_ _ _
      unfold hitP
      simp only [fu a ha, fu b hb, gv a ha, gv b hb, false_and, or_false, false_or]
  · have gu : ∀ x, x < T 0 0 → (twI T u = nI x ↔ c = x) := fun x hx => by rw [eu]; exact nI_eq (by omega) (by omega)
    rcases twI_c hT hv with ev | ⟨d, hd, ev, _, _⟩
    · have fv : ∀ x, x < T 0 0 → ¬ twI T v = nI x := fun x hx e => n1 x hx (e.symm.trans ev)
      unfold ld3 ld2 ld1
      simp only [ev, if_true]
      rw [eu, if_neg (n1 c hc), if_neg (n1 c hc), if_neg (n1 c hc), if_neg (n1 c hc), ixn (by omega), md u v (by omega) (by omega), md c v (by omega) (by omega), bmp_mx]
      refine bmp_iff ?_ _ _
      unfold hitP
      simp only [fv a ha, fv b hb, gu a ha, gu b hb, and_false, or_false, false_or]
    · have gv : ∀ x, x < T 0 0 → (twI T v = nI x ↔ d = x) := fun x hx => by rw [ev]; exact nI_eq (by omega) (by omega)
      unfold ld3 ld2 ld1
      rw [eu, ev]
      simp only [if_neg (n1 c hc), if_neg (n1 d hd), ixn (show c < 2 ^ 31 by omega), ixn (show d < 2 ^ 31 by omega)]
      rw [md u v (by omega) (by omega), md c v (by omega) (by omega), md u d (by omega) (by omega), md c d (by omega) (by omega), bmp_mx, bmp_mx, bmp_mx]
      refine bmp_iff ?_ _ _
      unfold hitP
      simp only [gu a ha, gu b hb, gv a ha, gv b hb]
      simp only [or_assoc]
theorem ld_sym (hT : TOK T) (hs : RSym R) {u v : Nat} (hu : u < T 0 0) (hv : v < T 0 0) : lastD T R u v = lastD T R v u := by
  have h8 := hT.n8
  have n1 : ∀ x, x < T 0 0 → ¬ nI x = -1 := fun x hx => nIm1 (by omega)
  unfold lastD
  by_cases e : twI T u = nI v
  · rw [if_pos e, if_pos ((twR_s hT hu hv).mp e)]
  · rw [if_neg e, if_neg (fun e2 => e ((twR_s hT hu hv).mpr e2))]
    unfold ld3 ld2 ld1
    rcases twI_c hT hu with eu | ⟨c, hc, eu, _, _⟩
    · rcases twI_c hT hv with ev | ⟨d, hd, ev, _, _⟩
      · simp only [eu, ev, if_true]
        exact hs u v (by omega) (by omega)
      · simp only [eu, if_true]
        rw [ev]
        simp only [if_neg (n1 d hd), ixn (show d < 2 ^ 31 by omega)]
        rw [hs u v (by omega) (by omega), hs u d (by omega) (by omega)]
    · rcases twI_c hT hv with ev | ⟨d, hd, ev, _, _⟩
      · simp only [ev, if_true]
        rw [eu]
        simp only [if_neg (n1 c hc), ixn (show c < 2 ^ 31 by omega)]
        rw [hs u v (by omega) (by omega), hs c v (by omega) (by omega)]
      · rw [eu, ev]
        simp only [if_neg (n1 c hc), if_neg (n1 d hd), ixn (show c < 2 ^ 31 by omega), ixn (show d < 2 ^ 31 by omega)]
        rw [hs u v (by omega) (by omega), hs c v (by omega) (by omega), hs u d (by omega) (by omega), hs c d (by omega) (by omega)]
        exact Int32.toInt_inj.mp (by simp only [mxI_toInt]; omega)
/-- the component's pair -/
def pairM (T : TT) (S : Mem) (x y on : Int32) : Mem := if x = -1 then S else if y = -1 then S else if x = y then S else if twI T (ix x) = y then S else up2 (up2 S 0 (ix ((8 : Int32) * x + y)) (mxI (S 0 (ix ((8 : Int32) * x + y))) on)) 0 (ix ((8 : Int32) * y + x)) (mxI (S 0 (ix ((8 : Int32) * x + y))) on)
def meetM (T : TT) (S : Mem) (x y on : Int32) : Mem := pairM T (pairM T (pairM T (pairM T S x y on) (twI T (ix x)) y on) x (twI T (ix y)) on) (twI T (ix x)) (twI T (ix y)) on
theorem c_pair (hT : TOK T) {post : Mem → Prop} {S : Mem} {x y on : Int32} (hx : x = -1 ∨ ∃ a, a < T 0 0 ∧ x = nI a) (hy : y = -1 ∨ ∃ a, a < T 0 0 ∧ y = nI a) (hp : post (pairM T S x y on)) : wpX6_pair post S T x y on := by
  have h8 := hT.n8
  unfold wpX6_pair
  unfold pairM at hp
  refine ⟨fun e => by rw [if_pos e] at hp; exact hp, fun e => ?_⟩
  rw [if_neg e] at hp
  refine ⟨fun e2 => by rw [if_pos e2] at hp; exact hp, fun e2 => ?_⟩
  rw [if_neg e2] at hp
  refine ⟨fun e3 => by rw [if_pos e3] at hp; exact hp, fun e3 => ?_⟩
  rw [if_neg e3] at hp
  obtain ⟨a, ha, rfl⟩ := hx.resolve_left e
  obtain ⟨b, hb, rfl⟩ := hy.resolve_left e2
  refine ⟨pk_in a 8 (by omega), fun e4 => by rw [if_pos e4] at hp; exact hp, fun e4 => ?_⟩
  rw [if_neg e4] at hp
  rw [e8, e8, ixn (by omega), ixn (by omega)] at hp ⊢
  refine ⟨pk_in (8 * a + b) 64 (by omega), fun h7 e7 => ⟨pk_in (8 * b + a) 64 (by omega), fun h9 e9 => ?_⟩⟩
  rw [e9, e7, up2_at]
  exact hp
theorem twI_or (hT : TOK T) {a : Nat} (ha : a < T 0 0) : twI T a = -1 ∨ ∃ q, q < T 0 0 ∧ twI T a = nI q := (twI_c hT ha).elim Or.inl (fun ⟨q, h1, h2, _⟩ => Or.inr ⟨q, h1, h2⟩)
theorem c_meet (hT : TOK T) {post : Mem → Prop} {S : Mem} {a b : Nat} {on : Int32} (ha : a < T 0 0) (hb : b < T 0 0) (hp : post (meetM T S (nI a) (nI b) on)) : wpX6_meet post S T (nI a) (nI b) on := by
  have h8 := hT.n8
  unfold wpX6_meet
  unfold meetM at hp
  rw [ixn (by omega), ixn (by omega)] at hp ⊢
  exact c_pair hT (Or.inr ⟨a, ha, rfl⟩) (Or.inr ⟨b, hb, rfl⟩) ⟨pk_in a 8 (by omega), c_pair hT (twI_or hT ha) (Or.inr ⟨b, hb, rfl⟩) ⟨pk_in b 8 (by omega), c_pair hT (Or.inr ⟨a, ha, rfl⟩) (twI_or hT hb) (c_pair hT (twI_or hT ha) (twI_or hT hb) hp)⟩⟩
theorem pairM_o (T : TT) (S : Mem) (x y on : Int32) {k : Nat} (hk : k ≠ 0) : pairM T S x y on k = S k := by
  unfold pairM
  split
  · rfl
  split
  · rfl
  split
  · rfl
  split
  · rfl
  · rw [up2_other hk, up2_other hk]
theorem meetM_o (T : TT) (S : Mem) (x y on : Int32) {k : Nat} (hk : k ≠ 0) : meetM T S x y on k = S k := by
  unfold meetM
  rw [pairM_o _ _ _ _ _ hk, pairM_o _ _ _ _ _ hk, pairM_o _ _ _ _ _ hk, pairM_o _ _ _ _ _ hk]
/-- what a pair does to the day of u, v -/
theorem pairM_0 (hT : TOK T) {S : Mem} {x y on : Int32} (hx : x = -1 ∨ ∃ a, a < T 0 0 ∧ x = nI a) (hy : y = -1 ∨ ∃ a, a < T 0 0 ∧ y = nI a) {u v : Nat} (hu : u < T 0 0) (hv : v < T 0 0) (huv : u ≠ v) (hs : S 0 (8 * u + v) = S 0 (8 * v + u)) : pairM T S x y on 0 (8 * u + v) = bmp (¬ twI T u = nI v ∧ ((x = nI u ∧ y = nI v) ∨ (x = nI v ∧ y = nI u))) (S 0 (8 * u + v)) on := by
  have h8 := hT.n8
  have n1 : ∀ x, x < T 0 0 → ¬ nI x = -1 := fun x hx => nIm1 (by omega)
  unfold pairM
  by_cases e : x = -1
  · rw [if_pos e, bmp_f]
    rintro ⟨_, ⟨h, _⟩ | ⟨h, _⟩⟩
    · exact n1 u hu (h.symm.trans e)
    · exact n1 v hv (h.symm.trans e)
  rw [if_neg e]
  by_cases e2 : y = -1
  · rw [if_pos e2, bmp_f]
    rintro ⟨_, ⟨_, h⟩ | ⟨_, h⟩⟩
    · exact n1 v hv (h.symm.trans e2)
    · exact n1 u hu (h.symm.trans e2)
  rw [if_neg e2]
  obtain ⟨a, ha, rfl⟩ := hx.resolve_left e
  obtain ⟨b, hb, rfl⟩ := hy.resolve_left e2
  have i1 : nI a = nI b ↔ a = b := nI_eq (by omega) (by omega)
  have hc : (¬ twI T u = nI v ∧ ((nI a = nI u ∧ nI b = nI v) ∨ (nI a = nI v ∧ nI b = nI u))) ↔ (¬ twI T u = nI v ∧ ((a = u ∧ b = v) ∨ (a = v ∧ b = u))) := by
    rw [nI_eq (show a < 2 ^ 31 by omega) (show u < 2 ^ 31 by omega), nI_eq (show b < 2 ^ 31 by omega) (show v < 2 ^ 31 by omega), nI_eq (show a < 2 ^ 31 by omega) (show v < 2 ^ 31 by omega), nI_eq (show b < 2 ^ 31 by omega) (show u < 2 ^ 31 by omega)]
  rw [bmp_iff hc, e8, e8, ixn (by omega), ixn (by omega), ixn (by omega)]
  by_cases e3 : a = b
  · rw [if_pos (i1.mpr e3), bmp_f (by omega)]
  rw [if_neg (fun h => e3 (i1.mp h))]
  by_cases e4 : twI T a = nI b
  · rw [if_pos e4, bmp_f]
    rintro ⟨h0, ⟨rfl, rfl⟩ | ⟨rfl, rfl⟩⟩
    · exact h0 e4
    · exact h0 ((twR_s hT ha hb).mp e4)
  rw [if_neg e4]
  by_cases c1 : u = b ∧ v = a
  · obtain ⟨rfl, rfl⟩ := c1
    rw [up2_at, bmp_t ⟨fun h => e4 ((twR_s hT hb ha).mp h), Or.inr ⟨rfl, rfl⟩⟩, hs]
  · rw [up2_ne _ _ _ (by omega)]
    by_cases c2 : u = a ∧ v = b
    · obtain ⟨rfl, rfl⟩ := c2
      rw [up2_at, bmp_t ⟨e4, Or.inl ⟨rfl, rfl⟩⟩]
    · rw [up2_ne _ _ _ (by omega), bmp_f (by omega)]
theorem pairM_s (hT : TOK T) {S : Mem} {x y on : Int32} (hx : x = -1 ∨ ∃ a, a < T 0 0 ∧ x = nI a) (hy : y = -1 ∨ ∃ a, a < T 0 0 ∧ y = nI a) (hs : ∀ u v, u < T 0 0 → v < T 0 0 → u ≠ v → S 0 (8 * u + v) = S 0 (8 * v + u)) : ∀ u v, u < T 0 0 → v < T 0 0 → u ≠ v → pairM T S x y on 0 (8 * u + v) = pairM T S x y on 0 (8 * v + u) := by
  intro u v hu hv huv
  rw [pairM_0 hT hx hy hu hv huv (hs u v hu hv huv), pairM_0 hT hx hy hv hu huv.symm (hs v u hv hu huv.symm), hs u v hu hv huv]
  refine bmp_iff ?_ _ _
  rw [twR_s hT hu hv]
  constructor
  · rintro ⟨h, q⟩; exact ⟨h, q.symm⟩
  · rintro ⟨h, q⟩; exact ⟨h, q.symm⟩
theorem meet_SRel (hT : TOK T) {S : Mem} (hS : SRel T S R) (hs : RSym R) {a b : Nat} {on : Int32} (ha : a < T 0 0) (hb : b < T 0 0) : SRel T (meetM T S (nI a) (nI b) on) (setR R a b (mxI (mdR R a b) on)) := by
  have h8 := hT.n8
  refine ⟨?_, ?_, ?_, ?_, ?_⟩
  · rw [meetM_o _ _ _ _ _ (by decide), setR_o R _ (by omega) (by omega) (by omega)]; exact hS.1
  · rw [meetM_o _ _ _ _ _ (by decide), setR_o R _ (by omega) (by omega) (by omega)]; exact hS.2.1
  · intro u v hu hv huv
    have s0 : ∀ u v, u < T 0 0 → v < T 0 0 → u ≠ v → S 0 (8 * u + v) = S 0 (8 * v + u) := fun u v hu hv huv => by
      rw [hS.2.2.1 u v hu hv huv, hS.2.2.1 v u hv hu huv.symm, ld_sym hT hs hu hv]
    have A : nI a = -1 ∨ ∃ q, q < T 0 0 ∧ nI a = nI q := Or.inr ⟨a, ha, rfl⟩
    have B : nI b = -1 ∨ ∃ q, q < T 0 0 ∧ nI b = nI q := Or.inr ⟨b, hb, rfl⟩
    have A2 := twI_or hT ha
    have B2 := twI_or hT hb
    have s1 := pairM_s hT (on := on) A B s0
    have s2 := pairM_s hT (on := on) A2 B s1
    have s3 := pairM_s hT (on := on) A B2 s2
    unfold meetM
    rw [ixn (by omega), ixn (by omega)]
    rw [pairM_0 hT A2 B2 hu hv huv (s3 u v hu hv huv), pairM_0 hT A B2 hu hv huv (s2 u v hu hv huv), pairM_0 hT A2 B hu hv huv (s1 u v hu hv huv), pairM_0 hT A B hu hv huv (s0 u v hu hv huv), bmp_bmp, bmp_bmp, bmp_bmp, hS.2.2.1 u v hu hv huv]
    unfold lastD
    by_cases e : twI T u = nI v
    · rw [if_pos e, if_pos e, bmp_f]
      simp only [e, not_true, false_and, or_false, not_false_iff]
    · rw [if_neg e, if_neg e, ld_bmp hT hs on ha hb hu hv]
      refine bmp_iff ?_ _ _
      unfold hitP
      rw [nI_eq (by omega) (by omega), nI_eq (by omega) (by omega), nI_eq (by omega) (by omega), nI_eq (by omega) (by omega), twR_s hT ha hu, twR_s hT ha hv, twR_s hT hb hu, twR_s hT hb hv]
      simp only [e, not_false_iff, true_and]
      constructor
      · rintro ((⟨p, q⟩ | ⟨p, q⟩) | (⟨p, q⟩ | ⟨p, q⟩) | (⟨p, q⟩ | ⟨p, q⟩) | ⟨p, q⟩ | ⟨p, q⟩)
        · exact Or.inl (Or.inl ⟨p.symm, q.symm⟩)
        · exact Or.inl (Or.inr ⟨q.symm, p.symm⟩)
        · exact Or.inr (Or.inl (Or.inl ⟨p, q.symm⟩))
        · exact Or.inr (Or.inr (Or.inl (Or.inr ⟨q.symm, p⟩)))
        · exact Or.inr (Or.inr (Or.inl (Or.inl ⟨p.symm, q⟩)))
        · exact Or.inr (Or.inl (Or.inr ⟨q, p.symm⟩))
        · exact Or.inr (Or.inr (Or.inr (Or.inl ⟨p, q⟩)))
        · exact Or.inr (Or.inr (Or.inr (Or.inr ⟨q, p⟩)))
      · rintro ((⟨p, q⟩ | ⟨p, q⟩) | (⟨p, q⟩ | ⟨p, q⟩) | (⟨p, q⟩ | ⟨p, q⟩) | ⟨p, q⟩ | ⟨p, q⟩)
        · exact Or.inl (Or.inl ⟨p.symm, q.symm⟩)
        · exact Or.inl (Or.inr ⟨q.symm, p.symm⟩)
        · exact Or.inr (Or.inl (Or.inl ⟨p, q.symm⟩))
        · exact Or.inr (Or.inr (Or.inl (Or.inr ⟨q.symm, p⟩)))
        · exact Or.inr (Or.inr (Or.inl (Or.inl ⟨p.symm, q⟩)))
        · exact Or.inr (Or.inl (Or.inr ⟨q, p.symm⟩))
        · exact Or.inr (Or.inr (Or.inr (Or.inl ⟨p, q⟩)))
        · exact Or.inr (Or.inr (Or.inr (Or.inr ⟨q, p⟩)))
  · intro c hc
    rw [meetM_o _ _ _ _ _ (by decide), setR_o R _ (by omega) (by omega) (by omega)]
    exact hS.2.2.2.1 c hc
  · intro c hc
    rw [meetM_o _ _ _ _ _ (by decide), setR_o R _ (by omega) (by omega) (by omega)]
    exact hS.2.2.2.2 c hc
/-- a row as it comes about: days are past, meetings are of both -/
def RowOK (R : Nat → Int32) : Prop := RSym R ∧ (∀ a b, a < 8 → b < 8 → mdR R a b ≤ R 0) ∧ ∃ d hr, R 0 = nI d ∧ d ≤ 2000 ∧ R 1 = nI hr ∧ hr < 24
def meetR (R : Nat → Int32) (a b : Nat) : Nat → Int32 := setR R a b (R 0)
theorem RowOK.meet {R : Nat → Int32} (h : RowOK R) {a b : Nat} (ha : a < 8) (hb : b < 8) : RowOK (meetR R a b) := by
  unfold meetR
  refine ⟨h.1.set _ ha hb, fun x y hx hy => ?_, ?_⟩
  · rw [setR_md R _ ha hb hx hy, setR_o R _ ha hb (by omega)]
    split
    · exact leI_refl _
    · exact h.2.1 x y hx hy
  · rw [setR_o R _ ha hb (by omega), setR_o R _ ha hb (by omega)]
    exact h.2.2
theorem meet_day (hT : TOK T) {S : Mem} (hS : SRel T S R) (hR : RowOK R) {a b : Nat} (ha : a < T 0 0) (hb : b < T 0 0) : SRel T (meetM T S (nI a) (nI b) (S 3 0)) (meetR R a b) := by
  have h8 := hT.n8
  have h := meet_SRel hT hS hR.1 (on := S 3 0) ha hb
  rw [hS.1, mxI_le (hR.2.1 a b (by omega) (by omega)), ← hS.1] at h
  rw [hS.1] at h ⊢
  exact h
/-- a fair -/
def fairR1 (f : Nat → Bool) (a k : Nat) (R : Nat → Int32) : Nat → Int32 := if f a = true ∧ f (a + 1 + k) = true then meetR R a (a + 1 + k) else R
def fairR2 (n : Nat) (f : Nat → Bool) (a : Nat) (R : Nat → Int32) : Nat → Int32 := it (fairR1 f a) (n - (a + 1)) R
def fairR (n : Nat) (f : Nat → Bool) (R : Nat → Int32) : Nat → Int32 := it (fairR2 n f) n R
def fairS1 (T : TT) (f : Nat → Bool) (a k : Nat) (S : Mem) : Mem := if f a = true ∧ f (a + 1 + k) = true then meetM T S (nI a) (nI (a + 1 + k)) (S 3 0) else S
def fairS2 (T : TT) (f : Nat → Bool) (a : Nat) (S : Mem) : Mem := it (fairS1 T f a) (T 0 0 - (a + 1)) S
def fairS (T : TT) (f : Nat → Bool) (S : Mem) : Mem := it (fairS2 T f) (T 0 0) S
theorem fairS1_t {f : Nat → Bool} {a k : Nat} {S : Mem} (h1 : f a = true) (h2 : f (a + 1 + k) = true) : fairS1 T f a k S = meetM T S (nI a) (nI (a + 1 + k)) (S 3 0) := if_pos ⟨h1, h2⟩
theorem fairS1_f {f : Nat → Bool} {a k : Nat} {S : Mem} (h : ¬ (f a = true ∧ f (a + 1 + k) = true)) : fairS1 T f a k S = S := if_neg h
theorem fairS1_o {f : Nat → Bool} {a k : Nat} {S : Mem} {j : Nat} (hj : j ≠ 0) : fairS1 T f a k S j = S j := by
  unfold fairS1
  split
  · exact meetM_o _ _ _ _ _ hj
  · rfl
theorem fairS_o {f : Nat → Bool} {S : Mem} {j : Nat} (hj : j ≠ 0) : fairS T f S j = S j := it_pl (fun _ _ _ => it_pl (fun _ _ _ => fairS1_o hj))
theorem fair_rel (hT : TOK T) {S : Mem} {f : Nat → Bool} (hS : SRel T S R) (hR : RowOK R) : SRel T (fairS T f S) (fairR (T 0 0) f R) ∧ RowOK (fairR (T 0 0) f R) := by
  have h8 := hT.n8
  refine it_rel (fun S R => SRel T S R ∧ RowOK R) ⟨hS, hR⟩ (fun a S R ha h => it_rel (fun S R => SRel T S R ∧ RowOK R) h (fun k S R hk h => ?_))
  unfold fairS1 fairR1
  by_cases c : f a = true ∧ f (a + 1 + k) = true
  · rw [if_pos c, if_pos c]
    exact ⟨meet_day hT h.1 h.2 ha (by omega), h.2.meet (by omega) (by omega)⟩
  · rw [if_neg c, if_neg c]
    exact h
theorem c_fair (hT : TOK T) {post : Mem → Prop} {S : Mem} {m : Nat} (hm : m < 1024) (hp : post (fairS T (fun i => m.testBit i) S)) : wpX6_fair post S T (nI m) := by
  have h8 := hT.n8
  unfold wpX6_fair
  refine LW_nat (fun i => (it (fairS2 T (fun i => m.testBit i)) i S, nI i)) (T 0 0) (fun _ => True) rfl trivial (fun K i hi _ k => ?_)
  unfold wpBX6_fair_2
  refine pk_le (T 0 0) i (fun q => ?_) (fun q => ?_)
  · have e : i = T 0 0 := by omega
    subst e
    exact hp
  · have k := k q trivial
    rw [nI_1]
    refine LW_nat (fun j => (it (fairS1 T (fun i => m.testBit i) i) j (it (fairS2 T (fun i => m.testBit i)) i S), nI (i + 1 + j))) (T 0 0 - (i + 1)) (fun _ => True) rfl trivial (fun K2 j hj _ k2 => ?_)
    unfold wpBX6_fair_18
    refine pk_le (T 0 0) (i + 1 + j) (fun q2 => ?_) (fun q2 => ?_)
    · have e : j = T 0 0 - (i + 1) := by omega
      subst e
      rw [nI_1]
      exact k
    · have kk : K2 (fairS1 T (fun i => m.testBit i) i j (it (fairS1 T (fun i => m.testBit i) i) j (it (fairS2 T (fun i => m.testBit i)) i S)), nI (i + 1 + j + 1)) := k2 (by omega) trivial
      rw [nI_1, bit_I1 m hm i (by omega), bit_I1 m hm (i + 1 + j) (by omega)]
      refine ⟨fun e1 => ⟨fun e2 => ?_, fun e2 => ?_⟩, fun e1 => ?_⟩
      · rw [fairS1_t e1 e2] at kk
        exact c_meet hT q q2 kk
      · rw [fairS1_f (fun h => e2 h.2)] at kk
        exact kk
      · rw [fairS1_f (fun h => e1 h.1)] at kk
        exact kk
/-- the twin's meeting -/
def meet7 (h : Mem) (a b : Nat) (d : Int32) : Mem := up2 (up2 h 13 (8 * a + b) d) 13 (8 * b + a) d
theorem meet7_o {h : Mem} {a b : Nat} {d : Int32} {k : Nat} (hk : k ≠ 13) : meet7 h a b d k = h k := by
  unfold meet7
  rw [up2_other hk, up2_other hk]
theorem t_meet {h : Mem} {post : Mem → Prop} {a b : Nat} {d : Int32} (ha : a < 8) (hb : b < 8) (hp : post (meet7 h a b d)) : wpX7_meet post h (nI a) (nI b) d := by
  unfold wpX7_meet wpX7_couple
  dsimp only
  rw [e8, e8, ixn (by omega), ixn (by omega)]
  refine ⟨pk_in (8 * a + b) 128 (by omega), fun h4 e4 => ⟨pk_in (8 * b + a) 128 (by omega), fun h8 e8 => ?_⟩⟩
  rw [e8, e4]
  exact hp
theorem rowM_meet {h : Mem} {a b : Nat} {d : Int32} (ha : a < 8) (hb : b < 8) : rowM (meet7 h a b d) = setR (rowM h) a b d := by
  funext k
  unfold rowM setR
  dsimp only
  rw [meet7_o (show (30 : Nat) ≠ 13 by decide), meet7_o (show (31 : Nat) ≠ 13 by decide), meet7_o (show (27 : Nat) ≠ 13 by decide), meet7_o (show (28 : Nat) ≠ 13 by decide)]
  by_cases h0 : k = 0
  · rw [if_pos h0, if_neg (by omega), if_neg (by omega), if_pos h0]
  by_cases h1 : k = 1
  · rw [if_neg h0, if_pos h1, if_neg (by omega), if_neg (by omega), if_neg h0, if_pos h1]
  rw [if_neg h0, if_neg h1]
  by_cases h2 : k < 66
  · rw [if_pos h2]
    unfold meet7
    by_cases c2 : k - 2 = 8 * b + a
    · rw [c2, up2_at]
      by_cases c1 : k = 2 + (8 * a + b)
      · rw [if_pos c1]
      · rw [if_neg c1, if_pos (by omega)]
    · rw [up2_ne _ _ _ c2]
      by_cases c1 : k - 2 = 8 * a + b
      · rw [c1, up2_at, if_pos (by omega)]
      · rw [up2_ne _ _ _ c1, if_neg (by omega), if_neg (by omega), if_neg h0, if_neg h1, if_pos h2]
  · rw [if_neg h2, if_neg (show ¬ k = 2 + (8 * a + b) by omega), if_neg (show ¬ k = 2 + (8 * b + a) by omega), if_neg h0, if_neg h1, if_neg h2]
def fair71 (f : Nat → Bool) (a k : Nat) (h : Mem) : Mem := if f a = true ∧ f (a + 1 + k) = true then meet7 h a (a + 1 + k) (h 30 0) else h
def fair72 (n : Nat) (f : Nat → Bool) (a : Nat) (h : Mem) : Mem := it (fair71 f a) (n - (a + 1)) h
def fair7 (n : Nat) (f : Nat → Bool) (h : Mem) : Mem := it (fair72 n f) n h
theorem fair71_t {f : Nat → Bool} {a k : Nat} {h : Mem} (h1 : f a = true) (h2 : f (a + 1 + k) = true) : fair71 f a k h = meet7 h a (a + 1 + k) (h 30 0) := if_pos ⟨h1, h2⟩
theorem fair71_f {f : Nat → Bool} {a k : Nat} {h : Mem} (h9 : ¬ (f a = true ∧ f (a + 1 + k) = true)) : fair71 f a k h = h := if_neg h9
theorem fair71_o {f : Nat → Bool} {a k : Nat} {h : Mem} {j : Nat} (hj : j ≠ 13) : fair71 f a k h j = h j := by
  unfold fair71
  split
  · exact meet7_o hj
  · rfl
theorem fair7_o {n : Nat} {f : Nat → Bool} {h : Mem} {j : Nat} (hj : j ≠ 13) : fair7 n f h j = h j := it_pl (fun _ _ _ => it_pl (fun _ _ _ => fair71_o hj))
theorem rowM_fair {n : Nat} (hn : n ≤ 8) (f : Nat → Bool) (h : Mem) : rowM (fair7 n f h) = fairR n f (rowM h) := by
  refine it_rel (fun h R => rowM h = R) rfl (fun a h R ha e => it_rel (fun h R => rowM h = R) e (fun k h R hk e => ?_))
  unfold fair71 fairR1
  by_cases c : f a = true ∧ f (a + 1 + k) = true
  · rw [if_pos c, if_pos c, rowM_meet (by omega) (by omega), e]
    unfold meetR
    rw [← e]
    rfl
  · rw [if_neg c, if_neg c]
    exact e
theorem t_fairOf (hT : TOK T) {h : Mem} (hn : h 3 0 = nI (T 0 0)) {post : Mem → Prop} {m : Nat} (hm : m < 1024) (hp : post (fair7 (T 0 0) (fun i => m.testBit i) h)) : wpX7_fairOf post h (nI m) := by
  have h8 := hT.n8
  have o3 : ∀ i, (it (fair72 (T 0 0) (fun i => m.testBit i)) i h) 3 = h 3 := fun i => it_pl (fun _ _ _ => it_pl (fun _ _ _ => fair71_o (by decide)))
  unfold wpX7_fairOf
  refine LW_nat (fun i => (it (fair72 (T 0 0) (fun i => m.testBit i)) i h, nI i)) (T 0 0) (fun _ => True) rfl trivial (fun K i hi _ k => ?_)
  unfold wpBX7_fairOf_2
  try dsimp only
  rw [o3, hn]
  refine pk_le (T 0 0) i (fun q => ?_) (fun q => ?_)
  · have e : i = T 0 0 := by omega
    subst e
    exact hp
  · have k := k q trivial
    rw [nI_1]
    refine LW_nat (fun j => (it (fair71 (fun i => m.testBit i) i) j (it (fair72 (T 0 0) (fun i => m.testBit i)) i h), nI (i + 1 + j))) (T 0 0 - (i + 1)) (fun _ => True) rfl trivial (fun K2 j hj _ k2 => ?_)
    unfold wpBX7_fairOf_16
    try dsimp only
    rw [show (it (fair71 (fun i => m.testBit i) i) j (it (fair72 (T 0 0) (fun i => m.testBit i)) i h)) 3 = h 3 from (it_pl (fun _ _ _ => fair71_o (by decide))).trans (o3 i), hn]
    refine pk_le (T 0 0) (i + 1 + j) (fun q2 => ?_) (fun q2 => ?_)
    · have e : j = T 0 0 - (i + 1) := by omega
      subst e
      rw [nI_1]
      exact k
    · have kk : K2 (fair71 (fun i => m.testBit i) i j (it (fair71 (fun i => m.testBit i) i) j (it (fair72 (T 0 0) (fun i => m.testBit i)) i h)), nI (i + 1 + j + 1)) := k2 (by omega) trivial
      rw [nI_1]
      refine t_isOf hm (by omega) ⟨fun e1 => t_isOf hm (by omega) ⟨fun e2 => ?_, fun e2 => ?_⟩, fun e1 => ?_⟩
      · rw [fair71_t e1 e2] at kk
        exact t_meet (by omega) (by omega) kk
      · rw [fair71_f (fun h => e2 h.2)] at kk
        exact kk
      · rw [fair71_f (fun h => e1 h.1)] at kk
        exact kk
end MEET
