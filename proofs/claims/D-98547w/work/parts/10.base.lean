/-! 10.base: the classes' list; rows by single cells; loops of the printed walks -/
abbrev vwCl : List vw_C := [(RX7, TX7, 69), (RX1, TX1, 17), (RX2, TX2, 9), (RX3, TX3, 1), (RX5, TX5, 11), (RX6, TX6, 5), (RX8, TX8, 9), (RX9, TX9, 8), (RX10, TX10, 5), (RX12, TX12, 1), (RX13, TX13, 1), (RX14, TX14, 3), (RX15, TX15, 1), (RX16, TX16, 2), (RX17, TX17, 2), (RX18, TX18, 2), (RX19, TX19, 2), (RJ2, TJ2, 3), (RJ8, TJ8, 4), (RJ9, TJ9, 4), (RJ18, TJ18, 6), (RJ6, TJ6, 6)]
abbrev Mem : Type := Nat → Nat → Int32
def ix (x : Int32) : Nat := x.toNatClampNeg
def up2 (h : Mem) (k i : Nat) (x : Int32) : Mem := fun j => if j = k then upd (h k) i x else h j
def b2i (b : Bool) : Int32 := if b then 1 else 0
def mxI (x y : Int32) : Int32 := if x < y then y else x
def mnI (x y : Int32) : Int32 := if y < x then y else x
def abI (x : Int32) : Int32 := if 0 ≤ x then x else 0 - x
/-- the array classes, by number -/
abbrev tyL (cA : Nat → ClassId) : List (ClassId × FieldType) := [(cA 0, .int), (cA 1, .byte), (cA 2, .boolean), (cA 3, .object "java/lang/Object"), (cA 4, .object "java/lang/String"), (cA 5, .object "StrangeKnives$Value")]
abbrev KK (D : va_G) (cA : Nat → ClassId) (U : State) : Prop := va_K D vwCl (tyL cA) U
/-- a loop of a walk, so many times round at most -/
def LW {σ : Type} (B : (σ → Prop) → σ → Prop) : Nat → σ → Prop
  | 0, _ => False
  | n + 1, s => B (LW B n) s
theorem LW_ix {σ τ : Type} {B : (σ → Prop) → σ → Prop} (st : τ → σ) (I : τ → Prop) (μ : τ → Nat)
    (hs : ∀ (K : σ → Prop) (t : τ), I t → (∀ t', I t' → μ t' < μ t → K (st t')) → B K (st t)) (t : τ) (ht : I t) : ∃ n, LW B n (st t) := by
  have h : ∀ (n : Nat) (t : τ), I t → μ t < n → LW B n (st t) := by
    intro n
    induction n with
    | zero => intro t _ h; omega
    | succ n ih => intro t ht h; exact hs _ t ht (fun t' h1 h2 => ih t' h1 (by omega))
  exact ⟨_, h (μ t + 1) t ht (by omega)⟩
/-- for (i = i0; i < n; i++): the state a goes through f -/
def lpn {α : Type} (f : Nat → α → α) : Nat → Nat → α → α
  | 0, _, a => a
  | k + 1, i, a => lpn f k (i + 1) (f i a)
def lp {α : Type} (f : Nat → α → α) (n i : Nat) (a : α) : α := lpn f (n - i) i a
theorem lp_lt {α : Type} {f : Nat → α → α} {n i : Nat} {a : α} (h : i < n) : lp f n i a = lp f n (i + 1) (f i a) := by
  unfold lp
  rw [show n - i = (n - (i + 1)) + 1 by omega]
  rfl
theorem lp_ge {α : Type} {f : Nat → α → α} {n i : Nat} {a : α} (h : n ≤ i) : lp f n i a = a := by
  unfold lp
  rw [show n - i = 0 by omega]
  rfl
/-- a counted loop with an invariant -/
theorem LW_for {σ α : Type} {B : (σ → Prop) → σ → Prop} (st : Nat → α → σ) (f : Nat → α → α) (n : Nat) (I : Nat → α → Prop)
    (hs : ∀ (K : σ → Prop) (i : Nat) (a : α), i < n → I i a → (I (i + 1) (f i a) → K (st (i + 1) (f i a))) → B K (st i a))
    (hI : ∀ (i : Nat) (a : α), i < n → I i a → I (i + 1) (f i a))
    (i : Nat) (a : α) (hi : i ≤ n) (h0 : I i a) (hx : ∀ (K : σ → Prop), I n (lp f n i a) → B K (st n (lp f n i a))) : ∃ m, LW B m (st i a) := by
  have h : ∀ (k i : Nat) (a : α), i ≤ n → n - i < k → I i a → (∀ (K : σ → Prop), I n (lp f n i a) → B K (st n (lp f n i a))) → LW B k (st i a) := by
    intro k
    induction k with
    | zero => intro i a _ h; omega
    | succ k ih =>
      intro i a hi hk h0 hx
      rcases Nat.lt_or_ge i n with q | q
      · refine hs _ i a q h0 (fun hI' => ih (i + 1) (f i a) (by omega) (by omega) hI' ?_)
        rw [← lp_lt q]
        exact hx
      · have e : i = n := by omega
        subst e
        rw [lp_ge (Nat.le_refl _)] at hx
        exact hx _ h0
  exact ⟨_, h (n - i + 1) i a hi (by omega) h0 hx⟩
theorem sw_out {x : Int32} {lo hi : Int} (h : ∀ k : Int, lo ≤ k → k ≤ hi → ¬ x = Int32.ofInt k) : x.toInt < lo ∨ hi < x.toInt := by
  by_cases h1 : x.toInt < lo
  · exact Or.inl h1
  · by_cases h2 : hi < x.toInt
    · exact Or.inr h2
    · exact absurd (Int32.ofInt_toInt x).symm (h x.toInt (by omega) (by omega))
theorem va_P1 {D : va_G} {cl : List vw_C} {q : Nat × va_E} {H : Heap} (h : va_at D cl q H) : va_P D cl [q] H := by
  intro k x hx
  match k, hx with
  | 0, hx => cases hx; exact h
  | k + 1, hx => simp at hx
section HR
variable {p : Program} {l : Launch} {e : Env} {R : Room} {s : State} {m : MethodId} {args : Array Value} {below : List Frame} {meth : Method} {c : Code} {H : Heap} {locs : List Loc} {cells slots : Nat} {Q : State → Prop}
variable {cc : ByteArray} {pc : Nat} {ls : Array Slot} {rest : List Value} {A : Nat → Prop} {H0 : Heap} {D : va_G} {cl : List vw_C} {tys : List (ClassId × FieldType)} {a : Nat}
theorem h_get (hexec : p.tables.exec = Jvm.exec) (hb : c.code = cc) {own ref C : String} {T : u_T} {N ci index : Nat} {Ts : List Cond} (hts : ∀ w ∈ Ts, w.before args s = true) (hin : ∀ w ∈ u_ws C T N, w ∈ Ts) (hown : s.vm.findClass own = some m.cls) (hK : va_K D cl tys s) {fs : List Value} (hP : va_at D cl (a, .inr (ci, fs)) H) (hc : cl[ci]? = some (C, T, N)) (k : Nat) (hk : k < N) (hlink : (Cond.fieldLink own index ref (T k).2.1 (T k).2.2.1).before args s = true) (hsame : ∀ x, s.fieldFound? (T k).1 (T k).2.1 (T k).2.2.1 = some x → s.fieldFound? ref (T k).2.1 (T k).2.2.1 = some x) {v : Value} (hv : fs[k]? = some v) (hdg : decode cc pc = .ok (.getfield index, 3))
    (kk : W p l e R s m args below meth c H locs cells slots Q (F0 m (pc + 3) ls (v :: rest))) : W p l e R s m args below meth c H locs cells slots Q (F0 m pc ls (.ref a :: rest)) :=
  va_get hexec hb hts hin hown hK (va_P1 hP) 0 rfl hc k hk hlink hsame hv hdg kk
theorem h_getN (hexec : p.tables.exec = Jvm.exec) (hb : c.code = cc) {own ref C host : String} {T : u_T} {N ci index : Nat} {Ts : List Cond} (hts : ∀ w ∈ Ts, w.before args s = true) (hin : ∀ w ∈ u_ws C T N, w ∈ Ts) (hown : s.vm.findClass own = some m.cls) (hK : va_K D cl tys s) {fs : List Value} (hP : va_at D cl (a, .inr (ci, fs)) H) (hc : cl[ci]? = some (C, T, N)) (k : Nat) (hk : k < N) (hlink : (Cond.fieldLinkNest own index ref (T k).2.1 (T k).2.2.1 host).before args s = true) (hsame : ∀ x, s.fieldFound? (T k).1 (T k).2.1 (T k).2.2.1 = some x → s.fieldFound? ref (T k).2.1 (T k).2.2.1 = some x) {v : Value} (hv : fs[k]? = some v) (hdg : decode cc pc = .ok (.getfield index, 3))
    (kk : W p l e R s m args below meth c H locs cells slots Q (F0 m (pc + 3) ls (v :: rest))) : W p l e R s m args below meth c H locs cells slots Q (F0 m pc ls (.ref a :: rest)) :=
  va_getN hexec hb hts hin hown hK (va_P1 hP) 0 rfl hc k hk hlink hsame hv hdg kk
theorem h_put (hexec : p.tables.exec = Jvm.exec) (hb : c.code = cc) {own ref C : String} {T : u_T} {N ci index : Nat} {Ts : List Cond} (hts : ∀ w ∈ Ts, w.before args s = true) (hin : ∀ w ∈ u_ws C T N, w ∈ Ts) (ty0 : Nat → FieldType) (hty : ∀ k, k < N → parseFieldDescriptor (T k).2.2.1 = some (ty0 k)) (hnm : ∀ a, a < N → ∀ b, b < N → a ≠ b → (T a).2.1 ≠ (T b).2.1) (hown : s.vm.findClass own = some m.cls) (hK : va_K D cl tys s) {fs : List Value} (hP : va_at D cl (a, .inr (ci, fs)) H) (hAa : A a) (hS0 : va_S A H0 H locs) (hc : cl[ci]? = some (C, T, N)) (k : Nat) (hk : k < N) (hlink : (Cond.fieldLink own index ref (T k).2.1 (T k).2.2.1).before args s = true) (hsame : ∀ x, s.fieldFound? (T k).1 (T k).2.1 (T k).2.2.1 = some x → s.fieldFound? ref (T k).2.1 (T k).2.2.1 = some x) (hfin : (T k).2.2.2 = false) {ty : FieldType} {v : Value} (hd : parseFieldDescriptor (T k).2.2.1 = some ty) (hn : narrow ty v = v) (hfit : fits ty v = true) (hl : k < fs.length)
    (hdg : decode cc pc = .ok (.putfield index, 3)) (kk : ∀ (H1 : Heap) (locs1 : List Loc), va_at D cl (a, .inr (ci, fs.set k v)) H1 → (∀ q, q ≠ a → H1[q]? = H[q]?) → H1.size = H.size → va_S A H0 H1 locs1 → W p l e R s m args below meth c H1 locs1 cells slots Q (F0 m (pc + 3) ls rest)) : W p l e R s m args below meth c H locs cells slots Q (F0 m pc ls (v :: .ref a :: rest)) := by
  have hap := va_apart (own := own) hts hin ty0 hty hnm hK hc
  obtain ⟨r, h1, cell, q1, q2, q3, q4⟩ := hP
  have hr : r = (C, T, N) := Option.some.inj (h1.symm.trans hc)
  subst hr
  obtain ⟨hS, hfc, kC, hkC, hkind⟩ := hK.1 ci _ hc
  obtain ⟨cf, kf, fi, f, hi, hsl⟩ := hS k hk
  have hlay := hts _ (hin _ (u_in_lay hk))
  unfold u_lay at hlay
  rw [if_neg (by rw [hfin]; decide)] at hlay
  have hst := (u_facts hfc hkC (u_lays hts hin hk) hi).1
  have h6 := u_store hfc hkC hkind hlay hi hd hn hfit
  refine W.putK hexec hb (f := f) ⟨hown, hlink, ⟨_, _, _, hsame _ hi⟩, hst⟩ (by rw [q2]; exact h6) q1 q3 (by rw [hsl]; exact k2_hasslot (q4 k hk)) rfl rfl hdg fun H' e1 e2 e3 => ?_
  rw [hsl] at e1 ⊢
  exact kk H' _ ⟨_, hc, t_OB.to (V := updV (vp_V fs) k v) ⟨_, e1, q2, q3, t_set q4 hap hk v⟩ (fun j _ => vp_updV_set hl v j)⟩ e3 e2 (hS0.put e2 e3 hAa)
theorem h_iald (hexec : p.tables.exec = Jvm.exec) (hb : c.code = cc) (hK : va_K D cl tys s) {cA : ClassId} {n : Nat} {f : Nat → Int32} (hP : va_at D cl (a, .inl (cA, n, .inl f)) H) (t0 : Nat) (ht : tys[t0]? = some (cA, .int)) {i : Int32} {j : Nat} (hj : ix i = j) (hin : vp_in i n) (hdg : decode cc pc = .ok (.iaload, 1))
    (kk : W p l e R s m args below meth c H locs cells slots Q (F0 m (pc + 1) ls (.int (f j) :: rest))) : W p l e R s m args below meth c H locs cells slots Q (F0 m pc ls (.int i :: .ref a :: rest)) := by
  subst hj
  exact va_iald hexec hb hK (va_P1 hP) 0 t0 rfl ht hin hdg kk
theorem h_alen (hexec : p.tables.exec = Jvm.exec) (hb : c.code = cc) (hK : va_K D cl tys s) {cA : ClassId} {x : vp_A} (hP : va_at D cl (a, .inl (cA, x)) H) (t0 : Nat) {ty : FieldType} (ht : tys[t0]? = some (cA, ty)) {v : Int32} (hv : Int32.ofNat x.1 = v) (hdg : decode cc pc = .ok (.arraylength, 1))
    (kk : W p l e R s m args below meth c H locs cells slots Q (F0 m (pc + 1) ls (.int v :: rest))) : W p l e R s m args below meth c H locs cells slots Q (F0 m pc ls (.ref a :: rest)) :=
  va_alen hexec hb hK (va_P1 hP) 0 t0 rfl ht hv hdg kk
theorem h_iast (hexec : p.tables.exec = Jvm.exec) (hb : c.code = cc) (hK : va_K D cl tys s) {cA : ClassId} {n : Nat} {f : Nat → Int32} (hP : va_at D cl (a, .inl (cA, n, .inl f)) H) (hAa : A a) (hS : va_S A H0 H locs) (t0 : Nat) (ht : tys[t0]? = some (cA, .int)) {i x : Int32} {j : Nat} (hj : ix i = j) (hin : vp_in i n) (hdg : decode cc pc = .ok (.iastore, 1))
    (kk : ∀ (H1 : Heap) (locs1 : List Loc), va_at D cl (a, .inl (cA, n, .inl (upd f j x))) H1 → (∀ q, q ≠ a → H1[q]? = H[q]?) → H1.size = H.size → va_S A H0 H1 locs1 → W p l e R s m args below meth c H1 locs1 cells slots Q (F0 m (pc + 1) ls rest)) : W p l e R s m args below meth c H locs cells slots Q (F0 m pc ls (.int x :: .int i :: .ref a :: rest)) := by
  subst hj
  refine W.iast hexec hb (show H[a]? = some (vp_cell cA (n, .inl f)) from hP) ((hK.2 t0 _ ht).1 n (fun j => .int (f j))) (fun q => by cases q) (by show ¬ (i < 0 ∨ (arrV _ _ _).slots.size ≤ _); rw [arrV_size]; exact hin) rfl rfl hdg fun H1 e z oq => ?_
  refine kk H1 _ ?_ oq z (hS.put z oq hAa)
  show H1[a]? = some (vp_cell _ _)
  rw [e]
  rw [vp_cell_i, vp_cell_i, arrV_store]
  congr 2
  funext q
  by_cases hq : q = i.toNatClampNeg
  · subst hq
    simp [updV, upd, ix]
  · simp [updV, upd, ix, hq]
theorem lv_swIn (hexec : p.tables.exec = Jvm.exec) (hb : c.code = cc) {dflt lo hi : Int} {offs : Array Int} {len : Nat} {x v : Int32} (hx : x = v) {off : Int} {tgt : Nat} (hdg : decode cc pc = .ok (.tableswitch dflt lo hi offs, len)) (h1 : ¬ v.toInt < lo) (h2 : ¬ hi < v.toInt) (ho : offs[(v.toInt - lo).toNat]? = some off) (ht : (pc : Int) + off = (tgt : Int))
    (k : W p l e R s m args below meth c H locs cells slots Q (F0 m tgt ls rest)) : W p l e R s m args below meth c H locs cells slots Q (F0 m pc ls (.int x :: rest)) := by
  subst hx
  exact lv_tableIn hexec hb hdg h1 h2 ho ht k
end HR
