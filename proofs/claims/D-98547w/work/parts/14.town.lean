/-! 14.town: the cells of a town (frozen while it is the town), and the rows that read them. T k i are its numbers: T 0 0 people, T 0 1 loaves, T 0 2 mets, T 0 3 forget, T 0 4 noon, T 0 5 signs of the rule; T 1 p kind, T 2 p house, T 3 p hunger; T 4 b house, T 5 b size, T 6 b baked, T 7 b fresh, T 8 b eaters, T 9 (6 b + i) the i-th eater; T 10 k the k-th sign. tw: where they lie -/
abbrev TT : Type := Nat → Nat → Nat
def twI (T : TT) (p : Nat) : Int32 := if p < T 0 0 then (if T 1 p = 3 then nI (p - 1) else if p + 1 < T 0 0 ∧ T 1 (p + 1) = 3 then nI (p + 1) else -1) else -1
/-- how long ago two met, by the town's text; T 11 k is one more, 0 for never -/
def agI (T : TT) (k : Nat) : Int32 := nI (T 11 k) - 1
def sgn (T : TT) (k : Nat) : Int32 := if T 10 k < 10000 then nI (T 10 k) else -(nI (T 10 k - 10000))
def sgns (T : TT) : List Int32 := (List.range (T 0 5)).map (sgn T)
def kknows (k : Nat) : Bool := k != 2
def ksl (k : Nat) (i n : Int32) : Int32 := if k = 1 then n - 1 - i else i
abbrev FA (D : va_G) (N : Nat → Prop) (H : Heap) (q : Nat) (e : va_E) : Prop := va_at D vwCl (q, e) H ∧ N q
/-- the signs of what joins two: the letter and the sign -/
def xops : List (Int32 × Int32) := [(43, -20), (45, -21), (42, -22), (47, -23), (60, -24), (61, -25), (38, -26), (124, -27)]
/-- at a lies a rule of depth below n whose signs are cd, as behind one another -/
def XR (D : va_G) (E : Nat → Nat → Nat) (N : Nat → Prop) (H : Heap) : Nat → Nat → List Int32 → Prop
  | 0, _, _ => False
  | n + 1, a, cd =>
    (∃ v : Nat, v < 10000 ∧ cd = [nI v] ∧ FA D N H a (.inr (9, [.int (nI v)]))) ∨
    (∃ i : Nat, i < 6 ∧ cd = [-1 - nI i] ∧ FA D N H a (.inr (10, [.ref (E 2 i)]))) ∨
    (∃ (q : Nat) (c1 : List Int32), cd = c1 ++ [-28] ∧ FA D N H a (.inr (12, [.ref q])) ∧ XR D E N H n q c1) ∨
    (∃ (op : Int32 × Int32) (q1 q2 : Nat) (c1 c2 : List Int32), op ∈ xops ∧ cd = c1 ++ c2 ++ [op.2] ∧ FA D N H a (.inr (11, [.int op.1, .ref q1, .ref q2])) ∧ XR D E N H n q1 c1 ∧ XR D E N H n q2 c2)
theorem FA.kept {D : va_G} {N : Nat → Prop} {H H1 : Heap} {q : Nat} {e : va_E} (h : FA D N H q e) (hk : ∀ q, N q → q < H.size → H1[q]? = H[q]?) : FA D N H1 q e := ⟨h.1.kept (hk q h.2 h.1.lt), h.2⟩
theorem XR.kept {D : va_G} {E : Nat → Nat → Nat} {N : Nat → Prop} {H H1 : Heap} (hk : ∀ q, N q → q < H.size → H1[q]? = H[q]?) : ∀ (n a : Nat) (cd : List Int32), XR D E N H n a cd → XR D E N H1 n a cd := by
  intro n
  induction n with
  | zero => intro a cd h; exact h
  | succ n ih =>
    intro a cd h
    rcases h with ⟨v, h1, h2, h3⟩ | ⟨i, h1, h2, h3⟩ | ⟨q, c1, h1, h2, h3⟩ | ⟨op, q1, q2, c1, c2, h0, h1, h2, h3, h4⟩
    · exact Or.inl ⟨v, h1, h2, h3.kept hk⟩
    · exact Or.inr (Or.inl ⟨i, h1, h2, h3.kept hk⟩)
    · exact Or.inr (Or.inr (Or.inl ⟨q, c1, h1, h2.kept hk, ih _ _ h3⟩))
    · exact Or.inr (Or.inr (Or.inr ⟨op, q1, q2, c1, c2, h0, h1, h2.kept hk, ih _ _ h3, ih _ _ h4⟩))
def twfs (T : TT) (tw : Nat → Nat) (mets : Int32) (cr : Value) : List Value := [.int (nI (T 0 3)), .int (nI (T 0 4)), .int mets, .ref (tw 0), .ref (tw 2), .ref (tw 4), .ref (tw 5), cr, .ref (tw 6)]
def lfs (T : TT) (tw : Nat → Nat) (b : Nat) : List Value := [.int (nI (T 4 b)), .int (nI (T 5 b)), .int (nI (T 6 b)), .int (nI (T 7 b)), .ref (tw (300 + b))]
def pfs (T : TT) (p : Nat) : List Value := [.int (nI (T 2 p)), .int (nI (T 3 p))]
/-- the rule's reference: null where there is no rule -/
def cutsR (D : va_G) (E : Nat → Nat → Nat) (T : TT) (N : Nat → Prop) (H : Heap) (cr : Value) : Prop := (T 0 5 = 0 ∧ cr = .null) ∨ (0 < T 0 5 ∧ ∃ a, cr = .ref a ∧ XR D E N H 700 a (sgns T))
def TW (D : va_G) (cA : Nat → ClassId) (E : Nat → Nat → Nat) (T : TT) (tw : Nat → Nat) (vo : Nat) (N : Nat → Prop) (H : Heap) : Prop :=
  (∃ (mets : Int32) (cr : Value), FA D N H (tw 9) (.inr (2, twfs T tw mets cr)) ∧ cutsR D E T N H cr) ∧
  (∃ (cap : Nat) (f : Nat → Option Nat), (ALW D cA (tw 0) (tw 1) (T 0 0) cap f H ∧ N (tw 0) ∧ N (tw 1)) ∧ ∀ p, p < T 0 0 → f p = some (tw (100 + p))) ∧
  (∃ (cap : Nat) (f : Nat → Option Nat), (ALW D cA (tw 2) (tw 3) (T 0 1) cap f H ∧ N (tw 2) ∧ N (tw 3)) ∧ ∀ b, b < T 0 1 → f b = some (tw (200 + b))) ∧
  FA D N H (tw 4) (.inl (cA 0, 8, .inl (twI T))) ∧ FA D N H (tw 5) (.inl (cA 0, 64, .inl (agI T))) ∧ FA D N H (tw 6) (.inr (3, [.ref vo])) ∧
  (∀ p, p < T 0 0 → T 1 p ≤ 3 ∧ FA D N H (tw (100 + p)) (.inr (pcl (T 1 p), pfs T p))) ∧
  (∀ b, b < T 0 1 → FA D N H (tw (200 + b)) (.inr (8, lfs T tw b)) ∧ FA D N H (tw (300 + b)) (.inl (cA 0, T 8 b, .inl (fun i => nI (T 9 (6 * b + i))))) ∧ T 8 b < 2 ^ 31)
theorem TW.kept {D : va_G} {cA : Nat → ClassId} {E : Nat → Nat → Nat} {T : TT} {tw : Nat → Nat} {vo : Nat} {N : Nat → Prop} {H H1 : Heap} (h : TW D cA E T tw vo N H) (hk : ∀ q, N q → q < H.size → H1[q]? = H[q]?) : TW D cA E T tw vo N H1 := by
  obtain ⟨⟨mets, cr, a1, a2⟩, ⟨cap, f, ⟨b1, b2, b3⟩, b4⟩, ⟨cap2, f2, ⟨c1, c2, c3⟩, c4⟩, d1, e1, g1, i1, j1⟩ := h
  refine ⟨⟨mets, cr, a1.kept hk, ?_⟩, ⟨cap, f, ⟨b1.kept (fun h => hk _ b2 h) (fun h => hk _ b3 h), b2, b3⟩, b4⟩, ⟨cap2, f2, ⟨c1.kept (fun h => hk _ c2 h) (fun h => hk _ c3 h), c2, c3⟩, c4⟩, d1.kept hk, e1.kept hk, g1.kept hk, fun p hp => ⟨(i1 p hp).1, (i1 p hp).2.kept hk⟩, fun b hb => ⟨(j1 b hb).1.kept hk, (j1 b hb).2.1.kept hk, (j1 b hb).2.2⟩⟩
  rcases a2 with a2 | ⟨h0, a, ha, hx⟩
  · exact Or.inl a2
  · exact Or.inr ⟨h0, a, ha, XR.kept hk _ _ _ hx⟩
theorem TW.at {D : va_G} {cA : Nat → ClassId} {E : Nat → Nat → Nat} {T : TT} {tw : Nat → Nat} {vo : Nat} {N A : Nat → Prop} {H0 H : Heap} {locs : List Loc} (h : TW D cA E T tw vo N H0) (hS : va_S A H0 H locs) (hN : ∀ q, N q → q < H0.size → ¬ A q) : TW D cA E T tw vo N H := h.kept (fun q h1 h2 => hS.2.1 q h2 (hN q h1 h2))
theorem TW.same {D : va_G} {cA : Nat → ClassId} {E : Nat → Nat → Nat} {T : TT} {tw : Nat → Nat} {vo : Nat} {N : Nat → Prop} {H H1 : Heap} (h : TW D cA E T tw vo N H) (hk : ∀ q, q < H.size → H1[q]? = H[q]?) : TW D cA E T tw vo N H1 := h.kept (fun q _ h2 => hk q h2)
section TR
variable {p : Program} {l : Launch} {e : Env} {R : Room} {s : State} {m : MethodId} {args : Array Value} {below : List Frame} {meth : Method} {c : Code} {H : Heap} {locs : List Loc} {cells slots : Nat} {Q : State → Prop}
variable {cc : ByteArray} {pc nL : Nat} {ls : Array Slot} {rest : List Value} {A0 : Nat → Prop} {D : va_G} {cA : Nat → ClassId} {E : Nat → Nat → Nat} {T : TT} {tw : Nat → Nat} {vo z0 : Nat} {N : Nat → Prop} {own : String} {index : Nat}
theorem T_fld (hx : p.tables.exec = Jvm.exec) (hb : c.code = cc) (hts : ∀ w ∈ lw_all, w.before args s = true) (hown : s.vm.findClass own = some m.cls) (hK : KK D cA s) (hT : TW D cA E T tw vo N H) (k : Nat) {v : Value} (hk : k < 9) (hlink : (Cond.fieldLink own index RX2 (TX2 k).2.1 (TX2 k).2.2.1).before args s = true) (hv : ∀ mets cr, (twfs T tw mets cr)[k]? = some v) (hdg : decode cc pc = .ok (.getfield index, 3))
    (kk : W p l e R s m args below meth c H locs cells slots Q (F0 m (pc + 3) ls (v :: rest))) : W p l e R s m args below meth c H locs cells slots Q (F0 m pc ls (.ref (tw 9) :: rest)) := by
  obtain ⟨⟨mets, cr, a1, a2⟩, -⟩ := hT
  exact h_get (C := RX2) (T := TX2) (N := 9) (ci := 2) hx hb hts in_X2 hown hK a1.1 rfl k hk hlink (fun _ h9 => by rw [show (TX2 k).1 = RX2 by unfold TX2; split <;> rfl] at h9; exact h9) (hv mets cr) hdg kk
theorem L_fld (hx : p.tables.exec = Jvm.exec) (hb : c.code = cc) (hts : ∀ w ∈ lw_all, w.before args s = true) (hown : s.vm.findClass own = some m.cls) (hK : KK D cA s) (hT : TW D cA E T tw vo N H) (b : Nat) (hb9 : b < T 0 1) (k : Nat) {v : Value} (hk : k < 5) (hlink : (Cond.fieldLink own index RX10 (TX10 k).2.1 (TX10 k).2.2.1).before args s = true) (hv : (lfs T tw b)[k]? = some v) (hdg : decode cc pc = .ok (.getfield index, 3))
    (kk : W p l e R s m args below meth c H locs cells slots Q (F0 m (pc + 3) ls (v :: rest))) : W p l e R s m args below meth c H locs cells slots Q (F0 m pc ls (.ref (tw (200 + b)) :: rest)) :=
  h_get (C := RX10) (T := TX10) (N := 5) (ci := 8) hx hb hts in_X10 hown hK (hT.2.2.2.2.2.2.2 b hb9).1.1 rfl k hk hlink (fun _ h9 => by rw [show (TX10 k).1 = RX10 by unfold TX10; split <;> rfl] at h9; exact h9) hv hdg kk
theorem T_cuts (hx : p.tables.exec = Jvm.exec) (hb : c.code = cc) (hts : ∀ w ∈ lw_all, w.before args s = true) (hown : s.vm.findClass own = some m.cls) (hK : KK D cA s) (hT : TW D cA E T tw vo N H) (hlink : (Cond.fieldLink own index RX2 (TX2 7).2.1 (TX2 7).2.2.1).before args s = true) (hdg : decode cc pc = .ok (.getfield index, 3))
    (k0 : T 0 5 = 0 → W p l e R s m args below meth c H locs cells slots Q (F0 m (pc + 3) ls (.null :: rest))) (k1 : ∀ a, 0 < T 0 5 → XR D E N H 700 a (sgns T) → W p l e R s m args below meth c H locs cells slots Q (F0 m (pc + 3) ls (.ref a :: rest))) : W p l e R s m args below meth c H locs cells slots Q (F0 m pc ls (.ref (tw 9) :: rest)) := by
  obtain ⟨⟨mets, cr, a1, a2⟩, -⟩ := hT
  refine h_get (C := RX2) (T := TX2) (N := 9) (ci := 2) (v := cr) hx hb hts in_X2 hown hK a1.1 rfl 7 (by decide) hlink (fun _ h9 => h9) rfl hdg ?_
  rcases a2 with ⟨h0, rfl⟩ | ⟨h0, a, rfl, hx9⟩
  · exact k0 h0
  · exact k1 a h0 hx9
theorem T_fldN (hx : p.tables.exec = Jvm.exec) (hb : c.code = cc) (hts : ∀ w ∈ lw_all, w.before args s = true) (hown : s.vm.findClass own = some m.cls) (hK : KK D cA s) (hT : TW D cA E T tw vo N H) (k : Nat) {v : Value} (hk : k < 9) (hlink : (Cond.fieldLinkNest own index RX2 (TX2 k).2.1 (TX2 k).2.2.1 "StrangeKnives").before args s = true) (hv : ∀ mets cr, (twfs T tw mets cr)[k]? = some v) (hdg : decode cc pc = .ok (.getfield index, 3))
    (kk : W p l e R s m args below meth c H locs cells slots Q (F0 m (pc + 3) ls (v :: rest))) : W p l e R s m args below meth c H locs cells slots Q (F0 m pc ls (.ref (tw 9) :: rest)) := by
  obtain ⟨⟨mets, cr, a1, a2⟩, -⟩ := hT
  exact h_getN (host := "StrangeKnives") (C := RX2) (T := TX2) (N := 9) (ci := 2) hx hb hts in_X2 hown hK a1.1 rfl k hk hlink (fun _ h9 => by rw [show (TX2 k).1 = RX2 by unfold TX2; split <;> rfl] at h9; exact h9) (hv mets cr) hdg kk
theorem L_fldN (hx : p.tables.exec = Jvm.exec) (hb : c.code = cc) (hts : ∀ w ∈ lw_all, w.before args s = true) (hown : s.vm.findClass own = some m.cls) (hK : KK D cA s) (hT : TW D cA E T tw vo N H) (b : Nat) (hb9 : b < T 0 1) (k : Nat) {v : Value} (hk : k < 5) (hlink : (Cond.fieldLinkNest own index RX10 (TX10 k).2.1 (TX10 k).2.2.1 "StrangeKnives").before args s = true) (hv : (lfs T tw b)[k]? = some v) (hdg : decode cc pc = .ok (.getfield index, 3))
    (kk : W p l e R s m args below meth c H locs cells slots Q (F0 m (pc + 3) ls (v :: rest))) : W p l e R s m args below meth c H locs cells slots Q (F0 m pc ls (.ref (tw (200 + b)) :: rest)) :=
  h_getN (host := "StrangeKnives") (C := RX10) (T := TX10) (N := 5) (ci := 8) hx hb hts in_X10 hown hK (hT.2.2.2.2.2.2.2 b hb9).1.1 rfl k hk hlink (fun _ h9 => by rw [show (TX10 k).1 = RX10 by unfold TX10; split <;> rfl] at h9; exact h9) hv hdg kk
theorem T_cutsN (hx : p.tables.exec = Jvm.exec) (hb : c.code = cc) (hts : ∀ w ∈ lw_all, w.before args s = true) (hown : s.vm.findClass own = some m.cls) (hK : KK D cA s) (hT : TW D cA E T tw vo N H) (hlink : (Cond.fieldLinkNest own index RX2 (TX2 7).2.1 (TX2 7).2.2.1 "StrangeKnives").before args s = true) (hdg : decode cc pc = .ok (.getfield index, 3))
    (k0 : T 0 5 = 0 → W p l e R s m args below meth c H locs cells slots Q (F0 m (pc + 3) ls (.null :: rest))) (k1 : ∀ a, 0 < T 0 5 → XR D E N H 700 a (sgns T) → W p l e R s m args below meth c H locs cells slots Q (F0 m (pc + 3) ls (.ref a :: rest))) : W p l e R s m args below meth c H locs cells slots Q (F0 m pc ls (.ref (tw 9) :: rest)) := by
  obtain ⟨⟨mets, cr, a1, a2⟩, -⟩ := hT
  refine h_getN (host := "StrangeKnives") (C := RX2) (T := TX2) (N := 9) (ci := 2) (v := cr) hx hb hts in_X2 hown hK a1.1 rfl 7 (by decide) hlink (fun _ h9 => h9) rfl hdg ?_
  rcases a2 with ⟨h0, rfl⟩ | ⟨h0, a, rfl, hx9⟩
  · exact k0 h0
  · exact k1 a h0 hx9
theorem L_alen (hx : p.tables.exec = Jvm.exec) (hb : c.code = cc) (hK : KK D cA s) (hT : TW D cA E T tw vo N H) (b : Nat) (hb9 : b < T 0 1) (hdg : decode cc pc = .ok (.arraylength, 1))
    (kk : W p l e R s m args below meth c H locs cells slots Q (F0 m (pc + 1) ls (.int (nI (T 8 b)) :: rest))) : W p l e R s m args below meth c H locs cells slots Q (F0 m pc ls (.ref (tw (300 + b)) :: rest)) :=
  h_alen hx hb hK (hT.2.2.2.2.2.2.2 b hb9).2.1.1 0 rfl rfl hdg kk
theorem L_iald (hx : p.tables.exec = Jvm.exec) (hb : c.code = cc) (hK : KK D cA s) (hT : TW D cA E T tw vo N H) (b : Nat) (hb9 : b < T 0 1) {i : Int32} (hin : vp_in i (T 8 b)) (hdg : decode cc pc = .ok (.iaload, 1))
    (kk : W p l e R s m args below meth c H locs cells slots Q (F0 m (pc + 1) ls (.int (nI (T 9 (6 * b + ix i))) :: rest))) : W p l e R s m args below meth c H locs cells slots Q (F0 m pc ls (.int i :: .ref (tw (300 + b)) :: rest)) :=
  h_iald hx hb hK (hT.2.2.2.2.2.2.2 b hb9).2.1.1 0 rfl rfl hin hdg kk
theorem T_ago (hx : p.tables.exec = Jvm.exec) (hb : c.code = cc) (hK : KK D cA s) (hT : TW D cA E T tw vo N H) {i : Int32} (hin : vp_in i 64) (hdg : decode cc pc = .ok (.iaload, 1))
    (kk : W p l e R s m args below meth c H locs cells slots Q (F0 m (pc + 1) ls (.int (agI T (ix i)) :: rest))) : W p l e R s m args below meth c H locs cells slots Q (F0 m pc ls (.int i :: .ref (tw 5) :: rest)) :=
  h_iald hx hb hK hT.2.2.2.2.1.1 0 rfl rfl hin hdg kk
theorem T_twin (hx : p.tables.exec = Jvm.exec) (hb : c.code = cc) (hK : KK D cA s) (hT : TW D cA E T tw vo N H) {i : Int32} (hin : vp_in i 8) (hdg : decode cc pc = .ok (.iaload, 1))
    (kk : W p l e R s m args below meth c H locs cells slots Q (F0 m (pc + 1) ls (.int (twI T (ix i)) :: rest))) : W p l e R s m args below meth c H locs cells slots Q (F0 m pc ls (.int i :: .ref (tw 4) :: rest)) :=
  h_iald hx hb hK hT.2.2.2.1.1 0 rfl rfl hin hdg kk
theorem T_pget (S : CallFix p m c cc nL s args lw_all own) (hS : va_S A0 s.heap H locs) (hK : KK D cA s) (hT : TW D cA E T tw vo N H) (hlink : Cond.methodLink own index yJ2_get ∈ lw_all) (hfr : 4 + 1 ≤ R.frames ∧ 8 + (2 + 11) + 180 ≤ R.locals) (i : Nat) (hi : i < T 0 0) (hsize : ls.size = nL) (hW : (rest.map fun v => v.category).sum ≤ 8) (hdg : decode cc pc = .ok (.invokevirtual index, 3)) (hc : cells ≤ R.cells ∧ slots ≤ R.slots)
    (kk : ∀ (H1 : Heap) (locs1 : List Loc), (∀ q : Nat, q < H.size → H1[q]? = H[q]?) → va_S A0 s.heap H1 locs1 → W p l e R s m args below meth c H1 locs1 cells slots Q (F0 m (pc + 3) ls (.ref (tw (100 + i)) :: rest))) : W p l e R s m args below meth c H locs cells slots Q (F0 m pc ls (.int (nI i) :: .ref (tw 0) :: rest)) := by
  obtain ⟨cap, f, ⟨hA, -⟩, hf⟩ := hT.2.1
  exact R_callR (As := [.int (nI i)]) (rest := rest) (C := RJ2) S hS (metJ2_get l (D := D) (cA := cA) hi (hf i hi)) ALU.blind (fun U hU hW => ALU.go hA hK hU hW) (hA.recv hK) (cwV 1 S.2.2.2.2 (lw_V hlink q827 q828 q108 q829) rfl rfl rfl (by decide +kernel) hfr) rfl hsize rfl hW hdg hc kk
theorem T_psize (S : CallFix p m c cc nL s args lw_all own) (hS : va_S A0 s.heap H locs) (hK : KK D cA s) (hT : TW D cA E T tw vo N H) (hlink : Cond.methodLink own index yJ2_size ∈ lw_all) (hfr : 1 + 1 ≤ R.frames ∧ 8 + (1 + 11) + 30 ≤ R.locals) (hsize : ls.size = nL) (hW : (rest.map fun v => v.category).sum ≤ 8) (hdg : decode cc pc = .ok (.invokevirtual index, 3)) (hc : cells ≤ R.cells ∧ slots ≤ R.slots)
    (kk : ∀ (H1 : Heap) (locs1 : List Loc), (∀ q : Nat, q < H.size → H1[q]? = H[q]?) → va_S A0 s.heap H1 locs1 → W p l e R s m args below meth c H1 locs1 cells slots Q (F0 m (pc + 3) ls (.int (nI (T 0 0)) :: rest))) : W p l e R s m args below meth c H locs cells slots Q (F0 m pc ls (.ref (tw 0) :: rest)) := by
  obtain ⟨cap, f, ⟨hA, -⟩, hf⟩ := hT.2.1
  exact R_callI (As := []) (rest := rest) (C := RJ2) S hS (metJ2_size l (D := D) (cA := cA)) ALU.blind (fun U hU hW => ALU.go hA hK hU hW) (hA.recv hK) (cwV 0 S.2.2.2.2 (lw_V hlink q712 q713 q108 q714) rfl rfl rfl (by decide +kernel) hfr) rfl hsize rfl hW hdg hc (fun r H1 locs1 hw hk hS => by subst hw; exact kk H1 locs1 hk hS)
theorem T_lget (S : CallFix p m c cc nL s args lw_all own) (hS : va_S A0 s.heap H locs) (hK : KK D cA s) (hT : TW D cA E T tw vo N H) (hlink : Cond.methodLink own index yJ2_get ∈ lw_all) (hfr : 4 + 1 ≤ R.frames ∧ 8 + (2 + 11) + 180 ≤ R.locals) (i : Nat) (hi : i < T 0 1) (hsize : ls.size = nL) (hW : (rest.map fun v => v.category).sum ≤ 8) (hdg : decode cc pc = .ok (.invokevirtual index, 3)) (hc : cells ≤ R.cells ∧ slots ≤ R.slots)
    (kk : ∀ (H1 : Heap) (locs1 : List Loc), (∀ q : Nat, q < H.size → H1[q]? = H[q]?) → va_S A0 s.heap H1 locs1 → W p l e R s m args below meth c H1 locs1 cells slots Q (F0 m (pc + 3) ls (.ref (tw (200 + i)) :: rest))) : W p l e R s m args below meth c H locs cells slots Q (F0 m pc ls (.int (nI i) :: .ref (tw 2) :: rest)) := by
  obtain ⟨cap, f, ⟨hA, -⟩, hf⟩ := hT.2.2.1
  exact R_callR (As := [.int (nI i)]) (rest := rest) (C := RJ2) S hS (metJ2_get l (D := D) (cA := cA) hi (hf i hi)) ALU.blind (fun U hU hW => ALU.go hA hK hU hW) (hA.recv hK) (cwV 1 S.2.2.2.2 (lw_V hlink q827 q828 q108 q829) rfl rfl rfl (by decide +kernel) hfr) rfl hsize rfl hW hdg hc kk
theorem T_lsize (S : CallFix p m c cc nL s args lw_all own) (hS : va_S A0 s.heap H locs) (hK : KK D cA s) (hT : TW D cA E T tw vo N H) (hlink : Cond.methodLink own index yJ2_size ∈ lw_all) (hfr : 1 + 1 ≤ R.frames ∧ 8 + (1 + 11) + 30 ≤ R.locals) (hsize : ls.size = nL) (hW : (rest.map fun v => v.category).sum ≤ 8) (hdg : decode cc pc = .ok (.invokevirtual index, 3)) (hc : cells ≤ R.cells ∧ slots ≤ R.slots)
    (kk : ∀ (H1 : Heap) (locs1 : List Loc), (∀ q : Nat, q < H.size → H1[q]? = H[q]?) → va_S A0 s.heap H1 locs1 → W p l e R s m args below meth c H1 locs1 cells slots Q (F0 m (pc + 3) ls (.int (nI (T 0 1)) :: rest))) : W p l e R s m args below meth c H locs cells slots Q (F0 m pc ls (.ref (tw 2) :: rest)) := by
  obtain ⟨cap, f, ⟨hA, -⟩, hf⟩ := hT.2.2.1
  exact R_callI (As := []) (rest := rest) (C := RJ2) S hS (metJ2_size l (D := D) (cA := cA)) ALU.blind (fun U hU hW => ALU.go hA hK hU hW) (hA.recv hK) (cwV 0 S.2.2.2.2 (lw_V hlink q712 q713 q108 q714) rfl rfl rfl (by decide +kernel) hfr) rfl hsize rfl hW hdg hc (fun r H1 locs1 hw hk hS => by subst hw; exact kk H1 locs1 hk hS)
theorem TW.pers (hT : TW D cA E T tw vo N H) (i : Nat) (hi : i < T 0 0) : (T 1 i = 0 ∧ va_at D vwCl (tw (100 + i), .inr (13, pfs T i)) H) ∨ (T 1 i = 1 ∧ va_at D vwCl (tw (100 + i), .inr (14, pfs T i)) H) ∨ (T 1 i = 2 ∧ va_at D vwCl (tw (100 + i), .inr (15, pfs T i)) H) ∨ (T 1 i = 3 ∧ va_at D vwCl (tw (100 + i), .inr (16, pfs T i)) H) := by
  obtain ⟨h1, h2, -⟩ := hT.2.2.2.2.2.2.1 i hi
  rcases (show T 1 i = 0 ∨ T 1 i = 1 ∨ T 1 i = 2 ∨ T 1 i = 3 by omega) with e | e | e | e <;> rw [e] at h2
  · exact Or.inl ⟨e, h2⟩
  · exact Or.inr (Or.inl ⟨e, h2⟩)
  · exact Or.inr (Or.inr (Or.inl ⟨e, h2⟩))
  · exact Or.inr (Or.inr (Or.inr ⟨e, h2⟩))
theorem P_cast (hx : p.tables.exec = Jvm.exec) (hb : c.code = cc) (hown : s.vm.findClass own = some m.cls) (hK : KK D cA s) (hT : TW D cA E T tw vo N H) (hZ : NW s) (i : Nat) (hi : i < T 0 0) (hlink : (Cond.classLink own index "StrangeKnives$Plain").before args s = true) (hdg : decode cc pc = .ok (.checkcast index, 3))
    (kk : W p l e R s m args below meth c H locs cells slots Q (F0 m (pc + 3) ls (.ref (tw (100 + i)) :: rest))) : W p l e R s m args below meth c H locs cells slots Q (F0 m pc ls (.ref (tw (100 + i)) :: rest)) := by
  rcases hT.pers i hi with ⟨h1, h2⟩ | ⟨h1, h2⟩ | ⟨h1, h2⟩ | ⟨h1, h2⟩
  · exact va_castE hx hb hown hlink (at_recv hK h2 rfl) hdg kk
  · exact va_castY (C := RX17) hx hb hown hlink (va_Nw.of rfl (hZ.nC (A := #[]) 3 rfl)) (at_recv hK h2 rfl) hdg kk
  · exact va_castY (C := RX18) hx hb hown hlink (va_Nw.of rfl (hZ.nC (A := #[]) 5 rfl)) (at_recv hK h2 rfl) hdg kk
  · exact va_castY (C := RX19) hx hb hown hlink (va_Nw.of rfl (hZ.nC (A := #[]) 18 rfl)) (at_recv hK h2 rfl) hdg kk

theorem P_fld (hx : p.tables.exec = Jvm.exec) (hb : c.code = cc) (hts : ∀ w ∈ lw_all, w.before args s = true) (hown : s.vm.findClass own = some m.cls) (hK : KK D cA s) (hT : TW D cA E T tw vo N H) (i : Nat) (hi : i < T 0 0) (k : Nat) {v : Value} (hk : k < 2) (hlink : (Cond.fieldLink own index RX16 (TX16 k).2.1 (TX16 k).2.2.1).before args s = true) (hv : (pfs T i)[k]? = some v) (hdg : decode cc pc = .ok (.getfield index, 3))
    (kk : W p l e R s m args below meth c H locs cells slots Q (F0 m (pc + 3) ls (v :: rest))) : W p l e R s m args below meth c H locs cells slots Q (F0 m pc ls (.ref (tw (100 + i)) :: rest)) := by
  rcases hT.pers i hi with ⟨h1, h2⟩ | ⟨h1, h2⟩ | ⟨h1, h2⟩ | ⟨h1, h2⟩
  · exact h_get (C := RX16) (T := TX16) (N := 2) (ci := 13) hx hb hts in_X16 hown hK h2 rfl k hk hlink (fun _ h9 => by rw [show (TX16 k).1 = RX16 by unfold TX16; split <;> rfl] at h9; exact h9) hv hdg kk
  · exact h_get (C := RX17) (T := TX17) (N := 2) (ci := 14) hx hb hts in_X17 hown hK h2 rfl k hk (by rw [show (TX17 k) = TX16 k by unfold TX17 TX16; rfl]; exact hlink) (fun _ h9 => by rw [show (TX17 k).1 = RX16 by unfold TX17; split <;> rfl] at h9; exact h9) hv hdg kk
  · exact h_get (C := RX18) (T := TX18) (N := 2) (ci := 15) hx hb hts in_X18 hown hK h2 rfl k hk (by rw [show (TX18 k) = TX16 k by unfold TX18 TX16; rfl]; exact hlink) (fun _ h9 => by rw [show (TX18 k).1 = RX16 by unfold TX18; split <;> rfl] at h9; exact h9) hv hdg kk
  · exact h_get (C := RX19) (T := TX19) (N := 2) (ci := 16) hx hb hts in_X19 hown hK h2 rfl k hk (by rw [show (TX19 k) = TX16 k by unfold TX19 TX16; rfl]; exact hlink) (fun _ h9 => by rw [show (TX19 k).1 = RX16 by unfold TX19; split <;> rfl] at h9; exact h9) hv hdg kk

theorem P_fldN (hx : p.tables.exec = Jvm.exec) (hb : c.code = cc) (hts : ∀ w ∈ lw_all, w.before args s = true) (hown : s.vm.findClass own = some m.cls) (hK : KK D cA s) (hT : TW D cA E T tw vo N H) (i : Nat) (hi : i < T 0 0) (k : Nat) {v : Value} (hk : k < 2) (hlink : (Cond.fieldLinkNest own index RX16 (TX16 k).2.1 (TX16 k).2.2.1 "StrangeKnives").before args s = true) (hv : (pfs T i)[k]? = some v) (hdg : decode cc pc = .ok (.getfield index, 3))
    (kk : W p l e R s m args below meth c H locs cells slots Q (F0 m (pc + 3) ls (v :: rest))) : W p l e R s m args below meth c H locs cells slots Q (F0 m pc ls (.ref (tw (100 + i)) :: rest)) := by
  rcases hT.pers i hi with ⟨h1, h2⟩ | ⟨h1, h2⟩ | ⟨h1, h2⟩ | ⟨h1, h2⟩
  · exact h_getN (host := "StrangeKnives") (C := RX16) (T := TX16) (N := 2) (ci := 13) hx hb hts in_X16 hown hK h2 rfl k hk hlink (fun _ h9 => by rw [show (TX16 k).1 = RX16 by unfold TX16; split <;> rfl] at h9; exact h9) hv hdg kk
  · exact h_getN (host := "StrangeKnives") (C := RX17) (T := TX17) (N := 2) (ci := 14) hx hb hts in_X17 hown hK h2 rfl k hk (by rw [show (TX17 k) = TX16 k by unfold TX17 TX16; rfl]; exact hlink) (fun _ h9 => by rw [show (TX17 k).1 = RX16 by unfold TX17; split <;> rfl] at h9; exact h9) hv hdg kk
  · exact h_getN (host := "StrangeKnives") (C := RX18) (T := TX18) (N := 2) (ci := 15) hx hb hts in_X18 hown hK h2 rfl k hk (by rw [show (TX18 k) = TX16 k by unfold TX18 TX16; rfl]; exact hlink) (fun _ h9 => by rw [show (TX18 k).1 = RX16 by unfold TX18; split <;> rfl] at h9; exact h9) hv hdg kk
  · exact h_getN (host := "StrangeKnives") (C := RX19) (T := TX19) (N := 2) (ci := 16) hx hb hts in_X19 hown hK h2 rfl k hk (by rw [show (TX19 k) = TX16 k by unfold TX19 TX16; rfl]; exact hlink) (fun _ h9 => by rw [show (TX19 k).1 = RX16 by unfold TX19; split <;> rfl] at h9; exact h9) hv hdg kk

theorem P_kind (S : CallFix p m c cc nL s args lw_all own) (hS : va_S A0 s.heap H locs) (hK : KK D cA s) (hT : TW D cA E T tw vo N H) (hlink : Cond.methodLink own index yX16_kind ∈ lw_all) (hfr : 2 + 1 ≤ R.frames ∧ 8 + (1 + 11) + 80 ≤ R.locals) (i : Nat) (hi : i < T 0 0) (hsize : ls.size = nL) (hW : (rest.map fun v => v.category).sum ≤ 8) (hdg : decode cc pc = .ok (.invokevirtual index, 3)) (hc : cells ≤ R.cells ∧ slots ≤ R.slots)
    (kk : ∀ (H1 : Heap) (locs1 : List Loc), (∀ q : Nat, q < H.size → H1[q]? = H[q]?) → va_S A0 s.heap H1 locs1 → W p l e R s m args below meth c H1 locs1 cells slots Q (F0 m (pc + 3) ls (.int (nI (T 1 i)) :: rest))) : W p l e R s m args below meth c H locs cells slots Q (F0 m pc ls (.ref (tw (100 + i)) :: rest)) := by
  rcases hT.pers i hi with ⟨h1, h2⟩ | ⟨h1, h2⟩ | ⟨h1, h2⟩ | ⟨h1, h2⟩
  · refine R_callI (As := []) (rest := rest) (C := RX16) S hS (metX16_kind l (D := D) (cA := cA) (ci := 13) (a := tw (100 + i)) (fs := pfs T i)) PEU.blind (fun U hU hW => PEU.go h2 hK hU hW) (at_recv hK h2 rfl) (cwV 0 S.2.2.2.2 (lw_V hlink q1433 q1434 q140 q1440) rfl rfl rfl (by decide +kernel) ⟨Nat.le_trans (by decide) hfr.1, Nat.le_trans (by decide) hfr.2⟩) rfl hsize rfl hW hdg hc (fun r H1 locs1 hw hk hS => by subst hw; rw [h1] at kk; exact kk H1 locs1 hk hS)
  · refine R_callUI (As := []) (rest := rest) (C := RX17) S hS (metX17_kind l (D := D) (cA := cA) (a := tw (100 + i)) (fs := pfs T i)) PEU.blind (fun U hU hW => PEU.go h2 hK hU hW) (at_recv hK h2 rfl) (va_cwO (owner := RX16) (x := yX16_kind) 0 S.2.2.2.2 (lw_O hlink q1435 q1433 q1436 q1437 q141 q1438) rfl rfl rfl q1440 (by decide +kernel) ⟨Nat.le_trans (by decide) hfr.1, Nat.le_trans (by decide) hfr.2⟩) rfl hsize rfl hW hdg hc (fun r H1 locs1 hw hk hS => by subst hw; rw [h1] at kk; exact kk H1 locs1 hk hS)
  · refine R_callUI (As := []) (rest := rest) (C := RX18) S hS (metX18_kind l (D := D) (cA := cA) (a := tw (100 + i)) (fs := pfs T i)) PEU.blind (fun U hU hW => PEU.go h2 hK hU hW) (at_recv hK h2 rfl) (va_cwO (owner := RX16) (x := yX16_kind) 0 S.2.2.2.2 (lw_O hlink q1435 q1433 q1441 q1442 q142 q1443) rfl rfl rfl q1440 (by decide +kernel) ⟨Nat.le_trans (by decide) hfr.1, Nat.le_trans (by decide) hfr.2⟩) rfl hsize rfl hW hdg hc (fun r H1 locs1 hw hk hS => by subst hw; rw [h1] at kk; exact kk H1 locs1 hk hS)
  · refine R_callUI (As := []) (rest := rest) (C := RX19) S hS (metX19_kind l (D := D) (cA := cA) (a := tw (100 + i)) (fs := pfs T i)) PEU.blind (fun U hU hW => PEU.go h2 hK hU hW) (at_recv hK h2 rfl) (va_cwO (owner := RX16) (x := yX16_kind) 0 S.2.2.2.2 (lw_O hlink q1435 q1433 q1445 q1446 q143 q1447) rfl rfl rfl q1440 (by decide +kernel) ⟨Nat.le_trans (by decide) hfr.1, Nat.le_trans (by decide) hfr.2⟩) rfl hsize rfl hW hdg hc (fun r H1 locs1 hw hk hS => by subst hw; rw [h1] at kk; exact kk H1 locs1 hk hS)

theorem P_knows (S : CallFix p m c cc nL s args lw_all own) (hS : va_S A0 s.heap H locs) (hK : KK D cA s) (hT : TW D cA E T tw vo N H) (hlink : Cond.methodLink own index yX16_knows ∈ lw_all) (hfr : 2 + 1 ≤ R.frames ∧ 8 + (1 + 11) + 80 ≤ R.locals) (i : Nat) (hi : i < T 0 0) (hsize : ls.size = nL) (hW : (rest.map fun v => v.category).sum ≤ 8) (hdg : decode cc pc = .ok (.invokevirtual index, 3)) (hc : cells ≤ R.cells ∧ slots ≤ R.slots)
    (kk : ∀ (H1 : Heap) (locs1 : List Loc), (∀ q : Nat, q < H.size → H1[q]? = H[q]?) → va_S A0 s.heap H1 locs1 → W p l e R s m args below meth c H1 locs1 cells slots Q (F0 m (pc + 3) ls (.int (b2i (kknows (T 1 i))) :: rest))) : W p l e R s m args below meth c H locs cells slots Q (F0 m pc ls (.ref (tw (100 + i)) :: rest)) := by
  rcases hT.pers i hi with ⟨h1, h2⟩ | ⟨h1, h2⟩ | ⟨h1, h2⟩ | ⟨h1, h2⟩
  · refine R_callI (As := []) (rest := rest) (C := RX16) S hS (metX16_knows l (D := D) (cA := cA) (ci := 13) (a := tw (100 + i)) (fs := pfs T i)) PEU.blind (fun U hU hW => PEU.go h2 hK hU hW) (at_recv hK h2 rfl) (cwV 0 S.2.2.2.2 (lw_V hlink q918 q919 q140 q927) rfl rfl rfl (by decide +kernel) ⟨Nat.le_trans (by decide) hfr.1, Nat.le_trans (by decide) hfr.2⟩) rfl hsize rfl hW hdg hc (fun r H1 locs1 hw hk hS => by subst hw; rw [h1] at kk; exact kk H1 locs1 hk hS)
  · refine R_callUI (As := []) (rest := rest) (C := RX17) S hS (metX16_knows l (D := D) (cA := cA) (ci := 14) (a := tw (100 + i)) (fs := pfs T i)) PEU.blind (fun U hU hW => PEU.go h2 hK hU hW) (at_recv hK h2 rfl) (va_cwU (owner := RX16) (x := yX16_knows) 0 S.2.2.2.2 (lw_U hlink q920 q921 q918 q140 q927) rfl rfl rfl rfl (by decide +kernel) ⟨Nat.le_trans (by decide) hfr.1, Nat.le_trans (by decide) hfr.2⟩) rfl hsize rfl hW hdg hc (fun r H1 locs1 hw hk hS => by subst hw; rw [h1] at kk; exact kk H1 locs1 hk hS)
  · refine R_callUI (As := []) (rest := rest) (C := RX18) S hS (metX18_knows l (D := D) (cA := cA) (a := tw (100 + i)) (fs := pfs T i)) PEU.blind (fun U hU hW => PEU.go h2 hK hU hW) (at_recv hK h2 rfl) (va_cwO (owner := RX16) (x := yX16_knows) 0 S.2.2.2.2 (lw_O hlink q920 q918 q922 q923 q142 q924) rfl rfl rfl q927 (by decide +kernel) ⟨Nat.le_trans (by decide) hfr.1, Nat.le_trans (by decide) hfr.2⟩) rfl hsize rfl hW hdg hc (fun r H1 locs1 hw hk hS => by subst hw; rw [h1] at kk; exact kk H1 locs1 hk hS)
  · refine R_callUI (As := []) (rest := rest) (C := RX19) S hS (metX16_knows l (D := D) (cA := cA) (ci := 16) (a := tw (100 + i)) (fs := pfs T i)) PEU.blind (fun U hU hW => PEU.go h2 hK hU hW) (at_recv hK h2 rfl) (va_cwU (owner := RX16) (x := yX16_knows) 0 S.2.2.2.2 (lw_U hlink q920 q928 q918 q140 q927) rfl rfl rfl rfl (by decide +kernel) ⟨Nat.le_trans (by decide) hfr.1, Nat.le_trans (by decide) hfr.2⟩) rfl hsize rfl hW hdg hc (fun r H1 locs1 hw hk hS => by subst hw; rw [h1] at kk; exact kk H1 locs1 hk hS)

theorem P_isRuled (S : CallFix p m c cc nL s args lw_all own) (hS : va_S A0 s.heap H locs) (hK : KK D cA s) (hT : TW D cA E T tw vo N H) (hlink : Cond.methodLink own index yX16_isRuled ∈ lw_all) (hfr : 2 + 1 ≤ R.frames ∧ 8 + (1 + 11) + 80 ≤ R.locals) (i : Nat) (hi : i < T 0 0) (hsize : ls.size = nL) (hW : (rest.map fun v => v.category).sum ≤ 8) (hdg : decode cc pc = .ok (.invokevirtual index, 3)) (hc : cells ≤ R.cells ∧ slots ≤ R.slots)
    (kk : ∀ (H1 : Heap) (locs1 : List Loc), (∀ q : Nat, q < H.size → H1[q]? = H[q]?) → va_S A0 s.heap H1 locs1 → W p l e R s m args below meth c H1 locs1 cells slots Q (F0 m (pc + 3) ls (.int (b2i (kknows (T 1 i))) :: rest))) : W p l e R s m args below meth c H locs cells slots Q (F0 m pc ls (.ref (tw (100 + i)) :: rest)) := by
  rcases hT.pers i hi with ⟨h1, h2⟩ | ⟨h1, h2⟩ | ⟨h1, h2⟩ | ⟨h1, h2⟩
  · refine R_callI (As := []) (rest := rest) (C := RX16) S hS (metX16_isRuled l (D := D) (cA := cA) (ci := 13) (a := tw (100 + i)) (fs := pfs T i)) PEU.blind (fun U hU hW => PEU.go h2 hK hU hW) (at_recv hK h2 rfl) (cwV 0 S.2.2.2.2 (lw_V hlink q1510 q1511 q140 q1518) rfl rfl rfl (by decide +kernel) ⟨Nat.le_trans (by decide) hfr.1, Nat.le_trans (by decide) hfr.2⟩) rfl hsize rfl hW hdg hc (fun r H1 locs1 hw hk hS => by subst hw; rw [h1] at kk; exact kk H1 locs1 hk hS)
  · refine R_callUI (As := []) (rest := rest) (C := RX17) S hS (metX16_isRuled l (D := D) (cA := cA) (ci := 14) (a := tw (100 + i)) (fs := pfs T i)) PEU.blind (fun U hU hW => PEU.go h2 hK hU hW) (at_recv hK h2 rfl) (va_cwU (owner := RX16) (x := yX16_isRuled) 0 S.2.2.2.2 (lw_U hlink q1512 q1513 q1510 q140 q1518) rfl rfl rfl rfl (by decide +kernel) ⟨Nat.le_trans (by decide) hfr.1, Nat.le_trans (by decide) hfr.2⟩) rfl hsize rfl hW hdg hc (fun r H1 locs1 hw hk hS => by subst hw; rw [h1] at kk; exact kk H1 locs1 hk hS)
  · refine R_callUI (As := []) (rest := rest) (C := RX18) S hS (metX18_isRuled l (D := D) (cA := cA) (a := tw (100 + i)) (fs := pfs T i)) PEU.blind (fun U hU hW => PEU.go h2 hK hU hW) (at_recv hK h2 rfl) (va_cwO (owner := RX16) (x := yX16_isRuled) 0 S.2.2.2.2 (lw_O hlink q1512 q1510 q1514 q1515 q142 q1516) rfl rfl rfl q1518 (by decide +kernel) ⟨Nat.le_trans (by decide) hfr.1, Nat.le_trans (by decide) hfr.2⟩) rfl hsize rfl hW hdg hc (fun r H1 locs1 hw hk hS => by subst hw; rw [h1] at kk; exact kk H1 locs1 hk hS)
  · refine R_callUI (As := []) (rest := rest) (C := RX19) S hS (metX16_isRuled l (D := D) (cA := cA) (ci := 16) (a := tw (100 + i)) (fs := pfs T i)) PEU.blind (fun U hU hW => PEU.go h2 hK hU hW) (at_recv hK h2 rfl) (va_cwU (owner := RX16) (x := yX16_isRuled) 0 S.2.2.2.2 (lw_U hlink q1512 q1519 q1510 q140 q1518) rfl rfl rfl rfl (by decide +kernel) ⟨Nat.le_trans (by decide) hfr.1, Nat.le_trans (by decide) hfr.2⟩) rfl hsize rfl hW hdg hc (fun r H1 locs1 hw hk hS => by subst hw; rw [h1] at kk; exact kk H1 locs1 hk hS)

theorem P_slice (S : CallFix p m c cc nL s args lw_all own) (hS : va_S A0 s.heap H locs) (hK : KK D cA s) (hT : TW D cA E T tw vo N H) (hlink : Cond.methodLink own index yX16_slice ∈ lw_all) (hfr : 2 + 1 ≤ R.frames ∧ 8 + (3 + 11) + 80 ≤ R.locals) (i : Nat) (hi : i < T 0 0) {u v : Int32} (hsize : ls.size = nL) (hW : (rest.map fun v => v.category).sum ≤ 8) (hdg : decode cc pc = .ok (.invokevirtual index, 3)) (hc : cells ≤ R.cells ∧ slots ≤ R.slots)
    (kk : ∀ (H1 : Heap) (locs1 : List Loc), (∀ q : Nat, q < H.size → H1[q]? = H[q]?) → va_S A0 s.heap H1 locs1 → W p l e R s m args below meth c H1 locs1 cells slots Q (F0 m (pc + 3) ls (.int (ksl (T 1 i) u v) :: rest))) : W p l e R s m args below meth c H locs cells slots Q (F0 m pc ls (.int v :: .int u :: .ref (tw (100 + i)) :: rest)) := by
  rcases hT.pers i hi with ⟨h1, h2⟩ | ⟨h1, h2⟩ | ⟨h1, h2⟩ | ⟨h1, h2⟩
  · refine R_callI (As := [.int u, .int v]) (rest := rest) (C := RX16) S hS (metX16_slice l (D := D) (cA := cA) (ci := 13) (a := tw (100 + i)) (fs := pfs T i) (i := u) (n := v)) PEU.blind (fun U hU hW => PEU.go h2 hK hU hW) (at_recv hK h2 rfl) (cwV 2 S.2.2.2.2 (lw_V hlink q1522 q1523 q140 q1529) rfl rfl rfl (by decide +kernel) ⟨Nat.le_trans (by decide) hfr.1, Nat.le_trans (by decide) hfr.2⟩) rfl hsize rfl hW hdg hc (fun r H1 locs1 hw hk hS => by subst hw; rw [h1] at kk; exact kk H1 locs1 hk hS)
  · refine R_callUI (As := [.int u, .int v]) (rest := rest) (C := RX17) S hS (metX17_slice l (D := D) (cA := cA) (a := tw (100 + i)) (fs := pfs T i) (i := u) (n := v)) PEU.blind (fun U hU hW => PEU.go h2 hK hU hW) (at_recv hK h2 rfl) (va_cwO (owner := RX16) (x := yX16_slice) 2 S.2.2.2.2 (lw_O hlink q1524 q1522 q1525 q1526 q141 q1527) rfl rfl rfl q1529 (by decide +kernel) ⟨Nat.le_trans (by decide) hfr.1, Nat.le_trans (by decide) hfr.2⟩) rfl hsize rfl hW hdg hc (fun r H1 locs1 hw hk hS => by subst hw; rw [h1] at kk; exact kk H1 locs1 hk hS)
  · refine R_callUI (As := [.int u, .int v]) (rest := rest) (C := RX18) S hS (metX16_slice l (D := D) (cA := cA) (ci := 15) (a := tw (100 + i)) (fs := pfs T i) (i := u) (n := v)) PEU.blind (fun U hU hW => PEU.go h2 hK hU hW) (at_recv hK h2 rfl) (va_cwU (owner := RX16) (x := yX16_slice) 2 S.2.2.2.2 (lw_U hlink q1524 q1530 q1522 q140 q1529) rfl rfl rfl rfl (by decide +kernel) ⟨Nat.le_trans (by decide) hfr.1, Nat.le_trans (by decide) hfr.2⟩) rfl hsize rfl hW hdg hc (fun r H1 locs1 hw hk hS => by subst hw; rw [h1] at kk; exact kk H1 locs1 hk hS)
  · refine R_callUI (As := [.int u, .int v]) (rest := rest) (C := RX19) S hS (metX16_slice l (D := D) (cA := cA) (ci := 16) (a := tw (100 + i)) (fs := pfs T i) (i := u) (n := v)) PEU.blind (fun U hU hW => PEU.go h2 hK hU hW) (at_recv hK h2 rfl) (va_cwU (owner := RX16) (x := yX16_slice) 2 S.2.2.2.2 (lw_U hlink q1524 q1531 q1522 q140 q1529) rfl rfl rfl rfl (by decide +kernel) ⟨Nat.le_trans (by decide) hfr.1, Nat.le_trans (by decide) hfr.2⟩) rfl hsize rfl hW hdg hc (fun r H1 locs1 hw hk hS => by subst hw; rw [h1] at kk; exact kk H1 locs1 hk hS)

end TR
