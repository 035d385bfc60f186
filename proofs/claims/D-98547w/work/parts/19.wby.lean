/-! 19.wby: the rule's evaluation: Enum.ordinal, Expr.by by recursion on the rule, View.sees, Town.weight -/
def FZU (z0 : Nat) (E : Nat → Nat → Nat) (U : State) : Prop := FZ z0 E U U.heap
theorem FZU.blind {z0 : Nat} {E : Nat → Nat → Nat} : Blind (FZU z0 E) := fun _ _ _ _ h => h.calling
theorem NW.nwD {U : State} (h : NW U) (i : Nat) {q : MethodName} (e : nwD[i]? = some q) : va_Nw (.declares q) U := h.2.2.2.1 q (List.mem_of_getElem? e)
/-- the view and its array -/
def VU (D : va_G) (cA : Nat → ClassId) (vw vo : Nat) (f : Nat → Int32) (H : Heap) : Prop := va_at D vwCl (vw, .inr (3, [.ref vo])) H ∧ va_at D vwCl (vo, .inl (cA 0, 6, .inl f)) H
theorem VU.at {D : va_G} {cA : Nat → ClassId} {vw vo : Nat} {f : Nat → Int32} {H : Heap} {t : State} (h : VU D cA vw vo f H) (ht : t.heap = H) : VU D cA vw vo f t.heap := ht ▸ h
theorem VU.keptA {D : va_G} {cA : Nat → ClassId} {vw vo : Nat} {f : Nat → Int32} {H H1 : Heap} (h : VU D cA vw vo f H) (hk : ∀ q : Nat, q < H.size → H1[q]? = H[q]?) : VU D cA vw vo f H1 := ⟨h.1.kept (hk _ h.1.lt), h.2.kept (hk _ h.2.lt)⟩
def PhB (D : va_G) (cA : Nat → ClassId) (z0 : Nat) (E : Nat → Nat → Nat) (vw vo : Nat) (f : Nat → Int32) (P : Heap → Prop) (U : State) : Prop := P U.heap ∧ VU D cA vw vo f U.heap ∧ KK D cA U ∧ FZ z0 E U U.heap
theorem PhB.blind {D : va_G} {cA : Nat → ClassId} {z0 : Nat} {E : Nat → Nat → Nat} {vw vo : Nat} {f : Nat → Int32} {P : Heap → Prop} : Blind (PhB D cA z0 E vw vo f P) := fun U g mk a h => ⟨h.1, h.2.1, va_K.moved (u := U) (U := U.calling g mk a) (Vm.Alike.refl U.vm) h.2.2.1, h.2.2.2.calling⟩
theorem bothP {f : Nat → Int32} {c1 c2 : List Int32} {r1 r2 r sg : Int32} (h1 : ∀ st, c1.foldl (stp f) st = r1 :: st) (h2 : ∀ st, c2.foldl (stp f) st = r2 :: st) (h3 : ¬ -20 < sg) (h4 : ¬ sg = -28) (h5 : reck sg r1 r2 = r) : ∀ st, (c1 ++ c2 ++ [sg]).foldl (stp f) st = r :: st := fun st => by
  rw [List.foldl_append, List.foldl_append, h1, h2]
  show stp f (r2 :: r1 :: st) sg = _
  unfold stp
  rw [if_neg h3, if_neg h4]
  show reck sg r1 r2 :: st = _
  rw [h5]
theorem rk23 (a b : Int32) : reck (-23) a b = if b = 0 then 0 else a / b := rfl
theorem rk24 (a b : Int32) : reck (-24) a b = if a < b then 1 else 0 := rfl
theorem rk25 (a b : Int32) : reck (-25) a b = if a = b then 1 else 0 := rfl
theorem rk26 (a b : Int32) : reck (-26) a b = if a ≠ 0 ∧ b ≠ 0 then 1 else 0 := rfl
theorem rk27 (a b : Int32) : reck (-27) a b = if a ≠ 0 ∨ b ≠ 0 then 1 else 0 := rfl
theorem i_nlt {a b : Int32} (h : b ≤ a) : ¬ a < b := fun h2 => by
  rw [Int32.le_iff_toInt_le] at h
  rw [Int32.lt_iff_toInt_lt] at h2
  omega
theorem i_lt {a b : Int32} (h : ¬ b ≤ a) : a < b := by
  rw [Int32.le_iff_toInt_le] at h
  rw [Int32.lt_iff_toInt_lt]
  omega
theorem notP {f : Nat → Int32} {c1 : List Int32} {r1 r : Int32} (h1 : ∀ st, c1.foldl (stp f) st = r1 :: st) (h5 : (if r1 = 0 then 1 else 0) = r) : ∀ st, (c1 ++ [-28]).foldl (stp f) st = r :: st := fun st => by
  rw [List.foldl_append, h1]
  show stp f (r1 :: st) (-28) = _
  unfold stp
  rw [if_neg (by decide), if_pos rfl, ← h5]
theorem toldP {f : Nat → Int32} {v : Nat} (hv : v < 10000) : ∀ st, [nI v].foldl (stp f) st = nI v :: st := fun st => by
  have e : (nI v).toInt = v := nI_toInt (by omega)
  show stp f st (nI v) = _
  unfold stp
  rw [if_pos (by rw [Int32.lt_iff_toInt_lt, e]; have : (-20 : Int32).toInt = -20 := by decide
                 rw [this]; omega), if_pos (by rw [Int32.le_iff_toInt_le, e]; exact Int.natCast_nonneg v)]
theorem seenP {f : Nat → Int32} {i : Nat} (hi : i < 6) : ∀ st, [-1 - nI i].foldl (stp f) st = f i :: st := fun st => by
  rw [List.foldl_cons, List.foldl_nil]
  have h1 : -20 < -1 - nI i ∧ ¬ 0 ≤ -1 - nI i ∧ ix (-1 - (-1 - nI i)) = i := by
    rcases (show i = 0 ∨ i = 1 ∨ i = 2 ∨ i = 3 ∨ i = 4 ∨ i = 5 by omega) with rfl | rfl | rfl | rfl | rfl | rfl <;> decide
  unfold stp
  rw [if_pos h1.1, if_neg h1.2.1, h1.2.2]
theorem kk_2 {n : Nat} (h : b2i (kknows n) = 0) : n = 2 := by
  unfold kknows at h
  by_cases e : n = 2
  · exact e
  · rw [show (n != 2) = true by simp [e]] at h
    exact absurd h (by decide)
theorem kk_n2 {n : Nat} (h : ¬ b2i (kknows n) = 0) : ¬ n = 2 := fun e => h (by rw [e]; rfl)
set_option maxHeartbeats 4000000 in
set_option maxRecDepth 100000 in
theorem metJ17_ordinal (l : Launch) {z0 : Nat} {E : Nat → Nat → Nat} {i : Nat} (hi : i < 6) : ReI l yJ17_ordinal (ws_ yJ17_ordinal cJ17_ordinal 1 (some .int)) ({ frames := 1, cells := 0, slots := 0, locals := 30 }) [.ref (E 2 i)] (FZU z0 E) (fun r => r = nI i) := by
  refine Met.ofW (cc := cJ17_ordinal) (maxL := 1) (ret := (some .int)) (by decide) rfl ?_
  intro p e s m args below meth c s₁ B hml hv
  obtain ⟨rfl, hv⟩ := hv
  have hx := B.exec
  have hb := B.bytes
  have hr := B.returns
  have hts := atoms_spec (ws := ws_ yJ17_ordinal cJ17_ordinal 1 (some .int)) B.pre
  have hts : ∀ w ∈ lw_all, w.before _ s = true := fun w h => hts w (List.mem_cons_of_mem _ h)
  have hown : s.vm.findClass RJ17 = some m.cls := findClass_of_methodNamed B.named
  have hlocks := B.notSynchronized
  have hS : va_S (NoA) s.heap s.heap [] := va_S.rf
  have hl := lv_entry ([.ref (E 2 i)]) (n := 1) (Nat.le_of_ble_eq_true rfl)
  rw [lg_entry_eq]
  generalize (lg_sl ([.ref (E 2 i)]) ++ List.replicate (1 - (lg_sl ([.ref (E 2 i)])).length) Slot.unset).toArray = ls at hl ⊢
  have hl : lv_has ls 1 [(0, .ref (E 2 i))] := hl
  have hE := hv.1.2.2.1.narrow (B := NoA) (fun _ h => h.elim)
  refine lv_aload_n hx hb dJ17_ordinal_0 rfl (lv_at hl 0 rfl) ?_
  refine va_getE (i := i) (q := ("java/lang/Enum", "ordinal", "I", [0, 1, 2, 3, 4, 5])) hx hb hE hi hS hown List.mem_cons_self (hts _ q2366) (fun _ h => h) dJ17_ordinal_1 ?_
  exact W.iret hx hb hr (fun t ht _ => ⟨⟨_, (), rfl, by rcases (show i = 0 ∨ i = 1 ∨ i = 2 ∨ i = 3 ∨ i = 4 ∨ i = 5 by omega) with rfl | rfl | rfl | rfl | rfl | rfl <;> rfl, trivial⟩, hS.F ht⟩) hS.2.2 dJ17_ordinal_4 hlocks
set_option maxHeartbeats 4000000 in
set_option maxRecDepth 100000 in
theorem metX12_by (l : Launch) (D : va_G) (cA : Nat → ClassId) (z0 : Nat) (E : Nat → Nat → Nat) (vw vo : Nat) (f : Nat → Int32) (N : Nat → Prop) (a : Nat) (v : Int32) : ReI l yX12_by (ws_ yX12_by cX12_by 2 (some .int)) ({ frames := 2, cells := 0, slots := 0, locals := 60 }) [.ref a, .ref vw] (PhB D cA z0 E vw vo f (va_at D vwCl (a, .inr (9, [.int v])))) (fun r => r = v) := by
  refine Met.ofW (cc := cX12_by) (maxL := 2) (ret := (some .int)) (by decide) rfl ?_
  intro p e s m args below meth c s₁ B hml hv
  obtain ⟨rfl, hv⟩ := hv
  have hx := B.exec
  have hb := B.bytes
  have hr := B.returns
  have hts := atoms_spec (ws := ws_ yX12_by cX12_by 2 (some .int)) B.pre
  have hts : ∀ w ∈ lw_all, w.before _ s = true := fun w h => hts w (List.mem_cons_of_mem _ h)
  have hown : s.vm.findClass RX12 = some m.cls := findClass_of_methodNamed B.named
  have hlocks := B.notSynchronized
  have hS : va_S (NoA) s.heap s.heap [] := va_S.rf
  have hl := lv_entry ([.ref a, .ref vw]) (n := 2) (Nat.le_of_ble_eq_true rfl)
  rw [lg_entry_eq]
  generalize (lg_sl ([.ref a, .ref vw]) ++ List.replicate (2 - (lg_sl ([.ref a, .ref vw])).length) Slot.unset).toArray = ls at hl ⊢
  have hl : lv_has ls 2 [(0, .ref a), (1, .ref vw)] := hl
  obtain ⟨ha, hV, hK, hZ⟩ := hv
  refine lv_aload_n hx hb dX12_by_0 rfl (lv_at hl 0 rfl) ?_
  refine h_get (C := RX12) (T := TX12) (N := 1) (ci := 9) (v := .int v) hx hb hts in_X12 hown hK ha rfl 0 (by decide) (hts _ q1245) (fun _ h9 => h9) rfl dX12_by_1 ?_
  exact W.iret hx hb hr (fun t ht _ => ⟨⟨_, (), rfl, rfl, trivial⟩, hS.F ht⟩) hS.2.2 dX12_by_4 hlocks
set_option maxHeartbeats 4000000 in
set_option maxRecDepth 100000 in
theorem metX13_by (l : Launch) (D : va_G) (cA : Nat → ClassId) (z0 : Nat) (E : Nat → Nat → Nat) (vw vo : Nat) (f : Nat → Int32) (N : Nat → Prop) (a : Nat) (i : Nat) (hi : i < 6) : ReI l yX13_by (ws_ yX13_by cX13_by 2 (some .int)) ({ frames := 2, cells := 0, slots := 0, locals := 60 }) [.ref a, .ref vw] (PhB D cA z0 E vw vo f (va_at D vwCl (a, .inr (10, [.ref (E 2 i)])))) (fun r => r = f i) := by
  refine Met.ofW (cc := cX13_by) (maxL := 2) (ret := (some .int)) (by decide) rfl ?_
  intro p e s m args below meth c s₁ B hml hv
  obtain ⟨rfl, hv⟩ := hv
  have hx := B.exec
  have hb := B.bytes
  have hr := B.returns
  have hts := atoms_spec (ws := ws_ yX13_by cX13_by 2 (some .int)) B.pre
  have hts : ∀ w ∈ lw_all, w.before _ s = true := fun w h => hts w (List.mem_cons_of_mem _ h)
  have hown : s.vm.findClass RX13 = some m.cls := findClass_of_methodNamed B.named
  have hlocks := B.notSynchronized
  have hS : va_S (NoA) s.heap s.heap [] := va_S.rf
  have hl := lv_entry ([.ref a, .ref vw]) (n := 2) (Nat.le_of_ble_eq_true rfl)
  rw [lg_entry_eq]
  generalize (lg_sl ([.ref a, .ref vw]) ++ List.replicate (2 - (lg_sl ([.ref a, .ref vw])).length) Slot.unset).toArray = ls at hl ⊢
  have hl : lv_has ls 2 [(0, .ref a), (1, .ref vw)] := hl
  obtain ⟨ha, hV, hK, hZ⟩ := hv
  refine lv_aload_n hx hb dX13_by_0 rfl (lv_at hl 1 rfl) ?_
  refine h_getN (host := "StrangeKnives") (C := RX3) (T := TX3) (N := 1) (ci := 3) (v := .ref vo) hx hb hts in_X3 hown hK hV.1 rfl 0 (by decide) (hZ.2.1.nF 36 rfl) (fun _ h9 => h9) rfl dX13_by_1 ?_
  refine lv_aload_n hx hb dX13_by_4 rfl (lv_at hl 0 rfl) ?_
  refine h_get (C := RX13) (T := TX13) (N := 1) (ci := 10) (v := .ref (E 2 i)) hx hb hts in_X13 hown hK ha rfl 0 (by decide) (hts _ q1281) (fun _ h9 => h9) rfl dX13_by_5 ?_
  refine R_callUI (As := []) (rest := [.ref vo]) (C := "StrangeKnives$Value") (x := ⟨"StrangeKnives$Value", "ordinal", "()I"⟩) ⟨hx, hb, hml, hown, hts⟩ hS (metJ17_ordinal l hi) FZU.blind (fun U hU hW => hZ.go hS (fun _ h => h.elim) hU hW) (va_recvE (hZ.1.2.2.1.narrow (B := NoA) (fun _ h => h.elim)) hi hS) (va_cwU (C := "StrangeKnives$Value") (owner := "java/lang/Enum") (x := ⟨"StrangeKnives$Value", "ordinal", "()I"⟩) 0 hts (lw_U q1560 q1537 q1539 q1540 q126 q1541) rfl rfl rfl rfl (by decide +kernel) ⟨Nat.le_of_ble_eq_true rfl, Nat.le_of_ble_eq_true rfl⟩) rfl hl.1 rfl (Nat.le_of_ble_eq_true rfl) dX13_by_8 ⟨Nat.zero_le _, Nat.zero_le _⟩ (fun r H locs hw hk hS => ?_)
  subst hw
  refine h_iald hx hb hK (hV.2.kept (hk _ hV.2.lt)) 0 rfl (nI_clamp (by omega)) (vp_in_nI hi (by omega)) dX13_by_11 ?_
  exact W.iret hx hb hr (fun t ht _ => ⟨⟨_, (), rfl, rfl, trivial⟩, hS.F ht⟩) hS.2.2 dX13_by_12 hlocks
/-- the contracts of Not.by and Both.by whose parts are rules of depth below n -/
def BY (D : va_G) (cA : Nat → ClassId) (z0 : Nat) (E : Nat → Nat → Nat) (vw vo : Nat) (f : Nat → Int32) (N : Nat → Prop) (n : Nat) : Prop := (∀ (l : Launch) (a q : Nat) (c1 : List Int32), ReI l yX15_by (ws_ yX15_by cX15_by 2 (some .int)) ({ frames := (n + 1) + 1, cells := 0, slots := 0, locals := 40 * (n + 1) + 40 }) [.ref a, .ref vw] (PhB D cA z0 E vw vo f (fun H => va_at D vwCl (a, .inr (12, [.ref q])) H ∧ XR D E N H n q c1)) (fun r => ∀ st, (c1 ++ [-28]).foldl (stp f) st = r :: st)) ∧ (∀ (l : Launch) (a : Nat) (op : Int32 × Int32) (hop : op ∈ xops) (q1 q2 : Nat) (c1 c2 : List Int32), ReI l yX14_by (ws_ yX14_by cX14_by 4 (some .int)) ({ frames := (n + 1) + 1, cells := 0, slots := 0, locals := 40 * (n + 1) + 40 }) [.ref a, .ref vw] (PhB D cA z0 E vw vo f (fun H => va_at D vwCl (a, .inr (11, [.int op.1, .ref q1, .ref q2])) H ∧ XR D E N H n q1 c1 ∧ XR D E N H n q2 c2)) (fun r => ∀ st, (c1 ++ c2 ++ [op.2]).foldl (stp f) st = r :: st))
def BYs (D : va_G) (cA : Nat → ClassId) (z0 : Nat) (E : Nat → Nat → Nat) (vw vo : Nat) (f : Nat → Int32) (N : Nat → Prop) : Nat → Prop
  | 0 => True
  | n + 1 => BY D cA z0 E vw vo f N n
section BYC
variable {p : Program} {l : Launch} {e : Env} {R : Room} {s : State} {m : MethodId} {args : Array Value} {below : List Frame} {meth : Method} {c : Code} {H : Heap} {locs : List Loc} {cells slots : Nat} {Q : State → Prop}
variable {cc : ByteArray} {pc nL : Nat} {ls : Array Slot} {rest st0 : List Value} {A : Nat → Prop} {D : va_G} {cA : Nat → ClassId} {E : Nat → Nat → Nat} {z0 : Nat} {N : Nat → Prop} {own : String} {index : Nat} {vw vo : Nat} {f : Nat → Int32}
theorem by_call (S : CallFix p m c cc nL s args lw_all own) (hS : va_S A s.heap H locs) (hAz : ∀ q, A q → z0 ≤ q) (hK : KK D cA s) (hZ : FZ z0 E s s.heap) (n a : Nat) (cd : List Int32) (hR : XR D E N H n a cd) (hV : VU D cA vw vo f H) (ih : BYs D cA z0 E vw vo f N n) (hlink : Cond.methodLink own index ⟨"StrangeKnives$Expr", "by", "(LStrangeKnives$View;)I"⟩ ∈ lw_all) (hfr : n + 2 ≤ R.frames ∧ 40 * n + 63 ≤ R.locals) (hsize : ls.size = nL) (hW : (rest.map fun v => v.category).sum ≤ 8) (hdg : decode cc pc = .ok (.invokevirtual index, 3)) (hc : cells ≤ R.cells ∧ slots ≤ R.slots)
    (kk : ∀ (r : Int32) (H1 : Heap) (locs1 : List Loc), (∀ st, cd.foldl (stp f) st = r :: st) → (∀ q : Nat, q < H.size → H1[q]? = H[q]?) → va_S A s.heap H1 locs1 → W p l e R s m args below meth c H1 locs1 cells slots Q (F0 m (pc + 3) ls (.int r :: rest))) : W p l e R s m args below meth c H locs cells slots Q (F0 m pc ls (.ref vw :: .ref a :: rest)) := by
  match n, hR, ih, hfr with
  | n + 1, hR, ih, hfr =>
    rcases hR with ⟨v, h1, rfl, h3⟩ | ⟨i, h1, rfl, h3⟩ | ⟨q, c1, rfl, h2, h3⟩ | ⟨op, q1, q2, c1, c2, h0, rfl, h2, h3, h4⟩
    · exact R_callUI (As := [.ref vw]) (rest := rest) (C := RX12) (x := ⟨"StrangeKnives$Expr", "by", "(LStrangeKnives$View;)I"⟩) S hS (metX12_by l D cA z0 E vw vo f N a (nI v)) PhB.blind (fun U hU hW => ⟨by rw [hU]; exact h3.1, by rw [hU]; exact hV, va_K.moved hW.alike hK, hZ.go hS hAz hU hW⟩) (at_recv hK h3.1 rfl) (va_cwA (C := "StrangeKnives$Told") (owner := "StrangeKnives$Expr") (x := ⟨"StrangeKnives$Expr", "by", "(LStrangeKnives$View;)I"⟩) 1 S.2.2.2.2 (lw_U hlink q1550 q1565 q1561 q136 q1562) rfl rfl rfl (hZ.2.1.nwD 0 rfl) (by decide +kernel) ⟨Nat.le_trans (by show 2 + 1 ≤ n + 1 + 2; omega) hfr.1, Nat.le_trans (by show 8 + (2 + 11) + 60 ≤ 40 * (n + 1) + 63; omega) hfr.2⟩) rfl hsize rfl hW hdg hc (fun r H1 locs1 hw hk hS => by subst hw; exact kk _ H1 locs1 (toldP h1) hk hS)
    · exact R_callUI (As := [.ref vw]) (rest := rest) (C := RX13) (x := ⟨"StrangeKnives$Expr", "by", "(LStrangeKnives$View;)I"⟩) S hS (metX13_by l D cA z0 E vw vo f N a i h1) PhB.blind (fun U hU hW => ⟨by rw [hU]; exact h3.1, by rw [hU]; exact hV, va_K.moved hW.alike hK, hZ.go hS hAz hU hW⟩) (at_recv hK h3.1 rfl) (va_cwA (C := "StrangeKnives$Seen") (owner := "StrangeKnives$Expr") (x := ⟨"StrangeKnives$Expr", "by", "(LStrangeKnives$View;)I"⟩) 1 S.2.2.2.2 (lw_U hlink q1550 q1564 q1558 q137 q1559) rfl rfl rfl (hZ.2.1.nwD 0 rfl) (by decide +kernel) ⟨Nat.le_trans (by show 2 + 1 ≤ n + 1 + 2; omega) hfr.1, Nat.le_trans (by show 8 + (2 + 11) + 60 ≤ 40 * (n + 1) + 63; omega) hfr.2⟩) rfl hsize rfl hW hdg hc (fun r H1 locs1 hw hk hS => by subst hw; exact kk _ H1 locs1 (seenP h1) hk hS)
    · exact R_callUI (As := [.ref vw]) (rest := rest) (C := RX15) (x := ⟨"StrangeKnives$Expr", "by", "(LStrangeKnives$View;)I"⟩) S hS (ih.1 l a q c1) PhB.blind (fun U hU hW => ⟨by rw [hU]; exact ⟨h2.1, h3⟩, by rw [hU]; exact hV, va_K.moved hW.alike hK, hZ.go hS hAz hU hW⟩) (at_recv hK h2.1 rfl) (va_cwA (C := "StrangeKnives$Not") (owner := "StrangeKnives$Expr") (x := ⟨"StrangeKnives$Expr", "by", "(LStrangeKnives$View;)I"⟩) 1 S.2.2.2.2 (lw_U hlink q1550 q1563 q1555 q139 q1556) rfl rfl rfl (hZ.2.1.nwD 0 rfl) (by decide +kernel) ⟨Nat.le_trans (by show n + 1 + 1 + 1 ≤ n + 1 + 2; omega) hfr.1, Nat.le_trans (by show 8 + (2 + 11) + (40 * (n + 1) + 40) ≤ 40 * (n + 1) + 63; omega) hfr.2⟩) rfl hsize rfl hW hdg hc (fun r H1 locs1 hw hk hS => kk r H1 locs1 hw hk hS)
    · exact R_callUI (As := [.ref vw]) (rest := rest) (C := RX14) (x := ⟨"StrangeKnives$Expr", "by", "(LStrangeKnives$View;)I"⟩) S hS (ih.2 l a op h0 q1 q2 c1 c2) PhB.blind (fun U hU hW => ⟨by rw [hU]; exact ⟨h2.1, h3, h4⟩, by rw [hU]; exact hV, va_K.moved hW.alike hK, hZ.go hS hAz hU hW⟩) (at_recv hK h2.1 rfl) (va_cwA (C := "StrangeKnives$Both") (owner := "StrangeKnives$Expr") (x := ⟨"StrangeKnives$Expr", "by", "(LStrangeKnives$View;)I"⟩) 1 S.2.2.2.2 (lw_U hlink q1550 q1551 q1552 q138 q1553) rfl rfl rfl (hZ.2.1.nwD 0 rfl) (by decide +kernel) ⟨Nat.le_trans (by show n + 1 + 1 + 1 ≤ n + 1 + 2; omega) hfr.1, Nat.le_trans (by show 8 + (4 + 11) + (40 * (n + 1) + 40) ≤ 40 * (n + 1) + 63; omega) hfr.2⟩) rfl hsize rfl hW hdg hc (fun r H1 locs1 hw hk hS => kk r H1 locs1 hw hk hS)
end BYC
set_option maxHeartbeats 4000000 in
set_option maxRecDepth 100000 in
theorem metX15_by (D : va_G) (cA : Nat → ClassId) (z0 : Nat) (E : Nat → Nat → Nat) (vw vo : Nat) (f : Nat → Int32) (N : Nat → Prop) (n : Nat) (ih : BYs D cA z0 E vw vo f N n) (l : Launch) (a q : Nat) (c1 : List Int32) : ReI l yX15_by (ws_ yX15_by cX15_by 2 (some .int)) ({ frames := (n + 1) + 1, cells := 0, slots := 0, locals := 40 * (n + 1) + 40 }) [.ref a, .ref vw] (PhB D cA z0 E vw vo f (fun H => va_at D vwCl (a, .inr (12, [.ref q])) H ∧ XR D E N H n q c1)) (fun r => ∀ st, (c1 ++ [-28]).foldl (stp f) st = r :: st) := by
  refine Met.ofW (cc := cX15_by) (maxL := 2) (ret := (some .int)) (by decide) rfl ?_
  intro p e s m args below meth c s₁ B hml hv
  obtain ⟨rfl, hv⟩ := hv
  have hx := B.exec
  have hb := B.bytes
  have hr := B.returns
  have hts := atoms_spec (ws := ws_ yX15_by cX15_by 2 (some .int)) B.pre
  have hts : ∀ w ∈ lw_all, w.before _ s = true := fun w h => hts w (List.mem_cons_of_mem _ h)
  have hown : s.vm.findClass RX15 = some m.cls := findClass_of_methodNamed B.named
  have hlocks := B.notSynchronized
  have hS : va_S (NoA) s.heap s.heap [] := va_S.rf
  have hl := lv_entry ([.ref a, .ref vw]) (n := 2) (Nat.le_of_ble_eq_true rfl)
  rw [lg_entry_eq]
  generalize (lg_sl ([.ref a, .ref vw]) ++ List.replicate (2 - (lg_sl ([.ref a, .ref vw])).length) Slot.unset).toArray = ls at hl ⊢
  have hl : lv_has ls 2 [(0, .ref a), (1, .ref vw)] := hl
  obtain ⟨⟨ha, hR⟩, hV, hK, hZ⟩ := hv
  refine lv_aload_n hx hb dX15_by_0 rfl (lv_at hl 0 rfl) ?_
  refine h_get (C := RX15) (T := TX15) (N := 1) (ci := 12) (v := .ref q) hx hb hts in_X15 hown hK ha rfl 0 (by decide) (hts _ q1328) (fun _ h9 => h9) rfl dX15_by_1 ?_
  refine lv_aload_n hx hb dX15_by_4 rfl (lv_at hl 1 rfl) ?_
  refine by_call ⟨hx, hb, hml, hown, hts⟩ hS (fun _ h => h.elim) hK hZ n q c1 hR hV ih q1557 ⟨by show _ ≤ n + 1 + 1; omega, by show _ ≤ 40 * (n + 1) + 40; omega⟩ hl.1 (Nat.le_of_ble_eq_true rfl) dX15_by_5 ⟨Nat.zero_le _, Nat.zero_le _⟩ (fun r H locs hw hk hS => ?_)
  refine lv_if_ne (tgt := 15) hx hb dX15_by_8 (by decide) (fun c1 => ?_) (fun c1 => ?_)
  · refine lv_iconst (v := 0) hx hb dX15_by_15 (by decide) ?_
    exact W.iret hx hb hr (fun t ht _ => ⟨⟨_, (), rfl, notP hw (if_neg c1), trivial⟩, hS.F ht⟩) hS.2.2 dX15_by_16 hlocks
  · refine lv_iconst (v := 1) hx hb dX15_by_11 (by decide) ?_
    refine lv_goto (tgt := 16) hx hb dX15_by_12 (by decide) ?_
    exact W.iret hx hb hr (fun t ht _ => ⟨⟨_, (), rfl, notP hw (if_pos c1), trivial⟩, hS.F ht⟩) hS.2.2 dX15_by_16 hlocks
set_option maxHeartbeats 4000000 in
set_option maxRecDepth 100000 in
theorem metX14_by (D : va_G) (cA : Nat → ClassId) (z0 : Nat) (E : Nat → Nat → Nat) (vw vo : Nat) (f : Nat → Int32) (N : Nat → Prop) (n : Nat) (ih : BYs D cA z0 E vw vo f N n) (l : Launch) (a : Nat) (op : Int32 × Int32) (hop : op ∈ xops) (q1 q2 : Nat) (c1 c2 : List Int32) : ReI l yX14_by (ws_ yX14_by cX14_by 4 (some .int)) ({ frames := (n + 1) + 1, cells := 0, slots := 0, locals := 40 * (n + 1) + 40 }) [.ref a, .ref vw] (PhB D cA z0 E vw vo f (fun H => va_at D vwCl (a, .inr (11, [.int op.1, .ref q1, .ref q2])) H ∧ XR D E N H n q1 c1 ∧ XR D E N H n q2 c2)) (fun r => ∀ st, (c1 ++ c2 ++ [op.2]).foldl (stp f) st = r :: st) := by
  refine Met.ofW (cc := cX14_by) (maxL := 4) (ret := (some .int)) (by decide) rfl ?_
  intro p e s m args below meth c s₁ B hml hv
  obtain ⟨rfl, hv⟩ := hv
  have hx := B.exec
  have hb := B.bytes
  have hr := B.returns
  have hts := atoms_spec (ws := ws_ yX14_by cX14_by 4 (some .int)) B.pre
  have hts : ∀ w ∈ lw_all, w.before _ s = true := fun w h => hts w (List.mem_cons_of_mem _ h)
  have hown : s.vm.findClass RX14 = some m.cls := findClass_of_methodNamed B.named
  have hlocks := B.notSynchronized
  have hS : va_S (NoA) s.heap s.heap [] := va_S.rf
  have hl := lv_entry ([.ref a, .ref vw]) (n := 4) (Nat.le_of_ble_eq_true rfl)
  rw [lg_entry_eq]
  generalize (lg_sl ([.ref a, .ref vw]) ++ List.replicate (4 - (lg_sl ([.ref a, .ref vw])).length) Slot.unset).toArray = ls at hl ⊢
  have hl : lv_has ls 4 [(0, .ref a), (1, .ref vw)] := hl
  obtain ⟨⟨ha, hR1, hR2⟩, hV, hK, hZ⟩ := hv
  refine lv_aload_n hx hb dX14_by_0 rfl (lv_at hl 0 rfl) ?_
  refine h_get (C := RX14) (T := TX14) (N := 3) (ci := 11) (v := .ref q1) hx hb hts in_X14 hown hK ha rfl 1 (by decide) (hts _ q1309) (fun _ h9 => h9) rfl dX14_by_1 ?_
  refine lv_aload_n hx hb dX14_by_4 rfl (lv_at hl 1 rfl) ?_
  refine by_call ⟨hx, hb, hml, hown, hts⟩ hS (fun _ h => h.elim) hK hZ n q1 c1 hR1 hV ih q1554 ⟨by show _ ≤ n + 1 + 1; omega, by show _ ≤ 40 * (n + 1) + 40; omega⟩ hl.1 (Nat.le_of_ble_eq_true rfl) dX14_by_5 ⟨Nat.zero_le _, Nat.zero_le _⟩ (fun r1 H locs hw1 hk hS => ?_)
  refine lv_istore_n (lv' := [(2, .int r1), (0, .ref a), (1, .ref vw)]) hx hb dX14_by_8 rfl hl (by decide) rfl (fun ls hl => ?_)
  refine lv_aload_n hx hb dX14_by_9 rfl (lv_at hl 1 rfl) ?_
  have ha1 := ha.kept (hk _ ha.lt)
  refine h_get (C := RX14) (T := TX14) (N := 3) (ci := 11) (v := .ref q2) hx hb hts in_X14 hown hK ha1 rfl 2 (by decide) (hts _ q1310) (fun _ h9 => h9) rfl dX14_by_10 ?_
  refine lv_aload_n hx hb dX14_by_13 rfl (lv_at hl 2 rfl) ?_
  refine by_call ⟨hx, hb, hml, hown, hts⟩ hS (fun _ h => h.elim) hK hZ n q2 c2 (hR2.kept (fun q _ h => hk q h) _ _ _) (hV.keptA hk) ih q1554 ⟨by show _ ≤ n + 1 + 1; omega, by show _ ≤ 40 * (n + 1) + 40; omega⟩ hl.1 (Nat.le_of_ble_eq_true rfl) dX14_by_14 ⟨Nat.zero_le _, Nat.zero_le _⟩ (fun r2 H locs hw2 hk2 hS => ?_)
  refine lv_istore_n (lv' := [(3, .int r2), (2, .int r1), (0, .ref a), (1, .ref vw)]) hx hb dX14_by_17 rfl hl (by decide) rfl (fun ls hl => ?_)
  refine lv_aload_n hx hb dX14_by_18 rfl (lv_at hl 2 rfl) ?_
  refine h_get (C := RX14) (T := TX14) (N := 3) (ci := 11) (v := .int op.1) hx hb hts in_X14 hown hK (ha1.kept (hk2 _ ha1.lt)) rfl 0 (by decide) (hts _ q1308) (fun _ h9 => h9) rfl dX14_by_19 ?_
  have hop2 : op = (43, -20) ∨ op = (45, -21) ∨ op = (42, -22) ∨ op = (47, -23) ∨ op = (60, -24) ∨ op = (61, -25) ∨ op = (38, -26) ∨ op = (124, -27) := by
    unfold xops at hop
    simpa only [List.mem_cons, List.not_mem_nil, or_false] using hop
  clear hop
  rcases hop2 with rfl | rfl | rfl | rfl | rfl | rfl | rfl | rfl
  · refine lv_swIn (v := 43) (tgt := 132) hx hb rfl dX14_by_22 (by decide) (by decide) rfl (by decide) ?_
    refine lv_iload_n hx hb dX14_by_132 rfl (lv_at hl 1 rfl) ?_
    refine lv_iload_n hx hb dX14_by_133 rfl (lv_at hl 0 rfl) ?_
    refine lv_iadd hx hb dX14_by_134 ?_
    exact W.iret hx hb hr (fun t ht _ => ⟨⟨_, (), rfl, bothP hw1 hw2 (by decide) (by decide) (rfl), trivial⟩, hS.F ht⟩) hS.2.2 dX14_by_135 hlocks
  · refine lv_swIn (v := 45) (tgt := 136) hx hb rfl dX14_by_22 (by decide) (by decide) rfl (by decide) ?_
    refine lv_iload_n hx hb dX14_by_136 rfl (lv_at hl 1 rfl) ?_
    refine lv_iload_n hx hb dX14_by_137 rfl (lv_at hl 0 rfl) ?_
    refine lv_isub hx hb dX14_by_138 ?_
    exact W.iret hx hb hr (fun t ht _ => ⟨⟨_, (), rfl, bothP hw1 hw2 (by decide) (by decide) (rfl), trivial⟩, hS.F ht⟩) hS.2.2 dX14_by_139 hlocks
  · refine lv_swIn (v := 42) (tgt := 140) hx hb rfl dX14_by_22 (by decide) (by decide) rfl (by decide) ?_
    refine lv_iload_n hx hb dX14_by_140 rfl (lv_at hl 1 rfl) ?_
    refine lv_iload_n hx hb dX14_by_141 rfl (lv_at hl 0 rfl) ?_
    refine lv_imul hx hb dX14_by_142 ?_
    exact W.iret hx hb hr (fun t ht _ => ⟨⟨_, (), rfl, bothP hw1 hw2 (by decide) (by decide) (rfl), trivial⟩, hS.F ht⟩) hS.2.2 dX14_by_143 hlocks
  · refine lv_swIn (v := 47) (tgt := 144) hx hb rfl dX14_by_22 (by decide) (by decide) rfl (by decide) ?_
    refine lv_iload_n hx hb dX14_by_144 rfl (lv_at hl 0 rfl) ?_
    refine lv_if_ne (tgt := 152) hx hb dX14_by_145 (by decide) (fun c3 => ?_) (fun c3 => ?_)
    · refine lv_iload_n hx hb dX14_by_152 rfl (lv_at hl 1 rfl) ?_
      refine lv_iload_n hx hb dX14_by_153 rfl (lv_at hl 0 rfl) ?_
      refine lv_idiv hx hb dX14_by_154 c3 ?_
      exact W.iret hx hb hr (fun t ht _ => ⟨⟨_, (), rfl, bothP hw1 hw2 (by decide) (by decide) ((rk23 _ _).trans (if_neg c3)), trivial⟩, hS.F ht⟩) hS.2.2 dX14_by_155 hlocks
    · refine lv_iconst (v := 0) hx hb dX14_by_148 (by decide) ?_
      refine lv_goto (tgt := 155) hx hb dX14_by_149 (by decide) ?_
      exact W.iret hx hb hr (fun t ht _ => ⟨⟨_, (), rfl, bothP hw1 hw2 (by decide) (by decide) ((rk23 _ _).trans (if_pos c3)), trivial⟩, hS.F ht⟩) hS.2.2 dX14_by_155 hlocks
  · refine lv_swIn (v := 60) (tgt := 156) hx hb rfl dX14_by_22 (by decide) (by decide) rfl (by decide) ?_
    refine lv_iload_n hx hb dX14_by_156 rfl (lv_at hl 1 rfl) ?_
    refine lv_iload_n hx hb dX14_by_157 rfl (lv_at hl 0 rfl) ?_
    refine lv_icmp_ge (tgt := 165) hx hb dX14_by_158 (by decide) (fun c3 => ?_) (fun c3 => ?_)
    · refine lv_iconst (v := 0) hx hb dX14_by_165 (by decide) ?_
      exact W.iret hx hb hr (fun t ht _ => ⟨⟨_, (), rfl, bothP hw1 hw2 (by decide) (by decide) ((rk24 _ _).trans (if_neg (i_nlt c3))), trivial⟩, hS.F ht⟩) hS.2.2 dX14_by_166 hlocks
    · refine lv_iconst (v := 1) hx hb dX14_by_161 (by decide) ?_
      refine lv_goto (tgt := 166) hx hb dX14_by_162 (by decide) ?_
      exact W.iret hx hb hr (fun t ht _ => ⟨⟨_, (), rfl, bothP hw1 hw2 (by decide) (by decide) ((rk24 _ _).trans (if_pos (i_lt c3))), trivial⟩, hS.F ht⟩) hS.2.2 dX14_by_166 hlocks
  · refine lv_swIn (v := 61) (tgt := 167) hx hb rfl dX14_by_22 (by decide) (by decide) rfl (by decide) ?_
    refine lv_iload_n hx hb dX14_by_167 rfl (lv_at hl 1 rfl) ?_
    refine lv_iload_n hx hb dX14_by_168 rfl (lv_at hl 0 rfl) ?_
    refine lv_icmp_ne (tgt := 176) hx hb dX14_by_169 (by decide) (fun c3 => ?_) (fun c3 => ?_)
    · refine lv_iconst (v := 0) hx hb dX14_by_176 (by decide) ?_
      exact W.iret hx hb hr (fun t ht _ => ⟨⟨_, (), rfl, bothP hw1 hw2 (by decide) (by decide) ((rk25 _ _).trans (if_neg c3)), trivial⟩, hS.F ht⟩) hS.2.2 dX14_by_177 hlocks
    · refine lv_iconst (v := 1) hx hb dX14_by_172 (by decide) ?_
      refine lv_goto (tgt := 177) hx hb dX14_by_173 (by decide) ?_
      exact W.iret hx hb hr (fun t ht _ => ⟨⟨_, (), rfl, bothP hw1 hw2 (by decide) (by decide) ((rk25 _ _).trans (if_pos c3)), trivial⟩, hS.F ht⟩) hS.2.2 dX14_by_177 hlocks
  · refine lv_swIn (v := 38) (tgt := 178) hx hb rfl dX14_by_22 (by decide) (by decide) rfl (by decide) ?_
    refine lv_iload_n hx hb dX14_by_178 rfl (lv_at hl 1 rfl) ?_
    refine lv_if_eq (tgt := 190) hx hb dX14_by_179 (by decide) (fun c3 => ?_) (fun c3 => ?_)
    · refine lv_iconst (v := 0) hx hb dX14_by_190 (by decide) ?_
      exact W.iret hx hb hr (fun t ht _ => ⟨⟨_, (), rfl, bothP hw1 hw2 (by decide) (by decide) ((rk26 _ _).trans (if_neg (fun h => h.1 c3))), trivial⟩, hS.F ht⟩) hS.2.2 dX14_by_191 hlocks
    · refine lv_iload_n hx hb dX14_by_182 rfl (lv_at hl 0 rfl) ?_
      refine lv_if_eq (tgt := 190) hx hb dX14_by_183 (by decide) (fun c4 => ?_) (fun c4 => ?_)
      · refine lv_iconst (v := 0) hx hb dX14_by_190 (by decide) ?_
        exact W.iret hx hb hr (fun t ht _ => ⟨⟨_, (), rfl, bothP hw1 hw2 (by decide) (by decide) ((rk26 _ _).trans (if_neg (fun h => h.2 c4))), trivial⟩, hS.F ht⟩) hS.2.2 dX14_by_191 hlocks
      · refine lv_iconst (v := 1) hx hb dX14_by_186 (by decide) ?_
        refine lv_goto (tgt := 191) hx hb dX14_by_187 (by decide) ?_
        exact W.iret hx hb hr (fun t ht _ => ⟨⟨_, (), rfl, bothP hw1 hw2 (by decide) (by decide) ((rk26 _ _).trans (if_pos ⟨c3, c4⟩)), trivial⟩, hS.F ht⟩) hS.2.2 dX14_by_191 hlocks
  · refine lv_tableOut (tgt := 192) hx hb dX14_by_22 (Or.inr (by decide)) (by decide) ?_
    refine lv_iload_n hx hb dX14_by_192 rfl (lv_at hl 1 rfl) ?_
    refine lv_if_ne (tgt := 200) hx hb dX14_by_193 (by decide) (fun c3 => ?_) (fun c3 => ?_)
    · refine lv_iconst (v := 1) hx hb dX14_by_200 (by decide) ?_
      refine lv_goto (tgt := 205) hx hb dX14_by_201 (by decide) ?_
      exact W.iret hx hb hr (fun t ht _ => ⟨⟨_, (), rfl, bothP hw1 hw2 (by decide) (by decide) ((rk27 _ _).trans (if_pos (Or.inl c3))), trivial⟩, hS.F ht⟩) hS.2.2 dX14_by_205 hlocks
    · refine lv_iload_n hx hb dX14_by_196 rfl (lv_at hl 0 rfl) ?_
      refine lv_if_eq (tgt := 204) hx hb dX14_by_197 (by decide) (fun c4 => ?_) (fun c4 => ?_)
      · refine lv_iconst (v := 0) hx hb dX14_by_204 (by decide) ?_
        exact W.iret hx hb hr (fun t ht _ => ⟨⟨_, (), rfl, bothP hw1 hw2 (by decide) (by decide) ((rk27 _ _).trans (if_neg (fun h => h.elim (fun h => h c3) (fun h => h c4)))), trivial⟩, hS.F ht⟩) hS.2.2 dX14_by_205 hlocks
      · refine lv_iconst (v := 1) hx hb dX14_by_200 (by decide) ?_
        refine lv_goto (tgt := 205) hx hb dX14_by_201 (by decide) ?_
        exact W.iret hx hb hr (fun t ht _ => ⟨⟨_, (), rfl, bothP hw1 hw2 (by decide) (by decide) ((rk27 _ _).trans (if_pos (Or.inr c4))), trivial⟩, hS.F ht⟩) hS.2.2 dX14_by_205 hlocks
theorem BY_all (D : va_G) (cA : Nat → ClassId) (z0 : Nat) (E : Nat → Nat → Nat) (vw vo : Nat) (f : Nat → Int32) (N : Nat → Prop) : ∀ n, BYs D cA z0 E vw vo f N n
  | 0 => trivial
  | n + 1 => ⟨fun l a q c1 => metX15_by D cA z0 E vw vo f N n (BY_all D cA z0 E vw vo f N n) l a q c1, fun l a op hop q1 q2 c1 c2 => metX14_by D cA z0 E vw vo f N n (BY_all D cA z0 E vw vo f N n) l a op hop q1 q2 c1 c2⟩
set_option maxHeartbeats 4000000 in
set_option maxRecDepth 100000 in
theorem metX3_sees (l : Launch) (D : va_G) (cA : Nat → ClassId) (z0 : Nat) (E : Nat → Nat → Nat) (vw vo : Nat) (f : Nat → Int32) (hne : vw ≠ vo) (hvz : z0 ≤ vo) (i : Nat) (hi : i < 6) (n : Int32) : Met l yX3_sees (ws_ yX3_sees cX3_sees 3 none) ({ frames := 2, cells := 0, slots := 0, locals := 60 }) (va_Pc [.ref vw, .ref (E 2 i), .int n] (PhB D cA z0 E vw vo f (fun _ => True))) (va_Qv (fun _ : Unit => True) (fun _ t => VU D cA vw vo (upd f i n) t.heap) (fun q => q = vo)) 0 0 (fun q => q = vo) := by
  refine Met.ofW (cc := cX3_sees) (maxL := 3) (ret := none) (by decide) rfl ?_
  intro p e s m args below meth c s₁ B hml hv
  obtain ⟨rfl, hv⟩ := hv
  have hx := B.exec
  have hb := B.bytes
  have hr := B.returns
  have hts := atoms_spec (ws := ws_ yX3_sees cX3_sees 3 none) B.pre
  have hts : ∀ w ∈ lw_all, w.before _ s = true := fun w h => hts w (List.mem_cons_of_mem _ h)
  have hown : s.vm.findClass RX3 = some m.cls := findClass_of_methodNamed B.named
  have hlocks := B.notSynchronized
  have hS : va_S (fun q => q = vo) s.heap s.heap [] := va_S.rf
  have hl := lv_entry ([.ref vw, .ref (E 2 i), .int n]) (n := 3) (Nat.le_of_ble_eq_true rfl)
  rw [lg_entry_eq]
  generalize (lg_sl ([.ref vw, .ref (E 2 i), .int n]) ++ List.replicate (3 - (lg_sl ([.ref vw, .ref (E 2 i), .int n])).length) Slot.unset).toArray = ls at hl ⊢
  have hl : lv_has ls 3 [(0, .ref vw), (1, .ref (E 2 i)), (2, .int n)] := hl
  obtain ⟨-, hV, hK, hZ⟩ := hv
  have hAz : ∀ q, (fun q => q = vo) q → z0 ≤ q := fun q h => by rw [h]; exact hvz
  refine lv_aload_n hx hb dX3_sees_0 rfl (lv_at hl 0 rfl) ?_
  refine h_get (C := RX3) (T := TX3) (N := 1) (ci := 3) (v := .ref vo) hx hb hts in_X3 hown hK hV.1 rfl 0 (by decide) (hts _ q517) (fun _ h9 => h9) rfl dX3_sees_1 ?_
  refine lv_aload_n hx hb dX3_sees_4 rfl (lv_at hl 1 rfl) ?_
  refine R_callUI (As := []) (rest := [.ref vo]) (C := "StrangeKnives$Value") (x := ⟨"StrangeKnives$Value", "ordinal", "()I"⟩) ⟨hx, hb, hml, hown, hts⟩ hS (metJ17_ordinal l hi) FZU.blind (fun U hU hW => hZ.go hS hAz hU hW) (va_recvE (hZ.1.2.2.1.narrow hAz) hi hS) (va_cwU (C := "StrangeKnives$Value") (owner := "java/lang/Enum") (x := ⟨"StrangeKnives$Value", "ordinal", "()I"⟩) 0 hts (lw_U q1536 q1537 q1539 q1540 q126 q1541) rfl rfl rfl rfl (by decide +kernel) ⟨Nat.le_of_ble_eq_true rfl, Nat.le_of_ble_eq_true rfl⟩) rfl hl.1 rfl (Nat.le_of_ble_eq_true rfl) dX3_sees_5 ⟨Nat.zero_le _, Nat.zero_le _⟩ (fun r H locs hw hk hS => ?_)
  subst hw
  refine lv_iload_n hx hb dX3_sees_8 rfl (lv_at hl 2 rfl) ?_
  refine h_iast (A := fun q => q = vo) hx hb hK (hV.2.kept (hk _ hV.2.lt)) rfl hS 0 rfl (nI_clamp (by omega)) (vp_in_nI hi (by omega)) dX3_sees_9 (fun H1 locs hc oq _ hS => ?_)
  exact W.vret hx hb hr (fun t ht _ => ⟨⟨(), rfl, trivial, VU.at ⟨(hV.1.kept (hk _ hV.1.lt)).kept (oq _ hne), hc⟩ ht⟩, hS.F ht⟩) hS.2.2 dX3_sees_10 hlocks
section SEE
variable {p : Program} {l : Launch} {e : Env} {R : Room} {s : State} {m : MethodId} {args : Array Value} {below : List Frame} {meth : Method} {c : Code} {H : Heap} {locs : List Loc} {cells slots : Nat} {Q : State → Prop}
variable {cc : ByteArray} {pc nL : Nat} {ls : Array Slot} {rest st0 : List Value} {A : Nat → Prop} {H0 : Heap} {D : va_G} {cA : Nat → ClassId} {E : Nat → Nat → Nat} {T : TT} {tw : Nat → Nat} {z0 : Nat} {N : Nat → Prop} {own : String} {index : Nat} {vw vo : Nat} {f : Nat → Int32} {ad : Nat → Nat} {h : Mem}
theorem see_call (S : CallFix p m c cc nL s args lw_all own) (hK : KK D cA s) (hZ : FZ z0 E s s.heap) (hS : va_S (fun q => q = vo) s.heap H locs) (hvz : z0 ≤ vo) (hne : vw ≠ vo) (hV : VU D cA vw vo f H) (i : Nat) (hi : i < 6) {n : Int32} (hlink : Cond.methodLink own index yX3_sees ∈ lw_all) (hfr : 2 + 1 ≤ R.frames ∧ 8 + (3 + 11) + 60 ≤ R.locals) (hsize : ls.size = nL) (hW : (rest.map fun v => v.category).sum ≤ 8) (hdg : decode cc pc = .ok (.invokevirtual index, 3)) (hc : cells ≤ R.cells ∧ slots ≤ R.slots)
    (kk : ∀ (H1 : Heap) (locs1 : List Loc), (∀ q : Nat, q < H.size → ¬ q = vo → H1[q]? = H[q]?) → VU D cA vw vo (upd f i n) H1 → va_S (fun q => q = vo) s.heap H1 locs1 → W p l e R s m args below meth c H1 locs1 cells slots Q (F0 m (pc + 3) ls rest)) : W p l e R s m args below meth c H locs cells slots Q (F0 m pc ls (.int n :: .ref (E 2 i) :: .ref vw :: rest)) :=
  va_callv (va_runV (As := [.ref (E 2 i), .int n]) (b := vw) (C := RX3) S (metX3_sees l D cA z0 E vw vo f hne hvz i hi n) (cwV 2 S.2.2.2.2 (lw_V hlink q1533 q1534 q125 q1535) rfl rfl rfl (by decide +kernel) hfr) ⟨PhB.blind.pc, at_recv hK hV.1 rfl, fun U hU hW => ⟨rfl, trivial, by rw [hU]; exact hV, va_K.moved hW.alike hK, hZ.go hS (fun q h => by rw [h]; exact hvz) hU hW⟩⟩ rfl rfl hsize rfl (lv_room hW) hdg hc) hS (fun _ _ h => h) (fun _ h => h) (fun u t H1 locs1 ht hvm hw hB hz hk1 hS1 => kk H1 locs1 hk1 (by rw [← ht]; exact hB) hS1)
end SEE
theorem fo_cong {f g : Nat → Int32} (hg : ∀ i, i < 6 → f i = g i) : ∀ i, i < 6 → (.int (f i) : Value) = .int (g i) := fun i hi => by rw [hg i hi]
theorem arr_cong {D : va_G} {a n : Nat} {cA : ClassId} {f g : Nat → Int32} {H : Heap} (hg : ∀ i, i < n → f i = g i) (h : va_at D vwCl (a, .inl (cA, n, .inl f)) H) : va_at D vwCl (a, .inl (cA, n, .inl g)) H := by
  show H[a]? = some (vp_cell cA (n, .inl g))
  rw [show H[a]? = some (vp_cell cA (n, .inl f)) from h, vp_cell_i, vp_cell_i]
  unfold arrV
  congr 2
  apply Array.ext
  · simp
  · intro i h1 h2
    simp at h1
    simp [hg i h1]
def PhW (D : va_G) (cA : Nat → ClassId) (z0 : Nat) (E : Nat → Nat → Nat) (T : TT) (tw : Nat → Nat) (vo : Nat) (N : Nat → Prop) (f : Nat → Int32) (U : State) : Prop := VU D cA (tw 6) vo f U.heap ∧ PhT D cA z0 E T tw vo N U
theorem PhW.blind {D : va_G} {cA : Nat → ClassId} {z0 : Nat} {E : Nat → Nat → Nat} {T : TT} {tw : Nat → Nat} {vo : Nat} {N : Nat → Prop} {f : Nat → Int32} : Blind (PhW D cA z0 E T tw vo N f) := fun U g mk a h => ⟨h.1, PhT.blind U g mk a h.2⟩
def wfin (f : Nat → Int32) (T : TT) (p b : Nat) (th u v : Int32) : Nat → Int32 := upd (upd (upd (upd (upd (upd f 0 (ksl (T 1 p) u v)) 1 v) 2 (nI (T 5 b))) 3 (nI (T 1 p))) 4 (nI (T 3 p))) 5 th
theorem wfin_env (f : Nat → Int32) (T : TT) (p b : Nat) (th u v : Int32) : ∀ i, i < 6 → wfin f T p b th u v i = wenv T p b th u v i := fun i hi => by
  rcases (show i = 0 ∨ i = 1 ∨ i = 2 ∨ i = 3 ∨ i = 4 ∨ i = 5 by omega) with rfl | rfl | rfl | rfl | rfl | rfl <;> rfl
set_option maxHeartbeats 4000000 in
set_option maxRecDepth 100000 in
theorem metX2_weight (l : Launch) (D : va_G) (cA : Nat → ClassId) (z0 : Nat) (E : Nat → Nat → Nat) (T : TT) (tw : Nat → Nat) (vo : Nat) (N : Nat → Prop) (f : Nat → Int32) (hN : ∀ q, N q → q ≠ vo) (hne : tw 6 ≠ vo) (hvz : z0 ≤ vo) (i : Nat) (hi : i < T 0 0) (b : Nat) (hb9 : b < T 0 1) (th u v : Int32) : Met l yX2_weight (ws_ yX2_weight cX2_weight 7 (some .int)) ({ frames := 720, cells := 0, slots := 0, locals := 40000 }) (va_Pc [.ref (tw 9), .int (nI i), .ref (tw (200 + b)), .int th, .int u, .int v] (PhW D cA z0 E T tw vo N f)) (va_Qi (fun r (_ : Nat → Int32) => r = wgt T i b th u v) (fun w t => VU D cA (tw 6) vo w t.heap) (fun q => q = vo)) 0 0 (fun q => q = vo) := by
  refine Met.ofW (cc := cX2_weight) (maxL := 7) (ret := (some .int)) (by decide) rfl ?_
  intro p e s m args below meth c s₁ B hml hv
  obtain ⟨rfl, hv⟩ := hv
  have hx := B.exec
  have hb := B.bytes
  have hr := B.returns
  have hts := atoms_spec (ws := ws_ yX2_weight cX2_weight 7 (some .int)) B.pre
  have hts : ∀ w ∈ lw_all, w.before _ s = true := fun w h => hts w (List.mem_cons_of_mem _ h)
  have hown : s.vm.findClass RX2 = some m.cls := findClass_of_methodNamed B.named
  have hlocks := B.notSynchronized
  have hS : va_S (fun q => q = vo) s.heap s.heap [] := va_S.rf
  have hl := lv_entry ([.ref (tw 9), .int (nI i), .ref (tw (200 + b)), .int th, .int u, .int v]) (n := 7) (Nat.le_of_ble_eq_true rfl)
  rw [lg_entry_eq]
  generalize (lg_sl ([.ref (tw 9), .int (nI i), .ref (tw (200 + b)), .int th, .int u, .int v]) ++ List.replicate (7 - (lg_sl ([.ref (tw 9), .int (nI i), .ref (tw (200 + b)), .int th, .int u, .int v])).length) Slot.unset).toArray = ls at hl ⊢
  have hl : lv_has ls 7 [(0, .ref (tw 9)), (1, .int (nI i)), (2, .ref (tw (200 + b))), (3, .int th), (4, .int u), (5, .int v)] := hl

  obtain ⟨hV, hT, hK, hZ⟩ := hv
  have hAz : ∀ q, (fun q => q = vo) q → z0 ≤ q := fun q h => by rw [h]; exact hvz
  have hNA : ∀ q, N q → q < s.heap.size → ¬ (fun q => q = vo) q := fun q h _ => hN q h
  have hE := hZ.1.2.2.1.narrow hAz
  refine lv_aload_n hx hb dX2_weight_0 rfl (lv_at hl 0 rfl) ?_
  refine T_fld hx hb hts hown hK (hT.at hS hNA) 3 (v := .ref (tw 0)) (by decide) (hts _ q531) (fun _ _ => rfl) dX2_weight_1 ?_
  refine lv_iload_n hx hb dX2_weight_4 rfl (lv_at hl 1 rfl) ?_
  refine T_pget ⟨hx, hb, hml, hown, hts⟩ hS hK (hT.at hS hNA) q886 ⟨Nat.le_of_ble_eq_true rfl, Nat.le_of_ble_eq_true rfl⟩ i hi hl.1 (Nat.le_of_ble_eq_true rfl) dX2_weight_5 ⟨Nat.zero_le _, Nat.zero_le _⟩ (fun H locs hk hS => ?_)
  have hV := hV.keptA hk
  refine P_cast hx hb hown hK (hT.at hS hNA) hZ.2.1 i hi (hts _ q887) dX2_weight_8 ?_
  refine lv_astore (lv' := (6, .ref (tw (100 + i))) :: [(0, .ref (tw 9)), (1, .int (nI i)), (2, .ref (tw (200 + b))), (3, .int th), (4, .int u), (5, .int v)]) hx hb dX2_weight_11 hl (by decide) rfl (fun ls hl => ?_)
  refine lv_aload_n hx hb dX2_weight_13 rfl (lv_at hl 1 rfl) ?_
  have tail : ∀ (H : Heap) (locs : List Loc), va_S (fun q => q = vo) s.heap H locs → VU D cA (tw 6) vo f H → (T 0 5 = 0 ∨ T 1 i = 2) → W p l e (headSpec (ws_ yX2_weight cX2_weight 7 (some .int)) ({ frames := 720, cells := 0, slots := 0, locals := 40000 })).room s m ([.ref (tw 9), .int (nI i), .ref (tw (200 + b)), .int th, .int u, .int v] : List Value).toArray below meth c H locs 0 0 (MQ below (va_Qi (fun r (_ : Nat → Int32) => r = wgt T i b th u v) (fun w t => VU D cA (tw 6) vo w t.heap) (fun q => q = vo)) ([.ref (tw 9), .int (nI i), .ref (tw (200 + b)), .int th, .int u, .int v] : List Value).toArray s 0 0 (fun q => q = vo)) (F0 m 28 ls []) := by
    intro H locs hS hV h0
    refine lv_iconst (v := 1) hx hb dX2_weight_28 (by decide) ?_
    exact W.iret hx hb hr (fun t ht _ => ⟨⟨_, f, rfl, (by unfold wgt; rw [if_pos h0]), VU.at hV ht⟩, hS.F ht⟩) hS.2.2 dX2_weight_29 hlocks
  refine T_cuts hx hb hts hown hK (hT.at hS hNA) (hts _ q546) dX2_weight_14 (fun h0 => ?_) (fun a h0 hR => ?_)
  · refine lv_ifnullN (tgt := 28) hx hb dX2_weight_17 (by decide) ?_
    exact tail H locs hS hV (Or.inl h0)
  refine lv_ifnull hx hb dX2_weight_17 ?_
  refine lv_aload hx hb dX2_weight_20 (lv_at hl 0 rfl) ?_
  refine P_isRuled ⟨hx, hb, hml, hown, hts⟩ hS hK (hT.at hS hNA) q1509 ⟨Nat.le_of_ble_eq_true rfl, Nat.le_of_ble_eq_true rfl⟩ i hi hl.1 (Nat.le_of_ble_eq_true rfl) dX2_weight_22 ⟨Nat.zero_le _, Nat.zero_le _⟩ (fun H locs hk hS => ?_)
  have hV := hV.keptA hk
  have hR := hR.kept (fun q _ h => hk q h) _ _ _
  refine lv_if_ne (tgt := 30) hx hb dX2_weight_25 (by decide) (fun c1 => ?_) (fun c1 => tail H locs hS hV (Or.inr (kk_2 c1)))
  refine lv_aload_n hx hb dX2_weight_30 rfl (lv_at hl 1 rfl) ?_
  refine T_fld hx hb hts hown hK (hT.at hS hNA) 8 (v := .ref (tw 6)) (by decide) (hts _ q548) (fun _ _ => rfl) dX2_weight_31 ?_
  refine va_gets (C := "StrangeKnives$Value") (n := "SLICE") (d := "LStrangeKnives$Value;") (v := .ref (E 2 0)) hx hb (hE.1 0 (by decide)).1 hS hown (hts _ q1520) (fun _ h => h) dX2_weight_34 ?_
  refine lv_aload hx hb dX2_weight_37 (lv_at hl 0 rfl) ?_
  refine lv_iload hx hb dX2_weight_39 (lv_at hl 5 rfl) ?_
  refine lv_iload hx hb dX2_weight_41 (lv_at hl 6 rfl) ?_
  refine P_slice ⟨hx, hb, hml, hown, hts⟩ hS hK (hT.at hS hNA) q1521 ⟨Nat.le_of_ble_eq_true rfl, Nat.le_of_ble_eq_true rfl⟩ i hi hl.1 (Nat.le_of_ble_eq_true rfl) dX2_weight_43 ⟨Nat.zero_le _, Nat.zero_le _⟩ (fun H locs hk hS => ?_)
  have hV := hV.keptA hk
  have hR := hR.kept (fun q _ h => hk q h) _ _ _
  refine see_call ⟨hx, hb, hml, hown, hts⟩ hK hZ hS hvz hne hV 0 (by decide) q1532 ⟨Nat.le_of_ble_eq_true rfl, Nat.le_of_ble_eq_true rfl⟩ hl.1 (Nat.le_of_ble_eq_true rfl) dX2_weight_46 ⟨Nat.zero_le _, Nat.zero_le _⟩ (fun H locs hk hV hS => ?_)
  have hR := hR.kept (fun q h1 h2 => hk q h2 (hN q h1)) _ _ _
  refine lv_aload_n hx hb dX2_weight_49 rfl (lv_at hl 1 rfl) ?_
  refine T_fld hx hb hts hown hK (hT.at hS hNA) 8 (v := .ref (tw 6)) (by decide) (hts _ q548) (fun _ _ => rfl) dX2_weight_50 ?_
  refine va_gets (C := "StrangeKnives$Value") (n := "SLICES") (d := "LStrangeKnives$Value;") (v := .ref (E 2 1)) hx hb (hE.1 1 (by decide)).1 hS hown (hts _ q1542) (fun _ h => h) dX2_weight_53 ?_
  refine lv_iload hx hb dX2_weight_56 (lv_at hl 6 rfl) ?_
  refine see_call ⟨hx, hb, hml, hown, hts⟩ hK hZ hS hvz hne hV 1 (by decide) q1532 ⟨Nat.le_of_ble_eq_true rfl, Nat.le_of_ble_eq_true rfl⟩ hl.1 (Nat.le_of_ble_eq_true rfl) dX2_weight_58 ⟨Nat.zero_le _, Nat.zero_le _⟩ (fun H locs hk hV hS => ?_)
  have hR := hR.kept (fun q h1 h2 => hk q h2 (hN q h1)) _ _ _
  refine lv_aload_n hx hb dX2_weight_61 rfl (lv_at hl 1 rfl) ?_
  refine T_fld hx hb hts hown hK (hT.at hS hNA) 8 (v := .ref (tw 6)) (by decide) (hts _ q548) (fun _ _ => rfl) dX2_weight_62 ?_
  refine va_gets (C := "StrangeKnives$Value") (n := "SIZE") (d := "LStrangeKnives$Value;") (v := .ref (E 2 2)) hx hb (hE.1 2 (by decide)).1 hS hown (hts _ q1543) (fun _ h => h) dX2_weight_65 ?_
  refine lv_aload_n hx hb dX2_weight_68 rfl (lv_at hl 3 rfl) ?_
  refine L_fldN hx hb hts hown hK (hT.at hS hNA) b hb9 1 (v := .int (nI (T 5 b))) (by decide) (hZ.2.1.nF 46 rfl) rfl dX2_weight_69 ?_
  refine see_call ⟨hx, hb, hml, hown, hts⟩ hK hZ hS hvz hne hV 2 (by decide) q1532 ⟨Nat.le_of_ble_eq_true rfl, Nat.le_of_ble_eq_true rfl⟩ hl.1 (Nat.le_of_ble_eq_true rfl) dX2_weight_72 ⟨Nat.zero_le _, Nat.zero_le _⟩ (fun H locs hk hV hS => ?_)
  have hR := hR.kept (fun q h1 h2 => hk q h2 (hN q h1)) _ _ _
  refine lv_aload_n hx hb dX2_weight_75 rfl (lv_at hl 1 rfl) ?_
  refine T_fld hx hb hts hown hK (hT.at hS hNA) 8 (v := .ref (tw 6)) (by decide) (hts _ q548) (fun _ _ => rfl) dX2_weight_76 ?_
  refine va_gets (C := "StrangeKnives$Value") (n := "KIND") (d := "LStrangeKnives$Value;") (v := .ref (E 2 3)) hx hb (hE.1 3 (by decide)).1 hS hown (hts _ q1544) (fun _ h => h) dX2_weight_79 ?_
  refine lv_aload hx hb dX2_weight_82 (lv_at hl 0 rfl) ?_
  refine P_kind ⟨hx, hb, hml, hown, hts⟩ hS hK (hT.at hS hNA) q1545 ⟨Nat.le_of_ble_eq_true rfl, Nat.le_of_ble_eq_true rfl⟩ i hi hl.1 (Nat.le_of_ble_eq_true rfl) dX2_weight_84 ⟨Nat.zero_le _, Nat.zero_le _⟩ (fun H locs hk hS => ?_)
  have hV := hV.keptA hk
  have hR := hR.kept (fun q _ h => hk q h) _ _ _
  refine see_call ⟨hx, hb, hml, hown, hts⟩ hK hZ hS hvz hne hV 3 (by decide) q1532 ⟨Nat.le_of_ble_eq_true rfl, Nat.le_of_ble_eq_true rfl⟩ hl.1 (Nat.le_of_ble_eq_true rfl) dX2_weight_87 ⟨Nat.zero_le _, Nat.zero_le _⟩ (fun H locs hk hV hS => ?_)
  have hR := hR.kept (fun q h1 h2 => hk q h2 (hN q h1)) _ _ _
  refine lv_aload_n hx hb dX2_weight_90 rfl (lv_at hl 1 rfl) ?_
  refine T_fld hx hb hts hown hK (hT.at hS hNA) 8 (v := .ref (tw 6)) (by decide) (hts _ q548) (fun _ _ => rfl) dX2_weight_91 ?_
  refine va_gets (C := "StrangeKnives$Value") (n := "HUNGER") (d := "LStrangeKnives$Value;") (v := .ref (E 2 4)) hx hb (hE.1 4 (by decide)).1 hS hown (hts _ q1546) (fun _ h => h) dX2_weight_94 ?_
  refine lv_aload hx hb dX2_weight_97 (lv_at hl 0 rfl) ?_
  refine P_fld hx hb hts hown hK (hT.at hS hNA) i hi 1 (v := .int (nI (T 3 i))) (by decide) (hts _ q1355) rfl dX2_weight_99 ?_
  refine see_call ⟨hx, hb, hml, hown, hts⟩ hK hZ hS hvz hne hV 4 (by decide) q1532 ⟨Nat.le_of_ble_eq_true rfl, Nat.le_of_ble_eq_true rfl⟩ hl.1 (Nat.le_of_ble_eq_true rfl) dX2_weight_102 ⟨Nat.zero_le _, Nat.zero_le _⟩ (fun H locs hk hV hS => ?_)
  have hR := hR.kept (fun q h1 h2 => hk q h2 (hN q h1)) _ _ _
  refine lv_aload_n hx hb dX2_weight_105 rfl (lv_at hl 1 rfl) ?_
  refine T_fld hx hb hts hown hK (hT.at hS hNA) 8 (v := .ref (tw 6)) (by decide) (hts _ q548) (fun _ _ => rfl) dX2_weight_106 ?_
  refine va_gets (C := "StrangeKnives$Value") (n := "THANKED") (d := "LStrangeKnives$Value;") (v := .ref (E 2 5)) hx hb (hE.1 5 (by decide)).1 hS hown (hts _ q1547) (fun _ h => h) dX2_weight_109 ?_
  refine lv_iload_n hx hb dX2_weight_112 rfl (lv_at hl 4 rfl) ?_
  refine see_call ⟨hx, hb, hml, hown, hts⟩ hK hZ hS hvz hne hV 5 (by decide) q1532 ⟨Nat.le_of_ble_eq_true rfl, Nat.le_of_ble_eq_true rfl⟩ hl.1 (Nat.le_of_ble_eq_true rfl) dX2_weight_113 ⟨Nat.zero_le _, Nat.zero_le _⟩ (fun H locs hk hV hS => ?_)
  have hR := hR.kept (fun q h1 h2 => hk q h2 (hN q h1)) _ _ _
  have hV := hV
  have hVe : VU D cA (tw 6) vo (wenv T i b th u v) H := ⟨hV.1, arr_cong (wfin_env f T i b th u v) hV.2⟩
  refine lv_iconst (v := 1) hx hb dX2_weight_116 (by decide) ?_
  refine lv_bipush (v := 99) hx hb dX2_weight_117 (by decide) ?_
  refine lv_aload_n hx hb dX2_weight_119 rfl (lv_at hl 1 rfl) ?_
  refine T_cuts hx hb hts hown hK (hT.at hS hNA) (hts _ q546) dX2_weight_120 (fun h1 => absurd h1 (by omega)) (fun a h1 hR => ?_)
  refine lv_aload_n hx hb dX2_weight_123 rfl (lv_at hl 1 rfl) ?_
  refine T_fld hx hb hts hown hK (hT.at hS hNA) 8 (v := .ref (tw 6)) (by decide) (hts _ q548) (fun _ _ => rfl) dX2_weight_124 ?_
  refine by_call ⟨hx, hb, hml, hown, hts⟩ hS hAz hK hZ 700 a (sgns T) hR hVe (BY_all D cA z0 E (tw 6) vo (wenv T i b th u v) N 700) q1548 ⟨Nat.le_of_ble_eq_true rfl, Nat.le_of_ble_eq_true rfl⟩ hl.1 (Nat.le_of_ble_eq_true rfl) dX2_weight_127 ⟨Nat.zero_le _, Nat.zero_le _⟩ (fun r H locs hw hk hS => ?_)
  have hV := hV.keptA hk
  refine J_mnI hx hb hml hl.1 hown (hts _ q1566) (hts _ q291) (hts _ q118) (hts _ q292) (Nat.le_of_ble_eq_true rfl) (Nat.le_of_ble_eq_true rfl) (Nat.zero_le _) (Nat.zero_le _) dX2_weight_130 ?_
  refine J_mxI hx hb hml hl.1 hown (hts _ q1567) (hts _ q273) (hts _ q118) (hts _ q274) (Nat.le_of_ble_eq_true rfl) (Nat.le_of_ble_eq_true rfl) (Nat.zero_le _) (Nat.zero_le _) dX2_weight_133 ?_
  exact W.iret hx hb hr (fun t ht _ => ⟨⟨_, _, rfl, (by unfold wgt evalc; rw [if_neg (fun h => h.elim (fun h => absurd h (by omega)) (fun h => kk_n2 c1 h)), hw []]; rfl), VU.at hV ht⟩, hS.F ht⟩) hS.2.2 dX2_weight_136 hlocks
section XWT
variable {p : Program} {l : Launch} {e : Env} {R : Room} {s : State} {m : MethodId} {args : Array Value} {below : List Frame} {meth : Method} {c : Code} {H : Heap} {locs : List Loc} {cells slots : Nat} {Q : State → Prop}
variable {cc : ByteArray} {pc nL : Nat} {ls : Array Slot} {rest st0 : List Value} {D : va_G} {cA : Nat → ClassId} {E : Nat → Nat → Nat} {T : TT} {tw : Nat → Nat} {z0 : Nat} {N : Nat → Prop} {own : String} {index : Nat} {ad : Nat → Nat} {h : Mem}
theorem X_weight (S : CallFix p m c cc nL s args lw_all own) (hK : KK D cA s) (hZ : FZ z0 E s s.heap) (hT : TW D cA E T tw (ad 70) N H) (hN : ∀ q, N q → ¬ XA ad q) (hM : XW D cA ad (tw 9) h H) (hJ : XJ z0 ad) (hS : va_S (XA ad) s.heap H locs) (i : Nat) (hi : i < T 0 0) {x th u v : Int32} (ex : x = nI i) (b : Nat) (hb9 : b < T 0 1) (cw : CallW R s args own RX2 index yX2_weight cX2_weight 7 (some .int) (ws_ yX2_weight cX2_weight 7 (some .int)) ({ frames := 720, cells := 0, slots := 0, locals := 40000 }) 0 0 5) (hsize : ls.size = nL) (hW : (rest.map fun v => v.category).sum ≤ 8) (hdg : decode cc pc = .ok (.invokevirtual index, 3)) (hc : cells ≤ R.cells ∧ slots ≤ R.slots)
    (kk : ∀ (w : Nat → Int32) (H1 : Heap) (locs1 : List Loc), XW D cA ad (tw 9) (setp h 70 w) H1 → va_S (XA ad) s.heap H1 locs1 → W p l e R s m args below meth c H1 locs1 cells slots Q (F0 m (pc + 3) ls (.int (wgt T i b th u v) :: rest))) : W p l e R s m args below meth c H locs cells slots Q (F0 m pc ls (.int v :: .int u :: .int th :: .ref (tw (200 + b)) :: .int x :: .ref (tw 9) :: rest)) := by
  subst ex
  have hp : Xpl 70 := Or.inl rfl
  have hA70 : ∀ q, (fun q => q = ad 70) q → XA ad q := fun q h => ⟨70, hp, h⟩
  have h6 : N (tw 6) := hT.2.2.2.2.2.1.2
  have hne : tw 6 ≠ ad 70 := fun q => hN _ h6 ⟨70, hp, q⟩
  have hV : VU D cA (tw 6) (ad 70) (h 70) H := ⟨hT.2.2.2.2.2.1.1, hM.2.2.2.2.2 70 rfl⟩
  refine va_calli (va_runV (As := [.int (nI i), .ref (tw (200 + b)), .int th, .int u, .int v]) (b := tw 9) (C := RX2) S (metX2_weight l D cA z0 E T tw (ad 70) N (h 70) (fun q h1 h2 => hN q h1 ⟨70, hp, h2⟩) hne (hJ.2 70 hp) i hi b hb9 th u v) cw ⟨PhW.blind.pc, hT.recvT hK, fun U hU hW => ⟨rfl, by rw [hU]; exact hV, PhT.go hT hK hZ hS hJ.z hU hW⟩⟩ rfl rfl hsize rfl (lv_room hW) hdg hc) hS (fun q _ h => hA70 q h) hA70 (fun r w t H1 locs1 ht hvm hw hB hz hk hS1 => ?_)
  subst hw
  refine kk w H1 locs1 ?_ hS1
  have hB : VU D cA (tw 6) (ad 70) w H1 := ht ▸ hB
  exact hM.spv hJ (show Xarr 70 = true from rfl) hB.2 (fun q h1 h2 => hk q h1 h2)
end XWT
