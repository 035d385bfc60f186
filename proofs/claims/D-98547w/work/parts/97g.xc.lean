/-! 97g.xc, printed by tools/mk_xc.py: constructors of a rule's parts; the Reader's words and signs as the pure parser's -/
def NwU (D : va_G) (cA : Nat → ClassId) (q ci : Nat) (fs : List Value) (U : State) : Prop := va_at D vwCl (q, .inr (ci, fs)) U.heap ∧ KK D cA U ∧ NW U
theorem NW.calling {U : State} {g : JFrame} {mk : MethodId} {a : Array Value} (h2 : NW U) : NW (U.calling g mk a) := ⟨fun q hq => va_Nw.same (U := U.calling g mk a) rfl rfl (h2.1 q hq), fun q hq => va_Nw.same (U := U.calling g mk a) rfl rfl (h2.2.1 q hq), fun q hq => va_Nw.same (U := U.calling g mk a) rfl rfl (h2.2.2.1 q hq), fun q hq => va_Nw.same (U := U.calling g mk a) rfl rfl (h2.2.2.2.1 q hq), fun q hq => (h2.2.2.2.2.1 q hq).moved (U := U.calling g mk a) (Vm.Alike.refl U.vm), fun a' => word_at (s := U) (U := U.calling g mk a) (State.WarmedH.refl U) (Or.inl rfl) (h2.2.2.2.2.2 #[])⟩
theorem NwU.blind {D : va_G} {cA : Nat → ClassId} {q ci : Nat} {fs : List Value} : Blind (NwU D cA q ci fs) := fun U g mk a h => ⟨h.1, va_K.moved (u := U) (U := U.calling g mk a) (Vm.Alike.refl U.vm) h.2.1, h.2.2.calling⟩
theorem NwU.go {D : va_G} {cA : Nat → ClassId} {q ci : Nat} {fs : List Value} {s U : State} {H : Heap} (h : va_at D vwCl (q, .inr (ci, fs)) H) (hK : KK D cA s) (hN : NW s) (hU : U.heap = H) (hW : s.WarmedH U.vm) : NwU D cA q ci fs U := ⟨by rw [hU]; exact h, va_K.moved hW.alike hK, hN.warm hW⟩
set_option maxHeartbeats 4000000 in
set_option maxRecDepth 100000 in
theorem metX11_init (l : Launch) {q : Nat} : Met l yX11_init (ws_ yX11_init cX11_init 1 none) ({ frames := 1, cells := 0, slots := 0, locals := 40 }) (va_Pc [.ref q] (fun _ => True)) (RQv True) (0) (0) (NoA) := by
  refine Met.ofW (cc := cX11_init) (maxL := 1) (ret := none) (by decide) rfl ?_
  intro p e s m args below meth c s₁ B hml hv
  obtain ⟨rfl, hv⟩ := hv
  have hx := B.exec
  have hb := B.bytes
  have hret := B.returns
  have hts := atoms_spec (ws := ws_ yX11_init cX11_init 1 none) B.pre
  have hts : ∀ w ∈ lw_all, w.before _ s = true := fun w h => hts w (List.mem_cons_of_mem _ h)
  have hown : s.vm.findClass RX11 = some m.cls := findClass_of_methodNamed B.named
  have hlocks := B.notSynchronized
  have hS : va_S (NoA) s.heap s.heap [] := va_S.rf
  have hl := lv_entry ([.ref q]) (n := 1) (Nat.le_of_ble_eq_true rfl)
  rw [lg_entry_eq]
  generalize (lg_sl ([.ref q]) ++ List.replicate (1 - (lg_sl ([.ref q])).length) Slot.unset).toArray = ls at hl ⊢
  have hl : lv_has ls 1 [(0, .ref q)] := hl
  refine lv_aload_n hx hb dX11_init_0 rfl (lv_at hl 0 rfl) ?_
  refine W.objInit hx hb hown (hts _ q1244) (hts _ q152) (hts _ q153) rfl (by rw [hml]; exact hl.1) rfl dX11_init_1 (Nat.le_of_ble_eq_true rfl) (Nat.le_of_ble_eq_true rfl) ?_
  show W p l e _ s m _ below meth c _ _ _ _ _ (F0 m 4 ls [])
  exact W.vret hx hb hret (fun t ht _ => ⟨⟨(), rfl, trivial, trivial⟩, hS.F ht⟩) hS.2.2 dX11_init_4 hlocks
set_option maxHeartbeats 4000000 in
set_option maxRecDepth 100000 in
theorem metX12_init (l : Launch) {D : va_G} {cA : Nat → ClassId} {q : Nat} {x : Int32} : Met l yX12_init (ws_ yX12_init cX12_init 2 none) ({ frames := 2, cells := 0, slots := 0, locals := 80 }) (va_Pc [.ref q, .int x] (NwU D cA q 9 [.int 0])) (va_Qv (fun _ : Unit => True) (fun _ t => va_at D vwCl (q, .inr (9, [.int x])) t.heap) (ONE q)) (0) (0) (ONE q) := by
  refine Met.ofW (cc := cX12_init) (maxL := 2) (ret := none) (by decide) rfl ?_
  intro p e s m args below meth c s₁ B hml hv
  obtain ⟨rfl, hv⟩ := hv
  have hx := B.exec
  have hb := B.bytes
  have hret := B.returns
  have hts := atoms_spec (ws := ws_ yX12_init cX12_init 2 none) B.pre
  have hts : ∀ w ∈ lw_all, w.before _ s = true := fun w h => hts w (List.mem_cons_of_mem _ h)
  have hown : s.vm.findClass RX12 = some m.cls := findClass_of_methodNamed B.named
  have hlocks := B.notSynchronized
  have hS : va_S (ONE q) s.heap s.heap [] := va_S.rf
  have hl := lv_entry ([.ref q, .int x]) (n := 2) (Nat.le_of_ble_eq_true rfl)
  rw [lg_entry_eq]
  generalize (lg_sl ([.ref q, .int x]) ++ List.replicate (2 - (lg_sl ([.ref q, .int x])).length) Slot.unset).toArray = ls at hl ⊢
  have hl : lv_has ls 2 [(0, .ref q), (1, .int x)] := hl
  obtain ⟨h1, hK, hN⟩ := hv
  have hin : meth.name = "<init>" := (name_of_methodNamed B.named B.method).1
  refine lv_aload_n hx hb dX12_init_0 rfl (lv_at hl 0 rfl) ?_
  refine va_callv (va_runIN (As := []) (rest := []) ⟨hx, hb, hml, hown, hts⟩ (metX11_init l (q := q)) ⟨va_cnB 0 hts (lw_meth q1243) rfl rfl rfl (hN.2.1 _ (List.mem_of_getElem? (i := 5) rfl)) (hts _ q135) (by decide +kernel) ⟨Nat.le_of_ble_eq_true rfl, Nat.le_of_ble_eq_true rfl⟩, rfl, hts _ q1242⟩ ⟨(fun a U g mk q => ⟨q.1, trivial⟩), fun U hU hW => ⟨rfl, trivial⟩⟩ rfl rfl hl.1 rfl (lv_room (Nat.le_of_ble_eq_true rfl)) dX12_init_1 ⟨Nat.zero_le _, Nat.zero_le _⟩) hS (fun _ _ h => h.elim) (fun _ h => h.elim) (fun u t H locs ht hvm hw hB hz hk hS => ?_)
  subst ht
  have h1 := h1.kept (hk _ h1.lt (fun h => h))
  refine lv_aload_n hx hb dX12_init_4 rfl (lv_at hl 0 rfl) ?_
  refine lv_iload_n hx hb dX12_init_5 rfl (lv_at hl 1 rfl) ?_
  refine h_putF (A := ONE q) (C := RX12) (T := TX12) (N := 1) (ci := 9) (v := .int x) hx hb hts in_X12 tyX12 tyX12_ok nmX12 hown hK h1 rfl hS rfl 0 (by decide) (hts _ q1245) (fun _ h9 => h9) rfl hin rfl (ty := .int) (by decide +kernel) rfl rfl (Nat.lt_of_lt_of_le (by decide : 0 < 1) (Nat.le_of_eq rfl)) dX12_init_6 (fun H locs h1 oq hz hS => ?_)
  exact W.vret hx hb hret (fun t ht _ => ⟨⟨(), rfl, trivial, (show va_at _ _ _ t.heap from ht ▸ h1)⟩, hS.F ht⟩) hS.2.2 dX12_init_9 hlocks
set_option maxHeartbeats 4000000 in
set_option maxRecDepth 100000 in
theorem metX13_init (l : Launch) {D : va_G} {cA : Nat → ClassId} {q : Nat} {x : Nat} : Met l yX13_init (ws_ yX13_init cX13_init 2 none) ({ frames := 2, cells := 0, slots := 0, locals := 80 }) (va_Pc [.ref q, .ref x] (NwU D cA q 10 [.null])) (va_Qv (fun _ : Unit => True) (fun _ t => va_at D vwCl (q, .inr (10, [.ref x])) t.heap) (ONE q)) (0) (0) (ONE q) := by
  refine Met.ofW (cc := cX13_init) (maxL := 2) (ret := none) (by decide) rfl ?_
  intro p e s m args below meth c s₁ B hml hv
  obtain ⟨rfl, hv⟩ := hv
  have hx := B.exec
  have hb := B.bytes
  have hret := B.returns
  have hts := atoms_spec (ws := ws_ yX13_init cX13_init 2 none) B.pre
  have hts : ∀ w ∈ lw_all, w.before _ s = true := fun w h => hts w (List.mem_cons_of_mem _ h)
  have hown : s.vm.findClass RX13 = some m.cls := findClass_of_methodNamed B.named
  have hlocks := B.notSynchronized
  have hS : va_S (ONE q) s.heap s.heap [] := va_S.rf
  have hl := lv_entry ([.ref q, .ref x]) (n := 2) (Nat.le_of_ble_eq_true rfl)
  rw [lg_entry_eq]
  generalize (lg_sl ([.ref q, .ref x]) ++ List.replicate (2 - (lg_sl ([.ref q, .ref x])).length) Slot.unset).toArray = ls at hl ⊢
  have hl : lv_has ls 2 [(0, .ref q), (1, .ref x)] := hl
  obtain ⟨h1, hK, hN⟩ := hv
  have hin : meth.name = "<init>" := (name_of_methodNamed B.named B.method).1
  refine lv_aload_n hx hb dX13_init_0 rfl (lv_at hl 0 rfl) ?_
  refine va_callv (va_runIN (As := []) (rest := []) ⟨hx, hb, hml, hown, hts⟩ (metX11_init l (q := q)) ⟨va_cnB 0 hts (lw_meth q1243) rfl rfl rfl (hN.2.1 _ (List.mem_of_getElem? (i := 4) rfl)) (hts _ q135) (by decide +kernel) ⟨Nat.le_of_ble_eq_true rfl, Nat.le_of_ble_eq_true rfl⟩, rfl, hts _ q1242⟩ ⟨(fun a U g mk q => ⟨q.1, trivial⟩), fun U hU hW => ⟨rfl, trivial⟩⟩ rfl rfl hl.1 rfl (lv_room (Nat.le_of_ble_eq_true rfl)) dX13_init_1 ⟨Nat.zero_le _, Nat.zero_le _⟩) hS (fun _ _ h => h.elim) (fun _ h => h.elim) (fun u t H locs ht hvm hw hB hz hk hS => ?_)
  subst ht
  have h1 := h1.kept (hk _ h1.lt (fun h => h))
  refine lv_aload_n hx hb dX13_init_4 rfl (lv_at hl 0 rfl) ?_
  refine lv_aload_n hx hb dX13_init_5 rfl (lv_at hl 1 rfl) ?_
  refine h_putF (A := ONE q) (C := RX13) (T := TX13) (N := 1) (ci := 10) (v := .ref x) hx hb hts in_X13 tyX13 tyX13_ok nmX13 hown hK h1 rfl hS rfl 0 (by decide) (hts _ q1281) (fun _ h9 => h9) rfl hin rfl (ty := .object "StrangeKnives$Value") (by decide +kernel) rfl rfl (Nat.lt_of_lt_of_le (by decide : 0 < 1) (Nat.le_of_eq rfl)) dX13_init_6 (fun H locs h1 oq hz hS => ?_)
  exact W.vret hx hb hret (fun t ht _ => ⟨⟨(), rfl, trivial, (show va_at _ _ _ t.heap from ht ▸ h1)⟩, hS.F ht⟩) hS.2.2 dX13_init_9 hlocks
set_option maxHeartbeats 4000000 in
set_option maxRecDepth 100000 in
theorem metX15_init (l : Launch) {D : va_G} {cA : Nat → ClassId} {q : Nat} {x : Nat} : Met l yX15_init (ws_ yX15_init cX15_init 2 none) ({ frames := 2, cells := 0, slots := 0, locals := 80 }) (va_Pc [.ref q, .ref x] (NwU D cA q 12 [.null])) (va_Qv (fun _ : Unit => True) (fun _ t => va_at D vwCl (q, .inr (12, [.ref x])) t.heap) (ONE q)) (0) (0) (ONE q) := by
  refine Met.ofW (cc := cX15_init) (maxL := 2) (ret := none) (by decide) rfl ?_
  intro p e s m args below meth c s₁ B hml hv
  obtain ⟨rfl, hv⟩ := hv
  have hx := B.exec
  have hb := B.bytes
  have hret := B.returns
  have hts := atoms_spec (ws := ws_ yX15_init cX15_init 2 none) B.pre
  have hts : ∀ w ∈ lw_all, w.before _ s = true := fun w h => hts w (List.mem_cons_of_mem _ h)
  have hown : s.vm.findClass RX15 = some m.cls := findClass_of_methodNamed B.named
  have hlocks := B.notSynchronized
  have hS : va_S (ONE q) s.heap s.heap [] := va_S.rf
  have hl := lv_entry ([.ref q, .ref x]) (n := 2) (Nat.le_of_ble_eq_true rfl)
  rw [lg_entry_eq]
  generalize (lg_sl ([.ref q, .ref x]) ++ List.replicate (2 - (lg_sl ([.ref q, .ref x])).length) Slot.unset).toArray = ls at hl ⊢
  have hl : lv_has ls 2 [(0, .ref q), (1, .ref x)] := hl
  obtain ⟨h1, hK, hN⟩ := hv
  have hin : meth.name = "<init>" := (name_of_methodNamed B.named B.method).1
  refine lv_aload_n hx hb dX15_init_0 rfl (lv_at hl 0 rfl) ?_
  refine va_callv (va_runIN (As := []) (rest := []) ⟨hx, hb, hml, hown, hts⟩ (metX11_init l (q := q)) ⟨va_cnB 0 hts (lw_meth q1243) rfl rfl rfl (hN.2.1 _ (List.mem_of_getElem? (i := 3) rfl)) (hts _ q135) (by decide +kernel) ⟨Nat.le_of_ble_eq_true rfl, Nat.le_of_ble_eq_true rfl⟩, rfl, hts _ q1242⟩ ⟨(fun a U g mk q => ⟨q.1, trivial⟩), fun U hU hW => ⟨rfl, trivial⟩⟩ rfl rfl hl.1 rfl (lv_room (Nat.le_of_ble_eq_true rfl)) dX15_init_1 ⟨Nat.zero_le _, Nat.zero_le _⟩) hS (fun _ _ h => h.elim) (fun _ h => h.elim) (fun u t H locs ht hvm hw hB hz hk hS => ?_)
  subst ht
  have h1 := h1.kept (hk _ h1.lt (fun h => h))
  refine lv_aload_n hx hb dX15_init_4 rfl (lv_at hl 0 rfl) ?_
  refine lv_aload_n hx hb dX15_init_5 rfl (lv_at hl 1 rfl) ?_
  refine h_putF (A := ONE q) (C := RX15) (T := TX15) (N := 1) (ci := 12) (v := .ref x) hx hb hts in_X15 tyX15 tyX15_ok nmX15 hown hK h1 rfl hS rfl 0 (by decide) (hts _ q1328) (fun _ h9 => h9) rfl hin rfl (ty := .object "StrangeKnives$Expr") (by decide +kernel) rfl rfl (Nat.lt_of_lt_of_le (by decide : 0 < 1) (Nat.le_of_eq rfl)) dX15_init_6 (fun H locs h1 oq hz hS => ?_)
  exact W.vret hx hb hret (fun t ht _ => ⟨⟨(), rfl, trivial, (show va_at _ _ _ t.heap from ht ▸ h1)⟩, hS.F ht⟩) hS.2.2 dX15_init_9 hlocks
set_option maxHeartbeats 4000000 in
set_option maxRecDepth 100000 in
theorem metX14_init (l : Launch) {D : va_G} {cA : Nat → ClassId} {q : Nat} {ac : Int32} {x y : Nat} (hcn : narrow .char (.int ac) = .int ac ∧ fits .char (.int ac) = true) : Met l yX14_init (ws_ yX14_init cX14_init 4 none) ({ frames := 2, cells := 0, slots := 0, locals := 80 }) (va_Pc [.ref q, .int ac, .ref x, .ref y] (NwU D cA q 11 [.int 0, .null, .null])) (va_Qv (fun _ : Unit => True) (fun _ t => va_at D vwCl (q, .inr (11, [.int ac, .ref x, .ref y])) t.heap) (ONE q)) (0) (0) (ONE q) := by
  refine Met.ofW (cc := cX14_init) (maxL := 4) (ret := none) (by decide) rfl ?_
  intro p e s m args below meth c s₁ B hml hv
  obtain ⟨rfl, hv⟩ := hv
  have hx := B.exec
  have hb := B.bytes
  have hret := B.returns
  have hts := atoms_spec (ws := ws_ yX14_init cX14_init 4 none) B.pre
  have hts : ∀ w ∈ lw_all, w.before _ s = true := fun w h => hts w (List.mem_cons_of_mem _ h)
  have hown : s.vm.findClass RX14 = some m.cls := findClass_of_methodNamed B.named
  have hlocks := B.notSynchronized
  have hS : va_S (ONE q) s.heap s.heap [] := va_S.rf
  have hl := lv_entry ([.ref q, .int ac, .ref x, .ref y]) (n := 4) (Nat.le_of_ble_eq_true rfl)
  rw [lg_entry_eq]
  generalize (lg_sl ([.ref q, .int ac, .ref x, .ref y]) ++ List.replicate (4 - (lg_sl ([.ref q, .int ac, .ref x, .ref y])).length) Slot.unset).toArray = ls at hl ⊢
  have hl : lv_has ls 4 [(0, .ref q), (1, .int ac), (2, .ref x), (3, .ref y)] := hl
  obtain ⟨h1, hK, hN⟩ := hv
  have hin : meth.name = "<init>" := (name_of_methodNamed B.named B.method).1
  refine lv_aload_n hx hb dX14_init_0 rfl (lv_at hl 0 rfl) ?_
  refine va_callv (va_runIN (As := []) (rest := []) ⟨hx, hb, hml, hown, hts⟩ (metX11_init l (q := q)) ⟨va_cnB 0 hts (lw_meth q1243) rfl rfl rfl (hN.2.1 _ (List.mem_of_getElem? (i := 2) rfl)) (hts _ q135) (by decide +kernel) ⟨Nat.le_of_ble_eq_true rfl, Nat.le_of_ble_eq_true rfl⟩, rfl, hts _ q1242⟩ ⟨(fun a U g mk q => ⟨q.1, trivial⟩), fun U hU hW => ⟨rfl, trivial⟩⟩ rfl rfl hl.1 rfl (lv_room (Nat.le_of_ble_eq_true rfl)) dX14_init_1 ⟨Nat.zero_le _, Nat.zero_le _⟩) hS (fun _ _ h => h.elim) (fun _ h => h.elim) (fun u t H locs ht hvm hw hB hz hk hS => ?_)
  subst ht
  have h1 := h1.kept (hk _ h1.lt (fun h => h))
  refine lv_aload_n hx hb dX14_init_4 rfl (lv_at hl 0 rfl) ?_
  refine lv_iload_n hx hb dX14_init_5 rfl (lv_at hl 1 rfl) ?_
  refine h_putF (A := ONE q) (C := RX14) (T := TX14) (N := 3) (ci := 11) (v := .int ac) hx hb hts in_X14 tyX14 tyX14_ok nmX14 hown hK h1 rfl hS rfl 0 (by decide) (hts _ q1308) (fun _ h9 => h9) rfl hin rfl (ty := .char) (by decide +kernel) hcn.1 hcn.2 (Nat.lt_of_lt_of_le (by decide : 0 < 3) (Nat.le_of_eq rfl)) dX14_init_6 (fun H locs h1 oq hz hS => ?_)
  refine lv_aload_n hx hb dX14_init_9 rfl (lv_at hl 0 rfl) ?_
  refine lv_aload_n hx hb dX14_init_10 rfl (lv_at hl 2 rfl) ?_
  refine h_putF (A := ONE q) (C := RX14) (T := TX14) (N := 3) (ci := 11) (v := .ref x) hx hb hts in_X14 tyX14 tyX14_ok nmX14 hown hK h1 rfl hS rfl 1 (by decide) (hts _ q1309) (fun _ h9 => h9) rfl hin rfl (ty := .object "StrangeKnives$Expr") (by decide +kernel) rfl rfl (Nat.lt_of_lt_of_le (by decide : 1 < 3) (Nat.le_of_eq rfl)) dX14_init_11 (fun H locs h1 oq hz hS => ?_)
  refine lv_aload_n hx hb dX14_init_14 rfl (lv_at hl 0 rfl) ?_
  refine lv_aload_n hx hb dX14_init_15 rfl (lv_at hl 3 rfl) ?_
  refine h_putF (A := ONE q) (C := RX14) (T := TX14) (N := 3) (ci := 11) (v := .ref y) hx hb hts in_X14 tyX14 tyX14_ok nmX14 hown hK h1 rfl hS rfl 2 (by decide) (hts _ q1310) (fun _ h9 => h9) rfl hin rfl (ty := .object "StrangeKnives$Expr") (by decide +kernel) rfl rfl (Nat.lt_of_lt_of_le (by decide : 2 < 3) (Nat.le_of_eq rfl)) dX14_init_16 (fun H locs h1 oq hz hS => ?_)
  exact W.vret hx hb hret (fun t ht _ => ⟨⟨(), rfl, trivial, (show va_at _ _ _ t.heap from ht ▸ h1)⟩, hS.F ht⟩) hS.2.2 dX14_init_19 hlocks
section XRL
variable {D : va_G} {E : Nat → Nat → Nat} {N N' : Nat → Prop} {H H1 : Heap}
theorem XR.up : ∀ {k m q : Nat} {cd : List Int32}, k ≤ m → XR D E N H k q cd → XR D E N H m q cd := by
  intro k
  induction k with
  | zero => intro m q cd _ h; exact h.elim
  | succ k ih =>
    intro m q cd hkm h
    obtain ⟨m, rfl⟩ : ∃ j, m = j + 1 := ⟨m - 1, by omega⟩
    rcases h with ⟨v, h1, h2, h3⟩ | ⟨i, h1, h2, h3⟩ | ⟨q, c1, h1, h2, h3⟩ | ⟨op, q1, q2, c1, c2, h0, h1, h2, h3, h4⟩
    · exact Or.inl ⟨v, h1, h2, h3⟩
    · exact Or.inr (Or.inl ⟨i, h1, h2, h3⟩)
    · exact Or.inr (Or.inr (Or.inl ⟨q, c1, h1, h2, ih (by omega) h3⟩))
    · exact Or.inr (Or.inr (Or.inr ⟨op, q1, q2, c1, c2, h0, h1, h2, ih (by omega) h3, ih (by omega) h4⟩))
theorem XR.monoN (hN : ∀ q, N q → N' q) : ∀ {k q : Nat} {cd : List Int32}, XR D E N H k q cd → XR D E N' H k q cd := by
  intro k
  induction k with
  | zero => intro q cd h; exact h.elim
  | succ k ih =>
    intro q cd h
    rcases h with ⟨v, h1, h2, h3⟩ | ⟨i, h1, h2, h3⟩ | ⟨q, c1, h1, h2, h3⟩ | ⟨op, q1, q2, c1, c2, h0, h1, h2, h3, h4⟩
    · exact Or.inl ⟨v, h1, h2, h3.1, hN _ h3.2⟩
    · exact Or.inr (Or.inl ⟨i, h1, h2, h3.1, hN _ h3.2⟩)
    · exact Or.inr (Or.inr (Or.inl ⟨q, c1, h1, ⟨h2.1, hN _ h2.2⟩, ih h3⟩))
    · exact Or.inr (Or.inr (Or.inr ⟨op, q1, q2, c1, c2, h0, h1, ⟨h2.1, hN _ h2.2⟩, ih h3, ih h4⟩))
theorem XR.both {k1 k2 q q1 q2 : Nat} {c1 c2 : List Int32} {op : Int32 × Int32} (hop : op ∈ xops) (hq : va_at D vwCl (q, .inr (11, [.int op.1, .ref q1, .ref q2])) H) (hN : N q) (h1 : XR D E N H k1 q1 c1) (h2 : XR D E N H k2 q2 c2) : XR D E N H (k1 + k2 + 1) q (c1 ++ c2 ++ [op.2]) := Or.inr (Or.inr (Or.inr ⟨op, q1, q2, c1, c2, hop, rfl, ⟨hq, hN⟩, XR.up (by omega) h1, XR.up (by omega) h2⟩))
/-- at q lies a rule whose signs are what cs' adds to cs, in cells from lo on, below hi -/
def EXq (D : va_G) (E : Nat → Nat → Nat) (lo hi : Nat) (H : Heap) (cs cs' : List Nat) (q : Nat) : Prop := ∃ w : List Nat, cs' = cs ++ w ∧ XR D E (fun x => lo ≤ x ∧ x < hi) H w.length q (w.map sgN)
theorem EXq.kept {lo hi q : Nat} {cs cs' : List Nat} (h : EXq D E lo hi H cs cs' q) (hk : ∀ x, lo ≤ x → x < hi → x < H.size → H1[x]? = H[x]?) : EXq D E lo hi H1 cs cs' q := by
  obtain ⟨w, e, h⟩ := h
  exact ⟨w, e, XR.kept (fun x hx h2 => hk x hx.1 hx.2 h2) _ _ _ h⟩
theorem EXq.wide {lo lo' hi hi' q : Nat} {cs cs' : List Nat} (h : EXq D E lo hi H cs cs' q) (hl : lo' ≤ lo) (hh : hi ≤ hi') : EXq D E lo' hi' H cs cs' q := by
  obtain ⟨w, e, h⟩ := h
  exact ⟨w, e, XR.monoN (fun x hx => ⟨Nat.le_trans hl hx.1, Nat.lt_of_lt_of_le hx.2 hh⟩) h⟩
theorem EXq.num {lo hi q v : Nat} {cs : List Nat} (hv : v < 10000) (h : va_at D vwCl (q, .inr (9, [.int (nI v)])) H) (hlo : lo ≤ q) (hhi : q < hi) : EXq D E lo hi H cs (cs ++ [v]) q := ⟨[v], rfl, Or.inl ⟨v, hv, by show [sgN v] = _; unfold sgN; rw [if_pos hv], h, hlo, hhi⟩⟩
theorem EXq.seen {lo hi q i : Nat} {cs : List Nat} (hi6 : i < 6) (h : va_at D vwCl (q, .inr (10, [.ref (E 2 i)])) H) (hlo : lo ≤ q) (hhi : q < hi) : EXq D E lo hi H cs (cs ++ [10001 + i]) q := ⟨[10001 + i], rfl, Or.inr (Or.inl ⟨i, hi6, by
  show [sgN (10001 + i)] = _
  rw [show sgN (10001 + i) = -1 - nI i from (by decide +kernel : ∀ j : Fin 6, sgN (10001 + j.1) = -1 - nI j.1) ⟨i, hi6⟩], h, hlo, hhi⟩)⟩
theorem EXq.not {lo hi q q1 : Nat} {cs cs' : List Nat} (h1 : EXq D E lo hi H cs cs' q1) (h : va_at D vwCl (q, .inr (12, [.ref q1])) H) (hlo : lo ≤ q) (hhi : q < hi) : EXq D E lo hi H cs (cs' ++ [10028]) q := by
  obtain ⟨w, rfl, h1⟩ := h1
  refine ⟨w ++ [10028], by rw [List.append_assoc], ?_⟩
  rw [List.length_append, List.map_append]
  exact Or.inr (Or.inr (Or.inl ⟨q1, w.map sgN, by rw [show [10028].map sgN = [-28] by decide +kernel], ⟨h, hlo, hhi⟩, h1⟩))
theorem EXq.both {lo hi q q1 q2 c : Nat} {op : Int32 × Int32} {cs cs1 cs2 : List Nat} (hop : op ∈ xops) (hc : sgN c = op.2) (h1 : EXq D E lo hi H cs cs1 q1) (h2 : EXq D E lo hi H cs1 cs2 q2) (h : va_at D vwCl (q, .inr (11, [.int op.1, .ref q1, .ref q2])) H) (hlo : lo ≤ q) (hhi : q < hi) : EXq D E lo hi H cs (cs2 ++ [c]) q := by
  obtain ⟨w1, rfl, h1⟩ := h1
  obtain ⟨w2, rfl, h2⟩ := h2
  refine ⟨w1 ++ w2 ++ [c], by simp only [List.append_assoc], ?_⟩
  rw [List.length_append, List.length_append, List.map_append, List.map_append, show [c].map sgN = [op.2] by rw [← hc]; rfl]
  exact XR.both hop h ⟨hlo, hhi⟩ h1 h2
end XRL
section ISR
variable {tp : Nat → Nat} {n b i : Nat}
theorem ty1_le (h : ty tp n b = 1) : ∀ k, b + k < en tp n b → isLb (tp (b + k)) = true := by
  intro k hk
  unfold ty at h
  split at h
  · cases h
  rename_i h2
  split at h
  · rename_i h4
    unfold en at hk
    rw [if_neg h2, if_pos h4] at hk
    have g := (run_p (P := leB tp n) (n := n) (fun _ h => leB_n h) (f := n) (k := b) (by omega) (by omega)).2.2.2 (b + k) (by omega) hk
    unfold leB at g
    rw [Bool.and_eq_true] at g
    exact g.2
  · split at h <;> (try split at h) <;> cases h
theorem ty1_en (h : ty tp n b = 1) : b < en tp n b := by
  refine en_lt ?_
  unfold ty at h
  split at h
  · cases h
  · omega
theorem ty3_mb (h : ty tp n b = 3) : isMb (tp b) = true ∧ isLb (tp b) = false := by
  unfold ty at h
  split at h
  · cases h
  split at h
  · cases h
  rename_i h2
  split at h
  · cases h
  split at h
  · rename_i h4
    exact ⟨h4, Bool.eq_false_iff.mpr h2⟩
  · cases h
theorem wdT_get {k : Nat} (h : ty tp n b = 1) (hk : k < min 8 (en tp n b - b)) : (wdT tp n b).getD k 0 = tp (b + k) := by
  unfold wdT
  rw [if_pos h, List.getD_eq_getElem?_getD, List.getElem?_map, List.getElem?_range hk]
  rfl
theorem wdT_ln (h : ty tp n b = 1) : (wdT tp n b).length = min 8 (en tp n b - b) := by
  unfold wdT
  rw [if_pos h, List.length_map, List.length_range]
theorem isR_wd (h7 : (txt i).length ≤ 7 ∧ 0 < (txt i).length ∧ isLb ((txt i).getD 0 0) = true) : isR tp n b i = wdS tp n i b := by
  have key : ((ty tp n b = 1 ∨ ty tp n b = 3) ∧ wdT tp n b = txt i) ↔ (ty tp n b = 1 ∧ en tp n b - b = (txt i).length) ∧ ∀ k, k < (txt i).length → (txt i).getD k 0 = tp (b + k) := by
    constructor
    · rintro ⟨h1 | h3, h⟩
      · have hl := wdT_ln h1
        rw [h] at hl
        have he : en tp n b - b = (txt i).length := by omega
        refine ⟨⟨h1, he⟩, fun k hk => ?_⟩
        rw [← h]
        exact wdT_get h1 (by omega)
      · have hw : wdT tp n b = [tp b] := by unfold wdT; rw [if_neg (by rw [h3]; decide), if_pos h3]
        rw [hw] at h
        have hl := h7.2.2
        rw [← h, show ([tp b] : List Nat).getD 0 0 = tp b from rfl, (ty3_mb h3).2] at hl
        cases hl
    · rintro ⟨⟨h1, he⟩, h⟩
      refine ⟨Or.inl h1, tx_ext (by rw [wdT_ln h1]; omega) (fun k hk => ?_)⟩
      rw [wdT_ln h1] at hk
      rw [wdT_get h1 hk, h k (by omega)]
  unfold isR wdS
  rw [Bool.eq_iff_iff, decide_eq_true_iff, Bool.and_eq_true, decide_eq_true_iff, key, allB_t]
  constructor
  · rintro ⟨a, b⟩; exact ⟨a, fun k hk => decide_eq_true (b k hk)⟩
  · rintro ⟨a, b⟩; exact ⟨a, fun k hk => of_decide_eq_true (b k hk)⟩
theorem isR_sg {ch : Nat} (h : txt i = [ch]) (hm : isLb ch = false) : isR tp n b i = sgS tp n ch b := by
  unfold isR sgS
  rw [Bool.eq_iff_iff, decide_eq_true_iff, decide_eq_true_iff, h]
  constructor
  · rintro ⟨h1 | h3, h⟩
    · have h2 := ty1_en h1
      have hl := wdT_ln h1
      have h4 := wdT_get h1 (k := 0) (by omega)
      rw [h, show ([ch] : List Nat).getD 0 0 = ch from rfl, Nat.add_zero] at h4
      have h5 := ty1_le h1 0 (by omega)
      rw [Nat.add_zero, ← h4, hm] at h5
      cases h5
    · have hw : wdT tp n b = [tp b] := by unfold wdT; rw [if_neg (by rw [h3]; decide), if_pos h3]
      rw [hw] at h
      exact ⟨h3, (List.cons.inj h).1⟩
  · rintro ⟨h3, rfl⟩
    exact ⟨Or.inr h3, by unfold wdT; rw [if_neg (by rw [h3]; decide), if_pos h3]⟩
end ISR
