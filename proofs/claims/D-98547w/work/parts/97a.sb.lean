/-! 97a.sb, printed by tools/mk_sb.py: a StringBuilder of capacity 8 -/
def SBW (D : va_G) (cA : Nat → ClassId) (q v k : Nat) (f : Nat → Int32) (H : Heap) : Prop := va_at D vwCl (q, .inr (18, [.ref v, .int 0, .int 0, .int (nI k)])) H ∧ va_at D vwCl (v, .inl (cA 1, 8, .inl f)) H
abbrev TWO (q v : Nat) : Nat → Prop := fun x => x = q ∨ x = v
theorem SBW.ne {D : va_G} {cA : Nat → ClassId} {q v k : Nat} {f : Nat → Int32} {H : Heap} {s : State} (hK : KK D cA s) (h : SBW D cA q v k f H) : q ≠ v := by
  intro e
  subst e
  obtain ⟨cell, g1, g2, g3⟩ := at_recv (q := (RJ8, TJ8, 4)) hK h.1 rfl
  have h2 : H[q]? = some (vp_cell (cA 1) (8, .inl f)) := h.2
  have e1 : s.vm.findClass "[B" = some (cA 1) := (hK.2 1 (cA 1, .byte) rfl).2
  cases g1.symm.trans h2
  obtain ⟨k1, a1, a2⟩ := Vm.findClass_spec g3
  obtain ⟨k2, b1, b2⟩ := Vm.findClass_spec e1
  cases a1.symm.trans b1
  rw [a2] at b2
  exact absurd b2 (by decide)
theorem SBW.kept {D : va_G} {cA : Nat → ClassId} {q v k : Nat} {f : Nat → Int32} {H H1 : Heap} (h : SBW D cA q v k f H) (hk : ∀ x, x < H.size → H1[x]? = H[x]?) : SBW D cA q v k f H1 := ⟨h.1.kept (hk _ h.1.lt), h.2.kept (hk _ h.2.lt)⟩
theorem SBW.recv {D : va_G} {cA : Nat → ClassId} {q v k : Nat} {f : Nat → Int32} {H : Heap} {s : State} (hK : KK D cA s) (h : SBW D cA q v k f H) : ∃ cell : Cell, H[q]? = some cell ∧ cell.vm.isStatics = false ∧ s.vm.findClass RJ8 = some cell.cls := at_recv (q := (RJ8, TJ8, 4)) hK h.1 rfl
def SBU (D : va_G) (cA : Nat → ClassId) (q v k : Nat) (f : Nat → Int32) (U : State) : Prop := SBW D cA q v k f U.heap ∧ KK D cA U ∧ SC NoA U U.heap ∧ SelP U
theorem SBU.blind {D : va_G} {cA : Nat → ClassId} {q v k : Nat} {f : Nat → Int32} : Blind (SBU D cA q v k f) := fun U g mk a h => ⟨h.1, va_K.moved (u := U) (U := U.calling g mk a) (Vm.Alike.refl U.vm) h.2.1, SC.moved (U := U.calling g mk a) (Vm.Alike.refl U.vm) h.2.2.1, fun a' => word_at (s := U) (U := U.calling g mk a) (State.WarmedH.refl U) (Or.inl rfl) (h.2.2.2 #[])⟩
theorem SBU.go {D : va_G} {cA : Nat → ClassId} {q v k : Nat} {f : Nat → Int32} {s U : State} {H : Heap} (h : SBW D cA q v k f H) (hK : KK D cA s) (hC : SC NoA s H) (hP : SelP s) (hU : U.heap = H) (hW : s.WarmedH U.vm) : SBU D cA q v k f U := ⟨by rw [hU]; exact h, va_K.moved hW.alike hK, by rw [hU]; exact hC.moved hW.alike, fun a' => word_at hW (Or.inl rfl) (hP #[])⟩
def ACU (D : va_G) (cA : Nat → ClassId) (q : Nat) (sz : Nat) (U : State) : Prop := va_at D vwCl (q, .inr (18, [.null, .int 0, .int 0, .int 0])) U.heap ∧ KK D cA U ∧ SC NoA U U.heap ∧ U.heap.size = sz
theorem ACU.blind {D : va_G} {cA : Nat → ClassId} {q sz : Nat} : Blind (ACU D cA q sz) := fun U g mk a h => ⟨h.1, va_K.moved (u := U) (U := U.calling g mk a) (Vm.Alike.refl U.vm) h.2.1, SC.moved (U := U.calling g mk a) (Vm.Alike.refl U.vm) h.2.2.1, h.2.2.2⟩
abbrev OSZ (q sz : Nat) : Nat → Prop := fun x => x = q ∨ sz ≤ x
theorem SC.nz {A : Nat → Prop} {s : State} {H : Heap} {q : Nat} {D : va_G} {ci : Nat} {fs : List Value} (h : SC A s H) (g1 : va_at D vwCl (q, .inr (ci, fs)) H) : va_Z "java/lang/String" "COMPACT_STRINGS" "Z" (.int 1) (OSZ q H.size) s H := by
  obtain ⟨cf, kf, fi, f, a, cell, h1, h2, h3, h4, h5, h6, h7, h8⟩ := h.1
  refine ⟨cf, kf, fi, f, a, cell, h1, h2, h3, h4, h5, h6, h7, fun hA => hA.elim (fun e => ?_) (fun e => Nat.lt_irrefl _ (Nat.lt_of_lt_of_le (Array.getElem?_eq_some_iff.mp h5).1 e))⟩
  subst e
  obtain ⟨r, -, cell2, q1, -, q3, -⟩ := g1
  cases h5.symm.trans q1
  rw [q3] at h6
  cases h6
set_option maxHeartbeats 4000000 in
set_option maxRecDepth 100000 in
theorem metJ7_init (l : Launch) {D : va_G} {cA : Nat → ClassId} {q sz : Nat} : Met l yJ7_init (ws_ yJ7_init cJ7_init 2 none) ({ frames := 2, cells := 1, slots := 8, locals := 60 }) (va_Pc [.ref q, .int 8] (ACU D cA q sz)) (va_Qv (fun _ : Unit => True) (fun _ t => SBW D cA q sz 0 (fun _ => 0) t.heap) (OSZ q sz)) 1 8 (OSZ q sz) := by
  refine Met.ofW (cc := cJ7_init) (maxL := 2) (ret := none) (by decide) rfl ?_
  intro p e s m args below meth c s₁ B hml hv
  obtain ⟨rfl, hv⟩ := hv
  have hx := B.exec
  have hb := B.bytes
  have hr := B.returns
  have hts := atoms_spec (ws := ws_ yJ7_init cJ7_init 2 none) B.pre
  have hts : ∀ w ∈ lw_all, w.before _ s = true := fun w h => hts w (List.mem_cons_of_mem _ h)
  have hown : s.vm.findClass RJ7 = some m.cls := findClass_of_methodNamed B.named
  have hlocks := B.notSynchronized
  have hS : va_S (OSZ q sz) s.heap s.heap [] := va_S.rf
  have hl := lv_entry ([.ref q, .int 8]) (n := 2) (Nat.le_of_ble_eq_true rfl)
  rw [lg_entry_eq]
  generalize (lg_sl ([.ref q, .int 8]) ++ List.replicate (2 - (lg_sl ([.ref q, .int 8])).length) Slot.unset).toArray = ls at hl ⊢
  have hl : lv_has ls 2 [(0, .ref q), (1, .int 8)] := hl
  have hin : meth.name = "<init>" := (name_of_methodNamed B.named B.method).1
  have hv0 := hv.1.lt
  obtain ⟨h1, hK, hC, hsz⟩ := hv
  subst hsz
  refine lv_aload_n hx hb dJ7_init_0 rfl (lv_at hl 0 rfl) ?_
  refine W.objInit hx hb hown (hts _ q225) (hts _ q152) (hts _ q153) rfl (by rw [hml]; exact hl.1) rfl dJ7_init_1 (Nat.le_of_ble_eq_true rfl) (Nat.le_of_ble_eq_true rfl) ?_
  show W p l e _ s m _ below meth c _ _ _ _ _ (F0 m 4 ls [])
  refine va_gets hx hb (hC.nz h1) hS hown (hts _ q226) (fun _ h9 => h9) dJ7_init_4 ?_
  refine lv_if_eq (tgt := 25) hx hb dJ7_init_7 (by decide) (fun c9 => absurd c9 (by decide)) (fun c9 => ?_)
  refine lv_aload_n hx hb dJ7_init_10 rfl (lv_at hl 0 rfl) ?_
  refine lv_iload_n hx hb dJ7_init_11 rfl (lv_at hl 1 rfl) ?_
  refine h_newab (n9 := 8) hx hb (hts _ q248) hK 1 rfl hS (by decide) (by decide) (by decide) (Nat.le_of_ble_eq_true rfl) (Nat.le_of_ble_eq_true rfl) dJ7_init_12 (fun H2 h2 oq hz hS => ?_)
  have h1 := h1.kept (oq _ h1.lt)
  have hqv : q ≠ s.heap.size := Nat.ne_of_lt (by have := hv0; exact this)
  refine h_put (A := OSZ q s.heap.size) (C := RJ8) (T := TJ8) (N := 4) (ci := 18) (v := .ref s.heap.size) hx hb hts in_J8 tyJ8 tyJ8_ok nmJ8 hown hK h1 (Or.inl rfl) hS rfl 0 (by decide) (hts _ q235) (fun _ h9 => h9) rfl (ty := .array .byte) (by decide +kernel) rfl rfl (Nat.lt_of_lt_of_le (by decide : 0 < 4) (Nat.le_of_eq rfl)) dJ7_init_14 (fun H locs h1 oq hz hS => ?_)
  have h2 := h2.kept (oq _ hqv.symm)
  refine lv_aload_n hx hb dJ7_init_17 rfl (lv_at hl 0 rfl) ?_
  refine lv_iconst (v := 0) hx hb dJ7_init_18 (by decide) ?_
  refine h_put (A := OSZ q s.heap.size) (C := RJ8) (T := TJ8) (N := 4) (ci := 18) (v := .int 0) hx hb hts in_J8 tyJ8 tyJ8_ok nmJ8 hown hK h1 (Or.inl rfl) hS rfl 1 (by decide) (hts _ q236) (fun _ h9 => h9) rfl (ty := .byte) (by decide +kernel) rfl rfl (Nat.lt_of_lt_of_le (by decide : 1 < 4) (Nat.le_of_eq rfl)) dJ7_init_19 (fun H locs h1 oq hz hS => ?_)
  have h2 := h2.kept (oq _ hqv.symm)
  refine lv_goto (tgt := 38) hx hb dJ7_init_22 (by decide) ?_
  exact W.vret hx hb hr (fun t ht _ => ⟨⟨(), rfl, trivial, (show SBW _ _ _ _ _ _ t.heap from ht ▸ ⟨h1, h2⟩)⟩, hS.F ht⟩) hS.2.2 dJ7_init_38 hlocks
set_option maxHeartbeats 4000000 in
set_option maxRecDepth 100000 in
theorem metJ8_init_2 (l : Launch) {D : va_G} {cA : Nat → ClassId} {q sz : Nat} : Met l yJ8_init_2 (ws_ yJ8_init_2 cJ8_init_2 2 none) ({ frames := 3, cells := 1, slots := 8, locals := 100 }) (va_Pc [.ref q, .int 8] (ACU D cA q sz)) (va_Qv (fun _ : Unit => True) (fun _ t => SBW D cA q sz 0 (fun _ => 0) t.heap) (OSZ q sz)) 1 8 (OSZ q sz) := by
  refine Met.ofW (cc := cJ8_init_2) (maxL := 2) (ret := none) (by decide) rfl ?_
  intro p e s m args below meth c s₁ B hml hv
  obtain ⟨rfl, hv⟩ := hv
  have hx := B.exec
  have hb := B.bytes
  have hr := B.returns
  have hts := atoms_spec (ws := ws_ yJ8_init_2 cJ8_init_2 2 none) B.pre
  have hts : ∀ w ∈ lw_all, w.before _ s = true := fun w h => hts w (List.mem_cons_of_mem _ h)
  have hown : s.vm.findClass RJ8 = some m.cls := findClass_of_methodNamed B.named
  have hlocks := B.notSynchronized
  have hS : va_S (OSZ q sz) s.heap s.heap [] := va_S.rf
  have hl := lv_entry ([.ref q, .int 8]) (n := 2) (Nat.le_of_ble_eq_true rfl)
  rw [lg_entry_eq]
  generalize (lg_sl ([.ref q, .int 8]) ++ List.replicate (2 - (lg_sl ([.ref q, .int 8])).length) Slot.unset).toArray = ls at hl ⊢
  have hl : lv_has ls 2 [(0, .ref q), (1, .int 8)] := hl
  obtain ⟨h1, hK, hC, hsz⟩ := hv
  subst hsz
  refine lv_aload_n hx hb dJ8_init_2_0 rfl (lv_at hl 0 rfl) ?_
  refine lv_iload_n hx hb dJ8_init_2_1 rfl (lv_at hl 1 rfl) ?_
  refine va_callv (va_runI (As := [.int 8]) (rest := []) ⟨hx, hb, hml, hown, hts⟩ (metJ7_init l (D := D) (cA := cA) (q := q) (sz := s.heap.size)) (cwI 1 hts (lw_meth q224) rfl rfl rfl (hts _ q113) (hts _ q222) (hts _ q223) rfl (by decide +kernel) ⟨Nat.le_of_ble_eq_true rfl, Nat.le_of_ble_eq_true rfl⟩) ⟨ACU.blind.pc, fun U hU hW => ⟨rfl, (by unfold ACU; rw [hU]; exact ⟨h1, va_K.moved hW.alike hK, hC.moved hW.alike, rfl⟩)⟩⟩ rfl rfl hl.1 rfl (lv_room (Nat.le_of_ble_eq_true rfl)) dJ8_init_2_2 ⟨Nat.le_of_ble_eq_true rfl, Nat.le_of_ble_eq_true rfl⟩) hS (fun _ _ h => h) (fun _ h => h) (fun u t H locs ht hvm hw hB hz hk hS => ?_)
  subst ht
  exact W.vret hx hb hr (fun t ht _ => ⟨⟨(), rfl, trivial, (show SBW _ _ _ _ _ _ t.heap from ht ▸ hB)⟩, hS.F ht⟩) hS.2.2 dJ8_init_2_5 hlocks
set_option maxHeartbeats 4000000 in
set_option maxRecDepth 100000 in
theorem metJ7_isLatin1 (l : Launch) {D : va_G} {cA : Nat → ClassId} {q v k : Nat} {f : Nat → Int32} : Met l yJ7_isLatin1 (ws_ yJ7_isLatin1 cJ7_isLatin1 1 (some .boolean)) ({ frames := 1, cells := 0, slots := 0, locals := 30 }) (va_Pc [.ref q] (SBU D cA q v k f)) (RQi (fun r => r = 1)) 0 0 (NoA) := by
  refine Met.ofW (cc := cJ7_isLatin1) (maxL := 1) (ret := (some .boolean)) (by decide) rfl ?_
  intro p e s m args below meth c s₁ B hml hv
  obtain ⟨rfl, hv⟩ := hv
  have hx := B.exec
  have hb := B.bytes
  have hr := B.returns
  have hts := atoms_spec (ws := ws_ yJ7_isLatin1 cJ7_isLatin1 1 (some .boolean)) B.pre
  have hts : ∀ w ∈ lw_all, w.before _ s = true := fun w h => hts w (List.mem_cons_of_mem _ h)
  have hown : s.vm.findClass RJ7 = some m.cls := findClass_of_methodNamed B.named
  have hlocks := B.notSynchronized
  have hS : va_S (NoA) s.heap s.heap [] := va_S.rf
  have hl := lv_entry ([.ref q]) (n := 1) (Nat.le_of_ble_eq_true rfl)
  rw [lg_entry_eq]
  generalize (lg_sl ([.ref q]) ++ List.replicate (1 - (lg_sl ([.ref q])).length) Slot.unset).toArray = ls at hl ⊢
  have hl : lv_has ls 1 [(0, .ref q)] := hl
  obtain ⟨hB, hK, hC, hP⟩ := hv
  refine va_gets hx hb hC.1 hS hown (hts _ q226) (fun _ h9 => h9) dJ7_isLatin1_0 ?_
  refine lv_if_eq (tgt := 17) hx hb dJ7_isLatin1_3 (by decide) (fun c9 => absurd c9 (by decide)) (fun c9 => ?_)
  refine lv_aload_n hx hb dJ7_isLatin1_6 rfl (lv_at hl 0 rfl) ?_
  refine h_get (C := RJ8) (T := TJ8) (N := 4) (ci := 18) (v := .int 0) hx hb hts in_J8 hown hK hB.1 rfl 1 (by decide) (hts _ q236) (fun _ h9 => h9) rfl dJ7_isLatin1_7 ?_
  refine lv_if_ne (tgt := 17) hx hb dJ7_isLatin1_10 (by decide) (fun c9 => absurd (rfl : (0 : Int32) = 0) c9) (fun c9 => ?_)
  refine lv_iconst (v := 1) hx hb dJ7_isLatin1_13 (by decide) ?_
  refine lv_goto (tgt := 18) hx hb dJ7_isLatin1_14 (by decide) ?_
  exact W.zret (v := 1) hx hb hr rfl (fun t ht _ => ⟨⟨_, (), rfl, rfl, trivial⟩, hS.F ht⟩) hS.2.2 dJ7_isLatin1_18 hlocks
set_option maxHeartbeats 4000000 in
set_option maxRecDepth 100000 in
theorem metJ7_ensure (l : Launch) {D : va_G} {cA : Nat → ClassId} {q v k : Nat} {f : Nat → Int32} {z : Nat} (hz8 : z ≤ 8) : Met l yJ7_ensureCapacityInternal (ws_ yJ7_ensureCapacityInternal cJ7_ensureCapacityInternal 3 none) ({ frames := 1, cells := 0, slots := 0, locals := 30 }) (va_Pc [.ref q, .int (nI z)] (SBU D cA q v k f)) (RQv True) 0 0 (NoA) := by
  refine Met.ofW (cc := cJ7_ensureCapacityInternal) (maxL := 3) (ret := none) (by decide) rfl ?_
  intro p e s m args below meth c s₁ B hml hv
  obtain ⟨rfl, hv⟩ := hv
  have hx := B.exec
  have hb := B.bytes
  have hr := B.returns
  have hts := atoms_spec (ws := ws_ yJ7_ensureCapacityInternal cJ7_ensureCapacityInternal 3 none) B.pre
  have hts : ∀ w ∈ lw_all, w.before _ s = true := fun w h => hts w (List.mem_cons_of_mem _ h)
  have hown : s.vm.findClass RJ7 = some m.cls := findClass_of_methodNamed B.named
  have hlocks := B.notSynchronized
  have hS : va_S (NoA) s.heap s.heap [] := va_S.rf
  have hl := lv_entry ([.ref q, .int (nI z)]) (n := 3) (Nat.le_of_ble_eq_true rfl)
  rw [lg_entry_eq]
  generalize (lg_sl ([.ref q, .int (nI z)]) ++ List.replicate (3 - (lg_sl ([.ref q, .int (nI z)])).length) Slot.unset).toArray = ls at hl ⊢
  have hl : lv_has ls 3 [(0, .ref q), (1, .int (nI z))] := hl
  obtain ⟨hB, hK, hC, hP⟩ := hv
  refine lv_aload_n hx hb dJ7_ensureCapacityInternal_0 rfl (lv_at hl 0 rfl) ?_
  refine h_get (C := RJ8) (T := TJ8) (N := 4) (ci := 18) (v := .ref v) hx hb hts in_J8 hown hK hB.1 rfl 0 (by decide) (hts _ q235) (fun _ h9 => h9) rfl dJ7_ensureCapacityInternal_1 ?_
  refine h_alen (v := nI 8) hx hb hK hB.2 1 rfl rfl dJ7_ensureCapacityInternal_4 ?_
  refine lv_aload_n hx hb dJ7_ensureCapacityInternal_5 rfl (lv_at hl 0 rfl) ?_
  refine h_get (C := RJ8) (T := TJ8) (N := 4) (ci := 18) (v := .int 0) hx hb hts in_J8 hown hK hB.1 rfl 1 (by decide) (hts _ q236) (fun _ h9 => h9) rfl dJ7_ensureCapacityInternal_6 ?_
  refine lv_ishr hx hb dJ7_ensureCapacityInternal_9 ?_
  rw [show nI 8 >>> ((0 : Int32) &&& 31) = nI 8 by decide]
  refine lv_istore_n (lv' := [(2, .int (nI 8)), (0, .ref q), (1, .int (nI z))]) hx hb dJ7_ensureCapacityInternal_10 rfl hl (by decide) rfl (fun ls hl => ?_)
  refine lv_iload_n hx hb dJ7_ensureCapacityInternal_11 rfl (lv_at hl 2 rfl) ?_
  refine lv_iload_n hx hb dJ7_ensureCapacityInternal_12 rfl (lv_at hl 0 rfl) ?_
  refine lv_isub hx hb dJ7_ensureCapacityInternal_13 ?_
  refine lv_if_le (tgt := 38) hx hb dJ7_ensureCapacityInternal_14 (by decide) (fun c9 => ?_) (fun c9 => absurd ((by decide +kernel : ∀ z : Fin 9, nI z.1 - nI 8 ≤ 0) ⟨z, by omega⟩) c9)
  exact W.vret hx hb hr (fun t ht _ => ⟨⟨(), rfl, trivial, trivial⟩, hS.F ht⟩) hS.2.2 dJ7_ensureCapacityInternal_38 hlocks
set_option maxHeartbeats 4000000 in
set_option maxRecDepth 100000 in
theorem metJ7_append_3 (l : Launch) {D : va_G} {cA : Nat → ClassId} {q v k : Nat} {f : Nat → Int32} {ch : Nat} (hk8 : k < 8) (hc : ch < 128) : Met l yJ7_append_3 (ws_ yJ7_append_3 cJ7_append_3 2 (some (.object "java/lang/AbstractStringBuilder"))) ({ frames := 2, cells := 0, slots := 0, locals := 80 }) (va_Pc [.ref q, .int (nI ch)] (SBU D cA q v k f)) (va_Qr (fun _ : Unit => True) (fun _ a t => a = q ∧ SBW D cA q v (k + 1) (upd f k (nI ch)) t.heap) (TWO q v)) 0 0 (TWO q v) := by
  refine Met.ofW (cc := cJ7_append_3) (maxL := 2) (ret := (some (.object "java/lang/AbstractStringBuilder"))) (by decide) rfl ?_
  intro p e s m args below meth c s₁ B hml hv
  obtain ⟨rfl, hv⟩ := hv
  have hx := B.exec
  have hb := B.bytes
  have hr := B.returns
  have hts := atoms_spec (ws := ws_ yJ7_append_3 cJ7_append_3 2 (some (.object "java/lang/AbstractStringBuilder"))) B.pre
  have hts : ∀ w ∈ lw_all, w.before _ s = true := fun w h => hts w (List.mem_cons_of_mem _ h)
  have hown : s.vm.findClass RJ7 = some m.cls := findClass_of_methodNamed B.named
  have hlocks := B.notSynchronized
  have hS : va_S (TWO q v) s.heap s.heap [] := va_S.rf
  have hl := lv_entry ([.ref q, .int (nI ch)]) (n := 2) (Nat.le_of_ble_eq_true rfl)
  rw [lg_entry_eq]
  generalize (lg_sl ([.ref q, .int (nI ch)]) ++ List.replicate (2 - (lg_sl ([.ref q, .int (nI ch)])).length) Slot.unset).toArray = ls at hl ⊢
  have hl : lv_has ls 2 [(0, .ref q), (1, .int (nI ch))] := hl
  obtain ⟨hB, hK, hC, hP⟩ := hv
  have hqv := hB.ne hK
  refine lv_aload_n hx hb dJ7_append_3_0 rfl (lv_at hl 0 rfl) ?_
  refine lv_aload_n hx hb dJ7_append_3_1 rfl (lv_at hl 0 rfl) ?_
  refine h_get (C := RJ8) (T := TJ8) (N := 4) (ci := 18) (v := .int (nI k)) hx hb hts in_J8 hown hK hB.1 rfl 3 (by decide) (hts _ q238) (fun _ h9 => h9) rfl dJ7_append_3_2 ?_
  refine lv_iconst (v := 1) hx hb dJ7_append_3_5 (by decide) ?_
  refine lv_iadd hx hb dJ7_append_3_6 ?_
  rw [nI_1]
  refine va_callv (va_runV (C := RJ8) (As := [.int (nI (k + 1))]) (rest := []) ⟨hx, hb, hml, hown, hts⟩ (metJ7_ensure l (D := D) (cA := cA) (q := q) (v := v) (k := k) (f := f) (z := k + 1) (by omega)) ⟨callB_of 1 hts (lw_meth q264) rfl rfl rfl (hts _ q113) (hts _ q261) (by decide +kernel) ⟨Nat.le_of_ble_eq_true rfl, Nat.le_of_ble_eq_true rfl⟩, hts _ q263, hP _⟩ ⟨SBU.blind.pc, hB.recv hK, fun U hU hW => ⟨rfl, SBU.go hB hK hC hP hU hW⟩⟩ rfl rfl hl.1 rfl (lv_room (Nat.le_of_ble_eq_true rfl)) dJ7_append_3_7 ⟨Nat.zero_le _, Nat.zero_le _⟩) hS (fun _ _ h => h.elim) (fun _ h => h.elim) (fun u t H locs ht hvm hw hB9 hz hk hS => ?_)
  have hk := fun x hx9 => hk x hx9 (fun h9 => h9)
  have hB := hB.kept hk
  have hC := hC.kept (H1 := H) (fun x h9 _ => hk x h9)
  refine lv_aload_n hx hb dJ7_append_3_10 rfl (lv_at hl 0 rfl) ?_
  refine R_callUI (As := []) (rest := []) (C := RJ8) ⟨hx, hb, hml, hown, hts⟩ hS (metJ7_isLatin1 l (D := D) (cA := cA) (q := q) (v := v) (k := k) (f := f)) SBU.blind (fun U hU hW => SBU.go hB hK hC hP hU hW) (hB.recv hK) (va_cwU (owner := "java/lang/AbstractStringBuilder") 0 hts (lw_U q296 q298 q299 q297 q113 q300) rfl rfl rfl rfl (by decide +kernel) ⟨Nat.le_of_ble_eq_true rfl, Nat.le_of_ble_eq_true rfl⟩) rfl hl.1 rfl (Nat.le_of_ble_eq_true rfl) dJ7_append_3_11 ⟨Nat.zero_le _, Nat.zero_le _⟩ (fun r H locs hw hk hS => ?_)
  subst hw
  have hB := hB.kept hk
  refine lv_if_eq (tgt := 45) hx hb dJ7_append_3_14 (by decide) (fun c9 => absurd c9 (by decide)) (fun c9 => ?_)
  refine lv_iload_n hx hb dJ7_append_3_17 rfl (lv_at hl 1 rfl) ?_
  refine R_callIS (Φ := fun _ => True) (As := [.int (nI ch)]) (rest := []) ⟨hx, hb, hml, hown, hts⟩ hS (metJ15_canEncode l hc) (fun _ _ _ _ h => h) (fun U hU hW => trivial) (va_cwS 1 hts (lw_S q1035 q1036 q122 q1037) rfl rfl rfl (by decide +kernel) ⟨Nat.le_of_ble_eq_true rfl, Nat.le_of_ble_eq_true rfl⟩) rfl hl.1 rfl (Nat.le_of_ble_eq_true rfl) dJ7_append_3_18 ⟨Nat.zero_le _, Nat.zero_le _⟩ (fun r H locs hw hk hS => ?_)
  subst hw
  have hB := hB.kept hk
  refine lv_if_eq (tgt := 45) hx hb dJ7_append_3_21 (by decide) (fun c9 => absurd c9 (by decide)) (fun c9 => ?_)
  refine lv_aload_n hx hb dJ7_append_3_24 rfl (lv_at hl 0 rfl) ?_
  refine h_get (C := RJ8) (T := TJ8) (N := 4) (ci := 18) (v := .ref v) hx hb hts in_J8 hown hK hB.1 rfl 0 (by decide) (hts _ q235) (fun _ h9 => h9) rfl dJ7_append_3_25 ?_
  refine lv_aload_n hx hb dJ7_append_3_28 rfl (lv_at hl 0 rfl) ?_
  refine lv_dup hx hb dJ7_append_3_29 rfl ?_
  refine h_get (C := RJ8) (T := TJ8) (N := 4) (ci := 18) (v := .int (nI k)) hx hb hts in_J8 hown hK hB.1 rfl 3 (by decide) (hts _ q238) (fun _ h9 => h9) rfl dJ7_append_3_30 ?_
  refine lv_dup_x1 hx hb dJ7_append_3_33 rfl rfl ?_
  refine lv_iconst (v := 1) hx hb dJ7_append_3_34 (by decide) ?_
  refine lv_iadd hx hb dJ7_append_3_35 ?_
  obtain ⟨h1, h2⟩ := hB
  refine h_put (A := TWO q v) (C := RJ8) (T := TJ8) (N := 4) (ci := 18) (v := .int ((nI k) + 1)) hx hb hts in_J8 tyJ8 tyJ8_ok nmJ8 hown hK h1 (Or.inl rfl) hS rfl 3 (by decide) (hts _ q238) (fun _ h9 => h9) rfl (ty := .int) (by decide +kernel) rfl rfl (Nat.lt_of_lt_of_le (by decide : 3 < 4) (Nat.le_of_eq rfl)) dJ7_append_3_36 (fun H locs h1 oq hz hS => ?_)
  have h2 := h2.kept (oq _ hqv.symm)
  rw [nI_1] at h1
  refine lv_iload_n hx hb dJ7_append_3_39 rfl (lv_at hl 1 rfl) ?_
  refine lv_i2b (v := nI ch) hx hb dJ7_append_3_40 (i8_eq hc) ?_
  refine h_bast (A := TWO q v) hx hb hK h2 (Or.inr rfl) hS 1 rfl (j := k) (nI_clamp (by omega)) (vp_in_nI hk8 (by decide)) dJ7_append_3_41 (fun H locs h2 oq2 hz2 hS => ?_)
  rw [vp_nar_byte, i8_eq hc] at h2
  have h1 := h1.kept (oq2 _ hqv)
  refine lv_goto (tgt := 75) hx hb dJ7_append_3_42 (by decide) ?_
  refine lv_aload_n hx hb dJ7_append_3_75 rfl (lv_at hl 0 rfl) ?_
  exact W.aret (v := .ref q) hx hb hr (Or.inl ⟨_, rfl⟩) (Or.inr ⟨_, rfl⟩) (fun t ht _ => ⟨⟨(), _, rfl, trivial, rfl, (show SBW _ _ _ _ _ _ t.heap from ht ▸ ⟨h1, h2⟩)⟩, hS.F ht⟩) hS.2.2 dJ7_append_3_76 hlocks
set_option maxHeartbeats 4000000 in
set_option maxRecDepth 100000 in
theorem metJ8_append_3 (l : Launch) {D : va_G} {cA : Nat → ClassId} {q v k : Nat} {f : Nat → Int32} {ch : Nat} (hk8 : k < 8) (hc : ch < 128) : Met l yJ8_append_3 (ws_ yJ8_append_3 cJ8_append_3 2 (some (.object "java/lang/StringBuilder"))) ({ frames := 3, cells := 0, slots := 0, locals := 120 }) (va_Pc [.ref q, .int (nI ch)] (SBU D cA q v k f)) (va_Qr (fun _ : Unit => True) (fun _ a t => a = q ∧ SBW D cA q v (k + 1) (upd f k (nI ch)) t.heap) (TWO q v)) 0 0 (TWO q v) := by
  refine Met.ofW (cc := cJ8_append_3) (maxL := 2) (ret := (some (.object "java/lang/StringBuilder"))) (by decide) rfl ?_
  intro p e s m args below meth c s₁ B hml hv
  obtain ⟨rfl, hv⟩ := hv
  have hx := B.exec
  have hb := B.bytes
  have hr := B.returns
  have hts := atoms_spec (ws := ws_ yJ8_append_3 cJ8_append_3 2 (some (.object "java/lang/StringBuilder"))) B.pre
  have hts : ∀ w ∈ lw_all, w.before _ s = true := fun w h => hts w (List.mem_cons_of_mem _ h)
  have hown : s.vm.findClass RJ8 = some m.cls := findClass_of_methodNamed B.named
  have hlocks := B.notSynchronized
  have hS : va_S (TWO q v) s.heap s.heap [] := va_S.rf
  have hl := lv_entry ([.ref q, .int (nI ch)]) (n := 2) (Nat.le_of_ble_eq_true rfl)
  rw [lg_entry_eq]
  generalize (lg_sl ([.ref q, .int (nI ch)]) ++ List.replicate (2 - (lg_sl ([.ref q, .int (nI ch)])).length) Slot.unset).toArray = ls at hl ⊢
  have hl : lv_has ls 2 [(0, .ref q), (1, .int (nI ch))] := hl
  obtain ⟨hB, hK, hC, hP⟩ := hv
  refine lv_aload_n hx hb dJ8_append_3_0 rfl (lv_at hl 0 rfl) ?_
  refine lv_iload_n hx hb dJ8_append_3_1 rfl (lv_at hl 1 rfl) ?_
  refine va_callr (va_runSU (K_at hK (ci := 18) rfl) (As := [.int (nI ch)]) (rest := []) ⟨hx, hb, hml, hown, hts⟩ (metJ7_append_3 l (D := D) (cA := cA) (q := q) (v := v) (k := k) (f := f) hk8 hc) (va_cwSU 1 hts (lw_SU q1032 q2326 q247 q1033 q113 q1034) rfl rfl rfl (by decide +kernel) ⟨Nat.le_of_ble_eq_true rfl, Nat.le_of_ble_eq_true rfl⟩) ⟨SBU.blind.pc, hB.recv hK, fun U hU hW => ⟨rfl, SBU.go hB hK hC hP hU hW⟩⟩ rfl rfl hl.1 rfl (lv_room (Nat.le_of_ble_eq_true rfl)) dJ8_append_3_2 ⟨Nat.zero_le _, Nat.zero_le _⟩) hS (fun _ _ h => h) (fun _ h => h) (fun u ra t H locs ht hvm hw hB hz hk hS => ?_)
  obtain ⟨rfl, hB⟩ := hB
  subst ht
  refine lv_pop hx hb dJ8_append_3_5 rfl ?_
  refine lv_aload_n hx hb dJ8_append_3_6 rfl (lv_at hl 0 rfl) ?_
  exact W.aret hx hb hr (Or.inl ⟨_, rfl⟩) (Or.inr ⟨_, rfl⟩) (fun t ht _ => ⟨⟨(), _, rfl, trivial, rfl, (show SBW _ _ _ _ _ _ t.heap from ht ▸ hB)⟩, hS.F ht⟩) hS.2.2 dJ8_append_3_7 hlocks
set_option maxHeartbeats 4000000 in
set_option maxRecDepth 100000 in
theorem metJ7_length (l : Launch) {D : va_G} {cA : Nat → ClassId} {q v k : Nat} {f : Nat → Int32} : Met l yJ7_length (ws_ yJ7_length cJ7_length 1 (some .int)) ({ frames := 1, cells := 0, slots := 0, locals := 30 }) (va_Pc [.ref q] (SBU D cA q v k f)) (RQi (fun r => r = nI k)) 0 0 (NoA) := by
  refine Met.ofW (cc := cJ7_length) (maxL := 1) (ret := (some .int)) (by decide) rfl ?_
  intro p e s m args below meth c s₁ B hml hv
  obtain ⟨rfl, hv⟩ := hv
  have hx := B.exec
  have hb := B.bytes
  have hr := B.returns
  have hts := atoms_spec (ws := ws_ yJ7_length cJ7_length 1 (some .int)) B.pre
  have hts : ∀ w ∈ lw_all, w.before _ s = true := fun w h => hts w (List.mem_cons_of_mem _ h)
  have hown : s.vm.findClass RJ7 = some m.cls := findClass_of_methodNamed B.named
  have hlocks := B.notSynchronized
  have hS : va_S (NoA) s.heap s.heap [] := va_S.rf
  have hl := lv_entry ([.ref q]) (n := 1) (Nat.le_of_ble_eq_true rfl)
  rw [lg_entry_eq]
  generalize (lg_sl ([.ref q]) ++ List.replicate (1 - (lg_sl ([.ref q])).length) Slot.unset).toArray = ls at hl ⊢
  have hl : lv_has ls 1 [(0, .ref q)] := hl
  obtain ⟨hB, hK, hC, hP⟩ := hv
  refine lv_aload_n hx hb dJ7_length_0 rfl (lv_at hl 0 rfl) ?_
  refine h_get (C := RJ8) (T := TJ8) (N := 4) (ci := 18) (v := .int (nI k)) hx hb hts in_J8 hown hK hB.1 rfl 3 (by decide) (hts _ q238) (fun _ h9 => h9) rfl dJ7_length_1 ?_
  exact W.zret (v := nI k) hx hb hr rfl (fun t ht _ => ⟨⟨_, (), rfl, rfl, trivial⟩, hS.F ht⟩) hS.2.2 dJ7_length_4 hlocks
set_option maxHeartbeats 4000000 in
set_option maxRecDepth 100000 in
theorem metJ8_length (l : Launch) {D : va_G} {cA : Nat → ClassId} {q v k : Nat} {f : Nat → Int32} : Met l yJ8_length (ws_ yJ8_length cJ8_length 1 (some .int)) ({ frames := 2, cells := 0, slots := 0, locals := 60 }) (va_Pc [.ref q] (SBU D cA q v k f)) (RQi (fun r => r = nI k)) 0 0 (NoA) := by
  refine Met.ofW (cc := cJ8_length) (maxL := 1) (ret := (some .int)) (by decide) rfl ?_
  intro p e s m args below meth c s₁ B hml hv
  obtain ⟨rfl, hv⟩ := hv
  have hx := B.exec
  have hb := B.bytes
  have hr := B.returns
  have hts := atoms_spec (ws := ws_ yJ8_length cJ8_length 1 (some .int)) B.pre
  have hts : ∀ w ∈ lw_all, w.before _ s = true := fun w h => hts w (List.mem_cons_of_mem _ h)
  have hown : s.vm.findClass RJ8 = some m.cls := findClass_of_methodNamed B.named
  have hlocks := B.notSynchronized
  have hS : va_S (NoA) s.heap s.heap [] := va_S.rf
  have hl := lv_entry ([.ref q]) (n := 1) (Nat.le_of_ble_eq_true rfl)
  rw [lg_entry_eq]
  generalize (lg_sl ([.ref q]) ++ List.replicate (1 - (lg_sl ([.ref q])).length) Slot.unset).toArray = ls at hl ⊢
  have hl : lv_has ls 1 [(0, .ref q)] := hl
  obtain ⟨hB, hK, hC, hP⟩ := hv
  refine lv_aload_n hx hb dJ8_length_0 rfl (lv_at hl 0 rfl) ?_
  refine R_callSI (As := []) (rest := []) (C := RJ8) ⟨hx, hb, hml, hown, hts⟩ (K_at hK (ci := 18) rfl) hS (metJ7_length l (D := D) (cA := cA) (q := q) (v := v) (k := k) (f := f)) SBU.blind (fun U hU hW => SBU.go hB hK hC hP hU hW) (hB.recv hK) (va_cwSU 0 hts (lw_SU q419 q415 q247 q414 q113 q420) rfl rfl rfl (by decide +kernel) ⟨Nat.le_of_ble_eq_true rfl, Nat.le_of_ble_eq_true rfl⟩) rfl hl.1 rfl (Nat.le_of_ble_eq_true rfl) dJ8_length_1 ⟨Nat.zero_le _, Nat.zero_le _⟩ (fun r H locs hw hk hS => ?_)
  subst hw
  exact W.zret (v := nI k) hx hb hr rfl (fun t ht _ => ⟨⟨_, (), rfl, rfl, trivial⟩, hS.F ht⟩) hS.2.2 dJ8_length_4 hlocks
set_option maxHeartbeats 4000000 in
set_option maxRecDepth 100000 in
theorem metJ7_getValue (l : Launch) {D : va_G} {cA : Nat → ClassId} {q v k : Nat} {f : Nat → Int32} : Met l yJ7_getValue (ws_ yJ7_getValue cJ7_getValue 1 (some (.array .byte))) ({ frames := 1, cells := 0, slots := 0, locals := 30 }) (va_Pc [.ref q] (SBU D cA q v k f)) (va_Qr (fun (_ : Unit) => True) (fun _ a _ => a = v) NoA) 0 0 (NoA) := by
  refine Met.ofW (cc := cJ7_getValue) (maxL := 1) (ret := (some (.array .byte))) (by decide) rfl ?_
  intro p e s m args below meth c s₁ B hml hv
  obtain ⟨rfl, hv⟩ := hv
  have hx := B.exec
  have hb := B.bytes
  have hr := B.returns
  have hts := atoms_spec (ws := ws_ yJ7_getValue cJ7_getValue 1 (some (.array .byte))) B.pre
  have hts : ∀ w ∈ lw_all, w.before _ s = true := fun w h => hts w (List.mem_cons_of_mem _ h)
  have hown : s.vm.findClass RJ7 = some m.cls := findClass_of_methodNamed B.named
  have hlocks := B.notSynchronized
  have hS : va_S (NoA) s.heap s.heap [] := va_S.rf
  have hl := lv_entry ([.ref q]) (n := 1) (Nat.le_of_ble_eq_true rfl)
  rw [lg_entry_eq]
  generalize (lg_sl ([.ref q]) ++ List.replicate (1 - (lg_sl ([.ref q])).length) Slot.unset).toArray = ls at hl ⊢
  have hl : lv_has ls 1 [(0, .ref q)] := hl
  obtain ⟨hB, hK, hC, hP⟩ := hv
  refine lv_aload_n hx hb dJ7_getValue_0 rfl (lv_at hl 0 rfl) ?_
  refine h_get (C := RJ8) (T := TJ8) (N := 4) (ci := 18) (v := .ref v) hx hb hts in_J8 hown hK hB.1 rfl 0 (by decide) (hts _ q235) (fun _ h9 => h9) rfl dJ7_getValue_1 ?_
  exact W.aret (v := .ref v) hx hb hr (Or.inr ⟨_, rfl⟩) (Or.inr ⟨_, rfl⟩) (fun t ht _ => ⟨⟨(), _, rfl, trivial, rfl⟩, hS.F ht⟩) hS.2.2 dJ7_getValue_4 hlocks
set_option maxHeartbeats 4000000 in
set_option maxRecDepth 100000 in
theorem metJ13_checkLength (l : Launch) {k : Nat} (hk : k < 2 ^ 31) : Met l yJ13_checkLength (ws_ yJ13_checkLength cJ13_checkLength 2 none) ({ frames := 1, cells := 0, slots := 0, locals := 30 }) (va_Pc [.int 0, .int (nI k)] (fun _ => True)) (RQv True) 0 0 (NoA) := by
  refine Met.ofW (cc := cJ13_checkLength) (maxL := 2) (ret := none) (by decide) rfl ?_
  intro p e s m args below meth c s₁ B hml hv
  obtain ⟨rfl, hv⟩ := hv
  have hx := B.exec
  have hb := B.bytes
  have hr := B.returns
  have hts := atoms_spec (ws := ws_ yJ13_checkLength cJ13_checkLength 2 none) B.pre
  have hts : ∀ w ∈ lw_all, w.before _ s = true := fun w h => hts w (List.mem_cons_of_mem _ h)
  have hown : s.vm.findClass RJ13 = some m.cls := findClass_of_methodNamed B.named
  have hlocks := B.notSynchronized
  have hS : va_S (NoA) s.heap s.heap [] := va_S.rf
  have hl := lv_entry ([.int 0, .int (nI k)]) (n := 2) (Nat.le_of_ble_eq_true rfl)
  rw [lg_entry_eq]
  generalize (lg_sl ([.int 0, .int (nI k)]) ++ List.replicate (2 - (lg_sl ([.int 0, .int (nI k)])).length) Slot.unset).toArray = ls at hl ⊢
  have hl : lv_has ls 2 [(0, .int 0), (1, .int (nI k))] := hl
  refine lv_iload_n hx hb dJ13_checkLength_0 rfl (lv_at hl 1 rfl) ?_
  refine lv_iload_n hx hb dJ13_checkLength_1 rfl (lv_at hl 0 rfl) ?_
  refine lv_icmp_ge (tgt := 37) hx hb dJ13_checkLength_2 (by decide) (fun c9 => ?_) (fun c9 => absurd (nI_pos' (by omega) : (0 : Int32) ≤ nI k) c9)
  exact W.vret hx hb hr (fun t ht _ => ⟨⟨(), rfl, trivial, trivial⟩, hS.F ht⟩) hS.2.2 dJ13_checkLength_37 hlocks
def CRU (D : va_G) (cA : Nat → ClassId) (v sz : Nat) (f : Nat → Int32) (U : State) : Prop := va_at D vwCl (v, .inl (cA 1, 8, .inl f)) U.heap ∧ KK D cA U ∧ va_Nw (.castable "[B" "java/lang/Cloneable") U ∧ U.heap.size = sz
theorem CRU.blind {D : va_G} {cA : Nat → ClassId} {v sz : Nat} {f : Nat → Int32} : Blind (CRU D cA v sz f) := fun U g mk a h => ⟨h.1, va_K.moved (u := U) (U := U.calling g mk a) (Vm.Alike.refl U.vm) h.2.1, va_Nw.same (U := U.calling g mk a) rfl rfl h.2.2.1, h.2.2.2⟩
abbrev CRQ (D : va_G) (cA : Nat → ClassId) (sz k : Nat) (f : Nat → Int32) : Array Value → State → Outcome → State → Prop := va_Qr (fun _ : Nat → Int32 => True) (fun g a t => sz ≤ a ∧ va_at D vwCl (a, .inl (cA 1, k, .inl g)) t.heap ∧ ∀ j, j < k → g j = f j) (NwA sz)
def BY8 (f : Nat → Int32) : Prop := ∀ j, j < 8 → (f j).toInt8.toInt32 = f j
theorem fits_b {x : Int32} (h : x.toInt8.toInt32 = x) : fits .byte (.int x) = true := by
  have e1 : (-128 : Int32).toInt = -128 := by decide
  have e2 : (127 : Int32).toInt = 127 := by decide
  have h1 := Int8.le_toInt x.toInt8
  have h2 := Int8.toInt_lt x.toInt8
  have h3 : -128 ≤ x ∧ x ≤ 127 := by
    rw [← h, Int32.le_iff_toInt_le, Int32.le_iff_toInt_le, Int8.toInt_toInt32, e1, e2]
    omega
  simp [fits, narrow, h3]
set_option maxHeartbeats 4000000 in
set_option maxRecDepth 100000 in
theorem metJ13_copyOfRangeByte (l : Launch) {D : va_G} {cA : Nat → ClassId} {v sz k : Nat} {f : Nat → Int32} (hk8 : k < 8) (hf : BY8 f) : Met l yJ13_copyOfRangeByte (ws_ yJ13_copyOfRangeByte cJ13_copyOfRangeByte 5 (some (.array .byte))) ({ frames := 3, cells := 1, slots := 8, locals := 80 }) (va_Pc [.ref v, .int 0, .int (nI k)] (CRU D cA v sz f)) (CRQ D cA sz k f) 1 8 (NwA sz) := by
  refine Met.ofW (cc := cJ13_copyOfRangeByte) (maxL := 5) (ret := (some (.array .byte))) (by decide) rfl ?_
  intro p e s m args below meth c s₁ B hml hv
  obtain ⟨rfl, hv⟩ := hv
  have hx := B.exec
  have hb := B.bytes
  have hr := B.returns
  have hts := atoms_spec (ws := ws_ yJ13_copyOfRangeByte cJ13_copyOfRangeByte 5 (some (.array .byte))) B.pre
  have hts : ∀ w ∈ lw_all, w.before _ s = true := fun w h => hts w (List.mem_cons_of_mem _ h)
  have hown : s.vm.findClass RJ13 = some m.cls := findClass_of_methodNamed B.named
  have hlocks := B.notSynchronized
  have hS : va_S (NwA sz) s.heap s.heap [] := va_S.rf
  have hl := lv_entry ([.ref v, .int 0, .int (nI k)]) (n := 5) (Nat.le_of_ble_eq_true rfl)
  rw [lg_entry_eq]
  generalize (lg_sl ([.ref v, .int 0, .int (nI k)]) ++ List.replicate (5 - (lg_sl ([.ref v, .int 0, .int (nI k)])).length) Slot.unset).toArray = ls at hl ⊢
  have hl : lv_has ls 5 [(0, .ref v), (1, .int 0), (2, .int (nI k))] := hl
  obtain ⟨h1, hK, -, hsz⟩ := hv
  subst hsz
  refine lv_iload_n hx hb dJ13_copyOfRangeByte_0 rfl (lv_at hl 1 rfl) ?_
  refine lv_iload_n hx hb dJ13_copyOfRangeByte_1 rfl (lv_at hl 2 rfl) ?_
  refine R_callVS (Φ := fun _ => True) (As := [.int 0, .int (nI k)]) (rest := []) ⟨hx, hb, hml, hown, hts⟩ hS (metJ13_checkLength l (k := k) (by omega)) (fun _ _ _ _ h => h) (fun U hU hW => trivial) (va_cwS 2 hts (lw_S q428 q429 q119 q430) rfl rfl rfl (by decide +kernel) ⟨Nat.le_of_ble_eq_true rfl, Nat.le_of_ble_eq_true rfl⟩) rfl hl.1 rfl (Nat.le_of_ble_eq_true rfl) dJ13_copyOfRangeByte_2 ⟨Nat.zero_le _, Nat.zero_le _⟩ (fun H locs hw hk hS => ?_)
  have h1 := h1.kept (hk _ h1.lt)
  have hs0 := hS.1
  refine lv_iload_n hx hb dJ13_copyOfRangeByte_5 rfl (lv_at hl 2 rfl) ?_
  refine lv_iload_n hx hb dJ13_copyOfRangeByte_6 rfl (lv_at hl 1 rfl) ?_
  refine lv_isub hx hb dJ13_copyOfRangeByte_7 ?_
  rw [show nI k - 0 = nI k from Int32.sub_zero _]
  refine lv_istore_n (lv' := [(3, .int (nI k)), (0, .ref v), (1, .int 0), (2, .int (nI k))]) hx hb dJ13_copyOfRangeByte_8 rfl hl (by decide) rfl (fun ls hl => ?_)
  refine lv_iload_n hx hb dJ13_copyOfRangeByte_9 rfl (lv_at hl 0 rfl) ?_
  refine h_newab (n9 := k) hx hb (hts _ q248) hK 1 rfl hS (nI_pos (by omega)) (nI_clamp (by omega)) (by show k * 1 ≤ 536870912; omega) (by show 0 + 1 ≤ 1; omega) (by show 0 + k ≤ 8; omega) dJ13_copyOfRangeByte_10 (fun H2 h2 oq hz hS => ?_)
  have h1 := h1.kept (oq _ h1.lt)
  generalize hq9 : H.size = q at *
  refine lv_astore (lv' := [(4, .ref q), (3, .int (nI k)), (0, .ref v), (1, .int 0), (2, .int (nI k))]) hx hb dJ13_copyOfRangeByte_12 hl (by decide) rfl (fun ls hl => ?_)
  refine lv_aload_n hx hb dJ13_copyOfRangeByte_14 rfl (lv_at hl 2 rfl) ?_
  refine lv_iload_n hx hb dJ13_copyOfRangeByte_15 rfl (lv_at hl 3 rfl) ?_
  refine lv_aload hx hb dJ13_copyOfRangeByte_16 (lv_at hl 0 rfl) ?_
  refine lv_iconst (v := 0) hx hb dJ13_copyOfRangeByte_18 (by decide) ?_
  refine lv_aload_n hx hb dJ13_copyOfRangeByte_19 rfl (lv_at hl 2 rfl) ?_
  refine h_alen (v := nI 8) hx hb hK h1 1 rfl rfl dJ13_copyOfRangeByte_20 ?_
  refine lv_iload_n hx hb dJ13_copyOfRangeByte_21 rfl (lv_at hl 3 rfl) ?_
  refine lv_isub hx hb dJ13_copyOfRangeByte_22 ?_
  rw [show nI 8 - 0 = nI 8 from Int32.sub_zero _]
  refine lv_iload_n hx hb dJ13_copyOfRangeByte_23 rfl (lv_at hl 1 rfl) ?_
  refine J_mnI hx hb hml hl.1 hown (hts _ q290) (hts _ q291) (hts _ q118) (hts _ q292) (Nat.le_of_ble_eq_true rfl) (Nat.le_of_ble_eq_true rfl) (by show 0 + 1 ≤ 1; omega) (by show 0 + k ≤ 8; omega) dJ13_copyOfRangeByte_24 ?_
  rw [show mnI (nI 8) (nI k) = nI k from if_pos (nI_lt hk8 (by decide))]
  refine h_copyi (A := NwA s.heap.size) (ty := .byte) hx hb (hml.trans hl.1.symm) hown (hts _ q293) (hts _ q295) (hts _ q294) (hts _ q120) hK h1 h2 (by show s.heap.size ≤ q; omega) hS 1 1 rfl rfl rfl (by decide) (by decide) (nI_pos (by omega)) (by rw [show ix 0 = 0 from rfl, show ix (nI k) = k from nI_clamp (by omega)]; omega) (by rw [show ix 0 = 0 from rfl, show ix (nI k) = k from nI_clamp (by omega)]; omega) (fun i hi => by rw [show ix (nI k) = k from nI_clamp (by omega)] at hi; rw [show ix 0 + i = i from Nat.zero_add i]; exact fits_b (hf i (by omega))) (Nat.le_of_ble_eq_true rfl) (Nat.le_of_ble_eq_true (by decide +kernel)) dJ13_copyOfRangeByte_27 (fun H3 locs h3 oq3 hz3 hS => ?_)
  rw [show ix 0 = 0 from rfl, show ix (nI k) = k from nI_clamp (by omega)] at h3
  refine lv_aload hx hb dJ13_copyOfRangeByte_30 (lv_at hl 0 rfl) ?_
  exact W.widen (k := 1) (n := 8) (by omega) (by omega) (W.aret (v := .ref q) hx hb hr (Or.inr ⟨_, rfl⟩) (Or.inr ⟨_, rfl⟩) (fun t ht _ => ⟨⟨_, q, rfl, trivial, by omega, (show va_at _ _ _ t.heap from ht ▸ h3), fun j hj => by rw [va_cpy, if_pos ⟨Nat.zero_le _, by omega⟩]; rw [Nat.sub_zero, Nat.zero_add]⟩, hS.F ht⟩) hS.2.2 dJ13_copyOfRangeByte_32 hlocks)
set_option maxHeartbeats 4000000 in
set_option maxRecDepth 100000 in
theorem metJ13_copyOfRange (l : Launch) {D : va_G} {cA : Nat → ClassId} {v sz k : Nat} {f : Nat → Int32} (hk8 : k ≤ 8) (hf : BY8 f) : Met l yJ13_copyOfRange (ws_ yJ13_copyOfRange cJ13_copyOfRange 3 (some (.array .byte))) ({ frames := 4, cells := 1, slots := 8, locals := 120 }) (va_Pc [.ref v, .int 0, .int (nI k)] (CRU D cA v sz f)) (CRQ D cA sz k f) 1 8 (NwA sz) := by
  refine Met.ofW (cc := cJ13_copyOfRange) (maxL := 3) (ret := (some (.array .byte))) (by decide) rfl ?_
  intro p e s m args below meth c s₁ B hml hv
  obtain ⟨rfl, hv⟩ := hv
  have hx := B.exec
  have hb := B.bytes
  have hr := B.returns
  have hts := atoms_spec (ws := ws_ yJ13_copyOfRange cJ13_copyOfRange 3 (some (.array .byte))) B.pre
  have hts : ∀ w ∈ lw_all, w.before _ s = true := fun w h => hts w (List.mem_cons_of_mem _ h)
  have hown : s.vm.findClass RJ13 = some m.cls := findClass_of_methodNamed B.named
  have hlocks := B.notSynchronized
  have hS : va_S (NwA sz) s.heap s.heap [] := va_S.rf
  have hl := lv_entry ([.ref v, .int 0, .int (nI k)]) (n := 3) (Nat.le_of_ble_eq_true rfl)
  rw [lg_entry_eq]
  generalize (lg_sl ([.ref v, .int 0, .int (nI k)]) ++ List.replicate (3 - (lg_sl ([.ref v, .int 0, .int (nI k)])).length) Slot.unset).toArray = ls at hl ⊢
  have hl : lv_has ls 3 [(0, .ref v), (1, .int 0), (2, .int (nI k))] := hl
  have hv0 := hv
  obtain ⟨h1, hK, hc9, hsz⟩ := hv
  subst hsz
  refine lv_iload_n hx hb dJ13_copyOfRange_0 rfl (lv_at hl 1 rfl) ?_
  refine lv_if_ne (tgt := 10) hx hb dJ13_copyOfRange_1 (by decide) (fun c9 => absurd (rfl : (0 : Int32) = 0) c9) (fun c9 => ?_)
  refine lv_iload_n hx hb dJ13_copyOfRange_4 rfl (lv_at hl 2 rfl) ?_
  refine lv_aload_n hx hb dJ13_copyOfRange_5 rfl (lv_at hl 0 rfl) ?_
  refine h_alen (v := nI 8) hx hb hK h1 1 rfl rfl dJ13_copyOfRange_6 ?_
  refine lv_icmp_eq (tgt := 17) hx hb dJ13_copyOfRange_7 (by decide) (fun c1 => ?_) (fun c1 => ?_)
  · have hk : k = 8 := (nI_eq (by omega) (by decide)).mp c1
    subst hk
    refine lv_aload_n hx hb dJ13_copyOfRange_17 rfl (lv_at hl 0 rfl) ?_
    refine va_clone (ws := [(v, .inl (cA 1, 8, .inl f))]) (A := OSZ v s.heap.size) (t0 := 1) (q0 := 0) (x := (8, .inl f)) (D := D) (cl := vwCl) (tys := tyL cA) hx hb (hml.trans hl.1.symm) hown (hts _ q283) (hts _ q284) (hts _ q285) (hts _ q286) (hts _ q287) hc9 hK (va_P1 h1) ⟨fun i j p q h9 h8 _ => by have a1 := (List.getElem?_eq_some_iff.mp h9).1; have a2 := (List.getElem?_eq_some_iff.mp h8).1; simp at a1 a2; omega, fun k q h9 => by have a1 := (List.getElem?_eq_some_iff.mp h9).1; simp at a1; subst a1; simp at h9; subst h9; exact Or.inl rfl⟩ ⟨Nat.le_refl _, fun _ _ _ => rfl, fun _ h9 => by cases h9⟩ (fun q h9 => Or.inr h9) rfl rfl (hK.2 1 (cA 1, .byte) rfl).2 (fun i v9 h9 => ?_) (Nat.le_of_ble_eq_true rfl) (Nat.le_of_ble_eq_true rfl) (Nat.le_of_ble_eq_true rfl) (Nat.le_of_ble_eq_true rfl) dJ13_copyOfRange_18 (fun q H2 hK2 hP2 hD2 hS2 => ?_)
    · rw [vp_cell_i] at h9
      have hi : i < 8 := by have := (Array.getElem?_eq_some_iff.mp h9).1; rwa [arrV_size] at this
      rw [arrV_read _ _ hi] at h9
      cases h9
      exact fits_b (hf i hi)
    have h2 := hP2 1 _ rfl
    have hqs : s.heap.size ≤ q := by
      have hD3 := hD2.1 0 1 (v, .inl (cA 1, 8, .inl f)) (q, .inl (cA 1, 8, .inl f)) rfl rfl
      have h4 := hD2.2 1 _ rfl
      exact h4.elim (fun e9 => absurd (hD3 e9.symm) (by decide)) (fun h9 => h9)
    have hkp : ∀ x9, x9 < s.heap.size → ¬ NwA s.heap.size x9 → H2[x9]? = s.heap[x9]? := fun x9 h8 h7 => by
      by_cases e9 : x9 = v
      · rw [e9]; exact (hP2 0 _ rfl).trans h1.symm
      · exact hS2.2.1 x9 h8 (fun h6 => h6.elim e9 h7)
    have hS : va_S (NwA s.heap.size) s.heap H2 [] := ⟨hS2.1, hkp, fun _ h9 => by cases h9⟩
    refine va_castA (D := D) (cl := vwCl) (ws := [(q, .inl (cA 1, 8, .inl f))]) hx hb hown (hts _ q289) (va_P1 h2) 0 rfl (hK.2 1 (cA 1, .byte) rfl).2 dJ13_copyOfRange_21 ?_
    exact W.aret (v := .ref q) hx hb hr (Or.inr ⟨_, rfl⟩) (Or.inr ⟨_, rfl⟩) (fun t ht _ => ⟨⟨_, q, rfl, trivial, hqs, (show va_at _ _ _ t.heap from ht ▸ h2), fun _ _ => rfl⟩, hS.F ht⟩) hS.2.2 dJ13_copyOfRange_24 hlocks
  · have hk9 : k < 8 := by
      rcases Nat.lt_or_ge k 8 with h9 | h9
      · exact h9
      · exact absurd (by rw [show k = 8 by omega]) c1
    refine lv_aload_n hx hb dJ13_copyOfRange_10 rfl (lv_at hl 0 rfl) ?_
    refine lv_iload_n hx hb dJ13_copyOfRange_11 rfl (lv_at hl 1 rfl) ?_
    refine lv_iload_n hx hb dJ13_copyOfRange_12 rfl (lv_at hl 2 rfl) ?_
    refine va_callr (va_runS (As := [.ref v, .int 0, .int (nI k)]) (rest := []) ⟨hx, hb, hml, hown, hts⟩ (metJ13_copyOfRangeByte l (D := D) (cA := cA) (v := v) (sz := s.heap.size) (k := k) (f := f) hk9 hf) (va_cwS 3 hts (lw_S q425 q426 q119 q427) rfl rfl rfl (by decide +kernel) ⟨Nat.le_of_ble_eq_true rfl, Nat.le_of_ble_eq_true rfl⟩) ⟨CRU.blind.pc, fun U hU hW => ⟨rfl, by unfold CRU; rw [hU]; exact ⟨h1, va_K.moved hW.alike hK, va_Nw.warmC hW hc9, rfl⟩⟩⟩ rfl rfl hl.1 rfl (lv_room (Nat.le_of_ble_eq_true rfl)) dJ13_copyOfRange_13 ⟨Nat.le_of_ble_eq_true rfl, Nat.le_of_ble_eq_true rfl⟩) hS (fun _ _ h => h) (fun _ h => h) (fun g ra t H locs ht hvm hw hB hz hk hS => ?_)
    subst ht
    exact W.aret (v := .ref ra) hx hb hr (Or.inr ⟨_, rfl⟩) (Or.inr ⟨_, rfl⟩) (fun t ht _ => ⟨⟨g, ra, rfl, trivial, hB.1, (show va_at _ _ _ t.heap from ht ▸ hB.2.1), hB.2.2⟩, hS.F ht⟩) hS.2.2 dJ13_copyOfRange_16 hlocks
theorem at_neA {D : va_G} {cA : Nat → ClassId} {s : State} {H : Heap} {a ci k : Nat} {q : vw_C} {ty : ClassId × FieldType} {fs : List Value} {x : vp_A} (hK : KK D cA s) (hc : vwCl[ci]? = some q) (ht : (tyL cA)[k]? = some ty) (hn : q.1 ≠ "[" ++ ty.2.toString) (h1 : va_at D vwCl (a, .inr (ci, fs)) H) (h2 : va_at D vwCl (a, .inl (ty.1, x)) H) : False := by
  obtain ⟨cell, g1, g2, g3⟩ := at_recv (q := q) hK h1 hc
  have h2 : H[a]? = some (vp_cell ty.1 x) := h2
  have e1 : s.vm.findClass ("[" ++ ty.2.toString) = some ty.1 := by
    have h9 := (hK.2 k ty ht).2
    obtain ⟨c9, t9⟩ := ty
    cases t9 with
    | object C => obtain ⟨_, _, _, _, _, h8⟩ := h9; exact h8
    | _ => exact h9
  cases g1.symm.trans h2
  have e2 : (vp_cell ty.1 x).cls = ty.1 := by obtain ⟨n, f | f | f | f | f⟩ := x <;> rfl
  rw [e2] at g3
  obtain ⟨k1, a1, a2⟩ := Vm.findClass_spec g3
  obtain ⟨k2, b1, b2⟩ := Vm.findClass_spec e1
  cases a1.symm.trans b1
  exact hn (a2.symm.trans b2)
def STU (D : va_G) (cA : Nat → ClassId) (q sb v k sz : Nat) (f : Nat → Int32) (U : State) : Prop := va_at D vwCl (q, .inr (19, [.null, .int 0, .int 0, .int 0])) U.heap ∧ SBU D cA sb v k f U ∧ va_Nw (.castable "[B" "java/lang/Cloneable") U ∧ U.heap.size = sz
theorem STU.blind {D : va_G} {cA : Nat → ClassId} {q sb v k sz : Nat} {f : Nat → Int32} : Blind (STU D cA q sb v k sz f) := fun U g mk a h => ⟨h.1, SBU.blind U g mk a h.2.1, va_Nw.same (U := U.calling g mk a) rfl rfl h.2.2.1, h.2.2.2⟩
abbrev STI (D : va_G) (cA : Nat → ClassId) (q sz k : Nat) (f : Nat → Int32) : Array Value → State → Outcome → State → Prop := va_Qv (fun _ : Nat × (Nat → Int32) => True) (fun u t => va_at D vwCl (q, .inr (19, [.ref u.1, .int 0, .int 0, .int 0])) t.heap ∧ va_at D vwCl (u.1, .inl (cA 1, k, .inl u.2)) t.heap ∧ sz ≤ u.1 ∧ ∀ j, j < k → u.2 j = f j) (OSZ q sz)
set_option maxHeartbeats 4000000 in
set_option maxRecDepth 100000 in
theorem metJ9_init_2 (l : Launch) {D : va_G} {cA : Nat → ClassId} {q sb v k sz : Nat} {f : Nat → Int32} (hk8 : k ≤ 8) (hf : BY8 f) : Met l yJ9_init_2 (ws_ yJ9_init_2 cJ9_init_2 5 none) ({ frames := 5, cells := 1, slots := 8, locals := 180 }) (va_Pc [.ref q, .ref sb, .null] (STU D cA q sb v k sz f)) (STI D cA q sz k f) 1 8 (OSZ q sz) := by
  refine Met.ofW (cc := cJ9_init_2) (maxL := 5) (ret := none) (by decide) rfl ?_
  intro p e s m args below meth c s₁ B hml hv
  obtain ⟨rfl, hv⟩ := hv
  have hx := B.exec
  have hb := B.bytes
  have hr := B.returns
  have hts := atoms_spec (ws := ws_ yJ9_init_2 cJ9_init_2 5 none) B.pre
  have hts : ∀ w ∈ lw_all, w.before _ s = true := fun w h => hts w (List.mem_cons_of_mem _ h)
  have hown : s.vm.findClass RJ9 = some m.cls := findClass_of_methodNamed B.named
  have hlocks := B.notSynchronized
  have hS : va_S (OSZ q sz) s.heap s.heap [] := va_S.rf
  have hl := lv_entry ([.ref q, .ref sb, .null]) (n := 5) (Nat.le_of_ble_eq_true rfl)
  rw [lg_entry_eq]
  generalize (lg_sl ([.ref q, .ref sb, .null]) ++ List.replicate (5 - (lg_sl ([.ref q, .ref sb, .null])).length) Slot.unset).toArray = ls at hl ⊢
  have hl : lv_has ls 5 [(0, .ref q), (1, .ref sb), (2, .null)] := hl
  have hin : meth.name = "<init>" := (name_of_methodNamed B.named B.method).1
  obtain ⟨h1, ⟨hB, hK, hC, hP⟩, hc9, hsz⟩ := hv
  subst hsz
  have hq9 := h1.lt
  refine lv_aload_n hx hb dJ9_init_2_0 rfl (lv_at hl 0 rfl) ?_
  refine W.objInit hx hb hown (hts _ q407) (hts _ q152) (hts _ q153) rfl (by rw [hml]; exact hl.1) rfl dJ9_init_2_1 (Nat.le_of_ble_eq_true rfl) (Nat.le_of_ble_eq_true rfl) ?_
  show W p l e _ s m _ below meth c _ _ _ _ _ (F0 m 4 ls [])
  refine lv_aload_n hx hb dJ9_init_2_4 rfl (lv_at hl 1 rfl) ?_
  refine va_callr (va_runU (C := RJ8) (As := []) (rest := []) ⟨hx, hb, hml, hown, hts⟩ (metJ7_getValue l (D := D) (cA := cA) (q := sb) (v := v) (k := k) (f := f)) (va_cwU (owner := "java/lang/AbstractStringBuilder") 0 hts (lw_U q408 q410 q411 q409 q113 q412) rfl rfl rfl rfl (by decide +kernel) ⟨Nat.le_of_ble_eq_true rfl, Nat.le_of_ble_eq_true rfl⟩) ⟨SBU.blind.pc, hB.recv hK, fun U hU hW => ⟨rfl, SBU.go hB hK hC hP hU hW⟩⟩ rfl rfl hl.1 rfl (lv_room (Nat.le_of_ble_eq_true rfl)) dJ9_init_2_5 ⟨Nat.zero_le _, Nat.zero_le _⟩) hS (fun _ _ h => h.elim) (fun _ h => h.elim) (fun u ra t H locs ht hvm hw hB9 hz hk hS => ?_)
  subst hB9
  have hk := fun x hx9 => hk x hx9 (fun h9 => h9)
  have hB := hB.kept hk
  have hC := hC.kept (H1 := H) (fun x h9 _ => hk x h9)
  have h1 := h1.kept (hk _ h1.lt)
  refine lv_astore_n (lv' := [(3, .ref ra), (0, .ref q), (1, .ref sb), (2, .null)]) hx hb dJ9_init_2_8 rfl hl (by decide) rfl (fun ls hl => ?_)
  refine lv_aload_n hx hb dJ9_init_2_9 rfl (lv_at hl 2 rfl) ?_
  refine R_callUI (As := []) (rest := []) (C := RJ8) ⟨hx, hb, hml, hown, hts⟩ hS (metJ8_length l (D := D) (cA := cA) (q := sb) (v := ra) (k := k) (f := f)) SBU.blind (fun U hU hW => SBU.go hB hK hC hP hU hW) (hB.recv hK) (va_cwO (owner := "java/lang/AbstractStringBuilder") 0 hts (lw_O q413 q415 q414 q416 q417 q114 q418) rfl rfl rfl q420 (by decide +kernel) ⟨Nat.le_of_ble_eq_true rfl, Nat.le_of_ble_eq_true rfl⟩) rfl hl.1 rfl (Nat.le_of_ble_eq_true rfl) dJ9_init_2_10 ⟨Nat.zero_le _, Nat.zero_le _⟩ (fun r H locs hw hk hS => ?_)
  subst hw
  have hB := hB.kept hk
  have hC := hC.kept (H1 := H) (fun x h9 _ => hk x h9)
  have h1 := h1.kept (hk _ h1.lt)
  refine lv_istore (lv' := [(4, .int (nI k)), (3, .ref ra), (0, .ref q), (1, .ref sb), (2, .null)]) hx hb dJ9_init_2_13 hl (by decide) rfl (fun ls hl => ?_)
  refine lv_aload_n hx hb dJ9_init_2_15 rfl (lv_at hl 3 rfl) ?_
  refine R_callUI (As := []) (rest := []) (C := RJ8) ⟨hx, hb, hml, hown, hts⟩ hS (metJ7_isLatin1 l (D := D) (cA := cA) (q := sb) (v := ra) (k := k) (f := f)) SBU.blind (fun U hU hW => SBU.go hB hK hC hP hU hW) (hB.recv hK) (va_cwU (owner := "java/lang/AbstractStringBuilder") 0 hts (lw_U q421 q298 q299 q297 q113 q300) rfl rfl rfl rfl (by decide +kernel) ⟨Nat.le_of_ble_eq_true rfl, Nat.le_of_ble_eq_true rfl⟩) rfl hl.1 rfl (Nat.le_of_ble_eq_true rfl) dJ9_init_2_16 ⟨Nat.zero_le _, Nat.zero_le _⟩ (fun r H locs hw hk hS => ?_)
  subst hw
  have hB := hB.kept hk
  have hC := hC.kept (H1 := H) (fun x h9 _ => hk x h9)
  have h1 := h1.kept (hk _ h1.lt)
  refine lv_if_eq (tgt := 41) hx hb dJ9_init_2_19 (by decide) (fun c9 => absurd c9 (by decide)) (fun c9 => ?_)
  refine lv_aload_n hx hb dJ9_init_2_22 rfl (lv_at hl 2 rfl) ?_
  refine lv_iconst (v := 0) hx hb dJ9_init_2_23 (by decide) ?_
  have hvq : ra ≠ q := fun e9 => at_neA hK (ci := 19) (k := 1) rfl rfl (show RJ9 ≠ "[" ++ FieldType.byte.toString by decide +kernel) h1 (e9 ▸ hB.2)
  refine h_putF (A := OSZ q s.heap.size) (C := RJ9) (T := TJ9) (N := 4) (ci := 19) (v := .int 0) hx hb hts in_J9 tyJ9 tyJ9_ok nmJ9 hown hK h1 (Or.inl rfl) hS rfl 1 (by decide) (hts _ q477) (fun _ h9 => h9) rfl hin rfl (ty := .byte) (by decide +kernel) rfl rfl (Nat.lt_of_lt_of_le (by decide : 1 < 4) (Nat.le_of_eq rfl)) dJ9_init_2_24 (fun H locs h1 oq hz hS => ?_)
  have hqH : q < H.size := h1.lt
  have hsH : s.heap.size ≤ H.size := hS.1
  have hB2 := hB.2.kept (oq _ hvq)
  refine lv_aload_n hx hb dJ9_init_2_27 rfl (lv_at hl 2 rfl) ?_
  refine lv_aload_n hx hb dJ9_init_2_28 rfl (lv_at hl 1 rfl) ?_
  refine lv_iconst (v := 0) hx hb dJ9_init_2_29 (by decide) ?_
  refine lv_iload hx hb dJ9_init_2_30 (lv_at hl 0 rfl) ?_
  refine va_callr (va_runS (As := [.ref ra, .int 0, .int (nI k)]) (rest := [.ref q]) ⟨hx, hb, hml, hown, hts⟩ (metJ13_copyOfRange l (D := D) (cA := cA) (v := ra) (sz := H.size) (k := k) (f := f) hk8 hf) (va_cwS 3 hts (lw_S q422 q423 q119 q424) rfl rfl rfl (by decide +kernel) ⟨Nat.le_of_ble_eq_true rfl, Nat.le_of_ble_eq_true rfl⟩) ⟨CRU.blind.pc, fun U hU hW => ⟨rfl, by unfold CRU; rw [hU]; exact ⟨hB2, va_K.moved hW.alike hK, va_Nw.warmC hW hc9, rfl⟩⟩⟩ rfl rfl hl.1 rfl (lv_room (Nat.le_of_ble_eq_true rfl)) dJ9_init_2_32 ⟨Nat.le_of_ble_eq_true rfl, Nat.le_of_ble_eq_true rfl⟩) hS (fun x _ h => Or.inr (Nat.le_trans hS.1 h)) (fun x h => Or.inr (Nat.le_trans hS.1 h)) (fun g rb t H4 locs ht hvm hw hB4 hz4 hk4 hS => ?_)
  subst ht
  obtain ⟨g1, g2, g3⟩ := hB4
  have h1 := h1.kept (hk4 _ h1.lt (Nat.not_le.mpr h1.lt))
  have hrq : q < rb := Nat.lt_of_lt_of_le hqH g1
  refine h_putF (A := OSZ q s.heap.size) (C := RJ9) (T := TJ9) (N := 4) (ci := 19) (v := .ref rb) hx hb hts in_J9 tyJ9 tyJ9_ok nmJ9 hown hK h1 (Or.inl rfl) hS rfl 0 (by decide) (hts _ q476) (fun _ h9 => h9) rfl hin rfl (ty := .array .byte) (by decide +kernel) rfl rfl (Nat.lt_of_lt_of_le (by decide : 0 < 4) (Nat.le_of_eq rfl)) dJ9_init_2_35 (fun H locs h1 oq5 hz5 hS => ?_)
  have g2 := g2.kept (oq5 _ (by omega))
  refine lv_goto (tgt := 97) hx hb dJ9_init_2_38 (by decide) ?_
  exact W.vret hx hb hr (fun t ht _ => ⟨⟨(rb, g), rfl, trivial, (show va_at _ _ _ t.heap from ht ▸ h1), (show va_at _ _ _ t.heap from ht ▸ g2), Nat.le_trans hsH g1, g3⟩, hS.F ht⟩) hS.2.2 dJ9_init_2_97 hlocks
set_option maxHeartbeats 4000000 in
set_option maxRecDepth 100000 in
theorem metJ9_init (l : Launch) {D : va_G} {cA : Nat → ClassId} {q sb v k sz : Nat} {f : Nat → Int32} (hk8 : k ≤ 8) (hf : BY8 f) : Met l yJ9_init (ws_ yJ9_init cJ9_init 2 none) ({ frames := 6, cells := 1, slots := 8, locals := 220 }) (va_Pc [.ref q, .ref sb] (STU D cA q sb v k sz f)) (STI D cA q sz k f) 1 8 (OSZ q sz) := by
  refine Met.ofW (cc := cJ9_init) (maxL := 2) (ret := none) (by decide) rfl ?_
  intro p e s m args below meth c s₁ B hml hv
  obtain ⟨rfl, hv⟩ := hv
  have hx := B.exec
  have hb := B.bytes
  have hr := B.returns
  have hts := atoms_spec (ws := ws_ yJ9_init cJ9_init 2 none) B.pre
  have hts : ∀ w ∈ lw_all, w.before _ s = true := fun w h => hts w (List.mem_cons_of_mem _ h)
  have hown : s.vm.findClass RJ9 = some m.cls := findClass_of_methodNamed B.named
  have hlocks := B.notSynchronized
  have hS : va_S (OSZ q sz) s.heap s.heap [] := va_S.rf
  have hl := lv_entry ([.ref q, .ref sb]) (n := 2) (Nat.le_of_ble_eq_true rfl)
  rw [lg_entry_eq]
  generalize (lg_sl ([.ref q, .ref sb]) ++ List.replicate (2 - (lg_sl ([.ref q, .ref sb])).length) Slot.unset).toArray = ls at hl ⊢
  have hl : lv_has ls 2 [(0, .ref q), (1, .ref sb)] := hl
  obtain ⟨h1, ⟨hB, hK, hC, hP⟩, hc9, hsz⟩ := hv
  subst hsz
  refine lv_aload_n hx hb dJ9_init_0 rfl (lv_at hl 0 rfl) ?_
  refine lv_aload_n hx hb dJ9_init_1 rfl (lv_at hl 1 rfl) ?_
  refine lv_null hx hb dJ9_init_2 ?_
  refine va_callv (va_runI (As := [.ref sb, .null]) (rest := []) ⟨hx, hb, hml, hown, hts⟩ (metJ9_init_2 l (D := D) (cA := cA) (q := q) (sb := sb) (v := v) (sz := s.heap.size) (k := k) (f := f) hk8 hf) (cwI 2 hts (lw_meth q406) rfl rfl rfl (hts _ q115) (hts _ q404) (hts _ q405) rfl (by decide +kernel) ⟨Nat.le_of_ble_eq_true rfl, Nat.le_of_ble_eq_true rfl⟩) ⟨STU.blind.pc, fun U hU hW => ⟨rfl, by unfold STU; rw [hU]; exact ⟨h1, SBU.go hB hK hC hP hU hW, va_Nw.warmC hW hc9, rfl⟩⟩⟩ rfl rfl hl.1 rfl (lv_room (Nat.le_of_ble_eq_true rfl)) dJ9_init_3 ⟨Nat.le_of_ble_eq_true rfl, Nat.le_of_ble_eq_true rfl⟩) hS (fun _ _ h => h) (fun _ h => h) (fun u t H locs ht hvm hw hB hz hk hS => ?_)
  subst ht
  exact W.vret hx hb hr (fun t ht _ => ⟨⟨u, rfl, trivial, (show va_at _ _ _ t.heap from ht ▸ hB.1), (show va_at _ _ _ t.heap from ht ▸ hB.2.1), hB.2.2⟩, hS.F ht⟩) hS.2.2 dJ9_init_6 hlocks
def TSU (D : va_G) (cA : Nat → ClassId) (sb v k sz : Nat) (f : Nat → Int32) (U : State) : Prop := SBU D cA sb v k f U ∧ va_Nw (.castable "[B" "java/lang/Cloneable") U ∧ U.heap.size = sz
theorem TSU.blind {D : va_G} {cA : Nat → ClassId} {sb v k sz : Nat} {f : Nat → Int32} : Blind (TSU D cA sb v k sz f) := fun U g mk a h => ⟨SBU.blind U g mk a h.1, va_Nw.same (U := U.calling g mk a) rfl rfl h.2.1, h.2.2⟩
set_option maxHeartbeats 4000000 in
set_option maxRecDepth 100000 in
theorem metJ8_toString (l : Launch) {D : va_G} {cA : Nat → ClassId} {sb v sz : Nat} {f : Nat → Int32} {tx : List Nat} (hk8 : tx.length ≤ 8) (hf : BY8 f) (hft : ∀ j, j < tx.length → f j = nI (tx.getD j 0)) (hct : ∀ ch ∈ tx, ch < 128) : Met l yJ8_toString (ws_ yJ8_toString cJ8_toString 1 (some (.object "java/lang/String"))) ({ frames := 7, cells := 2, slots := 12, locals := 260 }) (va_Pc [.ref sb] (TSU D cA sb v tx.length sz f)) (STQ sz tx) 2 12 (NwA sz) := by
  refine Met.ofW (cc := cJ8_toString) (maxL := 1) (ret := (some (.object "java/lang/String"))) (by decide) rfl ?_
  intro p e s m args below meth c s₁ B hml hv
  obtain ⟨rfl, hv⟩ := hv
  have hx := B.exec
  have hb := B.bytes
  have hr := B.returns
  have hts := atoms_spec (ws := ws_ yJ8_toString cJ8_toString 1 (some (.object "java/lang/String"))) B.pre
  have hts : ∀ w ∈ lw_all, w.before _ s = true := fun w h => hts w (List.mem_cons_of_mem _ h)
  have hown : s.vm.findClass RJ8 = some m.cls := findClass_of_methodNamed B.named
  have hlocks := B.notSynchronized
  have hS : va_S (NwA sz) s.heap s.heap [] := va_S.rf
  have hl := lv_entry ([.ref sb]) (n := 1) (Nat.le_of_ble_eq_true rfl)
  rw [lg_entry_eq]
  generalize (lg_sl ([.ref sb]) ++ List.replicate (1 - (lg_sl ([.ref sb])).length) Slot.unset).toArray = ls at hl ⊢
  have hl : lv_has ls 1 [(0, .ref sb)] := hl
  obtain ⟨⟨hB, hK, hC, hP⟩, hc9, hsz⟩ := hv
  subst hsz
  refine h_newO (ci := 19) (fs := [.null, .int 0, .int 0, .int 0]) (C := RJ9) (T := TJ9) (N := 4) hx hb hts in_J9 tyJ9 tyJ9_ok hown (hts _ q399) (hts _ q400) (hts _ q115) hK hS rfl (fun j hj => by rcases (show j = 0 ∨ j = 1 ∨ j = 2 ∨ j = 3 by omega) with rfl | rfl | rfl | rfl <;> rfl) (Nat.le_of_ble_eq_true rfl) (Nat.le_of_ble_eq_true rfl) dJ8_toString_0 (fun H1 h1 oq1 hz1 hS => ?_)
  have hB := hB.kept oq1
  have hC := hC.kept (H1 := H1) (fun x h9 _ => oq1 x h9)
  refine lv_dup hx hb dJ8_toString_3 rfl ?_
  refine lv_aload_n hx hb dJ8_toString_4 rfl (lv_at hl 0 rfl) ?_
  refine va_callv (va_runI (As := [.ref sb]) (rest := [.ref s.heap.size]) ⟨hx, hb, hml, hown, hts⟩ (metJ9_init l (D := D) (cA := cA) (q := s.heap.size) (sb := sb) (v := v) (sz := H1.size) (k := tx.length) (f := f) hk8 hf) (cwI 1 hts (lw_meth q403) rfl rfl rfl (hts _ q115) (hts _ q401) (hts _ q402) rfl (by decide +kernel) ⟨Nat.le_of_ble_eq_true rfl, Nat.le_of_ble_eq_true rfl⟩) ⟨STU.blind.pc, fun U hU hW => ⟨rfl, by unfold STU; rw [hU]; exact ⟨h1, SBU.go hB hK hC hP hU hW, va_Nw.warmC hW hc9, rfl⟩⟩⟩ rfl rfl hl.1 rfl (lv_room (Nat.le_of_ble_eq_true rfl)) dJ8_toString_5 ⟨Nat.le_of_ble_eq_true rfl, Nat.le_of_ble_eq_true rfl⟩) hS (fun x _ h => h.elim (fun e9 => Nat.le_of_eq e9.symm) (fun h9 => Nat.le_trans hS.1 h9)) (fun x h => h.elim (fun e9 => Nat.le_of_eq e9.symm) (fun h9 => Nat.le_trans hS.1 h9)) (fun u t H2 locs ht hvm hw hB2 hz2 hk2 hS => ?_)
  subst ht
  obtain ⟨g1, g2, g3, g4⟩ := hB2
  exact W.aret (v := .ref s.heap.size) hx hb hr (Or.inl ⟨_, rfl⟩) (Or.inr ⟨_, rfl⟩) (fun t9 ht hW => ⟨⟨u.1, _, rfl, trivial, by show SR _ _ _ _ _ _; rw [ht]; exact SR.moved hW.alike (SR.of_at hts hK g1 g2 rfl (fun j hj => (g4 j hj).trans (hft j hj)) (Nat.lt_irrefl _) (by omega) hct (by omega))⟩, hS.F ht⟩) hS.2.2 dJ8_toString_8 hlocks
