/-! 08.str: methods that only read; String.length and charAt of Latin-1 Strings -/
abbrev NoA : Nat → Prop := fun _ => False
abbrev RQi (post : Int32 → Prop) : Array Value → State → Outcome → State → Prop := va_Qi (fun r (_ : Unit) => post r) (fun _ _ => True) NoA
abbrev RQv (post : Prop) : Array Value → State → Outcome → State → Prop := va_Qv (fun (_ : Unit) => post) (fun _ _ => True) NoA
abbrev ReI (l : Launch) (y : MethodName) (ws : List Cond) (rm : Room) (av : List Value) (Φ : State → Prop) (post : Int32 → Prop) : Prop := Met l y ws rm (va_Pc av Φ) (RQi post) 0 0 NoA
abbrev ReV (l : Launch) (y : MethodName) (ws : List Cond) (rm : Room) (av : List Value) (Φ : State → Prop) (post : Prop) : Prop := Met l y ws rm (va_Pc av Φ) (RQv post) 0 0 NoA
/-- a predicate of states that reads no frame -/
def Blind (Φ : State → Prop) : Prop := ∀ (U : State) (g : JFrame) (mk : MethodId) (a : Array Value), Φ U → Φ (U.calling g mk a)
theorem Blind.pc {Φ : State → Prop} (h : Blind Φ) {av : List Value} : FrameBlind (va_Pc av Φ) := fun a U g mk q => ⟨q.1, h U g mk a q.2⟩
section RR
variable {p : Program} {l : Launch} {e : Env} {R : Room} {s : State} {m : MethodId} {args : Array Value} {below : List Frame} {meth : Method} {c : Code} {H : Heap} {locs : List Loc} {cells slots : Nat} {Q : State → Prop}
variable {cc : ByteArray} {pc : Nat} {ls : Array Slot} {rest : List Value} {A0 : Nat → Prop}
variable {y : MethodName} {bytes : ByteArray} {maxL nL n index : Nat} {ret : Option FieldType} {ws : List Cond} {rm : Room} {As : List Value} {st0 : List Value} {Ts : List Cond} {own C : String} {b : Addr} {Φ : State → Prop}
theorem R_callI (S : CallFix p m c cc nL s args Ts own) (hS : va_S A0 s.heap H locs) {post : Int32 → Prop} (met : ReI l y ws rm (.ref b :: As) Φ post) (hbl : Blind Φ) (hΦ : ∀ U : State, U.heap = H → s.WarmedH U.vm → Φ U) (hr : ∃ cellB : Cell, H[b]? = some cellB ∧ cellB.vm.isStatics = false ∧ s.vm.findClass C = some cellB.cls) (cw : CallW R s args own C index y bytes maxL ret ws rm 0 0 n) (hn : As.length = n) (hsize : ls.size = nL) (hst : st0 = As.reverse ++ .ref b :: rest) (hW : (rest.map fun v => v.category).sum ≤ 8) (hdg : decode cc pc = .ok (.invokevirtual index, 3)) (hc : cells ≤ R.cells ∧ slots ≤ R.slots)
    (kk : ∀ (r : Int32) (H1 : Heap) (locs1 : List Loc), post r → (∀ q : Nat, q < H.size → H1[q]? = H[q]?) → va_S A0 s.heap H1 locs1 → W p l e R s m args below meth c H1 locs1 cells slots Q (F0 m (pc + 3) ls (.int r :: rest))) : W p l e R s m args below meth c H locs cells slots Q (F0 m pc ls st0) :=
  va_calli (va_runV S met cw ⟨hbl.pc, hr, fun U hU hW => ⟨rfl, hΦ U hU hW⟩⟩ rfl hn hsize hst (lv_room hW) hdg hc) hS (fun _ _ h => h.elim) (fun _ h => h.elim) (fun r u t H1 locs1 ht hvm hw hB hz hk hS1 => kk r H1 locs1 hw (fun q h1 => hk q h1 (fun h => h)) hS1)
theorem R_callIS (S : CallFix p m c cc nL s args Ts own) (hS : va_S A0 s.heap H locs) {post : Int32 → Prop} (met : ReI l y ws rm As Φ post) (hbl : Blind Φ) (hΦ : ∀ U : State, U.heap = H → s.WarmedH U.vm → Φ U) (cw : CallB R s args own index y bytes maxL ret ws rm 0 0 n ∧ (Cond.static y).before args s = true) (hn : As.length = n) (hsize : ls.size = nL) (hst : st0 = As.reverse ++ rest) (hW : (rest.map fun v => v.category).sum ≤ 8) (hdg : decode cc pc = .ok (.invokestatic index, 3)) (hc : cells ≤ R.cells ∧ slots ≤ R.slots)
    (kk : ∀ (r : Int32) (H1 : Heap) (locs1 : List Loc), post r → (∀ q : Nat, q < H.size → H1[q]? = H[q]?) → va_S A0 s.heap H1 locs1 → W p l e R s m args below meth c H1 locs1 cells slots Q (F0 m (pc + 3) ls (.int r :: rest))) : W p l e R s m args below meth c H locs cells slots Q (F0 m pc ls st0) :=
  va_calli (va_runS S met cw ⟨hbl.pc, fun U hU hW => ⟨rfl, hΦ U hU hW⟩⟩ rfl hn hsize hst (lv_room hW) hdg hc) hS (fun _ _ h => h.elim) (fun _ h => h.elim) (fun r u t H1 locs1 ht hvm hw hB hz hk hS1 => kk r H1 locs1 hw (fun q h1 => hk q h1 (fun h => h)) hS1)
theorem R_callVS (S : CallFix p m c cc nL s args Ts own) (hS : va_S A0 s.heap H locs) {post : Prop} (met : ReV l y ws rm As Φ post) (hbl : Blind Φ) (hΦ : ∀ U : State, U.heap = H → s.WarmedH U.vm → Φ U) (cw : CallB R s args own index y bytes maxL ret ws rm 0 0 n ∧ (Cond.static y).before args s = true) (hn : As.length = n) (hsize : ls.size = nL) (hst : st0 = As.reverse ++ rest) (hW : (rest.map fun v => v.category).sum ≤ 8) (hdg : decode cc pc = .ok (.invokestatic index, 3)) (hc : cells ≤ R.cells ∧ slots ≤ R.slots)
    (kk : ∀ (H1 : Heap) (locs1 : List Loc), post → (∀ q : Nat, q < H.size → H1[q]? = H[q]?) → va_S A0 s.heap H1 locs1 → W p l e R s m args below meth c H1 locs1 cells slots Q (F0 m (pc + 3) ls rest)) : W p l e R s m args below meth c H locs cells slots Q (F0 m pc ls st0) :=
  va_callv (va_runS S met cw ⟨hbl.pc, fun U hU hW => ⟨rfl, hΦ U hU hW⟩⟩ rfl hn hsize hst (lv_room hW) hdg hc) hS (fun _ _ h => h.elim) (fun _ h => h.elim) (fun u t H1 locs1 ht hvm hw hB hz hk hS1 => kk H1 locs1 hw (fun q h1 => hk q h1 (fun h => h)) hS1)
end RR
/-- the statics that String's methods read -/
def SC (A : Nat → Prop) (U : State) (H : Heap) : Prop := va_Z "java/lang/String" "COMPACT_STRINGS" "Z" (.int 1) A U H ∧ va_Zq "jdk/internal/util/Preconditions" "SIOOBE_FORMATTER" "Ljava/util/function/BiFunction;" A U H
theorem SC.moved {A : Nat → Prop} {u U : State} {H : Heap} (hvm : u.vm.Alike U.vm) (h : SC A u H) : SC A U H := ⟨va_Z.moved hvm h.1, va_Zq.moved hvm h.2⟩
theorem SC.kept {A : Nat → Prop} {U : State} {H H1 : Heap} (h : SC A U H) (hq : ∀ a : Nat, a < H.size → ¬ A a → H1[a]? = H[a]?) : SC A U H1 := ⟨h.1.kept hq, h.2.kept hq⟩
theorem SC.narrow {A B : Nat → Prop} {U : State} {H : Heap} (h : SC A U H) (hAB : ∀ q, B q → A q) : SC B U H := ⟨h.1.narrow hAB, h.2.narrow hAB⟩
abbrev SRU (q v : Nat) (tx : List Nat) (U : State) : Prop := SR NoA U U.heap q v tx ∧ SC NoA U U.heap
theorem SRU.blind {q v : Nat} {tx : List Nat} : Blind (SRU q v tx) := fun U g mk a h => ⟨SR.moved (U := U.calling g mk a) (Vm.Alike.refl U.vm) h.1, SC.moved (U := U.calling g mk a) (Vm.Alike.refl U.vm) h.2⟩
theorem SRU.go {q v : Nat} {tx : List Nat} {s U : State} {H : Heap} {locs : List Loc} {A : Nat → Prop} (h : SRU q v tx s) (hS : va_S A s.heap H locs) (hA : ∀ q, ¬ A q) (hU : U.heap = H) (hW : s.WarmedH U.vm) : SRU q v tx U := by
  obtain ⟨h1, h2⟩ := h
  unfold SRU
  rw [hU]
  exact ⟨(h1.moved hW.alike).kept (fun a ha _ => hS.2.1 a ha (hA a)), (h2.moved hW.alike).kept (fun a ha _ => hS.2.1 a ha (hA a))⟩
theorem SRU.recv {q v : Nat} {tx : List Nat} {s : State} {H : Heap} {locs : List Loc} {A : Nat → Prop} (h : SRU q v tx s) (hS : va_S A s.heap H locs) (hA : ∀ q, ¬ A q) : ∃ cellB : Cell, H[q]? = some cellB ∧ cellB.vm.isStatics = false ∧ s.vm.findClass "java/lang/String" = some cellB.cls := by
  obtain ⟨cell, h1, h2, h3, h4⟩ := h.1.1
  exact ⟨cell, by rw [hS.2.1 q (Array.getElem?_eq_some_iff.mp h1).1 (hA q)]; exact h1, h2, h3⟩
abbrev BB (A : Nat → Prop) : Prop := True
theorem hNoA : ∀ q, ¬ NoA q := fun _ h => h
set_option maxHeartbeats 4000000 in
set_option maxRecDepth 100000 in
theorem metJ9_coder (l : Launch) {q v : Nat} {tx : List Nat} : ReI l yJ9_coder (ws_ yJ9_coder cJ9_coder 1 (some .byte)) ({ frames := 1, cells := 0, slots := 0, locals := 30 }) [.ref q] (SRU q v tx) (fun r => r = 0) := by
  refine Met.ofW (cc := cJ9_coder) (maxL := 1) (ret := (some .byte)) (by decide) rfl ?_
  intro p e s m args below meth c s₁ B hml hv
  obtain ⟨rfl, hv⟩ := hv
  have hx := B.exec
  have hb := B.bytes
  have hr := B.returns
  have hts := atoms_spec (ws := ws_ yJ9_coder cJ9_coder 1 (some .byte)) B.pre
  have hts : ∀ w ∈ lw_all, w.before _ s = true := fun w h => hts w (List.mem_cons_of_mem _ h)
  have hown : s.vm.findClass RJ9 = some m.cls := findClass_of_methodNamed B.named
  have hlocks := B.notSynchronized
  have hS : va_S (fun _ => False) s.heap s.heap [] := va_S.rf
  have hl := lv_entry ([.ref q]) (n := 1) (Nat.le_of_ble_eq_true rfl)
  rw [lg_entry_eq]
  generalize (lg_sl ([.ref q]) ++ List.replicate (1 - (lg_sl ([.ref q])).length) Slot.unset).toArray = ls at hl ⊢
  have hl : lv_has ls 1 [(0, .ref q)] := hl
  obtain ⟨hR, hC⟩ := hv
  refine va_gets hx hb hC.1 hS hown (hts _ q335) (fun _ h9 => h9) dJ9_coder_0 ?_
  refine lv_if_eq (tgt := 13) hx hb dJ9_coder_3 (by decide) (fun c1 => absurd c1 (by decide)) (fun c1 => ?_)
  refine lv_aload_n hx hb dJ9_coder_6 rfl (lv_at hl 0 rfl) ?_
  refine vk_getf hx hb hR.2.1 hS hown (hts _ q477) (fun _ h9 => h9) dJ9_coder_7 ?_
  refine lv_goto (tgt := 14) hx hb dJ9_coder_10 (by decide) ?_
  exact W.zret (v := 0) hx hb hr rfl (fun t ht _ => ⟨⟨_, (), rfl, rfl, trivial⟩, hS.F ht⟩) hS.2.2 dJ9_coder_14 hlocks
set_option maxHeartbeats 4000000 in
set_option maxRecDepth 100000 in
theorem metJ9_isLatin1 (l : Launch) {q v : Nat} {tx : List Nat} : ReI l yJ9_isLatin1 (ws_ yJ9_isLatin1 cJ9_isLatin1 1 (some .boolean)) ({ frames := 1, cells := 0, slots := 0, locals := 30 }) [.ref q] (SRU q v tx) (fun r => r = 1) := by
  refine Met.ofW (cc := cJ9_isLatin1) (maxL := 1) (ret := (some .boolean)) (by decide) rfl ?_
  intro p e s m args below meth c s₁ B hml hv
  obtain ⟨rfl, hv⟩ := hv
  have hx := B.exec
  have hb := B.bytes
  have hr := B.returns
  have hts := atoms_spec (ws := ws_ yJ9_isLatin1 cJ9_isLatin1 1 (some .boolean)) B.pre
  have hts : ∀ w ∈ lw_all, w.before _ s = true := fun w h => hts w (List.mem_cons_of_mem _ h)
  have hown : s.vm.findClass RJ9 = some m.cls := findClass_of_methodNamed B.named
  have hlocks := B.notSynchronized
  have hS : va_S (fun _ => False) s.heap s.heap [] := va_S.rf
  have hl := lv_entry ([.ref q]) (n := 1) (Nat.le_of_ble_eq_true rfl)
  rw [lg_entry_eq]
  generalize (lg_sl ([.ref q]) ++ List.replicate (1 - (lg_sl ([.ref q])).length) Slot.unset).toArray = ls at hl ⊢
  have hl : lv_has ls 1 [(0, .ref q)] := hl
  obtain ⟨hR, hC⟩ := hv
  refine va_gets hx hb hC.1 hS hown (hts _ q335) (fun _ h9 => h9) dJ9_isLatin1_0 ?_
  refine lv_if_eq (tgt := 17) hx hb dJ9_isLatin1_3 (by decide) (fun c1 => absurd c1 (by decide)) (fun c1 => ?_)
  refine lv_aload_n hx hb dJ9_isLatin1_6 rfl (lv_at hl 0 rfl) ?_
  refine vk_getf hx hb hR.2.1 hS hown (hts _ q477) (fun _ h9 => h9) dJ9_isLatin1_7 ?_
  refine lv_if_ne (tgt := 17) hx hb dJ9_isLatin1_10 (by decide) (fun c1 => absurd rfl c1) (fun c1 => ?_)
  refine lv_iconst (v := 1) hx hb dJ9_isLatin1_13 (by decide) ?_
  refine lv_goto (tgt := 18) hx hb dJ9_isLatin1_14 (by decide) ?_
  exact W.zret (v := 1) hx hb hr rfl (fun t ht _ => ⟨⟨_, (), rfl, rfl, trivial⟩, hS.F ht⟩) hS.2.2 dJ9_isLatin1_18 hlocks
set_option maxHeartbeats 4000000 in
set_option maxRecDepth 100000 in
theorem metJ9_length (l : Launch) {q v : Nat} {tx : List Nat} : ReI l yJ9_length (ws_ yJ9_length cJ9_length 1 (some .int)) ({ frames := 3, cells := 0, slots := 0, locals := 80 }) [.ref q] (SRU q v tx) (fun r => r = nI tx.length) := by
  refine Met.ofW (cc := cJ9_length) (maxL := 1) (ret := (some .int)) (by decide) rfl ?_
  intro p e s m args below meth c s₁ B hml hv
  obtain ⟨rfl, hv⟩ := hv
  have hx := B.exec
  have hb := B.bytes
  have hr := B.returns
  have hts := atoms_spec (ws := ws_ yJ9_length cJ9_length 1 (some .int)) B.pre
  have hts : ∀ w ∈ lw_all, w.before _ s = true := fun w h => hts w (List.mem_cons_of_mem _ h)
  have hown : s.vm.findClass RJ9 = some m.cls := findClass_of_methodNamed B.named
  have hlocks := B.notSynchronized
  have hS : va_S (fun _ => False) s.heap s.heap [] := va_S.rf
  have hl := lv_entry ([.ref q]) (n := 1) (Nat.le_of_ble_eq_true rfl)
  rw [lg_entry_eq]
  generalize (lg_sl ([.ref q]) ++ List.replicate (1 - (lg_sl ([.ref q])).length) Slot.unset).toArray = ls at hl ⊢
  have hl : lv_has ls 1 [(0, .ref q)] := hl
  have hv0 := hv
  obtain ⟨hR, hC⟩ := hv
  refine lv_aload_n hx hb dJ9_length_0 rfl (lv_at hl 0 rfl) ?_
  refine vk_getf hx hb hR.2.2.1 hS hown (hts _ q476) (fun _ h9 => h9) dJ9_length_1 ?_
  refine va_tlen (v := nI tx.length) hx hb hR.2.2.2.1 hS rfl dJ9_length_4 ?_
  refine lv_aload_n hx hb dJ9_length_5 rfl (lv_at hl 0 rfl) ?_
  refine R_callI (As := []) (rest := [.int (nI tx.length)]) (C := "java/lang/String") ⟨hx, hb, hml, hown, hts⟩ hS (metJ9_coder l (q := q) (v := v) (tx := tx)) SRU.blind (fun U hU hW => hv0.go hS hNoA hU hW) (hv0.recv hS hNoA) (cwV 0 hts (lw_V q331 q332 q333 q115 q334) rfl rfl rfl (by decide +kernel) ⟨Nat.le_of_ble_eq_true rfl, Nat.le_of_ble_eq_true rfl⟩) rfl hl.1 rfl (Nat.le_of_ble_eq_true rfl) dJ9_length_6 ⟨Nat.zero_le _, Nat.zero_le _⟩ (fun r H locs hw hk hS => ?_)
  subst hw
  refine lv_ishr hx hb dJ9_length_9 ?_
  rw [sb_shr0]
  exact W.iret (v := nI tx.length) hx hb hr (fun t ht _ => ⟨⟨_, (), rfl, rfl, trivial⟩, hS.F ht⟩) hS.2.2 dJ9_length_10 hlocks
set_option maxHeartbeats 4000000 in
set_option maxRecDepth 100000 in
theorem metJ14_checkIndexN (l : Launch) {i n : Nat} (hi : i < n) (hn : n < 2 ^ 31) : ReI l yJ14_checkIndex (ws_ yJ14_checkIndex cJ14_checkIndex 3 (some .int)) ({ frames := 1, cells := 0, slots := 0, locals := 30 }) [.int (nI i), .int (nI n), .null] (fun _ => True) (fun r => r = nI i) := by
  refine Met.ofW (cc := cJ14_checkIndex) (maxL := 3) (ret := (some .int)) (by decide) rfl ?_
  intro p e s m args below meth c s₁ B hml hv
  obtain ⟨rfl, hv⟩ := hv
  have hx := B.exec
  have hb := B.bytes
  have hr := B.returns
  have hts := atoms_spec (ws := ws_ yJ14_checkIndex cJ14_checkIndex 3 (some .int)) B.pre
  have hts : ∀ w ∈ lw_all, w.before _ s = true := fun w h => hts w (List.mem_cons_of_mem _ h)
  have hown : s.vm.findClass RJ14 = some m.cls := findClass_of_methodNamed B.named
  have hlocks := B.notSynchronized
  have hS : va_S (fun _ => False) s.heap s.heap [] := va_S.rf
  have hl := lv_entry ([.int (nI i), .int (nI n), .null]) (n := 3) (Nat.le_of_ble_eq_true rfl)
  rw [lg_entry_eq]
  generalize (lg_sl ([.int (nI i), .int (nI n), .null]) ++ List.replicate (3 - (lg_sl ([.int (nI i), .int (nI n), .null])).length) Slot.unset).toArray = ls at hl ⊢
  have hl : lv_has ls 3 [(0, .int (nI i)), (1, .int (nI n)), (2, .null)] := hl
  refine lv_iload_n hx hb dJ14_checkIndex_0 rfl (lv_at hl 0 rfl) ?_
  refine lv_if_lt (tgt := 9) hx hb dJ14_checkIndex_1 (by decide) (fun c1 => absurd c1 (nI_pos (by omega))) (fun c1 => ?_)
  refine lv_iload_n hx hb dJ14_checkIndex_4 rfl (lv_at hl 0 rfl) ?_
  refine lv_iload_n hx hb dJ14_checkIndex_5 rfl (lv_at hl 1 rfl) ?_
  refine lv_icmp_lt (tgt := 16) hx hb dJ14_checkIndex_6 (by decide) (fun c2 => ?_) (fun c2 => absurd (nI_lt hi hn) c2)
  refine lv_iload_n hx hb dJ14_checkIndex_16 rfl (lv_at hl 0 rfl) ?_
  exact W.iret (v := nI i) hx hb hr (fun t ht _ => ⟨⟨_, (), rfl, rfl, trivial⟩, hS.F ht⟩) hS.2.2 dJ14_checkIndex_17 hlocks
set_option maxHeartbeats 4000000 in
set_option maxRecDepth 100000 in
theorem metJ14_checkIndexR (l : Launch) {t : Nat} {i n : Nat} (hi : i < n) (hn : n < 2 ^ 31) : ReI l yJ14_checkIndex (ws_ yJ14_checkIndex cJ14_checkIndex 3 (some .int)) ({ frames := 1, cells := 0, slots := 0, locals := 30 }) [.int (nI i), .int (nI n), .ref t] (fun _ => True) (fun r => r = nI i) := by
  refine Met.ofW (cc := cJ14_checkIndex) (maxL := 3) (ret := (some .int)) (by decide) rfl ?_
  intro p e s m args below meth c s₁ B hml hv
  obtain ⟨rfl, hv⟩ := hv
  have hx := B.exec
  have hb := B.bytes
  have hr := B.returns
  have hts := atoms_spec (ws := ws_ yJ14_checkIndex cJ14_checkIndex 3 (some .int)) B.pre
  have hts : ∀ w ∈ lw_all, w.before _ s = true := fun w h => hts w (List.mem_cons_of_mem _ h)
  have hown : s.vm.findClass RJ14 = some m.cls := findClass_of_methodNamed B.named
  have hlocks := B.notSynchronized
  have hS : va_S (fun _ => False) s.heap s.heap [] := va_S.rf
  have hl := lv_entry ([.int (nI i), .int (nI n), .ref t]) (n := 3) (Nat.le_of_ble_eq_true rfl)
  rw [lg_entry_eq]
  generalize (lg_sl ([.int (nI i), .int (nI n), .ref t]) ++ List.replicate (3 - (lg_sl ([.int (nI i), .int (nI n), .ref t])).length) Slot.unset).toArray = ls at hl ⊢
  have hl : lv_has ls 3 [(0, .int (nI i)), (1, .int (nI n)), (2, .ref t)] := hl
  refine lv_iload_n hx hb dJ14_checkIndex_0 rfl (lv_at hl 0 rfl) ?_
  refine lv_if_lt (tgt := 9) hx hb dJ14_checkIndex_1 (by decide) (fun c1 => absurd c1 (nI_pos (by omega))) (fun c1 => ?_)
  refine lv_iload_n hx hb dJ14_checkIndex_4 rfl (lv_at hl 0 rfl) ?_
  refine lv_iload_n hx hb dJ14_checkIndex_5 rfl (lv_at hl 1 rfl) ?_
  refine lv_icmp_lt (tgt := 16) hx hb dJ14_checkIndex_6 (by decide) (fun c2 => ?_) (fun c2 => absurd (nI_lt hi hn) c2)
  refine lv_iload_n hx hb dJ14_checkIndex_16 rfl (lv_at hl 0 rfl) ?_
  exact W.iret (v := nI i) hx hb hr (fun t ht _ => ⟨⟨_, (), rfl, rfl, trivial⟩, hS.F ht⟩) hS.2.2 dJ14_checkIndex_17 hlocks
set_option maxHeartbeats 4000000 in
set_option maxRecDepth 100000 in
theorem metJ9_checkIndex (l : Launch) {i n : Nat} (hi : i < n) (hn : n < 2 ^ 31) : ReV l yJ9_checkIndex (ws_ yJ9_checkIndex cJ9_checkIndex 2 none) ({ frames := 3, cells := 0, slots := 0, locals := 90 }) [.int (nI i), .int (nI n)] (fun U => SC NoA U U.heap) True := by
  refine Met.ofW (cc := cJ9_checkIndex) (maxL := 2) (ret := none) (by decide) rfl ?_
  intro p e s m args below meth c s₁ B hml hv
  obtain ⟨rfl, hv⟩ := hv
  have hx := B.exec
  have hb := B.bytes
  have hr := B.returns
  have hts := atoms_spec (ws := ws_ yJ9_checkIndex cJ9_checkIndex 2 none) B.pre
  have hts : ∀ w ∈ lw_all, w.before _ s = true := fun w h => hts w (List.mem_cons_of_mem _ h)
  have hown : s.vm.findClass RJ9 = some m.cls := findClass_of_methodNamed B.named
  have hlocks := B.notSynchronized
  have hS : va_S (fun _ => False) s.heap s.heap [] := va_S.rf
  have hl := lv_entry ([.int (nI i), .int (nI n)]) (n := 2) (Nat.le_of_ble_eq_true rfl)
  rw [lg_entry_eq]
  generalize (lg_sl ([.int (nI i), .int (nI n)]) ++ List.replicate (2 - (lg_sl ([.int (nI i), .int (nI n)])).length) Slot.unset).toArray = ls at hl ⊢
  have hl : lv_has ls 2 [(0, .int (nI i)), (1, .int (nI n))] := hl
  refine lv_iload_n hx hb dJ9_checkIndex_0 rfl (lv_at hl 0 rfl) ?_
  refine lv_iload_n hx hb dJ9_checkIndex_1 rfl (lv_at hl 1 rfl) ?_
  rcases hv.2 with hz | ⟨t9, hz⟩
  · refine va_gets hx hb hz hS hown (hts _ q313) (fun _ h9 => h9) dJ9_checkIndex_2 ?_
    refine R_callIS (As := [.int (nI i), .int (nI n), .null]) (rest := []) (Φ := fun _ => True) ⟨hx, hb, hml, hown, hts⟩ hS (metJ14_checkIndexN l hi hn) (fun _ _ _ _ h => h) (fun _ _ _ => trivial) (va_cwS 3 hts (lw_S q1047 q819 q121 q820) rfl rfl rfl (by decide +kernel) ⟨Nat.le_of_ble_eq_true rfl, Nat.le_of_ble_eq_true rfl⟩) rfl hl.1 rfl (Nat.le_of_ble_eq_true rfl) dJ9_checkIndex_5 ⟨Nat.zero_le _, Nat.zero_le _⟩ (fun r H locs hw hk hS => ?_)
    refine lv_pop hx hb dJ9_checkIndex_8 rfl ?_
    exact W.vret hx hb hr (fun t ht _ => ⟨⟨(), rfl, trivial, trivial⟩, hS.F ht⟩) hS.2.2 dJ9_checkIndex_9 hlocks
  · refine va_gets hx hb hz hS hown (hts _ q313) (fun _ h9 => h9) dJ9_checkIndex_2 ?_
    refine R_callIS (As := [.int (nI i), .int (nI n), .ref t9]) (rest := []) (Φ := fun _ => True) ⟨hx, hb, hml, hown, hts⟩ hS (metJ14_checkIndexR l hi hn) (fun _ _ _ _ h => h) (fun _ _ _ => trivial) (va_cwS 3 hts (lw_S q1047 q819 q121 q820) rfl rfl rfl (by decide +kernel) ⟨Nat.le_of_ble_eq_true rfl, Nat.le_of_ble_eq_true rfl⟩) rfl hl.1 rfl (Nat.le_of_ble_eq_true rfl) dJ9_checkIndex_5 ⟨Nat.zero_le _, Nat.zero_le _⟩ (fun r H locs hw hk hS => ?_)
    refine lv_pop hx hb dJ9_checkIndex_8 rfl ?_
    exact W.vret hx hb hr (fun t ht _ => ⟨⟨(), rfl, trivial, trivial⟩, hS.F ht⟩) hS.2.2 dJ9_checkIndex_9 hlocks
abbrev BAU (v : Nat) (tx : List Nat) (U : State) : Prop := va_T .byte v tx.length (fun j => .int (nI (tx.getD j 0))) NoA U U.heap ∧ SC NoA U U.heap
theorem BAU.blind {v : Nat} {tx : List Nat} : Blind (BAU v tx) := fun U g mk a h => ⟨va_T.moved (U := U.calling g mk a) (Vm.Alike.refl U.vm) h.1, SC.moved (U := U.calling g mk a) (Vm.Alike.refl U.vm) h.2⟩
theorem chr_eq {c : Nat} (h : c < 128) : ((nI c &&& 255).toUInt32 % 65536).toInt32 = nI c := by
  have h2 : ∀ c, c < 128 → ((nI c &&& 255).toUInt32 % 65536).toInt32 = nI c := by decide +kernel
  exact h2 c h
theorem getD_lt {tx : List Nat} (h : ∀ c ∈ tx, c < 128) (i : Nat) : tx.getD i 0 < 128 := by
  rcases Nat.lt_or_ge i tx.length with q | q
  · rw [List.getD_eq_getElem?_getD, List.getElem?_eq_getElem q]
    exact h _ (List.getElem_mem q)
  · rw [List.getD_eq_getElem?_getD, List.getElem?_eq_none q]
    decide
set_option maxHeartbeats 4000000 in
set_option maxRecDepth 100000 in
theorem metJ15_charAt (l : Launch) {v : Nat} {tx : List Nat} {i : Nat} (hi : i < tx.length) (hn : tx.length < 65536) (ht : ∀ c ∈ tx, c < 128) : ReI l yJ15_charAt (ws_ yJ15_charAt cJ15_charAt 2 (some .char)) ({ frames := 5, cells := 0, slots := 0, locals := 150 }) [.ref v, .int (nI i)] (BAU v tx) (fun r => r = nI (tx.getD i 0)) := by
  refine Met.ofW (cc := cJ15_charAt) (maxL := 2) (ret := (some .char)) (by decide) rfl ?_
  intro p e s m args below meth c s₁ B hml hv
  obtain ⟨rfl, hv⟩ := hv
  have hx := B.exec
  have hb := B.bytes
  have hr := B.returns
  have hts := atoms_spec (ws := ws_ yJ15_charAt cJ15_charAt 2 (some .char)) B.pre
  have hts : ∀ w ∈ lw_all, w.before _ s = true := fun w h => hts w (List.mem_cons_of_mem _ h)
  have hown : s.vm.findClass RJ15 = some m.cls := findClass_of_methodNamed B.named
  have hlocks := B.notSynchronized
  have hS : va_S (fun _ => False) s.heap s.heap [] := va_S.rf
  have hl := lv_entry ([.ref v, .int (nI i)]) (n := 2) (Nat.le_of_ble_eq_true rfl)
  rw [lg_entry_eq]
  generalize (lg_sl ([.ref v, .int (nI i)]) ++ List.replicate (2 - (lg_sl ([.ref v, .int (nI i)])).length) Slot.unset).toArray = ls at hl ⊢
  have hl : lv_has ls 2 [(0, .ref v), (1, .int (nI i))] := hl
  refine lv_iload_n hx hb dJ15_charAt_0 rfl (lv_at hl 1 rfl) ?_
  refine lv_aload_n hx hb dJ15_charAt_1 rfl (lv_at hl 0 rfl) ?_
  refine va_tlen (v := nI tx.length) hx hb hv.1 hS rfl dJ15_charAt_2 ?_
  refine R_callVS (As := [.int (nI i), .int (nI tx.length)]) (rest := []) ⟨hx, hb, hml, hown, hts⟩ hS (metJ9_checkIndex l hi (by omega)) (fun U g mk a h => SC.moved (U := U.calling g mk a) (Vm.Alike.refl U.vm) h) (fun U hU hW => by rw [hU]; exact (hv.2.moved hW.alike).kept (fun a ha _ => hS.2.1 a ha (hNoA a))) (va_cwS 2 hts (lw_S q1298 q1045 q115 q1046) rfl rfl rfl (by decide +kernel) ⟨Nat.le_of_ble_eq_true rfl, Nat.le_of_ble_eq_true rfl⟩) rfl hl.1 rfl (Nat.le_of_ble_eq_true rfl) dJ15_charAt_3 ⟨Nat.zero_le _, Nat.zero_le _⟩ (fun H locs hw hk hS => ?_)
  refine lv_aload_n hx hb dJ15_charAt_6 rfl (lv_at hl 0 rfl) ?_
  refine lv_iload_n hx hb dJ15_charAt_7 rfl (lv_at hl 1 rfl) ?_
  refine va_tb (v := .int (nI (tx.getD i 0))) hx hb hv.1 hS (vp_in_nI hi (by omega)) (by rw [nI_clamp (by omega)]) dJ15_charAt_8 ?_
  refine lv_sipush (v := 255) hx hb dJ15_charAt_9 (by decide) ?_
  refine lv_iand hx hb dJ15_charAt_12 ?_
  refine lv_i2c hx hb dJ15_charAt_13 (v := nI (tx.getD i 0)) (chr_eq (getD_lt ht i)) ?_
  exact W.zret (v := nI (tx.getD i 0)) hx hb hr (pk_charN (Nat.lt_of_lt_of_le (getD_lt ht i) (by decide))).1 (fun t ht _ => ⟨⟨_, (), rfl, rfl, trivial⟩, hS.F ht⟩) hS.2.2 dJ15_charAt_14 hlocks
set_option maxHeartbeats 4000000 in
set_option maxRecDepth 100000 in
theorem metJ9_charAt (l : Launch) {q v : Nat} {tx : List Nat} {i : Nat} (hi : i < tx.length) : ReI l yJ9_charAt (ws_ yJ9_charAt cJ9_charAt 2 (some .char)) ({ frames := 7, cells := 0, slots := 0, locals := 220 }) [.ref q, .int (nI i)] (SRU q v tx) (fun r => r = nI (tx.getD i 0)) := by
  refine Met.ofW (cc := cJ9_charAt) (maxL := 2) (ret := (some .char)) (by decide) rfl ?_
  intro p e s m args below meth c s₁ B hml hv
  obtain ⟨rfl, hv⟩ := hv
  have hx := B.exec
  have hb := B.bytes
  have hr := B.returns
  have hts := atoms_spec (ws := ws_ yJ9_charAt cJ9_charAt 2 (some .char)) B.pre
  have hts : ∀ w ∈ lw_all, w.before _ s = true := fun w h => hts w (List.mem_cons_of_mem _ h)
  have hown : s.vm.findClass RJ9 = some m.cls := findClass_of_methodNamed B.named
  have hlocks := B.notSynchronized
  have hS : va_S (fun _ => False) s.heap s.heap [] := va_S.rf
  have hl := lv_entry ([.ref q, .int (nI i)]) (n := 2) (Nat.le_of_ble_eq_true rfl)
  rw [lg_entry_eq]
  generalize (lg_sl ([.ref q, .int (nI i)]) ++ List.replicate (2 - (lg_sl ([.ref q, .int (nI i)])).length) Slot.unset).toArray = ls at hl ⊢
  have hl : lv_has ls 2 [(0, .ref q), (1, .int (nI i))] := hl
  have hv0 := hv
  obtain ⟨hR, hC⟩ := hv
  refine lv_aload_n hx hb dJ9_charAt_0 rfl (lv_at hl 0 rfl) ?_
  refine R_callI (As := []) (rest := []) (C := "java/lang/String") ⟨hx, hb, hml, hown, hts⟩ hS (metJ9_isLatin1 l (q := q) (v := v) (tx := tx)) SRU.blind (fun U hU hW => hv0.go hS hNoA hU hW) (hv0.recv hS hNoA) (cwV 0 hts (lw_V q1291 q1292 q1293 q115 q1294) rfl rfl rfl (by decide +kernel) ⟨Nat.le_of_ble_eq_true rfl, Nat.le_of_ble_eq_true rfl⟩) rfl hl.1 rfl (Nat.le_of_ble_eq_true rfl) dJ9_charAt_1 ⟨Nat.zero_le _, Nat.zero_le _⟩ (fun r H locs hw hk hS => ?_)
  subst hw
  refine lv_if_eq (tgt := 16) hx hb dJ9_charAt_4 (by decide) (fun c1 => absurd c1 (by decide)) (fun c1 => ?_)
  refine lv_aload_n hx hb dJ9_charAt_7 rfl (lv_at hl 0 rfl) ?_
  refine vk_getf hx hb hR.2.2.1 hS hown (hts _ q476) (fun _ h9 => h9) dJ9_charAt_8 ?_
  refine lv_iload_n hx hb dJ9_charAt_11 rfl (lv_at hl 1 rfl) ?_
  refine R_callIS (As := [.ref v, .int (nI i)]) (rest := []) ⟨hx, hb, hml, hown, hts⟩ hS (metJ15_charAt l (v := v) hi hR.2.2.2.2.2 hR.2.2.2.2.1) BAU.blind (fun U hU hW => by unfold BAU; rw [hU]; exact ⟨(va_T.moved hW.alike hR.2.2.2.1).kept (fun a ha _ => hS.2.1 a ha (hNoA a)), (hC.moved hW.alike).kept (fun a ha _ => hS.2.1 a ha (hNoA a))⟩) (va_cwS 2 hts (lw_S q1295 q1296 q122 q1297) rfl rfl rfl (by decide +kernel) ⟨Nat.le_of_ble_eq_true rfl, Nat.le_of_ble_eq_true rfl⟩) rfl hl.1 rfl (Nat.le_of_ble_eq_true rfl) dJ9_charAt_12 ⟨Nat.zero_le _, Nat.zero_le _⟩ (fun r H locs hw hk hS => ?_)
  subst hw
  exact W.zret (v := nI (tx.getD i 0)) hx hb hr (pk_charN (Nat.lt_of_lt_of_le (getD_lt hR.2.2.2.2.1 i) (by decide))).1 (fun t ht _ => ⟨⟨_, (), rfl, rfl, trivial⟩, hS.F ht⟩) hS.2.2 dJ9_charAt_15 hlocks
