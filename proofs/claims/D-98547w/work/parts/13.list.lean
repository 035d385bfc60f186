/-! 13.list: ArrayList.size and get; Plain, Child, Deaf, Twin: kind, knows, slice, isRuled -/
abbrev ReR (l : Launch) (y : MethodName) (ws : List Cond) (rm : Room) (av : List Value) (Φ : State → Prop) (q : Nat) : Prop := Met l y ws rm (va_Pc av Φ) (va_Qr (fun (_ : Unit) => True) (fun _ a _ => a = q) NoA) 0 0 NoA
section RR2
variable {p : Program} {l : Launch} {e : Env} {R : Room} {s : State} {m : MethodId} {args : Array Value} {below : List Frame} {meth : Method} {c : Code} {H : Heap} {locs : List Loc} {cells slots : Nat} {Q : State → Prop}
variable {cc : ByteArray} {pc : Nat} {ls : Array Slot} {rest : List Value} {A0 : Nat → Prop}
variable {y : MethodName} {bytes : ByteArray} {maxL nL n index : Nat} {ret : Option FieldType} {ws : List Cond} {rm : Room} {As : List Value} {st0 : List Value} {Ts : List Cond} {own C : String} {b q0 : Addr} {Φ : State → Prop}
theorem R_callR (S : CallFix p m c cc nL s args Ts own) (hS : va_S A0 s.heap H locs) (met : ReR l y ws rm (.ref b :: As) Φ q0) (hbl : Blind Φ) (hΦ : ∀ U : State, U.heap = H → s.WarmedH U.vm → Φ U) (hr : ∃ cellB : Cell, H[b]? = some cellB ∧ cellB.vm.isStatics = false ∧ s.vm.findClass C = some cellB.cls) (cw : CallW R s args own C index y bytes maxL ret ws rm 0 0 n) (hn : As.length = n) (hsize : ls.size = nL) (hst : st0 = As.reverse ++ .ref b :: rest) (hW : (rest.map fun v => v.category).sum ≤ 8) (hdg : decode cc pc = .ok (.invokevirtual index, 3)) (hc : cells ≤ R.cells ∧ slots ≤ R.slots)
    (kk : ∀ (H1 : Heap) (locs1 : List Loc), (∀ q : Nat, q < H.size → H1[q]? = H[q]?) → va_S A0 s.heap H1 locs1 → W p l e R s m args below meth c H1 locs1 cells slots Q (F0 m (pc + 3) ls (.ref q0 :: rest))) : W p l e R s m args below meth c H locs cells slots Q (F0 m pc ls st0) :=
  va_callr (va_runV S met cw ⟨hbl.pc, hr, fun U hU hW => ⟨rfl, hΦ U hU hW⟩⟩ rfl hn hsize hst (lv_room hW) hdg hc) hS (fun _ _ h => h.elim) (fun _ h => h.elim) (fun u ra t H1 locs1 ht hvm hw hB hz hk hS1 => by subst hB; exact kk H1 locs1 (fun q h1 => hk q h1 (fun h => h)) hS1)
theorem R_callSI (S : CallFix p m c cc nL s args Ts own) {cC : ClassId} (hat : ClassAt s C cC) (hS : va_S A0 s.heap H locs) {post : Int32 → Prop} (met : ReI l y ws rm (.ref b :: As) Φ post) (hbl : Blind Φ) (hΦ : ∀ U : State, U.heap = H → s.WarmedH U.vm → Φ U) (hr : ∃ cellB : Cell, H[b]? = some cellB ∧ cellB.vm.isStatics = false ∧ s.vm.findClass C = some cellB.cls) (cw : va_CS R s args own index y bytes maxL ret ws rm 0 0 n) (hn : As.length = n) (hsize : ls.size = nL) (hst : st0 = As.reverse ++ .ref b :: rest) (hW : (rest.map fun v => v.category).sum ≤ 8) (hdg : decode cc pc = .ok (.invokespecial index, 3)) (hc : cells ≤ R.cells ∧ slots ≤ R.slots)
    (kk : ∀ (r : Int32) (H1 : Heap) (locs1 : List Loc), post r → (∀ q : Nat, q < H.size → H1[q]? = H[q]?) → va_S A0 s.heap H1 locs1 → W p l e R s m args below meth c H1 locs1 cells slots Q (F0 m (pc + 3) ls (.int r :: rest))) : W p l e R s m args below meth c H locs cells slots Q (F0 m pc ls st0) :=
  va_calli (va_runSU hat S met cw ⟨hbl.pc, hr, fun U hU hW => ⟨rfl, hΦ U hU hW⟩⟩ rfl hn hsize hst (lv_room hW) hdg hc) hS (fun _ _ h => h.elim) (fun _ h => h.elim) (fun r u t H1 locs1 ht hvm hw hB hz hk hS1 => kk r H1 locs1 hw (fun q h1 => hk q h1 (fun h => h)) hS1)
theorem R_callUI {x : MethodName} {owner : String} (S : CallFix p m c cc nL s args Ts own) (hS : va_S A0 s.heap H locs) {post : Int32 → Prop} (met : ReI l y ws rm (.ref b :: As) Φ post) (hbl : Blind Φ) (hΦ : ∀ U : State, U.heap = H → s.WarmedH U.vm → Φ U) (hr : ∃ cellB : Cell, H[b]? = some cellB ∧ cellB.vm.isStatics = false ∧ s.vm.findClass C = some cellB.cls) (cw : va_CU R s args own C owner index x y bytes maxL ret ws rm 0 0 n) (hn : As.length = n) (hsize : ls.size = nL) (hst : st0 = As.reverse ++ .ref b :: rest) (hW : (rest.map fun v => v.category).sum ≤ 8) (hdg : decode cc pc = .ok (.invokevirtual index, 3)) (hc : cells ≤ R.cells ∧ slots ≤ R.slots)
    (kk : ∀ (r : Int32) (H1 : Heap) (locs1 : List Loc), post r → (∀ q : Nat, q < H.size → H1[q]? = H[q]?) → va_S A0 s.heap H1 locs1 → W p l e R s m args below meth c H1 locs1 cells slots Q (F0 m (pc + 3) ls (.int r :: rest))) : W p l e R s m args below meth c H locs cells slots Q (F0 m pc ls st0) :=
  va_calli (va_runU S met cw ⟨hbl.pc, hr, fun U hU hW => ⟨rfl, hΦ U hU hW⟩⟩ rfl hn hsize hst (lv_room hW) hdg hc) hS (fun _ _ h => h.elim) (fun _ h => h.elim) (fun r u t H1 locs1 ht hvm hw hB hz hk hS1 => kk r H1 locs1 hw (fun q h1 => hk q h1 (fun h => h)) hS1)
end RR2
theorem lw_SU {own : String} {idx : Nat} {y : MethodName} {b : ByteArray} {L : Nat} {r : Option FieldType} (h1 : Cond.methodLink own idx y ∈ lw_all) (h2 : Cond.sameMethod y.cls y.cls y.name y.desc ∈ lw_all) (h3 : Cond.superclass own y.cls ∈ lw_all) (h4 : Cond.instanceMethod y ∈ lw_all) (h5 : Cond.initialized y.cls ∈ lw_all) (h6 : Cond.code y b L r ∈ lw_all) : GoodIn lw_all (va_wsSU own idx y (ws_ y b L r)) := by
  refine lw_app ?_ (lw_meth h6)
  intro w hw
  simp only [List.mem_cons, List.not_mem_nil, or_false] at hw
  rcases hw with e | e | e | e | e <;> rw [e] <;> assumption
theorem lw_U {own : String} {idx : Nat} {C owner : String} {x y : MethodName} {b : ByteArray} {L : Nat} {r : Option FieldType} (h1 : Cond.methodLink own idx x ∈ lw_all) (h2 : Cond.sameMethod x.cls owner x.name x.desc ∈ lw_all) (h3 : Cond.selects C x y ∈ lw_all) (h4 : Cond.instanceMethod y ∈ lw_all) (h5 : Cond.initialized y.cls ∈ lw_all) (h6 : Cond.code y b L r ∈ lw_all) : GoodIn lw_all (va_wsU own idx C owner x y (ws_ y b L r)) := by
  refine lw_app ?_ (lw_meth h6)
  intro w hw
  simp only [List.mem_cons, List.not_mem_nil, or_false] at hw
  rcases hw with e | e | e | e | e <;> rw [e] <;> assumption
theorem lw_O {own : String} {idx : Nat} {C owner : String} {x y : MethodName} {b : ByteArray} {L : Nat} {r : Option FieldType} (h1 : Cond.methodLink own idx x ∈ lw_all) (h2 : Cond.sameMethod x.cls owner x.name x.desc ∈ lw_all) (h0 : Cond.instanceMethod ⟨owner, x.name, x.desc⟩ ∈ lw_all) (h3 : Cond.selects C x y ∈ lw_all) (h4 : Cond.instanceMethod y ∈ lw_all) (h5 : Cond.initialized y.cls ∈ lw_all) (h6 : Cond.code y b L r ∈ lw_all) : GoodIn lw_all (va_wsO own idx C owner x y (ws_ y b L r)) := by
  refine lw_app ?_ (lw_meth h6)
  intro w hw
  simp only [List.mem_cons, List.not_mem_nil, or_false] at hw
  rcases hw with e | e | e | e | e | e <;> rw [e] <;> assumption
theorem at_recv {D : va_G} {cA : Nat → ClassId} {s : State} {H : Heap} {a ci : Nat} {q : vw_C} {fs : List Value} (hK : KK D cA s) (hP : va_at D vwCl (a, .inr (ci, fs)) H) (hc : vwCl[ci]? = some q) : ∃ cell : Cell, H[a]? = some cell ∧ cell.vm.isStatics = false ∧ s.vm.findClass q.1 = some cell.cls := va_recv (q0 := 0) hK (va_P1 hP) hc rfl
theorem at_S {D : va_G} {q : Nat × va_E} {A : Nat → Prop} {H0 H : Heap} {locs : List Loc} (h : va_at D vwCl q H0) (hS : va_S A H0 H locs) (hn : ¬ A q.1) : va_at D vwCl q H := h.kept (hS.2.1 _ h.lt hn)
/-- an ArrayList at al, its array at ed of cap places, of which n are taken, with what f says -/
def ALW (D : va_G) (cA : Nat → ClassId) (al ed n cap : Nat) (f : Nat → Option Nat) (H : Heap) : Prop := (∃ mc : Int32, va_at D vwCl (al, .inr (17, [.int mc, .ref ed, .int (nI n)])) H) ∧ va_at D vwCl (ed, .inl (cA 3, cap, .inr (.inr (.inr (.inr f))))) H ∧ n ≤ cap ∧ cap < 2 ^ 31
theorem ALW.kept {D : va_G} {cA : Nat → ClassId} {al ed n cap : Nat} {f : Nat → Option Nat} {H H1 : Heap} (h : ALW D cA al ed n cap f H) (h1 : al < H.size → H1[al]? = H[al]?) (h2 : ed < H.size → H1[ed]? = H[ed]?) : ALW D cA al ed n cap f H1 := by
  obtain ⟨⟨mc, a⟩, b, c⟩ := h
  exact ⟨⟨mc, a.kept (h1 a.lt)⟩, b.kept (h2 b.lt), c⟩
abbrev ALU (D : va_G) (cA : Nat → ClassId) (al ed n cap : Nat) (f : Nat → Option Nat) (U : State) : Prop := ALW D cA al ed n cap f U.heap ∧ KK D cA U
theorem ALU.blind {D : va_G} {cA : Nat → ClassId} {al ed n cap : Nat} {f : Nat → Option Nat} : Blind (ALU D cA al ed n cap f) := fun U g mk a h => ⟨h.1, va_K.moved (u := U) (U := U.calling g mk a) (Vm.Alike.refl U.vm) h.2⟩
theorem ALU.go {D : va_G} {cA : Nat → ClassId} {al ed n cap : Nat} {f : Nat → Option Nat} {s U : State} {H : Heap} (h : ALW D cA al ed n cap f H) (hK : KK D cA s) (hU : U.heap = H) (hW : s.WarmedH U.vm) : ALU D cA al ed n cap f U := ⟨by rw [hU]; exact h, va_K.moved hW.alike hK⟩
theorem ALW.recv {D : va_G} {cA : Nat → ClassId} {al ed n cap : Nat} {f : Nat → Option Nat} {s : State} {H : Heap} (h : ALW D cA al ed n cap f H) (hK : KK D cA s) : ∃ cell : Cell, H[al]? = some cell ∧ cell.vm.isStatics = false ∧ s.vm.findClass RJ2 = some cell.cls := by
  obtain ⟨⟨mc, a⟩, b, c⟩ := h
  exact at_recv hK a rfl
theorem TJ2_own (k : Nat) (hk : 0 < k) (h3 : k < 3) : (TJ2 k).1 = RJ2 := by
  match k, hk, h3 with
  | 1, _, _ => rfl
  | 2, _, _ => rfl
set_option maxHeartbeats 4000000 in
set_option maxRecDepth 100000 in
theorem metJ19_checkIndex (l : Launch) {i n : Nat} (hi : i < n) (hn : n < 2 ^ 31) : ReI l yJ19_checkIndex (ws_ yJ19_checkIndex cJ19_checkIndex 2 (some .int)) ({ frames := 2, cells := 0, slots := 0, locals := 80 }) [.int (nI i), .int (nI n)] (fun _ => True) (fun r => r = nI i) := by
  refine Met.ofW (cc := cJ19_checkIndex) (maxL := 2) (ret := (some .int)) (by decide) rfl ?_
  intro p e s m args below meth c s₁ B hml hv
  obtain ⟨rfl, hv⟩ := hv
  have hx := B.exec
  have hb := B.bytes
  have hr := B.returns
  have hts := atoms_spec (ws := ws_ yJ19_checkIndex cJ19_checkIndex 2 (some .int)) B.pre
  have hts : ∀ w ∈ lw_all, w.before _ s = true := fun w h => hts w (List.mem_cons_of_mem _ h)
  have hown : s.vm.findClass RJ19 = some m.cls := findClass_of_methodNamed B.named
  have hlocks := B.notSynchronized
  have hS : va_S (NoA) s.heap s.heap [] := va_S.rf
  have hl := lv_entry ([.int (nI i), .int (nI n)]) (n := 2) (Nat.le_of_ble_eq_true rfl)
  rw [lg_entry_eq]
  generalize (lg_sl ([.int (nI i), .int (nI n)]) ++ List.replicate (2 - (lg_sl ([.int (nI i), .int (nI n)])).length) Slot.unset).toArray = ls at hl ⊢
  have hl : lv_has ls 2 [(0, .int (nI i)), (1, .int (nI n))] := hl
  refine lv_iload_n hx hb dJ19_checkIndex_0 rfl (lv_at hl 0 rfl) ?_
  refine lv_iload_n hx hb dJ19_checkIndex_1 rfl (lv_at hl 1 rfl) ?_
  refine lv_null hx hb dJ19_checkIndex_2 ?_
  refine R_callIS (As := [.int (nI i), .int (nI n), .null]) (rest := []) (Φ := fun _ => True) ⟨hx, hb, hml, hown, hts⟩ hS (metJ14_checkIndexN l hi hn) (fun _ _ _ _ h => h) (fun _ _ _ => trivial) (va_cwS 3 hts (lw_S q818 q819 q121 q820) rfl rfl rfl (by decide +kernel) ⟨Nat.le_of_ble_eq_true rfl, Nat.le_of_ble_eq_true rfl⟩) rfl hl.1 rfl (Nat.le_of_ble_eq_true rfl) dJ19_checkIndex_3 ⟨Nat.zero_le _, Nat.zero_le _⟩ (fun r H locs hw hk hS => ?_)
  subst hw
  exact W.iret hx hb hr (fun t ht _ => ⟨⟨_, (), rfl, rfl, trivial⟩, hS.F ht⟩) hS.2.2 dJ19_checkIndex_6 hlocks
set_option maxHeartbeats 4000000 in
set_option maxRecDepth 100000 in
theorem metJ2_size (l : Launch) {D : va_G} {cA : Nat → ClassId} {al ed n cap : Nat} {f : Nat → Option Nat} : ReI l yJ2_size (ws_ yJ2_size cJ2_size 1 (some .int)) ({ frames := 1, cells := 0, slots := 0, locals := 30 }) [.ref al] (ALU D cA al ed n cap f) (fun r => r = nI n) := by
  refine Met.ofW (cc := cJ2_size) (maxL := 1) (ret := (some .int)) (by decide) rfl ?_
  intro p e s m args below meth c s₁ B hml hv
  obtain ⟨rfl, hv⟩ := hv
  have hx := B.exec
  have hb := B.bytes
  have hr := B.returns
  have hts := atoms_spec (ws := ws_ yJ2_size cJ2_size 1 (some .int)) B.pre
  have hts : ∀ w ∈ lw_all, w.before _ s = true := fun w h => hts w (List.mem_cons_of_mem _ h)
  have hown : s.vm.findClass RJ2 = some m.cls := findClass_of_methodNamed B.named
  have hlocks := B.notSynchronized
  have hS : va_S (NoA) s.heap s.heap [] := va_S.rf
  have hl := lv_entry ([.ref al]) (n := 1) (Nat.le_of_ble_eq_true rfl)
  rw [lg_entry_eq]
  generalize (lg_sl ([.ref al]) ++ List.replicate (1 - (lg_sl ([.ref al])).length) Slot.unset).toArray = ls at hl ⊢
  have hl : lv_has ls 1 [(0, .ref al)] := hl
  obtain ⟨⟨⟨mc, ha⟩, hed, hcap⟩, hK⟩ := hv
  refine lv_aload_n hx hb dJ2_size_0 rfl (lv_at hl 0 rfl) ?_
  refine h_get (C := RJ2) (T := TJ2) (N := 3) (ci := 17) hx hb hts in_J2 hown hK ha rfl 2 (v := .int (nI n)) (by decide) (hts _ q489) (fun _ h9 => h9) rfl dJ2_size_1 ?_
  exact W.iret hx hb hr (fun t ht _ => ⟨⟨_, (), rfl, rfl, trivial⟩, hS.F ht⟩) hS.2.2 dJ2_size_4 hlocks
set_option maxHeartbeats 4000000 in
set_option maxRecDepth 100000 in
theorem metJ2_elementData (l : Launch) {D : va_G} {cA : Nat → ClassId} {al ed n cap : Nat} {f : Nat → Option Nat} {i q : Nat} (hi : i < n) (hf : f i = some q) : ReR l yJ2_elementData (ws_ yJ2_elementData cJ2_elementData 2 (some (.object "java/lang/Object"))) ({ frames := 1, cells := 0, slots := 0, locals := 30 }) [.ref al, .int (nI i)] (ALU D cA al ed n cap f) q := by
  refine Met.ofW (cc := cJ2_elementData) (maxL := 2) (ret := (some (.object "java/lang/Object"))) (by decide) rfl ?_
  intro p e s m args below meth c s₁ B hml hv
  obtain ⟨rfl, hv⟩ := hv
  have hx := B.exec
  have hb := B.bytes
  have hr := B.returns
  have hts := atoms_spec (ws := ws_ yJ2_elementData cJ2_elementData 2 (some (.object "java/lang/Object"))) B.pre
  have hts : ∀ w ∈ lw_all, w.before _ s = true := fun w h => hts w (List.mem_cons_of_mem _ h)
  have hown : s.vm.findClass RJ2 = some m.cls := findClass_of_methodNamed B.named
  have hlocks := B.notSynchronized
  have hS : va_S (NoA) s.heap s.heap [] := va_S.rf
  have hl := lv_entry ([.ref al, .int (nI i)]) (n := 2) (Nat.le_of_ble_eq_true rfl)
  rw [lg_entry_eq]
  generalize (lg_sl ([.ref al, .int (nI i)]) ++ List.replicate (2 - (lg_sl ([.ref al, .int (nI i)])).length) Slot.unset).toArray = ls at hl ⊢
  have hl : lv_has ls 2 [(0, .ref al), (1, .int (nI i))] := hl
  obtain ⟨⟨⟨mc, ha⟩, hed, hcap, hcap2⟩, hK⟩ := hv
  refine lv_aload_n hx hb dJ2_elementData_0 rfl (lv_at hl 0 rfl) ?_
  refine h_get (C := RJ2) (T := TJ2) (N := 3) (ci := 17) hx hb hts in_J2 hown hK ha rfl 1 (v := .ref ed) (by decide) (hts _ q488) (fun _ h9 => h9) rfl dJ2_elementData_1 ?_
  refine lv_iload_n hx hb dJ2_elementData_4 rfl (lv_at hl 1 rfl) ?_
  refine va_aldq (D := D) (cl := vwCl) (tys := tyL cA) hx hb hK (va_P1 hed) 0 3 rfl rfl (vp_in_nI (by omega) (by omega)) dJ2_elementData_5 ?_
  rw [nI_clamp (by omega), hf]
  exact W.aret (v := .ref q) hx hb hr (Or.inl ⟨_, rfl⟩) (Or.inr ⟨_, rfl⟩) (fun t ht _ => ⟨⟨(), q, rfl, trivial, rfl⟩, hS.F ht⟩) hS.2.2 dJ2_elementData_6 hlocks
set_option maxHeartbeats 4000000 in
set_option maxRecDepth 100000 in
theorem metJ2_get (l : Launch) {D : va_G} {cA : Nat → ClassId} {al ed n cap : Nat} {f : Nat → Option Nat} {i q : Nat} (hi : i < n) (hf : f i = some q) : ReR l yJ2_get (ws_ yJ2_get cJ2_get 2 (some (.object "java/lang/Object"))) ({ frames := 4, cells := 0, slots := 0, locals := 180 }) [.ref al, .int (nI i)] (ALU D cA al ed n cap f) q := by
  refine Met.ofW (cc := cJ2_get) (maxL := 2) (ret := (some (.object "java/lang/Object"))) (by decide) rfl ?_
  intro p e s m args below meth c s₁ B hml hv
  obtain ⟨rfl, hv⟩ := hv
  have hx := B.exec
  have hb := B.bytes
  have hr := B.returns
  have hts := atoms_spec (ws := ws_ yJ2_get cJ2_get 2 (some (.object "java/lang/Object"))) B.pre
  have hts : ∀ w ∈ lw_all, w.before _ s = true := fun w h => hts w (List.mem_cons_of_mem _ h)
  have hown : s.vm.findClass RJ2 = some m.cls := findClass_of_methodNamed B.named
  have hlocks := B.notSynchronized
  have hS : va_S (NoA) s.heap s.heap [] := va_S.rf
  have hl := lv_entry ([.ref al, .int (nI i)]) (n := 2) (Nat.le_of_ble_eq_true rfl)
  rw [lg_entry_eq]
  generalize (lg_sl ([.ref al, .int (nI i)]) ++ List.replicate (2 - (lg_sl ([.ref al, .int (nI i)])).length) Slot.unset).toArray = ls at hl ⊢
  have hl : lv_has ls 2 [(0, .ref al), (1, .int (nI i))] := hl
  obtain ⟨hAL, hK⟩ := hv
  have hAL0 := hAL
  obtain ⟨⟨mc, ha⟩, hed, hcap, hcap2⟩ := hAL0
  refine lv_iload_n hx hb dJ2_get_0 rfl (lv_at hl 1 rfl) ?_
  refine lv_aload_n hx hb dJ2_get_1 rfl (lv_at hl 0 rfl) ?_
  refine h_get (C := RJ2) (T := TJ2) (N := 3) (ci := 17) hx hb hts in_J2 hown hK ha rfl 2 (v := .int (nI n)) (by decide) (hts _ q489) (fun _ h9 => h9) rfl dJ2_get_2 ?_
  refine R_callIS (As := [.int (nI i), .int (nI n)]) (rest := []) (Φ := fun _ => True) ⟨hx, hb, hml, hown, hts⟩ hS (metJ19_checkIndex l hi (by omega)) (fun _ _ _ _ h => h) (fun _ _ _ => trivial) (va_cwS 2 hts (lw_S q815 q816 q145 q817) rfl rfl rfl (by decide +kernel) ⟨Nat.le_of_ble_eq_true rfl, Nat.le_of_ble_eq_true rfl⟩) rfl hl.1 rfl (Nat.le_of_ble_eq_true rfl) dJ2_get_5 ⟨Nat.zero_le _, Nat.zero_le _⟩ (fun r H locs hw hk hS => ?_)
  refine lv_pop hx hb dJ2_get_8 rfl ?_
  refine lv_aload_n hx hb dJ2_get_9 rfl (lv_at hl 0 rfl) ?_
  refine lv_iload_n hx hb dJ2_get_10 rfl (lv_at hl 1 rfl) ?_
  have hAL1 : ALW D cA al ed n cap f H := hAL.kept (fun h => hk _ h) (fun h => hk _ h)
  refine R_callR (As := [.int (nI i)]) (rest := []) (C := RJ2) (q0 := q) ⟨hx, hb, hml, hown, hts⟩ hS (metJ2_elementData l (D := D) (cA := cA) (al := al) (ed := ed) (n := n) (cap := cap) (f := f) hi hf) ALU.blind (fun U hU hW => ALU.go hAL1 hK hU hW) (hAL1.recv hK) (cwV 1 hts (lw_V q830 q831 q832 q108 q833) rfl rfl rfl (by decide +kernel) ⟨Nat.le_of_ble_eq_true rfl, Nat.le_of_ble_eq_true rfl⟩) rfl hl.1 rfl (Nat.le_of_ble_eq_true rfl) dJ2_get_11 ⟨Nat.zero_le _, Nat.zero_le _⟩ (fun H locs hk hS => ?_)
  exact W.aret (v := .ref q) hx hb hr (Or.inl ⟨_, rfl⟩) (Or.inr ⟨_, rfl⟩) (fun t ht _ => ⟨⟨(), q, rfl, trivial, rfl⟩, hS.F ht⟩) hS.2.2 dJ2_get_14 hlocks
/-- the class of a person of kind k -/
def pcl : Nat → Nat := fun k => match k with
  | 0 => 13
  | 1 => 14
  | 2 => 15
  | _ => 16
abbrev PEU (D : va_G) (cA : Nat → ClassId) (ci a : Nat) (fs : List Value) (U : State) : Prop := va_at D vwCl (a, .inr (ci, fs)) U.heap ∧ KK D cA U
theorem PEU.blind {D : va_G} {cA : Nat → ClassId} {ci a : Nat} {fs : List Value} : Blind (PEU D cA ci a fs) := fun U g mk b h => ⟨h.1, va_K.moved (u := U) (U := U.calling g mk b) (Vm.Alike.refl U.vm) h.2⟩
theorem PEU.go {D : va_G} {cA : Nat → ClassId} {ci a : Nat} {fs : List Value} {s U : State} {H : Heap} (h : va_at D vwCl (a, .inr (ci, fs)) H) (hK : KK D cA s) (hU : U.heap = H) (hW : s.WarmedH U.vm) : PEU D cA ci a fs U := ⟨by rw [hU]; exact h, va_K.moved hW.alike hK⟩
theorem K_at {D : va_G} {cA : Nat → ClassId} {s : State} (hK : KK D cA s) {ci : Nat} {q : vw_C} (hc : vwCl[ci]? = some q) : ClassAt s q.1 (D.1 ci) := (hK.1 ci q hc).2
set_option maxHeartbeats 4000000 in
set_option maxRecDepth 100000 in
theorem metX16_kind (l : Launch) {D : va_G} {cA : Nat → ClassId} {ci a : Nat} {fs : List Value} : ReI l yX16_kind (ws_ yX16_kind cX16_kind 1 (some .int)) ({ frames := 1, cells := 0, slots := 0, locals := 30 }) [.ref a] (PEU D cA ci a fs) (fun r => r = 0) := by
  refine Met.ofW (cc := cX16_kind) (maxL := 1) (ret := (some .int)) (by decide) rfl ?_
  intro p e s m args below meth c s₁ B hml hv
  obtain ⟨rfl, hv⟩ := hv
  have hx := B.exec
  have hb := B.bytes
  have hr := B.returns
  have hts := atoms_spec (ws := ws_ yX16_kind cX16_kind 1 (some .int)) B.pre
  have hts : ∀ w ∈ lw_all, w.before _ s = true := fun w h => hts w (List.mem_cons_of_mem _ h)
  have hown : s.vm.findClass RX16 = some m.cls := findClass_of_methodNamed B.named
  have hlocks := B.notSynchronized
  have hS : va_S (NoA) s.heap s.heap [] := va_S.rf
  have hl := lv_entry ([.ref a]) (n := 1) (Nat.le_of_ble_eq_true rfl)
  rw [lg_entry_eq]
  generalize (lg_sl ([.ref a]) ++ List.replicate (1 - (lg_sl ([.ref a])).length) Slot.unset).toArray = ls at hl ⊢
  have hl : lv_has ls 1 [(0, .ref a)] := hl
  refine lv_iconst (v := 0) hx hb dX16_kind_0 (by decide) ?_
  exact W.iret hx hb hr (fun t ht _ => ⟨⟨_, (), rfl, rfl, trivial⟩, hS.F ht⟩) hS.2.2 dX16_kind_1 hlocks
set_option maxHeartbeats 4000000 in
set_option maxRecDepth 100000 in
theorem metX16_knows (l : Launch) {D : va_G} {cA : Nat → ClassId} {ci a : Nat} {fs : List Value} : ReI l yX16_knows (ws_ yX16_knows cX16_knows 1 (some .boolean)) ({ frames := 1, cells := 0, slots := 0, locals := 30 }) [.ref a] (PEU D cA ci a fs) (fun r => r = 1) := by
  refine Met.ofW (cc := cX16_knows) (maxL := 1) (ret := (some .boolean)) (by decide) rfl ?_
  intro p e s m args below meth c s₁ B hml hv
  obtain ⟨rfl, hv⟩ := hv
  have hx := B.exec
  have hb := B.bytes
  have hr := B.returns
  have hts := atoms_spec (ws := ws_ yX16_knows cX16_knows 1 (some .boolean)) B.pre
  have hts : ∀ w ∈ lw_all, w.before _ s = true := fun w h => hts w (List.mem_cons_of_mem _ h)
  have hown : s.vm.findClass RX16 = some m.cls := findClass_of_methodNamed B.named
  have hlocks := B.notSynchronized
  have hS : va_S (NoA) s.heap s.heap [] := va_S.rf
  have hl := lv_entry ([.ref a]) (n := 1) (Nat.le_of_ble_eq_true rfl)
  rw [lg_entry_eq]
  generalize (lg_sl ([.ref a]) ++ List.replicate (1 - (lg_sl ([.ref a])).length) Slot.unset).toArray = ls at hl ⊢
  have hl : lv_has ls 1 [(0, .ref a)] := hl
  refine lv_iconst (v := 1) hx hb dX16_knows_0 (by decide) ?_
  exact W.zret (v := 1) hx hb hr rfl (fun t ht _ => ⟨⟨_, (), rfl, rfl, trivial⟩, hS.F ht⟩) hS.2.2 dX16_knows_1 hlocks
set_option maxHeartbeats 4000000 in
set_option maxRecDepth 100000 in
theorem metX16_isRuled (l : Launch) {D : va_G} {cA : Nat → ClassId} {ci a : Nat} {fs : List Value} : ReI l yX16_isRuled (ws_ yX16_isRuled cX16_isRuled 1 (some .boolean)) ({ frames := 1, cells := 0, slots := 0, locals := 30 }) [.ref a] (PEU D cA ci a fs) (fun r => r = 1) := by
  refine Met.ofW (cc := cX16_isRuled) (maxL := 1) (ret := (some .boolean)) (by decide) rfl ?_
  intro p e s m args below meth c s₁ B hml hv
  obtain ⟨rfl, hv⟩ := hv
  have hx := B.exec
  have hb := B.bytes
  have hr := B.returns
  have hts := atoms_spec (ws := ws_ yX16_isRuled cX16_isRuled 1 (some .boolean)) B.pre
  have hts : ∀ w ∈ lw_all, w.before _ s = true := fun w h => hts w (List.mem_cons_of_mem _ h)
  have hown : s.vm.findClass RX16 = some m.cls := findClass_of_methodNamed B.named
  have hlocks := B.notSynchronized
  have hS : va_S (NoA) s.heap s.heap [] := va_S.rf
  have hl := lv_entry ([.ref a]) (n := 1) (Nat.le_of_ble_eq_true rfl)
  rw [lg_entry_eq]
  generalize (lg_sl ([.ref a]) ++ List.replicate (1 - (lg_sl ([.ref a])).length) Slot.unset).toArray = ls at hl ⊢
  have hl : lv_has ls 1 [(0, .ref a)] := hl
  refine lv_iconst (v := 1) hx hb dX16_isRuled_0 (by decide) ?_
  exact W.zret (v := 1) hx hb hr rfl (fun t ht _ => ⟨⟨_, (), rfl, rfl, trivial⟩, hS.F ht⟩) hS.2.2 dX16_isRuled_1 hlocks
set_option maxHeartbeats 4000000 in
set_option maxRecDepth 100000 in
theorem metX16_slice (l : Launch) {D : va_G} {cA : Nat → ClassId} {ci a : Nat} {fs : List Value} {i n : Int32} : ReI l yX16_slice (ws_ yX16_slice cX16_slice 3 (some .int)) ({ frames := 1, cells := 0, slots := 0, locals := 30 }) [.ref a, .int i, .int n] (PEU D cA ci a fs) (fun r => r = i) := by
  refine Met.ofW (cc := cX16_slice) (maxL := 3) (ret := (some .int)) (by decide) rfl ?_
  intro p e s m args below meth c s₁ B hml hv
  obtain ⟨rfl, hv⟩ := hv
  have hx := B.exec
  have hb := B.bytes
  have hr := B.returns
  have hts := atoms_spec (ws := ws_ yX16_slice cX16_slice 3 (some .int)) B.pre
  have hts : ∀ w ∈ lw_all, w.before _ s = true := fun w h => hts w (List.mem_cons_of_mem _ h)
  have hown : s.vm.findClass RX16 = some m.cls := findClass_of_methodNamed B.named
  have hlocks := B.notSynchronized
  have hS : va_S (NoA) s.heap s.heap [] := va_S.rf
  have hl := lv_entry ([.ref a, .int i, .int n]) (n := 3) (Nat.le_of_ble_eq_true rfl)
  rw [lg_entry_eq]
  generalize (lg_sl ([.ref a, .int i, .int n]) ++ List.replicate (3 - (lg_sl ([.ref a, .int i, .int n])).length) Slot.unset).toArray = ls at hl ⊢
  have hl : lv_has ls 3 [(0, .ref a), (1, .int i), (2, .int n)] := hl
  refine lv_iload_n hx hb dX16_slice_0 rfl (lv_at hl 1 rfl) ?_
  exact W.iret hx hb hr (fun t ht _ => ⟨⟨_, (), rfl, rfl, trivial⟩, hS.F ht⟩) hS.2.2 dX16_slice_1 hlocks
set_option maxHeartbeats 4000000 in
set_option maxRecDepth 100000 in
theorem metX17_kind (l : Launch) {D : va_G} {cA : Nat → ClassId} {a : Nat} {fs : List Value} : ReI l yX17_kind (ws_ yX17_kind cX17_kind 1 (some .int)) ({ frames := 2, cells := 0, slots := 0, locals := 80 }) [.ref a] (PEU D cA 14 a fs) (fun r => r = 1) := by
  refine Met.ofW (cc := cX17_kind) (maxL := 1) (ret := (some .int)) (by decide) rfl ?_
  intro p e s m args below meth c s₁ B hml hv
  obtain ⟨rfl, hv⟩ := hv
  have hx := B.exec
  have hb := B.bytes
  have hr := B.returns
  have hts := atoms_spec (ws := ws_ yX17_kind cX17_kind 1 (some .int)) B.pre
  have hts : ∀ w ∈ lw_all, w.before _ s = true := fun w h => hts w (List.mem_cons_of_mem _ h)
  have hown : s.vm.findClass RX17 = some m.cls := findClass_of_methodNamed B.named
  have hlocks := B.notSynchronized
  have hS : va_S (NoA) s.heap s.heap [] := va_S.rf
  have hl := lv_entry ([.ref a]) (n := 1) (Nat.le_of_ble_eq_true rfl)
  rw [lg_entry_eq]
  generalize (lg_sl ([.ref a]) ++ List.replicate (1 - (lg_sl ([.ref a])).length) Slot.unset).toArray = ls at hl ⊢
  have hl : lv_has ls 1 [(0, .ref a)] := hl
  obtain ⟨ha, hK⟩ := hv
  refine lv_aload_n hx hb dX17_kind_0 rfl (lv_at hl 0 rfl) ?_
  refine R_callSI (As := []) (rest := []) (C := RX17) ⟨hx, hb, hml, hown, hts⟩ (K_at hK (ci := 14) rfl) hS (metX16_kind l (D := D) (cA := cA) (ci := 14) (a := a) (fs := fs)) PEU.blind (fun U hU hW => PEU.go ha hK hU hW) (at_recv hK ha rfl) (va_cwSU 0 hts (lw_SU q1439 q1435 q1361 q1433 q140 q1440) rfl rfl rfl (by decide +kernel) ⟨Nat.le_of_ble_eq_true rfl, Nat.le_of_ble_eq_true rfl⟩) rfl hl.1 rfl (Nat.le_of_ble_eq_true rfl) dX17_kind_1 ⟨Nat.zero_le _, Nat.zero_le _⟩ (fun r H locs hw hk hS => ?_)
  subst hw
  refine lv_iconst (v := 1) hx hb dX17_kind_4 (by decide) ?_
  refine lv_iadd hx hb dX17_kind_5 ?_
  exact W.iret hx hb hr (fun t ht _ => ⟨⟨_, (), rfl, by decide, trivial⟩, hS.F ht⟩) hS.2.2 dX17_kind_6 hlocks
set_option maxHeartbeats 4000000 in
set_option maxRecDepth 100000 in
theorem metX18_kind (l : Launch) {D : va_G} {cA : Nat → ClassId} {a : Nat} {fs : List Value} : ReI l yX18_kind (ws_ yX18_kind cX18_kind 1 (some .int)) ({ frames := 2, cells := 0, slots := 0, locals := 80 }) [.ref a] (PEU D cA 15 a fs) (fun r => r = 2) := by
  refine Met.ofW (cc := cX18_kind) (maxL := 1) (ret := (some .int)) (by decide) rfl ?_
  intro p e s m args below meth c s₁ B hml hv
  obtain ⟨rfl, hv⟩ := hv
  have hx := B.exec
  have hb := B.bytes
  have hr := B.returns
  have hts := atoms_spec (ws := ws_ yX18_kind cX18_kind 1 (some .int)) B.pre
  have hts : ∀ w ∈ lw_all, w.before _ s = true := fun w h => hts w (List.mem_cons_of_mem _ h)
  have hown : s.vm.findClass RX18 = some m.cls := findClass_of_methodNamed B.named
  have hlocks := B.notSynchronized
  have hS : va_S (NoA) s.heap s.heap [] := va_S.rf
  have hl := lv_entry ([.ref a]) (n := 1) (Nat.le_of_ble_eq_true rfl)
  rw [lg_entry_eq]
  generalize (lg_sl ([.ref a]) ++ List.replicate (1 - (lg_sl ([.ref a])).length) Slot.unset).toArray = ls at hl ⊢
  have hl : lv_has ls 1 [(0, .ref a)] := hl
  obtain ⟨ha, hK⟩ := hv
  refine lv_aload_n hx hb dX18_kind_0 rfl (lv_at hl 0 rfl) ?_
  refine R_callSI (As := []) (rest := []) (C := RX18) ⟨hx, hb, hml, hown, hts⟩ (K_at hK (ci := 15) rfl) hS (metX16_kind l (D := D) (cA := cA) (ci := 15) (a := a) (fs := fs)) PEU.blind (fun U hU hW => PEU.go ha hK hU hW) (at_recv hK ha rfl) (va_cwSU 0 hts (lw_SU q1444 q1435 q926 q1433 q140 q1440) rfl rfl rfl (by decide +kernel) ⟨Nat.le_of_ble_eq_true rfl, Nat.le_of_ble_eq_true rfl⟩) rfl hl.1 rfl (Nat.le_of_ble_eq_true rfl) dX18_kind_1 ⟨Nat.zero_le _, Nat.zero_le _⟩ (fun r H locs hw hk hS => ?_)
  subst hw
  refine lv_iconst (v := 2) hx hb dX18_kind_4 (by decide) ?_
  refine lv_iadd hx hb dX18_kind_5 ?_
  exact W.iret hx hb hr (fun t ht _ => ⟨⟨_, (), rfl, by decide, trivial⟩, hS.F ht⟩) hS.2.2 dX18_kind_6 hlocks
set_option maxHeartbeats 4000000 in
set_option maxRecDepth 100000 in
theorem metX19_kind (l : Launch) {D : va_G} {cA : Nat → ClassId} {a : Nat} {fs : List Value} : ReI l yX19_kind (ws_ yX19_kind cX19_kind 1 (some .int)) ({ frames := 2, cells := 0, slots := 0, locals := 80 }) [.ref a] (PEU D cA 16 a fs) (fun r => r = 3) := by
  refine Met.ofW (cc := cX19_kind) (maxL := 1) (ret := (some .int)) (by decide) rfl ?_
  intro p e s m args below meth c s₁ B hml hv
  obtain ⟨rfl, hv⟩ := hv
  have hx := B.exec
  have hb := B.bytes
  have hr := B.returns
  have hts := atoms_spec (ws := ws_ yX19_kind cX19_kind 1 (some .int)) B.pre
  have hts : ∀ w ∈ lw_all, w.before _ s = true := fun w h => hts w (List.mem_cons_of_mem _ h)
  have hown : s.vm.findClass RX19 = some m.cls := findClass_of_methodNamed B.named
  have hlocks := B.notSynchronized
  have hS : va_S (NoA) s.heap s.heap [] := va_S.rf
  have hl := lv_entry ([.ref a]) (n := 1) (Nat.le_of_ble_eq_true rfl)
  rw [lg_entry_eq]
  generalize (lg_sl ([.ref a]) ++ List.replicate (1 - (lg_sl ([.ref a])).length) Slot.unset).toArray = ls at hl ⊢
  have hl : lv_has ls 1 [(0, .ref a)] := hl
  obtain ⟨ha, hK⟩ := hv
  refine lv_aload_n hx hb dX19_kind_0 rfl (lv_at hl 0 rfl) ?_
  refine R_callSI (As := []) (rest := []) (C := RX19) ⟨hx, hb, hml, hown, hts⟩ (K_at hK (ci := 16) rfl) hS (metX16_kind l (D := D) (cA := cA) (ci := 16) (a := a) (fs := fs)) PEU.blind (fun U hU hW => PEU.go ha hK hU hW) (at_recv hK ha rfl) (va_cwSU 0 hts (lw_SU q1448 q1435 q1378 q1433 q140 q1440) rfl rfl rfl (by decide +kernel) ⟨Nat.le_of_ble_eq_true rfl, Nat.le_of_ble_eq_true rfl⟩) rfl hl.1 rfl (Nat.le_of_ble_eq_true rfl) dX19_kind_1 ⟨Nat.zero_le _, Nat.zero_le _⟩ (fun r H locs hw hk hS => ?_)
  subst hw
  refine lv_iconst (v := 3) hx hb dX19_kind_4 (by decide) ?_
  refine lv_iadd hx hb dX19_kind_5 ?_
  exact W.iret hx hb hr (fun t ht _ => ⟨⟨_, (), rfl, by decide, trivial⟩, hS.F ht⟩) hS.2.2 dX19_kind_6 hlocks
set_option maxHeartbeats 4000000 in
set_option maxRecDepth 100000 in
theorem metX18_knows (l : Launch) {D : va_G} {cA : Nat → ClassId} {a : Nat} {fs : List Value} : ReI l yX18_knows (ws_ yX18_knows cX18_knows 1 (some .boolean)) ({ frames := 2, cells := 0, slots := 0, locals := 80 }) [.ref a] (PEU D cA 15 a fs) (fun r => r = 0) := by
  refine Met.ofW (cc := cX18_knows) (maxL := 1) (ret := (some .boolean)) (by decide) rfl ?_
  intro p e s m args below meth c s₁ B hml hv
  obtain ⟨rfl, hv⟩ := hv
  have hx := B.exec
  have hb := B.bytes
  have hr := B.returns
  have hts := atoms_spec (ws := ws_ yX18_knows cX18_knows 1 (some .boolean)) B.pre
  have hts : ∀ w ∈ lw_all, w.before _ s = true := fun w h => hts w (List.mem_cons_of_mem _ h)
  have hown : s.vm.findClass RX18 = some m.cls := findClass_of_methodNamed B.named
  have hlocks := B.notSynchronized
  have hS : va_S (NoA) s.heap s.heap [] := va_S.rf
  have hl := lv_entry ([.ref a]) (n := 1) (Nat.le_of_ble_eq_true rfl)
  rw [lg_entry_eq]
  generalize (lg_sl ([.ref a]) ++ List.replicate (1 - (lg_sl ([.ref a])).length) Slot.unset).toArray = ls at hl ⊢
  have hl : lv_has ls 1 [(0, .ref a)] := hl
  obtain ⟨ha, hK⟩ := hv
  refine lv_aload_n hx hb dX18_knows_0 rfl (lv_at hl 0 rfl) ?_
  refine R_callSI (As := []) (rest := []) (C := RX18) ⟨hx, hb, hml, hown, hts⟩ (K_at hK (ci := 15) rfl) hS (metX16_knows l (D := D) (cA := cA) (ci := 15) (a := a) (fs := fs)) PEU.blind (fun U hU hW => PEU.go ha hK hU hW) (at_recv hK ha rfl) (va_cwSU 0 hts (lw_SU q925 q920 q926 q918 q140 q927) rfl rfl rfl (by decide +kernel) ⟨Nat.le_of_ble_eq_true rfl, Nat.le_of_ble_eq_true rfl⟩) rfl hl.1 rfl (Nat.le_of_ble_eq_true rfl) dX18_knows_1 ⟨Nat.zero_le _, Nat.zero_le _⟩ (fun r H locs hw hk hS => ?_)
  subst hw
  refine lv_if_ne (tgt := 11) hx hb dX18_knows_4 (by decide) (fun c1 => ?_) (fun c1 => absurd c1 (by decide))
  refine lv_iconst (v := 0) hx hb dX18_knows_11 (by decide) ?_
  exact W.zret (v := 0) hx hb hr rfl (fun t ht _ => ⟨⟨_, (), rfl, rfl, trivial⟩, hS.F ht⟩) hS.2.2 dX18_knows_12 hlocks
set_option maxHeartbeats 4000000 in
set_option maxRecDepth 100000 in
theorem metX18_isRuled (l : Launch) {D : va_G} {cA : Nat → ClassId} {a : Nat} {fs : List Value} : ReI l yX18_isRuled (ws_ yX18_isRuled cX18_isRuled 1 (some .boolean)) ({ frames := 2, cells := 0, slots := 0, locals := 80 }) [.ref a] (PEU D cA 15 a fs) (fun r => r = 0) := by
  refine Met.ofW (cc := cX18_isRuled) (maxL := 1) (ret := (some .boolean)) (by decide) rfl ?_
  intro p e s m args below meth c s₁ B hml hv
  obtain ⟨rfl, hv⟩ := hv
  have hx := B.exec
  have hb := B.bytes
  have hr := B.returns
  have hts := atoms_spec (ws := ws_ yX18_isRuled cX18_isRuled 1 (some .boolean)) B.pre
  have hts : ∀ w ∈ lw_all, w.before _ s = true := fun w h => hts w (List.mem_cons_of_mem _ h)
  have hown : s.vm.findClass RX18 = some m.cls := findClass_of_methodNamed B.named
  have hlocks := B.notSynchronized
  have hS : va_S (NoA) s.heap s.heap [] := va_S.rf
  have hl := lv_entry ([.ref a]) (n := 1) (Nat.le_of_ble_eq_true rfl)
  rw [lg_entry_eq]
  generalize (lg_sl ([.ref a]) ++ List.replicate (1 - (lg_sl ([.ref a])).length) Slot.unset).toArray = ls at hl ⊢
  have hl : lv_has ls 1 [(0, .ref a)] := hl
  obtain ⟨ha, hK⟩ := hv
  refine lv_aload_n hx hb dX18_isRuled_0 rfl (lv_at hl 0 rfl) ?_
  refine R_callSI (As := []) (rest := []) (C := RX18) ⟨hx, hb, hml, hown, hts⟩ (K_at hK (ci := 15) rfl) hS (metX16_isRuled l (D := D) (cA := cA) (ci := 15) (a := a) (fs := fs)) PEU.blind (fun U hU hW => PEU.go ha hK hU hW) (at_recv hK ha rfl) (va_cwSU 0 hts (lw_SU q1517 q1512 q926 q1510 q140 q1518) rfl rfl rfl (by decide +kernel) ⟨Nat.le_of_ble_eq_true rfl, Nat.le_of_ble_eq_true rfl⟩) rfl hl.1 rfl (Nat.le_of_ble_eq_true rfl) dX18_isRuled_1 ⟨Nat.zero_le _, Nat.zero_le _⟩ (fun r H locs hw hk hS => ?_)
  subst hw
  refine lv_if_ne (tgt := 11) hx hb dX18_isRuled_4 (by decide) (fun c1 => ?_) (fun c1 => absurd c1 (by decide))
  refine lv_iconst (v := 0) hx hb dX18_isRuled_11 (by decide) ?_
  exact W.zret (v := 0) hx hb hr rfl (fun t ht _ => ⟨⟨_, (), rfl, rfl, trivial⟩, hS.F ht⟩) hS.2.2 dX18_isRuled_12 hlocks
set_option maxHeartbeats 4000000 in
set_option maxRecDepth 100000 in
theorem metX17_slice (l : Launch) {D : va_G} {cA : Nat → ClassId} {a : Nat} {fs : List Value} {i n : Int32} : ReI l yX17_slice (ws_ yX17_slice cX17_slice 3 (some .int)) ({ frames := 2, cells := 0, slots := 0, locals := 80 }) [.ref a, .int i, .int n] (PEU D cA 14 a fs) (fun r => r = n - 1 - i) := by
  refine Met.ofW (cc := cX17_slice) (maxL := 3) (ret := (some .int)) (by decide) rfl ?_
  intro p e s m args below meth c s₁ B hml hv
  obtain ⟨rfl, hv⟩ := hv
  have hx := B.exec
  have hb := B.bytes
  have hr := B.returns
  have hts := atoms_spec (ws := ws_ yX17_slice cX17_slice 3 (some .int)) B.pre
  have hts : ∀ w ∈ lw_all, w.before _ s = true := fun w h => hts w (List.mem_cons_of_mem _ h)
  have hown : s.vm.findClass RX17 = some m.cls := findClass_of_methodNamed B.named
  have hlocks := B.notSynchronized
  have hS : va_S (NoA) s.heap s.heap [] := va_S.rf
  have hl := lv_entry ([.ref a, .int i, .int n]) (n := 3) (Nat.le_of_ble_eq_true rfl)
  rw [lg_entry_eq]
  generalize (lg_sl ([.ref a, .int i, .int n]) ++ List.replicate (3 - (lg_sl ([.ref a, .int i, .int n])).length) Slot.unset).toArray = ls at hl ⊢
  have hl : lv_has ls 3 [(0, .ref a), (1, .int i), (2, .int n)] := hl
  obtain ⟨ha, hK⟩ := hv
  refine lv_iload_n hx hb dX17_slice_0 rfl (lv_at hl 2 rfl) ?_
  refine lv_iconst (v := 1) hx hb dX17_slice_1 (by decide) ?_
  refine lv_isub hx hb dX17_slice_2 ?_
  refine lv_aload_n hx hb dX17_slice_3 rfl (lv_at hl 0 rfl) ?_
  refine lv_iload_n hx hb dX17_slice_4 rfl (lv_at hl 1 rfl) ?_
  refine lv_iload_n hx hb dX17_slice_5 rfl (lv_at hl 2 rfl) ?_
  refine R_callSI (As := [.int i, .int n]) (rest := [.int (n - 1)]) (C := RX17) ⟨hx, hb, hml, hown, hts⟩ (K_at hK (ci := 14) rfl) hS (metX16_slice l (D := D) (cA := cA) (ci := 14) (a := a) (fs := fs) (i := i) (n := n)) PEU.blind (fun U hU hW => PEU.go ha hK hU hW) (at_recv hK ha rfl) (va_cwSU 2 hts (lw_SU q1528 q1524 q1361 q1522 q140 q1529) rfl rfl rfl (by decide +kernel) ⟨Nat.le_of_ble_eq_true rfl, Nat.le_of_ble_eq_true rfl⟩) rfl hl.1 rfl (Nat.le_of_ble_eq_true rfl) dX17_slice_6 ⟨Nat.zero_le _, Nat.zero_le _⟩ (fun r H locs hw hk hS => ?_)
  subst hw
  refine lv_isub hx hb dX17_slice_9 ?_
  exact W.iret hx hb hr (fun t ht _ => ⟨⟨_, (), rfl, rfl, trivial⟩, hS.F ht⟩) hS.2.2 dX17_slice_10 hlocks
