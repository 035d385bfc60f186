/-! 19.thr: methods of the component that throw: their forms, there, right, personAt, loafAt -/
def exn : Nat → String := fun k => match k with
  | 0 => "java/util/NoSuchElementException"
  | _ => "java/lang/IllegalArgumentException"
abbrev NwA (sz : Nat) : Nat → Prop := fun q => sz ≤ q
set_option maxHeartbeats 4000000 in
set_option maxRecDepth 100000 in
theorem metX1_there (l : Launch) (hlt : l.stackTraces = false) (z0 : Nat) (E : Nat → Nat → Nat) (sz : Nat) (a : Int32) : vx_Met l yX1_there (ws_ yX1_there cX1_there 1 none) ({ frames := 8, cells := 1, slots := 6, locals := 120 }) (va_Pc [.int a] (fun U => U.heap.size = sz ∧ FZ z0 E U U.heap)) (va_Qv (fun (_ : Unit) => ¬ a = 0) (fun _ _ => True) (NwA sz)) (vx_X (fun (_ : Unit) => a = 0) (fun En _ _ => En = exn 0) (NwA sz)) 1 6 (NwA sz) := by
  refine vx_ofW (cc := cX1_there) (maxL := 1) (ret := none) (by decide) rfl ?_
  intro p e s m args below meth c s₁ B hml het hv
  obtain ⟨rfl, hsz, hZ⟩ := hv
  have hx := B.exec
  have hb := B.bytes
  have hr := B.returns
  have hts := atoms_spec (ws := ws_ yX1_there cX1_there 1 none) B.pre
  have hts : ∀ w ∈ lw_all, w.before _ s = true := fun w h => hts w (List.mem_cons_of_mem _ h)
  have hown : s.vm.findClass RX1 = some m.cls := findClass_of_methodNamed B.named
  have hlocks := B.notSynchronized
  subst hsz
  have hS : va_S (NwA s.heap.size) s.heap s.heap [] := va_S.rf
  have hl := lv_entry ([.int a]) (n := 1) (Nat.le_of_ble_eq_true rfl)
  rw [lg_entry_eq]
  generalize (lg_sl ([.int a]) ++ List.replicate (1 - (lg_sl ([.int a])).length) Slot.unset).toArray = ls at hl ⊢
  have hl : lv_has ls 1 [(0, .int a)] := hl
  refine lv_iload_n hx hb dX1_there_0 rfl (lv_at hl 0 rfl) ?_
  refine lv_if_ne (tgt := 12) hx hb dX1_there_1 (by decide) (fun c1 => ?_) (fun c1 => ?_)
  · refine W.widen (k := 1) (n := 6) (Nat.le_of_ble_eq_true rfl) (Nat.le_of_ble_eq_true rfl) ?_
    exact vx_ret (W.vret hx hb hr (fun t ht _ => ⟨⟨(), rfl, c1, trivial⟩, hS.F ht⟩) hS.2.2 dX1_there_12 hlocks)
  · exact vx_throw0 (own := RX1) (cls := exn 0) (names := ["java/lang/RuntimeException", "java/lang/Exception"]) (ik := 68) (ic := 70) (A := NwA s.heap.size) hx hb hlt hown (by decide +kernel) (by decide +kernel) (hts _ q1397) (hts _ q144) (vx_hat (fun w hw => hts w (lw_in _ [109, 198, 207, 211, 214, 216, 199, 200, 152, 153, 201, 206, 212, 452, 188, 453, 190, 454, 192, 202, 204, 194, 1407, 1408, 1409, 997, 997, 998, 999, 1000, 1000, 1001, 1002, 199, 1406, 1398, 1400, 210, 1401, 1402, 1403, 1404, 450, 196, 1405] (by decide +kernel) (by decide +kernel) w hw)) (by decide +kernel) (vx_c (hZ.2.1.nD 5 rfl) (vx_c (hZ.2.1.nD 2 rfl) (vx_c (hZ.2.1.nD 7 rfl) (vx_c (hZ.2.1.nC 39 rfl) vx_n))))) (by decide +kernel) (hZ.1.2.2.2.2.1.narrow (fun q h => Nat.le_trans hZ.2.2.2.2.2 h)) (hZ.1.2.2.2.2.2.1.narrow (fun q h => Nat.le_trans hZ.2.2.2.2.2 h)) hS (hl.1.trans hml.symm) dX1_there_4 dX1_there_7 dX1_there_8 dX1_there_11 (fun x hx => (het x hx).elim) (Nat.le_of_ble_eq_true rfl) (Nat.le_of_ble_eq_true rfl) (Nat.le_of_ble_eq_true rfl) (Nat.le_of_ble_eq_true rfl) hlocks (fun t ht hz hk => ⟨(), c1, rfl, hz, fun q h1 _ => hk q h1⟩) (fun z hz => by cases hz) (Nat.le_refl _) (Nat.le_refl _)
set_option maxHeartbeats 4000000 in
set_option maxRecDepth 100000 in
theorem metX1_right (l : Launch) (hlt : l.stackTraces = false) (z0 : Nat) (E : Nat → Nat → Nat) (sz : Nat) (a : Int32) : vx_Met l yX1_right (ws_ yX1_right cX1_right 1 none) ({ frames := 8, cells := 1, slots := 6, locals := 120 }) (va_Pc [.int a] (fun U => U.heap.size = sz ∧ FZ z0 E U U.heap)) (va_Qv (fun (_ : Unit) => ¬ a = 0) (fun _ _ => True) (NwA sz)) (vx_X (fun (_ : Unit) => a = 0) (fun En _ _ => En = exn 1) (NwA sz)) 1 6 (NwA sz) := by
  refine vx_ofW (cc := cX1_right) (maxL := 1) (ret := none) (by decide) rfl ?_
  intro p e s m args below meth c s₁ B hml het hv
  obtain ⟨rfl, hsz, hZ⟩ := hv
  have hx := B.exec
  have hb := B.bytes
  have hr := B.returns
  have hts := atoms_spec (ws := ws_ yX1_right cX1_right 1 none) B.pre
  have hts : ∀ w ∈ lw_all, w.before _ s = true := fun w h => hts w (List.mem_cons_of_mem _ h)
  have hown : s.vm.findClass RX1 = some m.cls := findClass_of_methodNamed B.named
  have hlocks := B.notSynchronized
  subst hsz
  have hS : va_S (NwA s.heap.size) s.heap s.heap [] := va_S.rf
  have hl := lv_entry ([.int a]) (n := 1) (Nat.le_of_ble_eq_true rfl)
  rw [lg_entry_eq]
  generalize (lg_sl ([.int a]) ++ List.replicate (1 - (lg_sl ([.int a])).length) Slot.unset).toArray = ls at hl ⊢
  have hl : lv_has ls 1 [(0, .int a)] := hl
  refine lv_iload_n hx hb dX1_right_0 rfl (lv_at hl 0 rfl) ?_
  refine lv_if_ne (tgt := 12) hx hb dX1_right_1 (by decide) (fun c1 => ?_) (fun c1 => ?_)
  · refine W.widen (k := 1) (n := 6) (Nat.le_of_ble_eq_true rfl) (Nat.le_of_ble_eq_true rfl) ?_
    exact vx_ret (W.vret hx hb hr (fun t ht _ => ⟨⟨(), rfl, c1, trivial⟩, hS.F ht⟩) hS.2.2 dX1_right_12 hlocks)
  · exact vx_throw0 (own := RX1) (cls := exn 1) (names := ["java/lang/RuntimeException", "java/lang/Exception"]) (ik := 65) (ic := 67) (A := NwA s.heap.size) hx hb hlt hown (by decide +kernel) (by decide +kernel) (hts _ q992) (hts _ q112) (vx_hat (fun w hw => hts w (lw_in _ [109, 198, 207, 211, 214, 216, 199, 200, 152, 153, 201, 206, 212, 452, 188, 453, 190, 454, 192, 202, 204, 194, 994, 995, 996, 997, 997, 998, 999, 1000, 1000, 1001, 1002, 199, 993, 177, 185, 186, 187, 189, 191, 193, 450, 196, 195] (by decide +kernel) (by decide +kernel) w hw)) (by decide +kernel) (vx_c (hZ.2.1.nD 5 rfl) (vx_c (hZ.2.1.nD 2 rfl) (vx_c (hZ.2.1.nD 7 rfl) (vx_c (hZ.2.1.nC 32 rfl) vx_n))))) (by decide +kernel) (hZ.1.2.2.2.2.1.narrow (fun q h => Nat.le_trans hZ.2.2.2.2.2 h)) (hZ.1.2.2.2.2.2.1.narrow (fun q h => Nat.le_trans hZ.2.2.2.2.2 h)) hS (hl.1.trans hml.symm) dX1_right_4 dX1_right_7 dX1_right_8 dX1_right_11 (fun x hx => (het x hx).elim) (Nat.le_of_ble_eq_true rfl) (Nat.le_of_ble_eq_true rfl) (Nat.le_of_ble_eq_true rfl) (Nat.le_of_ble_eq_true rfl) hlocks (fun t ht hz hk => ⟨(), c1, rfl, hz, fun q h1 _ => hk q h1⟩) (fun z hz => by cases hz) (Nat.le_refl _) (Nat.le_refl _)
abbrev XB (ad : Nat → Nat) (sz : Nat) : Nat → Prop := fun q => XA ad q ∨ sz ≤ q
def PhXt (D : va_G) (cA : Nat → ClassId) (z0 : Nat) (E : Nat → Nat → Nat) (T : TT) (tw : Nat → Nat) (N : Nat → Prop) (ad : Nat → Nat) (sz : Nat) (h : Mem) (U : State) : Prop := U.heap.size = sz ∧ PhXw D cA z0 E T tw N ad h U
theorem PhXt.blind {D : va_G} {cA : Nat → ClassId} {z0 : Nat} {E : Nat → Nat → Nat} {T : TT} {tw : Nat → Nat} {N : Nat → Prop} {ad : Nat → Nat} {sz : Nat} {h : Mem} : Blind (PhXt D cA z0 E T tw N ad sz h) := fun U g mk a h => ⟨h.1, PhXw.blind U g mk a h.2⟩
abbrev XTx (D : va_G) (cA : Nat → ClassId) (tw ad : Nat → Nat) (sz : Nat) (h : Mem) (px : Nat → Prop) : String → State → State → Prop := vx_X px (fun En k t => En = exn k ∧ XW D cA ad (tw 9) h t.heap) (XB ad sz)
abbrev XTi (D : va_G) (cA : Nat → ClassId) (tw ad : Nat → Nat) (sz : Nat) (post : Int32 → Mem → Prop) : Array Value → State → Outcome → State → Prop := va_Qi post (fun h' t => XW D cA ad (tw 9) h' t.heap) (XB ad sz)
abbrev XTz (D : va_G) (cA : Nat → ClassId) (tw ad : Nat → Nat) (sz : Nat) (post : Bool → Mem → Prop) : Array Value → State → Outcome → State → Prop := va_Qi (fun r h' => ∃ b : Bool, r = b2i b ∧ post b h') (fun h' t => XW D cA ad (tw 9) h' t.heap) (XB ad sz)
abbrev MeTI (l : Launch) (D : va_G) (cA : Nat → ClassId) (z0 : Nat) (E : Nat → Nat → Nat) (T : TT) (tw : Nat → Nat) (N : Nat → Prop) (ad : Nat → Nat) (sz : Nat) (y : MethodName) (ws : List Cond) (rm : Room) (av : List Value) (h : Mem) (post : Int32 → Mem → Prop) (px : Nat → Prop) (mc ms : Nat) : Prop := vx_Met l y ws rm (va_Pc av (PhXt D cA z0 E T tw N ad sz h)) (XTi D cA tw ad sz post) (XTx D cA tw ad sz h px) mc ms (XB ad sz)
abbrev MeTZ (l : Launch) (D : va_G) (cA : Nat → ClassId) (z0 : Nat) (E : Nat → Nat → Nat) (T : TT) (tw : Nat → Nat) (N : Nat → Prop) (ad : Nat → Nat) (sz : Nat) (y : MethodName) (ws : List Cond) (rm : Room) (av : List Value) (h : Mem) (post : Bool → Mem → Prop) (px : Nat → Prop) (mc ms : Nat) : Prop := vx_Met l y ws rm (va_Pc av (PhXt D cA z0 E T tw N ad sz h)) (XTz D cA tw ad sz post) (XTx D cA tw ad sz h px) mc ms (XB ad sz)
def JT (p : Program) (l : Launch) (e : Env) (R : Room) (s : State) (m : MethodId) (args : Array Value) (below : List Frame) (meth : Method) (c : Code) (Q : State → Prop) (D : va_G) (cA : Nat → ClassId) (tw ad : Nat → Nat) (cells slots nL pc : Nat) (h : Mem) (lv : List (Nat × Value)) (st : List Value) : Prop :=
  ∀ (H : Heap) (locs : List Loc) (ls : Array Slot), XW D cA ad (tw 9) h H → va_S (XB ad s.heap.size) s.heap H locs → lv_has ls nL lv → W p l e R s m args below meth c H locs cells slots Q (F0 m pc ls st)
theorem vx_one {l : Launch} : True := trivial
section XT
variable {p : Program} {l : Launch} {e : Env} {R : Room} {s : State} {m : MethodId} {args : Array Value} {below : List Frame} {meth : Method} {c : Code} {H : Heap} {locs : List Loc} {cells slots mc ms : Nat}
variable {cc : ByteArray} {pc nL : Nat} {ls : Array Slot} {rest st0 : List Value} {D : va_G} {cA : Nat → ClassId} {E : Nat → Nat → Nat} {T : TT} {tw : Nat → Nat} {z0 : Nat} {N : Nat → Prop} {index : Nat} {ad : Nat → Nat} {h h0 : Mem} {px : Nat → Prop} {Qc : Array Value → State → Outcome → State → Prop}
theorem XB.z (hZ : FZ z0 E s s.heap) (hJ : XJ z0 ad) : ∀ q, XB ad s.heap.size q → z0 ≤ q := fun q h => h.elim (hJ.z q) (fun h => Nat.le_trans hZ.2.2.2.2.2 h)
theorem XT_iret (hx : p.tables.exec = Jvm.exec) (hb : c.code = cc) (hr : meth.sig.returnType = some .int) (hlocks : meth.locks = false) {post : Int32 → Mem → Prop} {v : Int32} (hM : XW D cA ad (tw 9) h H) (hS : va_S (XB ad s.heap.size) s.heap H locs) (hw : post v h) (h1 : cells ≤ mc) (h2 : slots ≤ ms) (hdg : decode cc pc = .ok (.ireturn, 1)) : W p l e R s m args below meth c H locs cells slots (vx_MQ below (XTi D cA tw ad s.heap.size post) (XTx D cA tw ad s.heap.size h0 px) args s mc ms (XB ad s.heap.size)) (F0 m pc ls [.int v]) :=
  W.widen h1 h2 (vx_ret (W.iret hx hb hr (fun t ht _ => ⟨⟨v, h, rfl, hw, hM.at ht⟩, hS.F ht⟩) hS.2.2 hdg hlocks))
theorem XT_zret (hx : p.tables.exec = Jvm.exec) (hb : c.code = cc) (hr : meth.sig.returnType = some .boolean) (hlocks : meth.locks = false) {post : Bool → Mem → Prop} {v : Int32} (hM : XW D cA ad (tw 9) h H) (hS : va_S (XB ad s.heap.size) s.heap H locs) (hw : ∃ b, v = b2i b ∧ post b h) (h1 : cells ≤ mc) (h2 : slots ≤ ms) (hdg : decode cc pc = .ok (.ireturn, 1)) : W p l e R s m args below meth c H locs cells slots (vx_MQ below (XTz D cA tw ad s.heap.size post) (XTx D cA tw ad s.heap.size h0 px) args s mc ms (XB ad s.heap.size)) (F0 m pc ls [.int v]) := by
  obtain ⟨b, rfl, hw⟩ := hw
  exact W.widen h1 h2 (vx_ret (W.zret hx hb hr (by cases b <;> rfl) (fun t ht _ => ⟨⟨_, h, rfl, ⟨b, rfl, hw⟩, hM.at ht⟩, hS.F ht⟩) hS.2.2 hdg hlocks))
theorem NwX {H0 : Heap} {A : Nat → Prop} (hS : va_S A H0 H locs) : ∀ q, NwA H.size q → XB ad H0.size q := fun q h => Or.inr (Nat.le_trans hS.1 h)
theorem XT_there (S : CallFix p m c cc nL s args lw_all RX1) (e0 : h = h0) (hlt : l.stackTraces = false) (hZ : FZ z0 E s s.heap) (hJ : XJ z0 ad) (hM : XW D cA ad (tw 9) h H) (hS : va_S (XB ad s.heap.size) s.heap H locs) (het : ∀ x ∈ c.exceptionTable.toList, False) (hlocks : meth.locks = false) {a : Int32} (hq : a = 0 → px 0) (hlink : Cond.methodLink RX1 index yX1_there ∈ lw_all) (hfr : 8 + 1 ≤ R.frames ∧ 8 + (1 + 11) + 120 ≤ R.locals) (hsize : ls.size = nL) (hW : (rest.map fun v => v.category).sum ≤ 8) (hdg : decode cc pc = .ok (.invokestatic index, 3)) (hc : cells + 1 ≤ R.cells ∧ slots + 6 ≤ R.slots) (hmc : cells + 1 ≤ mc) (hms : slots + 6 ≤ ms)
    (kk : ¬ a = 0 → ∀ (H1 : Heap) (locs1 : List Loc), XW D cA ad (tw 9) h H1 → va_S (XB ad s.heap.size) s.heap H1 locs1 → W p l e R s m args below meth c H1 locs1 (cells + 1) (slots + 6) (vx_MQ below Qc (XTx D cA tw ad s.heap.size h0 px) args s mc ms (XB ad s.heap.size)) (F0 m (pc + 3) ls rest)) : W p l e R s m args below meth c H locs cells slots (vx_MQ below Qc (XTx D cA tw ad s.heap.size h0 px) args s mc ms (XB ad s.heap.size)) (F0 m pc ls (.int a :: rest)) := by
  subst e0
  exact vx_callv (vx_runS (As := [.int a]) S (metX1_there l hlt z0 E H.size a) (va_cwS 1 S.2.2.2.2 (lw_S hlink q1395 q104 q1396) rfl rfl rfl (by decide +kernel) hfr) ⟨fun a U g mk q => ⟨q.1, q.2.1, q.2.2.calling⟩, fun U hU hW => ⟨rfl, by rw [hU], hZ.go hS (XB.z hZ hJ) hU hW⟩⟩ rfl rfl hsize rfl (lv_room hW) hdg hc) hS (fun q _ h => NwX hS q h) (fun q h => NwX hS q h) (fun q _ h => NwX hS q h)
    (fun En ce q9 u t H1 locs1 ht hvm hpx hBX hsz hk hS1 hce hcv hcl => vx_out (fun x hx => (het x hx).elim) hlocks hce hcv hcl (fun t2 ht2 _ => ⟨0, hq hpx, ⟨hBX, (hM.kept (fun q h1 => hk q h1 (Nat.not_le.mpr h1))).at ht2⟩, hS1.F ht2⟩) hS1.2.2 hmc hms)
    (fun u t H1 locs1 ht hvm hw hB hsz hk hS1 => kk hw H1 locs1 (hM.kept (fun q h1 => hk q h1 (Nat.not_le.mpr h1))) hS1)
theorem XT_right (S : CallFix p m c cc nL s args lw_all RX1) (e0 : h = h0) (hlt : l.stackTraces = false) (hZ : FZ z0 E s s.heap) (hJ : XJ z0 ad) (hM : XW D cA ad (tw 9) h H) (hS : va_S (XB ad s.heap.size) s.heap H locs) (het : ∀ x ∈ c.exceptionTable.toList, False) (hlocks : meth.locks = false) {a : Int32} (hq : a = 0 → px 1) (hlink : Cond.methodLink RX1 index yX1_right ∈ lw_all) (hfr : 8 + 1 ≤ R.frames ∧ 8 + (1 + 11) + 120 ≤ R.locals) (hsize : ls.size = nL) (hW : (rest.map fun v => v.category).sum ≤ 8) (hdg : decode cc pc = .ok (.invokestatic index, 3)) (hc : cells + 1 ≤ R.cells ∧ slots + 6 ≤ R.slots) (hmc : cells + 1 ≤ mc) (hms : slots + 6 ≤ ms)
    (kk : ¬ a = 0 → ∀ (H1 : Heap) (locs1 : List Loc), XW D cA ad (tw 9) h H1 → va_S (XB ad s.heap.size) s.heap H1 locs1 → W p l e R s m args below meth c H1 locs1 (cells + 1) (slots + 6) (vx_MQ below Qc (XTx D cA tw ad s.heap.size h0 px) args s mc ms (XB ad s.heap.size)) (F0 m (pc + 3) ls rest)) : W p l e R s m args below meth c H locs cells slots (vx_MQ below Qc (XTx D cA tw ad s.heap.size h0 px) args s mc ms (XB ad s.heap.size)) (F0 m pc ls (.int a :: rest)) := by
  subst e0
  exact vx_callv (vx_runS (As := [.int a]) S (metX1_right l hlt z0 E H.size a) (va_cwS 1 S.2.2.2.2 (lw_S hlink q990 q104 q991) rfl rfl rfl (by decide +kernel) hfr) ⟨fun a U g mk q => ⟨q.1, q.2.1, q.2.2.calling⟩, fun U hU hW => ⟨rfl, by rw [hU], hZ.go hS (XB.z hZ hJ) hU hW⟩⟩ rfl rfl hsize rfl (lv_room hW) hdg hc) hS (fun q _ h => NwX hS q h) (fun q h => NwX hS q h) (fun q _ h => NwX hS q h)
    (fun En ce q9 u t H1 locs1 ht hvm hpx hBX hsz hk hS1 hce hcv hcl => vx_out (fun x hx => (het x hx).elim) hlocks hce hcv hcl (fun t2 ht2 _ => ⟨1, hq hpx, ⟨hBX, (hM.kept (fun q h1 => hk q h1 (Nat.not_le.mpr h1))).at ht2⟩, hS1.F ht2⟩) hS1.2.2 hmc hms)
    (fun u t H1 locs1 ht hvm hw hB hsz hk hS1 => kk hw H1 locs1 (hM.kept (fun q h1 => hk q h1 (Nat.not_le.mpr h1))) hS1)
end XT
