/-! 97f.rn, printed by tools/mk_rn.py: Reader.need, number, begins, amongHere, valueOf; the row of a call that may throw a Fault -/
section RNR
variable {p : Program} {l : Launch} {e : Env} {R : Room} {s : State} {m : MethodId} {args : Array Value} {below : List Frame} {meth : Method} {c : Code} {H : Heap} {locs : List Loc} {cells slots mc ms : Nat} {Q : State → Prop} {Qc : Array Value → State → Outcome → State → Prop}
variable {cc : ByteArray} {pc nL : Nat} {ls : Array Slot} {rest st0 : List Value} {A : Nat → Prop} {D : va_G} {cA : Nat → ClassId} {z0 : Nat} {E : Nat → Nat → Nat} {tp : Nat → Nat} {n rd ha tx : Nat} {g : Nat → Int32} {f : Nat → Int32} {b index : Nat} {px : Nat × Nat → Prop}
theorem Y_v (S : CallFix p m c cc nL s args lw_all RX8) (hF : RF D cA z0 E tp n f rd ha tx s) (hbn : b ≤ n) (hM : RW D cA z0 E tp n rd ha tx g b s H) (hS : va_S A s.heap H locs) (hA0 : ∀ q, RA rd ha s.heap.size q → A q) (hAz : ∀ q, A q → z0 ≤ q) (htx : ¬ A tx) (het : ∀ x ∈ c.exceptionTable.toList, False) (hlocks : meth.locks = false) {S9 : Type} {post : S9 → Prop} {B : S9 → State → Prop} {pxc : Nat × Nat → Prop} {y : MethodName} {bytes : ByteArray} {maxL nn mc1 ms1 : Nat} {ret : Option FieldType} {ws : List Cond} {rm : Room} {As : List Value} (met : vy_Met l y ws rm (va_Pc (.ref rd :: As) (PhRz D cA z0 E tp n f rd ha tx g b H.size)) (va_Qv post B (RA rd ha H.size)) (YX D pxc (RA rd ha H.size)) mc1 ms1 (RA rd ha H.size)) (cw : CallW R s args RX8 RX8 index y bytes maxL ret ws rm mc1 ms1 nn) (hq : ∀ e, pxc e → px e) (hn : As.length = nn) (hsize : ls.size = nL) (hst : st0 = As.reverse ++ .ref rd :: rest) (hW : (rest.map fun v => v.category).sum ≤ 8) (hdg : decode cc pc = .ok (.invokevirtual index, 3)) (hc : cells + mc1 ≤ R.cells ∧ slots + ms1 ≤ R.slots) (hmc : ∀ e, pxc e → cells + mc1 ≤ mc) (hms : ∀ e, pxc e → slots + ms1 ≤ ms)
    (kk : ∀ (u : S9) (t : State) (H1 : Heap) (locs1 : List Loc), t.heap = H1 → s.vm.Alike t.vm → post u → B u t → H.size ≤ H1.size → (∀ q, q < H.size → ¬ R2 rd ha q → H1[q]? = H[q]?) → va_S A s.heap H1 locs1 → W p l e R s m args below meth c H1 locs1 (cells + mc1) (slots + ms1) (vy_MQ below Qc (YX D px A) args s mc ms A) (F0 m (pc + 3) ls (rest))) : W p l e R s m args below meth c H locs cells slots (vy_MQ below Qc (YX D px A) args s mc ms A) (F0 m (pc) ls st0) := by
  have hN : ∀ q, RA rd ha H.size q → A q := fun q h => hA0 q (h.elim Or.inl (fun h => Or.inr (Nat.le_trans hS.1 h)))
  exact vy_callv (vy_runV (As := As) (rest := rest) S met cw ⟨PhRz.blind.pc, hM.recv hF.1, fun U hU hW => ⟨rfl, by rw [hU], PhR.go hF hbn hM hS hAz htx hU hW⟩⟩ rfl hn hsize hst (lv_room hW) hdg hc) hS (fun q _ h => hN q h) hN (fun q _ h => hN q h)
    (fun En ce q9 u t H1 locs1 ht hvm hpx9 hBX hsz hk hS1 hce hcv hcl => vy_out (fun x hx => (het x hx).elim) hlocks hce hcv hcl (fun t2 ht2 _ => ⟨u, hq u hpx9, ⟨hBX.1, (show FL D q9 (nI u.1) (nI u.2) t2.heap by rw [ht2, ← ht]; exact hBX.2)⟩, hS1.F ht2⟩) hS1.2.2 (hmc u hpx9) (hms u hpx9))
    (fun u t H1 locs1 ht hvm hw hB hz hk hS1 => kk u t H1 locs1 ht hvm hw hB hz (fun q h1 h2 => hk q h1 (fun h => h.elim h2 (fun h => Nat.not_le.mpr h1 h))) hS1)
theorem Y_i (S : CallFix p m c cc nL s args lw_all RX8) (hF : RF D cA z0 E tp n f rd ha tx s) (hbn : b ≤ n) (hM : RW D cA z0 E tp n rd ha tx g b s H) (hS : va_S A s.heap H locs) (hA0 : ∀ q, RA rd ha s.heap.size q → A q) (hAz : ∀ q, A q → z0 ≤ q) (htx : ¬ A tx) (het : ∀ x ∈ c.exceptionTable.toList, False) (hlocks : meth.locks = false) {S9 : Type} {post : Int32 → S9 → Prop} {B : S9 → State → Prop} {pxc : Nat × Nat → Prop} {y : MethodName} {bytes : ByteArray} {maxL nn mc1 ms1 : Nat} {ret : Option FieldType} {ws : List Cond} {rm : Room} {As : List Value} (met : vy_Met l y ws rm (va_Pc (.ref rd :: As) (PhRz D cA z0 E tp n f rd ha tx g b H.size)) (va_Qi post B (RA rd ha H.size)) (YX D pxc (RA rd ha H.size)) mc1 ms1 (RA rd ha H.size)) (cw : CallW R s args RX8 RX8 index y bytes maxL ret ws rm mc1 ms1 nn) (hq : ∀ e, pxc e → px e) (hn : As.length = nn) (hsize : ls.size = nL) (hst : st0 = As.reverse ++ .ref rd :: rest) (hW : (rest.map fun v => v.category).sum ≤ 8) (hdg : decode cc pc = .ok (.invokevirtual index, 3)) (hc : cells + mc1 ≤ R.cells ∧ slots + ms1 ≤ R.slots) (hmc : ∀ e, pxc e → cells + mc1 ≤ mc) (hms : ∀ e, pxc e → slots + ms1 ≤ ms)
    (kk : ∀ (r : Int32) (u : S9) (t : State) (H1 : Heap) (locs1 : List Loc), t.heap = H1 → s.vm.Alike t.vm → post r u → B u t → H.size ≤ H1.size → (∀ q, q < H.size → ¬ R2 rd ha q → H1[q]? = H[q]?) → va_S A s.heap H1 locs1 → W p l e R s m args below meth c H1 locs1 (cells + mc1) (slots + ms1) (vy_MQ below Qc (YX D px A) args s mc ms A) (F0 m (pc + 3) ls (.int r :: rest))) : W p l e R s m args below meth c H locs cells slots (vy_MQ below Qc (YX D px A) args s mc ms A) (F0 m (pc) ls st0) := by
  have hN : ∀ q, RA rd ha H.size q → A q := fun q h => hA0 q (h.elim Or.inl (fun h => Or.inr (Nat.le_trans hS.1 h)))
  exact vy_calli (vy_runV (As := As) (rest := rest) S met cw ⟨PhRz.blind.pc, hM.recv hF.1, fun U hU hW => ⟨rfl, by rw [hU], PhR.go hF hbn hM hS hAz htx hU hW⟩⟩ rfl hn hsize hst (lv_room hW) hdg hc) hS (fun q _ h => hN q h) hN (fun q _ h => hN q h)
    (fun En ce q9 u t H1 locs1 ht hvm hpx9 hBX hsz hk hS1 hce hcv hcl => vy_out (fun x hx => (het x hx).elim) hlocks hce hcv hcl (fun t2 ht2 _ => ⟨u, hq u hpx9, ⟨hBX.1, (show FL D q9 (nI u.1) (nI u.2) t2.heap by rw [ht2, ← ht]; exact hBX.2)⟩, hS1.F ht2⟩) hS1.2.2 (hmc u hpx9) (hms u hpx9))
    (fun r u t H1 locs1 ht hvm hw hB hz hk hS1 => kk r u t H1 locs1 ht hvm hw hB hz (fun q h1 h2 => hk q h1 (fun h => h.elim h2 (fun h => Nat.not_le.mpr h1 h))) hS1)
theorem Y_r (S : CallFix p m c cc nL s args lw_all RX8) (hF : RF D cA z0 E tp n f rd ha tx s) (hbn : b ≤ n) (hM : RW D cA z0 E tp n rd ha tx g b s H) (hS : va_S A s.heap H locs) (hA0 : ∀ q, RA rd ha s.heap.size q → A q) (hAz : ∀ q, A q → z0 ≤ q) (htx : ¬ A tx) (het : ∀ x ∈ c.exceptionTable.toList, False) (hlocks : meth.locks = false) {S9 : Type} {post : S9 → Prop} {B : S9 → Nat → State → Prop} {pxc : Nat × Nat → Prop} {y : MethodName} {bytes : ByteArray} {maxL nn mc1 ms1 : Nat} {ret : Option FieldType} {ws : List Cond} {rm : Room} {As : List Value} (met : vy_Met l y ws rm (va_Pc (.ref rd :: As) (PhRz D cA z0 E tp n f rd ha tx g b H.size)) (va_Qr post B (RA rd ha H.size)) (YX D pxc (RA rd ha H.size)) mc1 ms1 (RA rd ha H.size)) (cw : CallW R s args RX8 RX8 index y bytes maxL ret ws rm mc1 ms1 nn) (hq : ∀ e, pxc e → px e) (hn : As.length = nn) (hsize : ls.size = nL) (hst : st0 = As.reverse ++ .ref rd :: rest) (hW : (rest.map fun v => v.category).sum ≤ 8) (hdg : decode cc pc = .ok (.invokevirtual index, 3)) (hc : cells + mc1 ≤ R.cells ∧ slots + ms1 ≤ R.slots) (hmc : ∀ e, pxc e → cells + mc1 ≤ mc) (hms : ∀ e, pxc e → slots + ms1 ≤ ms)
    (kk : ∀ (u : S9) (ra : Nat) (t : State) (H1 : Heap) (locs1 : List Loc), t.heap = H1 → s.vm.Alike t.vm → post u → B u ra t → H.size ≤ H1.size → (∀ q, q < H.size → ¬ R2 rd ha q → H1[q]? = H[q]?) → va_S A s.heap H1 locs1 → W p l e R s m args below meth c H1 locs1 (cells + mc1) (slots + ms1) (vy_MQ below Qc (YX D px A) args s mc ms A) (F0 m (pc + 3) ls (.ref ra :: rest))) : W p l e R s m args below meth c H locs cells slots (vy_MQ below Qc (YX D px A) args s mc ms A) (F0 m (pc) ls st0) := by
  have hN : ∀ q, RA rd ha H.size q → A q := fun q h => hA0 q (h.elim Or.inl (fun h => Or.inr (Nat.le_trans hS.1 h)))
  exact vy_callr (vy_runV (As := As) (rest := rest) S met cw ⟨PhRz.blind.pc, hM.recv hF.1, fun U hU hW => ⟨rfl, by rw [hU], PhR.go hF hbn hM hS hAz htx hU hW⟩⟩ rfl hn hsize hst (lv_room hW) hdg hc) hS (fun q _ h => hN q h) hN (fun q _ h => hN q h)
    (fun En ce q9 u t H1 locs1 ht hvm hpx9 hBX hsz hk hS1 hce hcv hcl => vy_out (fun x hx => (het x hx).elim) hlocks hce hcv hcl (fun t2 ht2 _ => ⟨u, hq u hpx9, ⟨hBX.1, (show FL D q9 (nI u.1) (nI u.2) t2.heap by rw [ht2, ← ht]; exact hBX.2)⟩, hS1.F ht2⟩) hS1.2.2 (hmc u hpx9) (hms u hpx9))
    (fun u ra t H1 locs1 ht hvm hw hB hz hk hS1 => kk u ra t H1 locs1 ht hvm hw hB hz (fun q h1 h2 => hk q h1 (fun h => h.elim h2 (fun h => Nat.not_le.mpr h1 h))) hS1)
end RNR
set_option maxHeartbeats 4000000 in
set_option maxRecDepth 100000 in
theorem metX8_need (l : Launch) (hlt : l.stackTraces = false) {D : va_G} {cA : Nat → ClassId} {z0 : Nat} {E : Nat → Nat → Nat} {tp : Nat → Nat} {n : Nat} {f : Nat → Int32} {rd ha tx : Nat} {g : Nat → Int32} {b sz : Nat} {i : Nat} (hi : i < 30) : vy_Met l yX8_need (ws_ yX8_need cX8_need 2 none) ({ frames := 14, cells := 4, slots := 24, locals := 480 }) (va_Pc [.ref rd, .ref (E 0 i)] (PhRz D cA z0 E tp n f rd ha tx g b sz)) (va_Qv (fun _ : Unit => isR tp n b i = true) (fun _ t => RW D cA z0 E tp n rd ha tx g (nxt tp n b) t t.heap) (RA rd ha sz)) (YX D (fun e => isR tp n b i = false ∧ e = (1, b)) (RA rd ha sz)) (4) (24) (RA rd ha sz) := by
  refine vy_ofW (cc := cX8_need) (maxL := 2) (ret := none) (by decide) rfl ?_
  intro p e s m args below meth c s₁ B hml het hv
  obtain ⟨rfl, hv⟩ := hv
  have hx := B.exec
  have hb := B.bytes
  have hret := B.returns
  have hts := atoms_spec (ws := ws_ yX8_need cX8_need 2 none) B.pre
  have hts : ∀ w ∈ lw_all, w.before _ s = true := fun w h => hts w (List.mem_cons_of_mem _ h)
  have hown : s.vm.findClass RX8 = some m.cls := findClass_of_methodNamed B.named
  have hlocks := B.notSynchronized
  have hS : va_S (RA rd ha sz) s.heap s.heap [] := va_S.rf
  have hl := lv_entry ([.ref rd, .ref (E 0 i)]) (n := 2) (Nat.le_of_ble_eq_true rfl)
  rw [lg_entry_eq]
  generalize (lg_sl ([.ref rd, .ref (E 0 i)]) ++ List.replicate (2 - (lg_sl ([.ref rd, .ref (E 0 i)])).length) Slot.unset).toArray = ls at hl ⊢
  have hl : lv_has ls 2 [(0, .ref rd), (1, .ref (E 0 i))] := hl
  obtain ⟨hsz, hM, hF, hbn⟩ := hv
  subst hsz
  have hz6 := hF.2.1.2.2.2.2.2
  have hK := hF.1
  have hZ := hF.2.1
  have hn6 := hF.2.2.2.1
  have hA0 : ∀ q, RA rd ha s.heap.size q → (RA rd ha s.heap.size) q := fun q h => h
  have hAz : ∀ q, (RA rd ha s.heap.size) q → z0 ≤ q := RAz (H := s.heap) hF
  have htx : ¬ (RA rd ha s.heap.size) tx := RAtx hF
  refine lv_aload_n hx hb dX8_need_0 rfl (lv_at hl 0 rfl) ?_
  refine lv_aload_n hx hb dX8_need_1 rfl (lv_at hl 0 rfl) ?_
  refine lv_aload_n hx hb dX8_need_2 rfl (lv_at hl 1 rfl) ?_
  refine R_is (rest := [.ref rd]) ⟨hx, hb, hml, hown, hts⟩ hF hbn hM hS hAz htx hi q1112 ⟨Nat.le_of_ble_eq_true rfl, Nat.le_of_ble_eq_true rfl⟩ hl.1 (Nat.le_of_ble_eq_true rfl) dX8_need_3 ⟨Nat.le_of_ble_eq_true rfl, Nat.le_of_ble_eq_true rfl⟩ (fun H locs hM hk hS => ?_)
  generalize hr9 : b2i (isR tp n b i) = r9
  rcases Bool.eq_false_or_eq_true (isR tp n b i) with hq | hq
  · rw [hq] at hr9
    subst hr9
    refine lv_iconst (v := 1) hx hb dX8_need_6 (by decide) ?_
    refine R_chk1 (rest := []) ⟨hx, hb, hml, hown, hts⟩ hF hbn hM hS hAz htx q1124 ⟨Nat.le_of_ble_eq_true rfl, Nat.le_of_ble_eq_true rfl⟩ hl.1 (Nat.le_of_ble_eq_true rfl) dX8_need_7 ⟨Nat.le_of_ble_eq_true rfl, Nat.le_of_ble_eq_true rfl⟩ (fun H locs hM hk hS => ?_)
    refine lv_aload_n hx hb dX8_need_10 rfl (lv_at hl 0 rfl) ?_
    refine R_go (rest := []) ⟨hx, hb, hml, hown, hts⟩ hF hbn hM hS hA0 hAz htx q1010 ⟨Nat.le_of_ble_eq_true rfl, Nat.le_of_ble_eq_true rfl⟩ hl.1 (Nat.le_of_ble_eq_true rfl) dX8_need_11 ⟨Nat.le_of_ble_eq_true rfl, Nat.le_of_ble_eq_true rfl⟩ (fun H locs hM hsz hk hS => ?_)
    have hbn := (nxt_le (tp := tp) hbn).2
    exact W.widen (k := 4) (n := 24) (Nat.le_of_ble_eq_true rfl) (Nat.le_of_ble_eq_true rfl) (vy_ret (W.vret hx hb hret (fun t ht hW => ⟨⟨(), rfl, hq, (show RW _ _ _ _ _ _ _ _ _ _ _ t t.heap from ht ▸ hM.moved hW.alike)⟩, hS.F ht⟩) hS.2.2 dX8_need_14 hlocks))
  · rw [hq] at hr9
    subst hr9
    refine lv_iconst (v := 1) hx hb dX8_need_6 (by decide) ?_
    exact R_chk0 (rest := []) (k9 := 1) ⟨hx, hb, hml, hown, hts⟩ hlt hF hbn hM hS hA0 hAz htx het hlocks (⟨hq, rfl⟩) rfl q1124 ⟨Nat.le_of_ble_eq_true rfl, Nat.le_of_ble_eq_true rfl⟩ hl.1 (Nat.le_of_ble_eq_true rfl) dX8_need_7 ⟨Nat.le_of_ble_eq_true rfl, Nat.le_of_ble_eq_true rfl⟩ (Nat.le_of_ble_eq_true rfl) (Nat.le_of_ble_eq_true rfl)
section NUL
variable {tp : Nat → Nat} {n b lo hi : Nat}
theorem nn_ty (h : ¬ ty tp n b = 2) : nnS tp n lo hi b = .error (1, b) := by unfold nnS; rw [if_neg h]
theorem nn_bad (h : ty tp n b = 2) (h2 : 4 < en tp n b - b ∨ v4 tp n b < lo ∨ hi < v4 tp n b) : nnS tp n lo hi b = .error (2, b) := by
  unfold nnS
  rw [if_pos h, if_pos]
  rcases Nat.lt_or_ge 4 (en tp n b - b) with h4 | h4
  · exact Or.inl h4
  · have e : v4 tp n b = nvs tp n b := by unfold v4 nvs; rw [Nat.min_eq_right h4]
    rw [e] at h2
    exact h2
theorem nn_ok (h : ty tp n b = 2) (h4 : ¬ 4 < en tp n b - b) (h5 : ¬ v4 tp n b < lo) (h6 : ¬ hi < v4 tp n b) : nnS tp n lo hi b = .ok (v4 tp n b) := by
  have e : v4 tp n b = nvs tp n b := by unfold v4 nvs; rw [Nat.min_eq_right (by omega)]
  unfold nnS
  rw [if_pos h, e, if_neg]
  rw [e] at h5 h6
  rintro (h | h | h)
  · exact h4 h
  · exact h5 h
  · exact h6 h
theorem pn_ty {many : Nat} (h : ¬ ty tp n b = 2) : pnS tp n many b = .error (1, b) := by unfold pnS; rw [nn_ty h]
theorem pn_long {many : Nat} (h : ty tp n b = 2) (h4 : 4 < en tp n b - b) : pnS tp n many b = .error (2, b) := by unfold pnS; rw [nn_bad h (Or.inl h4)]
theorem pn_ok {many : Nat} (h : ty tp n b = 2) (h4 : ¬ 4 < en tp n b - b) : pnS tp n many b = if v4 tp n b < many then .ok (v4 tp n b) else .error (3, b) := by
  unfold pnS
  have := v4_lt h
  rw [nn_ok h h4 (by omega) (by omega)]
end NUL
set_option maxHeartbeats 4000000 in
set_option maxRecDepth 100000 in
theorem metX8_number (l : Launch) (hlt : l.stackTraces = false) {D : va_G} {cA : Nat → ClassId} {z0 : Nat} {E : Nat → Nat → Nat} {tp : Nat → Nat} {n : Nat} {f : Nat → Int32} {rd ha tx : Nat} {g : Nat → Int32} {b sz : Nat} {lo hi : Nat} (hlo : lo ≤ 9999) (hhi : hi ≤ 9999) : vy_Met l yX8_number (ws_ yX8_number cX8_number 4 (some .int)) ({ frames := 14, cells := 4, slots := 24, locals := 480 }) (va_Pc [.ref rd, .int (nI lo), .int (nI hi)] (PhRz D cA z0 E tp n f rd ha tx g b sz)) (va_Qi (fun r (_ : Unit) => ∃ v : Nat, nnS tp n lo hi b = .ok v ∧ r = nI v) (fun _ t => RW D cA z0 E tp n rd ha tx g (nxt tp n b) t t.heap) (RA rd ha sz)) (YX D (fun e => nnS tp n lo hi b = .error e) (RA rd ha sz)) (4) (24) (RA rd ha sz) := by
  refine vy_ofW (cc := cX8_number) (maxL := 4) (ret := (some .int)) (by decide) rfl ?_
  intro p e s m args below meth c s₁ B hml het hv
  obtain ⟨rfl, hv⟩ := hv
  have hx := B.exec
  have hb := B.bytes
  have hret := B.returns
  have hts := atoms_spec (ws := ws_ yX8_number cX8_number 4 (some .int)) B.pre
  have hts : ∀ w ∈ lw_all, w.before _ s = true := fun w h => hts w (List.mem_cons_of_mem _ h)
  have hown : s.vm.findClass RX8 = some m.cls := findClass_of_methodNamed B.named
  have hlocks := B.notSynchronized
  have hS : va_S (RA rd ha sz) s.heap s.heap [] := va_S.rf
  have hl := lv_entry ([.ref rd, .int (nI lo), .int (nI hi)]) (n := 4) (Nat.le_of_ble_eq_true rfl)
  rw [lg_entry_eq]
  generalize (lg_sl ([.ref rd, .int (nI lo), .int (nI hi)]) ++ List.replicate (4 - (lg_sl ([.ref rd, .int (nI lo), .int (nI hi)])).length) Slot.unset).toArray = ls at hl ⊢
  have hl : lv_has ls 4 [(0, .ref rd), (1, .int (nI lo)), (2, .int (nI hi))] := hl
  obtain ⟨hsz, hM, hF, hbn⟩ := hv
  subst hsz
  have hz6 := hF.2.1.2.2.2.2.2
  have hK := hF.1
  have hZ := hF.2.1
  have hn6 := hF.2.2.2.1
  have hA0 : ∀ q, RA rd ha s.heap.size q → (RA rd ha s.heap.size) q := fun q h => h
  have hAz : ∀ q, (RA rd ha s.heap.size) q → z0 ≤ q := RAz (H := s.heap) hF
  have htx : ¬ (RA rd ha s.heap.size) tx := RAtx hF
  have hty := ty_le (tp := tp) (n := n) b
  obtain ⟨v, lg, w, wv, hr, hh, hnum, hW, hwz⟩ := id hM
  refine lv_aload_n hx hb dX8_number_0 rfl (lv_at hl 0 rfl) ?_
  refine lv_aload_n hx hb dX8_number_1 rfl (lv_at hl 0 rfl) ?_
  refine h_get (C := RX8) (T := TX8) (N := 9) (ci := 6) (v := .ref (E 3 (so (ty tp n b)))) hx hb hts in_X8 hown hK hr rfl 6 (by decide) (hts _ q1083) (fun _ h9 => h9) rfl dX8_number_2 ?_
  refine va_gets (n := "NUMBER") (v := .ref (E 3 1)) hx hb (((hZ.1.2.2.2.1.1 1 (by decide)).1).narrow hAz) hS hown (hts _ q1054) (fun _ h => h) dX8_number_5 ?_
  refine lv_acmp_ne (rx := some (E 3 (so (ty tp n b)))) (ry := some (E 3 1)) (tgt := 15) hx hb dX8_number_8 (by decide) (fun c1 => ?_) (fun c1 => ?_)
  · refine lv_iconst (v := 0) hx hb dX8_number_15 (by decide) ?_
    refine lv_iconst (v := 1) hx hb dX8_number_16 (by decide) ?_
    exact R_chk0 (rest := []) (k9 := 1) ⟨hx, hb, hml, hown, hts⟩ hlt hF hbn hM hS hA0 hAz htx het hlocks (nn_ty (fun h9 => c1 (E3_ty hZ hty (by decide : 1 < 5) h9))) rfl q1124 ⟨Nat.le_of_ble_eq_true rfl, Nat.le_of_ble_eq_true rfl⟩ hl.1 (Nat.le_of_ble_eq_true rfl) dX8_number_17 ⟨Nat.le_of_ble_eq_true rfl, Nat.le_of_ble_eq_true rfl⟩ (Nat.le_of_ble_eq_true rfl) (Nat.le_of_ble_eq_true rfl)
  · have h2 : ty tp n b = 2 := Classical.byContradiction (fun h9 => E3_nty hZ hty (by decide : 1 < 5) h9 c1)
    obtain ⟨hv4, hlg⟩ := hnum h2
    subst hv4
    subst hlg
    have hv9 := v4_lt h2
    refine lv_iconst (v := 1) hx hb dX8_number_11 (by decide) ?_
    refine lv_goto (tgt := 16) hx hb dX8_number_12 (by decide) ?_
    refine lv_iconst (v := 1) hx hb dX8_number_16 (by decide) ?_
    refine R_chk1 (rest := []) ⟨hx, hb, hml, hown, hts⟩ hF hbn hM hS hAz htx q1124 ⟨Nat.le_of_ble_eq_true rfl, Nat.le_of_ble_eq_true rfl⟩ hl.1 (Nat.le_of_ble_eq_true rfl) dX8_number_17 ⟨Nat.le_of_ble_eq_true rfl, Nat.le_of_ble_eq_true rfl⟩ (fun H locs hM hk hS => ?_)
    have hr := hr.kept (hk _ hr.lt)
    refine lv_aload_n hx hb dX8_number_20 rfl (lv_at hl 0 rfl) ?_
    refine lv_aload_n hx hb dX8_number_21 rfl (lv_at hl 0 rfl) ?_
    refine h_get (C := RX8) (T := TX8) (N := 9) (ci := 6) (v := .int (b2i (decide (4 < en tp n b - b)))) hx hb hts in_X8 hown hK hr rfl 5 (by decide) (hts _ q1082) (fun _ h9 => h9) rfl dX8_number_22 ?_
    refine lv_if_ne (tgt := 48) hx hb dX8_number_25 (by decide) (fun c2 => ?_) (fun c2 => ?_)
    · have h4 : 4 < en tp n b - b := Classical.byContradiction (fun h9 => c2 (by rw [decide_eq_false h9]; rfl))
      refine lv_iconst (v := 0) hx hb dX8_number_48 (by decide) ?_
      refine lv_iconst (v := 2) hx hb dX8_number_49 (by decide) ?_
      exact R_chk0 (rest := []) (k9 := 2) ⟨hx, hb, hml, hown, hts⟩ hlt hF hbn hM hS hA0 hAz htx het hlocks (nn_bad h2 (Or.inl h4)) rfl q1124 ⟨Nat.le_of_ble_eq_true rfl, Nat.le_of_ble_eq_true rfl⟩ hl.1 (Nat.le_of_ble_eq_true rfl) dX8_number_50 ⟨Nat.le_of_ble_eq_true rfl, Nat.le_of_ble_eq_true rfl⟩ (Nat.le_of_ble_eq_true rfl) (Nat.le_of_ble_eq_true rfl)
    · have h4 : ¬ 4 < en tp n b - b := fun h9 => by rw [decide_eq_true h9] at c2; exact absurd c2 (by decide)
      refine lv_aload_n hx hb dX8_number_28 rfl (lv_at hl 0 rfl) ?_
      refine h_get (C := RX8) (T := TX8) (N := 9) (ci := 6) (v := .int (nI (v4 tp n b))) hx hb hts in_X8 hown hK hr rfl 4 (by decide) (hts _ q1081) (fun _ h9 => h9) rfl dX8_number_29 ?_
      refine lv_iload_n hx hb dX8_number_32 rfl (lv_at hl 1 rfl) ?_
      refine lv_icmp_lt (tgt := 48) hx hb dX8_number_33 (by decide) (fun c3 => ?_) (fun c3 => ?_)
      · have h5 : v4 tp n b < lo := (nI_ltI (by omega) (by omega)).mp c3
        refine lv_iconst (v := 0) hx hb dX8_number_48 (by decide) ?_
        refine lv_iconst (v := 2) hx hb dX8_number_49 (by decide) ?_
        exact R_chk0 (rest := []) (k9 := 2) ⟨hx, hb, hml, hown, hts⟩ hlt hF hbn hM hS hA0 hAz htx het hlocks (nn_bad h2 (Or.inr (Or.inl h5))) rfl q1124 ⟨Nat.le_of_ble_eq_true rfl, Nat.le_of_ble_eq_true rfl⟩ hl.1 (Nat.le_of_ble_eq_true rfl) dX8_number_50 ⟨Nat.le_of_ble_eq_true rfl, Nat.le_of_ble_eq_true rfl⟩ (Nat.le_of_ble_eq_true rfl) (Nat.le_of_ble_eq_true rfl)
      · have h5 : ¬ v4 tp n b < lo := fun h9 => c3 ((nI_ltI (by omega) (by omega)).mpr h9)
        refine lv_aload_n hx hb dX8_number_36 rfl (lv_at hl 0 rfl) ?_
        refine h_get (C := RX8) (T := TX8) (N := 9) (ci := 6) (v := .int (nI (v4 tp n b))) hx hb hts in_X8 hown hK hr rfl 4 (by decide) (hts _ q1081) (fun _ h9 => h9) rfl dX8_number_37 ?_
        refine lv_iload_n hx hb dX8_number_40 rfl (lv_at hl 2 rfl) ?_
        refine lv_icmp_gt (tgt := 48) hx hb dX8_number_41 (by decide) (fun c4 => ?_) (fun c4 => ?_)
        · have h6 : hi < v4 tp n b := (nI_ltI (by omega) (by omega)).mp c4
          refine lv_iconst (v := 0) hx hb dX8_number_48 (by decide) ?_
          refine lv_iconst (v := 2) hx hb dX8_number_49 (by decide) ?_
          exact R_chk0 (rest := []) (k9 := 2) ⟨hx, hb, hml, hown, hts⟩ hlt hF hbn hM hS hA0 hAz htx het hlocks (nn_bad h2 (Or.inr (Or.inr h6))) rfl q1124 ⟨Nat.le_of_ble_eq_true rfl, Nat.le_of_ble_eq_true rfl⟩ hl.1 (Nat.le_of_ble_eq_true rfl) dX8_number_50 ⟨Nat.le_of_ble_eq_true rfl, Nat.le_of_ble_eq_true rfl⟩ (Nat.le_of_ble_eq_true rfl) (Nat.le_of_ble_eq_true rfl)
        · have h6 : ¬ hi < v4 tp n b := fun h9 => c4 ((nI_ltI (by omega) (by omega)).mpr h9)
          refine lv_iconst (v := 1) hx hb dX8_number_44 (by decide) ?_
          refine lv_goto (tgt := 49) hx hb dX8_number_45 (by decide) ?_
          refine lv_iconst (v := 2) hx hb dX8_number_49 (by decide) ?_
          refine R_chk1 (rest := []) ⟨hx, hb, hml, hown, hts⟩ hF hbn hM hS hAz htx q1124 ⟨Nat.le_of_ble_eq_true rfl, Nat.le_of_ble_eq_true rfl⟩ hl.1 (Nat.le_of_ble_eq_true rfl) dX8_number_50 ⟨Nat.le_of_ble_eq_true rfl, Nat.le_of_ble_eq_true rfl⟩ (fun H locs hM hk hS => ?_)
          have hr := hr.kept (hk _ hr.lt)
          refine lv_aload_n hx hb dX8_number_53 rfl (lv_at hl 0 rfl) ?_
          refine h_get (C := RX8) (T := TX8) (N := 9) (ci := 6) (v := .int (nI (v4 tp n b))) hx hb hts in_X8 hown hK hr rfl 4 (by decide) (hts _ q1081) (fun _ h9 => h9) rfl dX8_number_54 ?_
          refine lv_istore_n (lv' := [(3, .int (nI (v4 tp n b))), (0, .ref rd), (1, .int (nI lo)), (2, .int (nI hi))]) hx hb dX8_number_57 rfl hl (by decide) rfl (fun ls hl => ?_)
          refine lv_aload_n hx hb dX8_number_58 rfl (lv_at hl 1 rfl) ?_
          refine R_go (rest := []) ⟨hx, hb, hml, hown, hts⟩ hF hbn hM hS hA0 hAz htx q1010 ⟨Nat.le_of_ble_eq_true rfl, Nat.le_of_ble_eq_true rfl⟩ hl.1 (Nat.le_of_ble_eq_true rfl) dX8_number_59 ⟨Nat.le_of_ble_eq_true rfl, Nat.le_of_ble_eq_true rfl⟩ (fun H locs hM hsz hk hS => ?_)
          have hbn := (nxt_le (tp := tp) hbn).2
          refine lv_iload_n hx hb dX8_number_62 rfl (lv_at hl 0 rfl) ?_
          exact W.widen (k := 4) (n := 24) (Nat.le_of_ble_eq_true rfl) (Nat.le_of_ble_eq_true rfl) (vy_ret (W.zret (v := nI (v4 tp n b)) hx hb hret rfl (fun t ht hW => ⟨⟨_, (), rfl, ⟨v4 tp n b, nn_ok h2 h4 h5 h6, rfl⟩, (show RW _ _ _ _ _ _ _ _ _ _ _ t t.heap from ht ▸ hM.moved hW.alike)⟩, hS.F ht⟩) hS.2.2 dX8_number_63 hlocks))
set_option maxHeartbeats 4000000 in
set_option maxRecDepth 100000 in
theorem metX8_amongHere (l : Launch) (hlt : l.stackTraces = false) {D : va_G} {cA : Nat → ClassId} {z0 : Nat} {E : Nat → Nat → Nat} {tp : Nat → Nat} {n : Nat} {f : Nat → Int32} {rd ha tx : Nat} {g : Nat → Int32} {b sz : Nat} {many : Nat} (hm : many ≤ 9999) : vy_Met l yX8_amongHere (ws_ yX8_amongHere cX8_amongHere 2 (some .int)) ({ frames := 10, cells := 1, slots := 8, locals := 260 }) (va_Pc [.ref rd, .int (nI many)] (PhRz D cA z0 E tp n f rd ha tx g b sz)) (va_Qi (fun r (_ : Unit) => ∃ v : Nat, pnS tp n many b = .ok v ∧ r = nI v) (fun _ t => RW D cA z0 E tp n rd ha tx g b t t.heap) (RA rd ha sz)) (YX D (fun e => pnS tp n many b = .error e) (RA rd ha sz)) (1) (8) (RA rd ha sz) := by
  refine vy_ofW (cc := cX8_amongHere) (maxL := 2) (ret := (some .int)) (by decide) rfl ?_
  intro p e s m args below meth c s₁ B hml het hv
  obtain ⟨rfl, hv⟩ := hv
  have hx := B.exec
  have hb := B.bytes
  have hret := B.returns
  have hts := atoms_spec (ws := ws_ yX8_amongHere cX8_amongHere 2 (some .int)) B.pre
  have hts : ∀ w ∈ lw_all, w.before _ s = true := fun w h => hts w (List.mem_cons_of_mem _ h)
  have hown : s.vm.findClass RX8 = some m.cls := findClass_of_methodNamed B.named
  have hlocks := B.notSynchronized
  have hS : va_S (RA rd ha sz) s.heap s.heap [] := va_S.rf
  have hl := lv_entry ([.ref rd, .int (nI many)]) (n := 2) (Nat.le_of_ble_eq_true rfl)
  rw [lg_entry_eq]
  generalize (lg_sl ([.ref rd, .int (nI many)]) ++ List.replicate (2 - (lg_sl ([.ref rd, .int (nI many)])).length) Slot.unset).toArray = ls at hl ⊢
  have hl : lv_has ls 2 [(0, .ref rd), (1, .int (nI many))] := hl
  obtain ⟨hsz, hM, hF, hbn⟩ := hv
  subst hsz
  have hz6 := hF.2.1.2.2.2.2.2
  have hK := hF.1
  have hZ := hF.2.1
  have hn6 := hF.2.2.2.1
  have hA0 : ∀ q, RA rd ha s.heap.size q → (RA rd ha s.heap.size) q := fun q h => h
  have hAz : ∀ q, (RA rd ha s.heap.size) q → z0 ≤ q := RAz (H := s.heap) hF
  have htx : ¬ (RA rd ha s.heap.size) tx := RAtx hF
  have hty := ty_le (tp := tp) (n := n) b
  obtain ⟨v, lg, w, wv, hr, hh, hnum, hW, hwz⟩ := id hM
  refine lv_aload_n hx hb dX8_amongHere_0 rfl (lv_at hl 0 rfl) ?_
  refine lv_aload_n hx hb dX8_amongHere_1 rfl (lv_at hl 0 rfl) ?_
  refine h_get (C := RX8) (T := TX8) (N := 9) (ci := 6) (v := .ref (E 3 (so (ty tp n b)))) hx hb hts in_X8 hown hK hr rfl 6 (by decide) (hts _ q1083) (fun _ h9 => h9) rfl dX8_amongHere_2 ?_
  refine va_gets (n := "NUMBER") (v := .ref (E 3 1)) hx hb (((hZ.1.2.2.2.1.1 1 (by decide)).1).narrow hAz) hS hown (hts _ q1054) (fun _ h => h) dX8_amongHere_5 ?_
  refine lv_acmp_ne (rx := some (E 3 (so (ty tp n b)))) (ry := some (E 3 1)) (tgt := 15) hx hb dX8_amongHere_8 (by decide) (fun c1 => ?_) (fun c1 => ?_)
  · refine lv_iconst (v := 0) hx hb dX8_amongHere_15 (by decide) ?_
    refine lv_iconst (v := 1) hx hb dX8_amongHere_16 (by decide) ?_
    exact R_chk0 (rest := []) (k9 := 1) ⟨hx, hb, hml, hown, hts⟩ hlt hF hbn hM hS hA0 hAz htx het hlocks (pn_ty (fun h9 => c1 (E3_ty hZ hty (by decide : 1 < 5) h9))) rfl q1124 ⟨Nat.le_of_ble_eq_true rfl, Nat.le_of_ble_eq_true rfl⟩ hl.1 (Nat.le_of_ble_eq_true rfl) dX8_amongHere_17 ⟨Nat.le_of_ble_eq_true rfl, Nat.le_of_ble_eq_true rfl⟩ (Nat.le_of_ble_eq_true rfl) (Nat.le_of_ble_eq_true rfl)
  · have h2 : ty tp n b = 2 := Classical.byContradiction (fun h9 => E3_nty hZ hty (by decide : 1 < 5) h9 c1)
    obtain ⟨hv4, hlg⟩ := hnum h2
    subst hv4
    subst hlg
    have hv9 := v4_lt h2
    refine lv_iconst (v := 1) hx hb dX8_amongHere_11 (by decide) ?_
    refine lv_goto (tgt := 16) hx hb dX8_amongHere_12 (by decide) ?_
    refine lv_iconst (v := 1) hx hb dX8_amongHere_16 (by decide) ?_
    refine R_chk1 (rest := []) ⟨hx, hb, hml, hown, hts⟩ hF hbn hM hS hAz htx q1124 ⟨Nat.le_of_ble_eq_true rfl, Nat.le_of_ble_eq_true rfl⟩ hl.1 (Nat.le_of_ble_eq_true rfl) dX8_amongHere_17 ⟨Nat.le_of_ble_eq_true rfl, Nat.le_of_ble_eq_true rfl⟩ (fun H locs hM hk hS => ?_)
    have hr := hr.kept (hk _ hr.lt)
    refine lv_aload_n hx hb dX8_amongHere_20 rfl (lv_at hl 0 rfl) ?_
    refine lv_aload_n hx hb dX8_amongHere_21 rfl (lv_at hl 0 rfl) ?_
    refine h_get (C := RX8) (T := TX8) (N := 9) (ci := 6) (v := .int (b2i (decide (4 < en tp n b - b)))) hx hb hts in_X8 hown hK hr rfl 5 (by decide) (hts _ q1082) (fun _ h9 => h9) rfl dX8_amongHere_22 ?_
    refine lv_if_ne (tgt := 32) hx hb dX8_amongHere_25 (by decide) (fun c2 => ?_) (fun c2 => ?_)
    · have h4 : 4 < en tp n b - b := Classical.byContradiction (fun h9 => c2 (by rw [decide_eq_false h9]; rfl))
      refine lv_iconst (v := 0) hx hb dX8_amongHere_32 (by decide) ?_
      refine lv_iconst (v := 2) hx hb dX8_amongHere_33 (by decide) ?_
      exact R_chk0 (rest := []) (k9 := 2) ⟨hx, hb, hml, hown, hts⟩ hlt hF hbn hM hS hA0 hAz htx het hlocks (pn_long h2 h4) rfl q1124 ⟨Nat.le_of_ble_eq_true rfl, Nat.le_of_ble_eq_true rfl⟩ hl.1 (Nat.le_of_ble_eq_true rfl) dX8_amongHere_34 ⟨Nat.le_of_ble_eq_true rfl, Nat.le_of_ble_eq_true rfl⟩ (Nat.le_of_ble_eq_true rfl) (Nat.le_of_ble_eq_true rfl)
    · have h4 : ¬ 4 < en tp n b - b := fun h9 => by rw [decide_eq_true h9] at c2; exact absurd c2 (by decide)
      refine lv_iconst (v := 1) hx hb dX8_amongHere_28 (by decide) ?_
      refine lv_goto (tgt := 33) hx hb dX8_amongHere_29 (by decide) ?_
      refine lv_iconst (v := 2) hx hb dX8_amongHere_33 (by decide) ?_
      refine R_chk1 (rest := []) ⟨hx, hb, hml, hown, hts⟩ hF hbn hM hS hAz htx q1124 ⟨Nat.le_of_ble_eq_true rfl, Nat.le_of_ble_eq_true rfl⟩ hl.1 (Nat.le_of_ble_eq_true rfl) dX8_amongHere_34 ⟨Nat.le_of_ble_eq_true rfl, Nat.le_of_ble_eq_true rfl⟩ (fun H locs hM hk hS => ?_)
      have hr := hr.kept (hk _ hr.lt)
      refine lv_aload_n hx hb dX8_amongHere_37 rfl (lv_at hl 0 rfl) ?_
      refine lv_aload_n hx hb dX8_amongHere_38 rfl (lv_at hl 0 rfl) ?_
      refine h_get (C := RX8) (T := TX8) (N := 9) (ci := 6) (v := .int (nI (v4 tp n b))) hx hb hts in_X8 hown hK hr rfl 4 (by decide) (hts _ q1081) (fun _ h9 => h9) rfl dX8_amongHere_39 ?_
      refine lv_iload_n hx hb dX8_amongHere_42 rfl (lv_at hl 1 rfl) ?_
      refine lv_icmp_ge (tgt := 50) hx hb dX8_amongHere_43 (by decide) (fun c3 => ?_) (fun c3 => ?_)
      · have h5 : ¬ v4 tp n b < many := fun h9 => nI_ge h9 (by omega) c3
        refine lv_iconst (v := 0) hx hb dX8_amongHere_50 (by decide) ?_
        refine lv_iconst (v := 3) hx hb dX8_amongHere_51 (by decide) ?_
        exact R_chk0 (rest := []) (k9 := 3) ⟨hx, hb, hml, hown, hts⟩ hlt hF hbn hM hS hA0 hAz htx het hlocks (by rw [pn_ok h2 h4, if_neg h5]) rfl q1124 ⟨Nat.le_of_ble_eq_true rfl, Nat.le_of_ble_eq_true rfl⟩ hl.1 (Nat.le_of_ble_eq_true rfl) dX8_amongHere_52 ⟨Nat.le_of_ble_eq_true rfl, Nat.le_of_ble_eq_true rfl⟩ (Nat.le_of_ble_eq_true rfl) (Nat.le_of_ble_eq_true rfl)
      · have h5 : v4 tp n b < many := Nat.not_le.mp (fun h9 => c3 (nI_le h9 (by omega)))
        refine lv_iconst (v := 1) hx hb dX8_amongHere_46 (by decide) ?_
        refine lv_goto (tgt := 51) hx hb dX8_amongHere_47 (by decide) ?_
        refine lv_iconst (v := 3) hx hb dX8_amongHere_51 (by decide) ?_
        refine R_chk1 (rest := []) ⟨hx, hb, hml, hown, hts⟩ hF hbn hM hS hAz htx q1124 ⟨Nat.le_of_ble_eq_true rfl, Nat.le_of_ble_eq_true rfl⟩ hl.1 (Nat.le_of_ble_eq_true rfl) dX8_amongHere_52 ⟨Nat.le_of_ble_eq_true rfl, Nat.le_of_ble_eq_true rfl⟩ (fun H locs hM hk hS => ?_)
        have hr := hr.kept (hk _ hr.lt)
        refine lv_aload_n hx hb dX8_amongHere_55 rfl (lv_at hl 0 rfl) ?_
        refine h_get (C := RX8) (T := TX8) (N := 9) (ci := 6) (v := .int (nI (v4 tp n b))) hx hb hts in_X8 hown hK hr rfl 4 (by decide) (hts _ q1081) (fun _ h9 => h9) rfl dX8_amongHere_56 ?_
        exact W.widen (k := 1) (n := 8) (Nat.le_of_ble_eq_true rfl) (Nat.le_of_ble_eq_true rfl) (vy_ret (W.zret (v := nI (v4 tp n b)) hx hb hret rfl (fun t ht hW => ⟨⟨_, (), rfl, ⟨v4 tp n b, by rw [pn_ok h2 h4, if_pos h5], rfl⟩, (show RW _ _ _ _ _ _ _ _ _ _ _ t t.heap from ht ▸ hM.moved hW.alike)⟩, hS.F ht⟩) hS.2.2 dX8_amongHere_59 hlocks))
set_option maxHeartbeats 4000000 in
set_option maxRecDepth 100000 in
theorem metX8_begins (l : Launch) (hlt : l.stackTraces = false) {D : va_G} {cA : Nat → ClassId} {z0 : Nat} {E : Nat → Nat → Nat} {tp : Nat → Nat} {n : Nat} {f : Nat → Int32} {rd ha tx : Nat} {g : Nat → Int32} {b sz : Nat} {i wh : Nat} (hi : i < 30) (hwh : wh < 3) : vy_Met l yX8_begins (ws_ yX8_begins cX8_begins 3 (some .boolean)) ({ frames := 14, cells := 4, slots := 24, locals := 480 }) (va_Pc [.ref rd, .ref (E 0 i), .int (nI wh)] (PhRz D cA z0 E tp n f rd ha tx g b sz)) (va_Qi (fun r (u : Nat × (Nat → Int32)) => (isR tp n b i = false ∧ r = 0 ∧ u = (b, g)) ∨ (isR tp n b i = true ∧ g wh = 0 ∧ r = 1 ∧ u = (nxt tp n b, upd g wh 1))) (fun u t => RW D cA z0 E tp n rd ha tx u.2 u.1 t t.heap) (RA rd ha sz)) (YX D (fun e => isR tp n b i = true ∧ ¬ g wh = 0 ∧ e = (5, b)) (RA rd ha sz)) (4) (24) (RA rd ha sz) := by
  refine vy_ofW (cc := cX8_begins) (maxL := 3) (ret := (some .boolean)) (by decide) rfl ?_
  intro p e s m args below meth c s₁ B hml het hv
  obtain ⟨rfl, hv⟩ := hv
  have hx := B.exec
  have hb := B.bytes
  have hret := B.returns
  have hts := atoms_spec (ws := ws_ yX8_begins cX8_begins 3 (some .boolean)) B.pre
  have hts : ∀ w ∈ lw_all, w.before _ s = true := fun w h => hts w (List.mem_cons_of_mem _ h)
  have hown : s.vm.findClass RX8 = some m.cls := findClass_of_methodNamed B.named
  have hlocks := B.notSynchronized
  have hS : va_S (RA rd ha sz) s.heap s.heap [] := va_S.rf
  have hl := lv_entry ([.ref rd, .ref (E 0 i), .int (nI wh)]) (n := 3) (Nat.le_of_ble_eq_true rfl)
  rw [lg_entry_eq]
  generalize (lg_sl ([.ref rd, .ref (E 0 i), .int (nI wh)]) ++ List.replicate (3 - (lg_sl ([.ref rd, .ref (E 0 i), .int (nI wh)])).length) Slot.unset).toArray = ls at hl ⊢
  have hl : lv_has ls 3 [(0, .ref rd), (1, .ref (E 0 i)), (2, .int (nI wh))] := hl
  obtain ⟨hsz, hM, hF, hbn⟩ := hv
  subst hsz
  have hz6 := hF.2.1.2.2.2.2.2
  have hK := hF.1
  have hZ := hF.2.1
  have hn6 := hF.2.2.2.1
  have hA0 : ∀ q, RA rd ha s.heap.size q → (RA rd ha s.heap.size) q := fun q h => h
  have hAz : ∀ q, (RA rd ha s.heap.size) q → z0 ≤ q := RAz (H := s.heap) hF
  have htx : ¬ (RA rd ha s.heap.size) tx := RAtx hF
  refine lv_aload_n hx hb dX8_begins_0 rfl (lv_at hl 0 rfl) ?_
  refine lv_aload_n hx hb dX8_begins_1 rfl (lv_at hl 1 rfl) ?_
  refine R_is (rest := []) ⟨hx, hb, hml, hown, hts⟩ hF hbn hM hS hAz htx hi q1112 ⟨Nat.le_of_ble_eq_true rfl, Nat.le_of_ble_eq_true rfl⟩ hl.1 (Nat.le_of_ble_eq_true rfl) dX8_begins_2 ⟨Nat.le_of_ble_eq_true rfl, Nat.le_of_ble_eq_true rfl⟩ (fun H locs hM hk hS => ?_)
  generalize hr9 : b2i (isR tp n b i) = r9
  rcases Bool.eq_false_or_eq_true (isR tp n b i) with hq | hq
  · rw [hq] at hr9
    subst hr9
    refine lv_if_ne (tgt := 10) hx hb dX8_begins_5 (by decide) (fun c9 => ?_) (fun c9 => absurd c9 (by decide : ¬ b2i true = 0))
    obtain ⟨v, lg, w, wv, hr, hh, hnum, hW, hwz⟩ := id hM
    refine lv_aload_n hx hb dX8_begins_10 rfl (lv_at hl 0 rfl) ?_
    refine lv_aload_n hx hb dX8_begins_11 rfl (lv_at hl 0 rfl) ?_
    refine h_get (C := RX8) (T := TX8) (N := 9) (ci := 6) (v := .ref ha) hx hb hts in_X8 hown hK hr rfl 8 (by decide) (hts _ q1085) (fun _ h9 => h9) rfl dX8_begins_12 ?_
    refine lv_iload_n hx hb dX8_begins_15 rfl (lv_at hl 2 rfl) ?_
    refine h_zald hx hb hK hh 2 rfl (j := wh) (nI_clamp (by omega)) (vp_in_nI hwh (by decide)) dX8_begins_16 ?_
    refine lv_if_ne (tgt := 24) hx hb dX8_begins_17 (by decide) (fun c1 => ?_) (fun c1 => ?_)
    · refine lv_iconst (v := 0) hx hb dX8_begins_24 (by decide) ?_
      refine lv_iconst (v := 5) hx hb dX8_begins_25 (by decide) ?_
      exact R_chk0 (rest := []) (k9 := 5) ⟨hx, hb, hml, hown, hts⟩ hlt hF hbn hM hS hA0 hAz htx het hlocks (⟨hq, c1, rfl⟩) rfl q1124 ⟨Nat.le_of_ble_eq_true rfl, Nat.le_of_ble_eq_true rfl⟩ hl.1 (Nat.le_of_ble_eq_true rfl) dX8_begins_26 ⟨Nat.le_of_ble_eq_true rfl, Nat.le_of_ble_eq_true rfl⟩ (Nat.le_of_ble_eq_true rfl) (Nat.le_of_ble_eq_true rfl)
    · refine lv_iconst (v := 1) hx hb dX8_begins_20 (by decide) ?_
      refine lv_goto (tgt := 25) hx hb dX8_begins_21 (by decide) ?_
      refine lv_iconst (v := 5) hx hb dX8_begins_25 (by decide) ?_
      refine R_chk1 (rest := []) ⟨hx, hb, hml, hown, hts⟩ hF hbn hM hS hAz htx q1124 ⟨Nat.le_of_ble_eq_true rfl, Nat.le_of_ble_eq_true rfl⟩ hl.1 (Nat.le_of_ble_eq_true rfl) dX8_begins_26 ⟨Nat.le_of_ble_eq_true rfl, Nat.le_of_ble_eq_true rfl⟩ (fun H locs hM hk hS => ?_)
      have hr := hr.kept (hk _ hr.lt)
      have hh := hh.kept (hk _ hh.lt)
      refine lv_aload_n hx hb dX8_begins_29 rfl (lv_at hl 0 rfl) ?_
      refine h_get (C := RX8) (T := TX8) (N := 9) (ci := 6) (v := .ref ha) hx hb hts in_X8 hown hK hr rfl 8 (by decide) (hts _ q1085) (fun _ h9 => h9) rfl dX8_begins_30 ?_
      refine lv_iload_n hx hb dX8_begins_33 rfl (lv_at hl 2 rfl) ?_
      refine lv_iconst (v := 1) hx hb dX8_begins_34 (by decide) ?_
      refine h_zast (A := RA rd ha s.heap.size) hx hb hK hh (Or.inl (Or.inr rfl)) hS 2 rfl (j := wh) (nI_clamp (by omega)) (vp_in_nI hwh (by decide)) dX8_begins_35 (fun H locs hh oq hz hS => ?_)
      rw [show vp_nar .boolean 1 = 1 from rfl] at hh
      have hrh := hF.2.2.2.2.2.2.2.1
      have hM : RW D cA z0 E tp n rd ha tx (upd g wh 1) b s H := ⟨v, lg, w, wv, hr.kept (oq _ hrh), hh, hnum, SR.kept (hW.kept (fun q h1 _ => hk q h1)) (fun q _ h2 => oq q (fun e9 => h2 (Or.inr e9))), hwz⟩
      refine lv_aload_n hx hb dX8_begins_36 rfl (lv_at hl 0 rfl) ?_
      refine R_go (rest := []) ⟨hx, hb, hml, hown, hts⟩ hF hbn hM hS hA0 hAz htx q1010 ⟨Nat.le_of_ble_eq_true rfl, Nat.le_of_ble_eq_true rfl⟩ hl.1 (Nat.le_of_ble_eq_true rfl) dX8_begins_37 ⟨Nat.le_of_ble_eq_true rfl, Nat.le_of_ble_eq_true rfl⟩ (fun H locs hM hsz hk hS => ?_)
      have hbn := (nxt_le (tp := tp) hbn).2
      refine lv_iconst (v := 1) hx hb dX8_begins_40 (by decide) ?_
      exact W.widen (k := 4) (n := 24) (Nat.le_of_ble_eq_true rfl) (Nat.le_of_ble_eq_true rfl) (vy_ret (W.zret (v := 1) hx hb hret rfl (fun t ht hW => ⟨⟨_, (nxt tp n b, upd g wh 1), rfl, Or.inr ⟨hq, c1, rfl, rfl⟩, (show RW _ _ _ _ _ _ _ _ _ _ _ t t.heap from ht ▸ hM.moved hW.alike)⟩, hS.F ht⟩) hS.2.2 dX8_begins_41 hlocks))
  · rw [hq] at hr9
    subst hr9
    refine lv_if_ne (tgt := 10) hx hb dX8_begins_5 (by decide) (fun c9 => absurd (rfl : b2i false = 0) c9) (fun c9 => ?_)
    refine lv_iconst (v := 0) hx hb dX8_begins_8 (by decide) ?_
    exact W.widen (k := 4) (n := 24) (Nat.le_of_ble_eq_true rfl) (Nat.le_of_ble_eq_true rfl) (vy_ret (W.zret (v := 0) hx hb hret rfl (fun t ht hW => ⟨⟨_, (b, g), rfl, Or.inl ⟨hq, rfl, rfl⟩, (show RW _ _ _ _ _ _ _ _ _ _ _ t t.heap from ht ▸ hM.moved hW.alike)⟩, hS.F ht⟩) hS.2.2 dX8_begins_9 hlocks))
def whT (x : List Nat) : Option Nat := fst1 (fun i => decide (x = txt (22 + i))) 6
theorem fst1_some {f : Nat → Bool} {i : Nat} : ∀ {m : Nat}, i < m → (∀ j, j < i → f j = false) → f i = true → fst1 f m = some i := by
  intro m
  induction m with
  | zero => intro h; omega
  | succ m ih =>
    intro h h1 h2
    unfold fst1
    by_cases e : i < m
    · rw [ih e h1 h2]
    · have e : i = m := by omega
      subst e
      have hn : ∀ k, k ≤ i → fst1 f k = none := by
        intro k
        induction k with
        | zero => intro _; rfl
        | succ k ihk => intro hk; unfold fst1; rw [ihk (by omega), h1 k (by omega)]; rfl
      rw [hn i (Nat.le_refl _), if_pos h2]
theorem fst1_none {f : Nat → Bool} : ∀ {m : Nat}, (∀ j, j < m → f j = false) → fst1 f m = none := by
  intro m
  induction m with
  | zero => intro _; rfl
  | succ m ih => intro h; unfold fst1; rw [ih (fun j hj => h j (by omega)), h m (by omega)]; rfl
def VaU (D : va_G) (cA : Nat → ClassId) (z0 : Nat) (E : Nat → Nat → Nat) (w wv : Nat) (x : List Nat) (U : State) : Prop := SR NoA U U.heap w wv x ∧ KK D cA U ∧ FZ z0 E U U.heap ∧ z0 ≤ w
theorem VaU.blind {D : va_G} {cA : Nat → ClassId} {z0 : Nat} {E : Nat → Nat → Nat} {w wv : Nat} {x : List Nat} : Blind (VaU D cA z0 E w wv x) := fun U gg mk a h => ⟨h.1.moved (U := U.calling gg mk a) (Vm.Alike.refl U.vm), va_K.moved (u := U) (U := U.calling gg mk a) (Vm.Alike.refl U.vm) h.2.1, h.2.2.1.calling, h.2.2.2⟩
set_option maxHeartbeats 4000000 in
set_option maxRecDepth 100000 in
theorem metX8_valueOf (l : Launch) {D : va_G} {cA : Nat → ClassId} {z0 : Nat} {E : Nat → Nat → Nat} {w wv : Nat} {x : List Nat} : Met l yX8_valueOf (ws_ yX8_valueOf cX8_valueOf 1 (some (.object "StrangeKnives$Value"))) ({ frames := 4, cells := 0, slots := 0, locals := 140 }) (va_Pc [.ref w] (VaU D cA z0 E w wv x)) (va_Qq (fun r (_ : Unit) => r = (whT x).map (E 2)) (fun _ _ => True) NoA) (0) (0) (NoA) := by
  refine Met.ofW (cc := cX8_valueOf) (maxL := 1) (ret := (some (.object "StrangeKnives$Value"))) (by decide) rfl ?_
  intro p e s m args below meth c s₁ B hml hv
  obtain ⟨rfl, hv⟩ := hv
  have hx := B.exec
  have hb := B.bytes
  have hret := B.returns
  have hts := atoms_spec (ws := ws_ yX8_valueOf cX8_valueOf 1 (some (.object "StrangeKnives$Value"))) B.pre
  have hts : ∀ w ∈ lw_all, w.before _ s = true := fun w h => hts w (List.mem_cons_of_mem _ h)
  have hown : s.vm.findClass RX8 = some m.cls := findClass_of_methodNamed B.named
  have hlocks := B.notSynchronized
  have hS : va_S (NoA) s.heap s.heap [] := va_S.rf
  have hl := lv_entry ([.ref w]) (n := 1) (Nat.le_of_ble_eq_true rfl)
  rw [lg_entry_eq]
  generalize (lg_sl ([.ref w]) ++ List.replicate (1 - (lg_sl ([.ref w])).length) Slot.unset).toArray = ls at hl ⊢
  have hl : lv_has ls 1 [(0, .ref w)] := hl
  obtain ⟨hW9, hK, hZ, hzw⟩ := hv
  have hAz : ∀ q, NoA q → ZA z0 q := fun q h => h.elim
  have m0 : ∀ j, j < 0 → ¬ x = txt (22 + j) := fun j hj => absurd hj (Nat.not_lt_zero j)
  refine lv_aload_n hx hb dX8_valueOf_0 rfl (lv_at hl 0 rfl) ?_
  refine va_ldcSw hx hb hown (hZ.2.2.1 _ (List.mem_of_getElem? (i := 22) rfl)) dX8_valueOf_1 ?_
  have hL9 : SR NoA s s.heap (E 0 22) (E 1 22) (txt 22) := (hZ.1.1 22 (by decide)).narrow (fun q h => h.elim)
  have hC9 : SC NoA s s.heap := SC.kept (SC.narrow (A := ZA z0) (B := NoA) ⟨hZ.1.2.1, hZ.1.2.2.2.2.2.2.2.2⟩ (fun q h => h.elim)) (fun q h1 h2 => hS.2.1 q h1 h2)
  have hne : w ≠ E 0 22 := fun e9 => by obtain ⟨cell, -, -, -, h8⟩ := (hZ.1.1 22 (by decide)).1; exact h8 (e9 ▸ hzw)
  refine R_callI (As := [.ref (E 0 22)]) (rest := []) (C := "java/lang/String") ⟨hx, hb, hml, hown, hts⟩ hS (metJ9_equals l (D := D) (cA := cA) (q := w) (v := wv) (q2 := E 0 22) (v2 := E 1 22) (tx := x) (tx2 := txt 22) hne) SE2.blind (fun U hU hW => ⟨⟨(by rw [hU]; exact hW9.moved hW.alike), (by rw [hU]; exact hC9.moved hW.alike)⟩, (by rw [hU]; exact hL9.moved hW.alike), va_K.moved hW.alike hK⟩) (by obtain ⟨cell, g1, g2, g3, -⟩ := hW9.1; exact ⟨cell, g1, g2, g3⟩) (cwV 1 hts (lw_V q1116 q1117 q1118 q115 q1119) rfl rfl rfl (by decide +kernel) ⟨Nat.le_of_ble_eq_true rfl, Nat.le_of_ble_eq_true rfl⟩) rfl hl.1 rfl (Nat.le_of_ble_eq_true rfl) dX8_valueOf_4 ⟨Nat.zero_le _, Nat.zero_le _⟩ (fun r H locs hw hk hS => ?_)
  subst hw
  have hW9 := hW9.kept (fun q h1 _ => hk q h1)
  refine lv_if_eq (tgt := 14) hx hb dX8_valueOf_7 (by decide) (fun c0 => ?_) (fun c0 => ?_)
  rotate_left
  · have q0 : x = txt 22 := Classical.byContradiction (fun h9 => c0 (by rw [decide_eq_false h9]; rfl))
    refine va_gets (n := "SLICE") (v := .ref (E 2 0)) hx hb (((hZ.1.2.2.1.1 0 (by decide)).1).narrow hAz) hS hown (hts _ q1258) (fun _ h => h) dX8_valueOf_10 ?_
    exact W.aret hx hb hret (Or.inl ⟨_, rfl⟩) (Or.inr ⟨_, rfl⟩) (fun t ht _ => ⟨⟨some (E 2 0), (), rfl, by unfold whT; rw [fst1_some (i := 0) (by decide) (fun j hj => decide_eq_false (m0 j hj)) (decide_eq_true q0)]; rfl, trivial⟩, hS.F ht⟩) hS.2.2 dX8_valueOf_13 hlocks
  have m1 : ∀ j, j < 1 → ¬ x = txt (22 + j) := lt_s m0 (show ¬ x = txt 22 from fun h9 => by rw [decide_eq_true h9] at c0; exact absurd c0 (by decide))
  refine lv_aload_n hx hb dX8_valueOf_14 rfl (lv_at hl 0 rfl) ?_
  refine va_ldcSw hx hb hown (hZ.2.2.1 _ (List.mem_of_getElem? (i := 23) rfl)) dX8_valueOf_15 ?_
  have hL9 : SR NoA s H (E 0 23) (E 1 23) (txt 23) := ((hZ.1.1 23 (by decide)).narrow (fun q h => h.elim)).kept (fun q h1 h2 => hS.2.1 q h1 h2)
  have hC9 : SC NoA s H := SC.kept (SC.narrow (A := ZA z0) (B := NoA) ⟨hZ.1.2.1, hZ.1.2.2.2.2.2.2.2.2⟩ (fun q h => h.elim)) (fun q h1 h2 => hS.2.1 q h1 h2)
  have hne : w ≠ E 0 23 := fun e9 => by obtain ⟨cell, -, -, -, h8⟩ := (hZ.1.1 23 (by decide)).1; exact h8 (e9 ▸ hzw)
  refine R_callI (As := [.ref (E 0 23)]) (rest := []) (C := "java/lang/String") ⟨hx, hb, hml, hown, hts⟩ hS (metJ9_equals l (D := D) (cA := cA) (q := w) (v := wv) (q2 := E 0 23) (v2 := E 1 23) (tx := x) (tx2 := txt 23) hne) SE2.blind (fun U hU hW => ⟨⟨(by rw [hU]; exact hW9.moved hW.alike), (by rw [hU]; exact hC9.moved hW.alike)⟩, (by rw [hU]; exact hL9.moved hW.alike), va_K.moved hW.alike hK⟩) (by obtain ⟨cell, g1, g2, g3, -⟩ := hW9.1; exact ⟨cell, g1, g2, g3⟩) (cwV 1 hts (lw_V q1116 q1117 q1118 q115 q1119) rfl rfl rfl (by decide +kernel) ⟨Nat.le_of_ble_eq_true rfl, Nat.le_of_ble_eq_true rfl⟩) rfl hl.1 rfl (Nat.le_of_ble_eq_true rfl) dX8_valueOf_18 ⟨Nat.zero_le _, Nat.zero_le _⟩ (fun r H locs hw hk hS => ?_)
  subst hw
  have hW9 := hW9.kept (fun q h1 _ => hk q h1)
  refine lv_if_eq (tgt := 28) hx hb dX8_valueOf_21 (by decide) (fun c1 => ?_) (fun c1 => ?_)
  rotate_left
  · have q1 : x = txt 23 := Classical.byContradiction (fun h9 => c1 (by rw [decide_eq_false h9]; rfl))
    refine va_gets (n := "SLICES") (v := .ref (E 2 1)) hx hb (((hZ.1.2.2.1.1 1 (by decide)).1).narrow hAz) hS hown (hts _ q1261) (fun _ h => h) dX8_valueOf_24 ?_
    exact W.aret hx hb hret (Or.inl ⟨_, rfl⟩) (Or.inr ⟨_, rfl⟩) (fun t ht _ => ⟨⟨some (E 2 1), (), rfl, by unfold whT; rw [fst1_some (i := 1) (by decide) (fun j hj => decide_eq_false (m1 j hj)) (decide_eq_true q1)]; rfl, trivial⟩, hS.F ht⟩) hS.2.2 dX8_valueOf_27 hlocks
  have m2 : ∀ j, j < 2 → ¬ x = txt (22 + j) := lt_s m1 (show ¬ x = txt 23 from fun h9 => by rw [decide_eq_true h9] at c1; exact absurd c1 (by decide))
  refine lv_aload_n hx hb dX8_valueOf_28 rfl (lv_at hl 0 rfl) ?_
  refine va_ldcSw hx hb hown (hZ.2.2.1 _ (List.mem_of_getElem? (i := 24) rfl)) dX8_valueOf_29 ?_
  have hL9 : SR NoA s H (E 0 24) (E 1 24) (txt 24) := ((hZ.1.1 24 (by decide)).narrow (fun q h => h.elim)).kept (fun q h1 h2 => hS.2.1 q h1 h2)
  have hC9 : SC NoA s H := SC.kept (SC.narrow (A := ZA z0) (B := NoA) ⟨hZ.1.2.1, hZ.1.2.2.2.2.2.2.2.2⟩ (fun q h => h.elim)) (fun q h1 h2 => hS.2.1 q h1 h2)
  have hne : w ≠ E 0 24 := fun e9 => by obtain ⟨cell, -, -, -, h8⟩ := (hZ.1.1 24 (by decide)).1; exact h8 (e9 ▸ hzw)
  refine R_callI (As := [.ref (E 0 24)]) (rest := []) (C := "java/lang/String") ⟨hx, hb, hml, hown, hts⟩ hS (metJ9_equals l (D := D) (cA := cA) (q := w) (v := wv) (q2 := E 0 24) (v2 := E 1 24) (tx := x) (tx2 := txt 24) hne) SE2.blind (fun U hU hW => ⟨⟨(by rw [hU]; exact hW9.moved hW.alike), (by rw [hU]; exact hC9.moved hW.alike)⟩, (by rw [hU]; exact hL9.moved hW.alike), va_K.moved hW.alike hK⟩) (by obtain ⟨cell, g1, g2, g3, -⟩ := hW9.1; exact ⟨cell, g1, g2, g3⟩) (cwV 1 hts (lw_V q1116 q1117 q1118 q115 q1119) rfl rfl rfl (by decide +kernel) ⟨Nat.le_of_ble_eq_true rfl, Nat.le_of_ble_eq_true rfl⟩) rfl hl.1 rfl (Nat.le_of_ble_eq_true rfl) dX8_valueOf_32 ⟨Nat.zero_le _, Nat.zero_le _⟩ (fun r H locs hw hk hS => ?_)
  subst hw
  have hW9 := hW9.kept (fun q h1 _ => hk q h1)
  refine lv_if_eq (tgt := 42) hx hb dX8_valueOf_35 (by decide) (fun c2 => ?_) (fun c2 => ?_)
  rotate_left
  · have q2 : x = txt 24 := Classical.byContradiction (fun h9 => c2 (by rw [decide_eq_false h9]; rfl))
    refine va_gets (n := "SIZE") (v := .ref (E 2 2)) hx hb (((hZ.1.2.2.1.1 2 (by decide)).1).narrow hAz) hS hown (hts _ q1264) (fun _ h => h) dX8_valueOf_38 ?_
    exact W.aret hx hb hret (Or.inl ⟨_, rfl⟩) (Or.inr ⟨_, rfl⟩) (fun t ht _ => ⟨⟨some (E 2 2), (), rfl, by unfold whT; rw [fst1_some (i := 2) (by decide) (fun j hj => decide_eq_false (m2 j hj)) (decide_eq_true q2)]; rfl, trivial⟩, hS.F ht⟩) hS.2.2 dX8_valueOf_41 hlocks
  have m3 : ∀ j, j < 3 → ¬ x = txt (22 + j) := lt_s m2 (show ¬ x = txt 24 from fun h9 => by rw [decide_eq_true h9] at c2; exact absurd c2 (by decide))
  refine lv_aload_n hx hb dX8_valueOf_42 rfl (lv_at hl 0 rfl) ?_
  refine va_ldcSw hx hb hown (hZ.2.2.1 _ (List.mem_of_getElem? (i := 25) rfl)) dX8_valueOf_43 ?_
  have hL9 : SR NoA s H (E 0 25) (E 1 25) (txt 25) := ((hZ.1.1 25 (by decide)).narrow (fun q h => h.elim)).kept (fun q h1 h2 => hS.2.1 q h1 h2)
  have hC9 : SC NoA s H := SC.kept (SC.narrow (A := ZA z0) (B := NoA) ⟨hZ.1.2.1, hZ.1.2.2.2.2.2.2.2.2⟩ (fun q h => h.elim)) (fun q h1 h2 => hS.2.1 q h1 h2)
  have hne : w ≠ E 0 25 := fun e9 => by obtain ⟨cell, -, -, -, h8⟩ := (hZ.1.1 25 (by decide)).1; exact h8 (e9 ▸ hzw)
  refine R_callI (As := [.ref (E 0 25)]) (rest := []) (C := "java/lang/String") ⟨hx, hb, hml, hown, hts⟩ hS (metJ9_equals l (D := D) (cA := cA) (q := w) (v := wv) (q2 := E 0 25) (v2 := E 1 25) (tx := x) (tx2 := txt 25) hne) SE2.blind (fun U hU hW => ⟨⟨(by rw [hU]; exact hW9.moved hW.alike), (by rw [hU]; exact hC9.moved hW.alike)⟩, (by rw [hU]; exact hL9.moved hW.alike), va_K.moved hW.alike hK⟩) (by obtain ⟨cell, g1, g2, g3, -⟩ := hW9.1; exact ⟨cell, g1, g2, g3⟩) (cwV 1 hts (lw_V q1116 q1117 q1118 q115 q1119) rfl rfl rfl (by decide +kernel) ⟨Nat.le_of_ble_eq_true rfl, Nat.le_of_ble_eq_true rfl⟩) rfl hl.1 rfl (Nat.le_of_ble_eq_true rfl) dX8_valueOf_46 ⟨Nat.zero_le _, Nat.zero_le _⟩ (fun r H locs hw hk hS => ?_)
  subst hw
  have hW9 := hW9.kept (fun q h1 _ => hk q h1)
  refine lv_if_eq (tgt := 56) hx hb dX8_valueOf_49 (by decide) (fun c3 => ?_) (fun c3 => ?_)
  rotate_left
  · have q3 : x = txt 25 := Classical.byContradiction (fun h9 => c3 (by rw [decide_eq_false h9]; rfl))
    refine va_gets (n := "KIND") (v := .ref (E 2 3)) hx hb (((hZ.1.2.2.1.1 3 (by decide)).1).narrow hAz) hS hown (hts _ q1267) (fun _ h => h) dX8_valueOf_52 ?_
    exact W.aret hx hb hret (Or.inl ⟨_, rfl⟩) (Or.inr ⟨_, rfl⟩) (fun t ht _ => ⟨⟨some (E 2 3), (), rfl, by unfold whT; rw [fst1_some (i := 3) (by decide) (fun j hj => decide_eq_false (m3 j hj)) (decide_eq_true q3)]; rfl, trivial⟩, hS.F ht⟩) hS.2.2 dX8_valueOf_55 hlocks
  have m4 : ∀ j, j < 4 → ¬ x = txt (22 + j) := lt_s m3 (show ¬ x = txt 25 from fun h9 => by rw [decide_eq_true h9] at c3; exact absurd c3 (by decide))
  refine lv_aload_n hx hb dX8_valueOf_56 rfl (lv_at hl 0 rfl) ?_
  refine va_ldcSw hx hb hown (hZ.2.2.1 _ (List.mem_of_getElem? (i := 26) rfl)) dX8_valueOf_57 ?_
  have hL9 : SR NoA s H (E 0 26) (E 1 26) (txt 26) := ((hZ.1.1 26 (by decide)).narrow (fun q h => h.elim)).kept (fun q h1 h2 => hS.2.1 q h1 h2)
  have hC9 : SC NoA s H := SC.kept (SC.narrow (A := ZA z0) (B := NoA) ⟨hZ.1.2.1, hZ.1.2.2.2.2.2.2.2.2⟩ (fun q h => h.elim)) (fun q h1 h2 => hS.2.1 q h1 h2)
  have hne : w ≠ E 0 26 := fun e9 => by obtain ⟨cell, -, -, -, h8⟩ := (hZ.1.1 26 (by decide)).1; exact h8 (e9 ▸ hzw)
  refine R_callI (As := [.ref (E 0 26)]) (rest := []) (C := "java/lang/String") ⟨hx, hb, hml, hown, hts⟩ hS (metJ9_equals l (D := D) (cA := cA) (q := w) (v := wv) (q2 := E 0 26) (v2 := E 1 26) (tx := x) (tx2 := txt 26) hne) SE2.blind (fun U hU hW => ⟨⟨(by rw [hU]; exact hW9.moved hW.alike), (by rw [hU]; exact hC9.moved hW.alike)⟩, (by rw [hU]; exact hL9.moved hW.alike), va_K.moved hW.alike hK⟩) (by obtain ⟨cell, g1, g2, g3, -⟩ := hW9.1; exact ⟨cell, g1, g2, g3⟩) (cwV 1 hts (lw_V q1116 q1117 q1118 q115 q1119) rfl rfl rfl (by decide +kernel) ⟨Nat.le_of_ble_eq_true rfl, Nat.le_of_ble_eq_true rfl⟩) rfl hl.1 rfl (Nat.le_of_ble_eq_true rfl) dX8_valueOf_60 ⟨Nat.zero_le _, Nat.zero_le _⟩ (fun r H locs hw hk hS => ?_)
  subst hw
  have hW9 := hW9.kept (fun q h1 _ => hk q h1)
  refine lv_if_eq (tgt := 70) hx hb dX8_valueOf_63 (by decide) (fun c4 => ?_) (fun c4 => ?_)
  rotate_left
  · have q4 : x = txt 26 := Classical.byContradiction (fun h9 => c4 (by rw [decide_eq_false h9]; rfl))
    refine va_gets (n := "HUNGER") (v := .ref (E 2 4)) hx hb (((hZ.1.2.2.1.1 4 (by decide)).1).narrow hAz) hS hown (hts _ q1270) (fun _ h => h) dX8_valueOf_66 ?_
    exact W.aret hx hb hret (Or.inl ⟨_, rfl⟩) (Or.inr ⟨_, rfl⟩) (fun t ht _ => ⟨⟨some (E 2 4), (), rfl, by unfold whT; rw [fst1_some (i := 4) (by decide) (fun j hj => decide_eq_false (m4 j hj)) (decide_eq_true q4)]; rfl, trivial⟩, hS.F ht⟩) hS.2.2 dX8_valueOf_69 hlocks
  have m5 : ∀ j, j < 5 → ¬ x = txt (22 + j) := lt_s m4 (show ¬ x = txt 26 from fun h9 => by rw [decide_eq_true h9] at c4; exact absurd c4 (by decide))
  refine lv_aload_n hx hb dX8_valueOf_70 rfl (lv_at hl 0 rfl) ?_
  refine va_ldcSw hx hb hown (hZ.2.2.1 _ (List.mem_of_getElem? (i := 27) rfl)) dX8_valueOf_71 ?_
  have hL9 : SR NoA s H (E 0 27) (E 1 27) (txt 27) := ((hZ.1.1 27 (by decide)).narrow (fun q h => h.elim)).kept (fun q h1 h2 => hS.2.1 q h1 h2)
  have hC9 : SC NoA s H := SC.kept (SC.narrow (A := ZA z0) (B := NoA) ⟨hZ.1.2.1, hZ.1.2.2.2.2.2.2.2.2⟩ (fun q h => h.elim)) (fun q h1 h2 => hS.2.1 q h1 h2)
  have hne : w ≠ E 0 27 := fun e9 => by obtain ⟨cell, -, -, -, h8⟩ := (hZ.1.1 27 (by decide)).1; exact h8 (e9 ▸ hzw)
  refine R_callI (As := [.ref (E 0 27)]) (rest := []) (C := "java/lang/String") ⟨hx, hb, hml, hown, hts⟩ hS (metJ9_equals l (D := D) (cA := cA) (q := w) (v := wv) (q2 := E 0 27) (v2 := E 1 27) (tx := x) (tx2 := txt 27) hne) SE2.blind (fun U hU hW => ⟨⟨(by rw [hU]; exact hW9.moved hW.alike), (by rw [hU]; exact hC9.moved hW.alike)⟩, (by rw [hU]; exact hL9.moved hW.alike), va_K.moved hW.alike hK⟩) (by obtain ⟨cell, g1, g2, g3, -⟩ := hW9.1; exact ⟨cell, g1, g2, g3⟩) (cwV 1 hts (lw_V q1116 q1117 q1118 q115 q1119) rfl rfl rfl (by decide +kernel) ⟨Nat.le_of_ble_eq_true rfl, Nat.le_of_ble_eq_true rfl⟩) rfl hl.1 rfl (Nat.le_of_ble_eq_true rfl) dX8_valueOf_74 ⟨Nat.zero_le _, Nat.zero_le _⟩ (fun r H locs hw hk hS => ?_)
  subst hw
  have hW9 := hW9.kept (fun q h1 _ => hk q h1)
  refine lv_if_eq (tgt := 86) hx hb dX8_valueOf_77 (by decide) (fun c5 => ?_) (fun c5 => ?_)
  rotate_left
  · have q5 : x = txt 27 := Classical.byContradiction (fun h9 => c5 (by rw [decide_eq_false h9]; rfl))
    refine va_gets (n := "THANKED") (v := .ref (E 2 5)) hx hb (((hZ.1.2.2.1.1 5 (by decide)).1).narrow hAz) hS hown (hts _ q1273) (fun _ h => h) dX8_valueOf_80 ?_
    refine lv_goto (tgt := 87) hx hb dX8_valueOf_83 (by decide) ?_
    exact W.aret hx hb hret (Or.inl ⟨_, rfl⟩) (Or.inr ⟨_, rfl⟩) (fun t ht _ => ⟨⟨some (E 2 5), (), rfl, by unfold whT; rw [fst1_some (i := 5) (by decide) (fun j hj => decide_eq_false (m5 j hj)) (decide_eq_true q5)]; rfl, trivial⟩, hS.F ht⟩) hS.2.2 dX8_valueOf_87 hlocks
  have m6 : ∀ j, j < 6 → ¬ x = txt (22 + j) := lt_s m5 (show ¬ x = txt 27 from fun h9 => by rw [decide_eq_true h9] at c5; exact absurd c5 (by decide))
  refine lv_null hx hb dX8_valueOf_86 ?_
  exact W.aret (v := .null) hx hb hret (Or.inl ⟨_, rfl⟩) (Or.inl rfl) (fun t ht _ => ⟨⟨none, (), rfl, by unfold whT; rw [fst1_none (fun j hj => decide_eq_false (m6 j hj))]; rfl, trivial⟩, hS.F ht⟩) hS.2.2 dX8_valueOf_87 hlocks
