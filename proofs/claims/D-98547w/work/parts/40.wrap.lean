/-! 40.wrap, printed by tools/genl.py: the law's wrappers: 0 and the answer laid into out[0], or the number of the handler that caught -/
section LAST
variable {p : Program} {l : Launch} {e : Env} {R : Room} {s : State} {m : MethodId} {args : Array Value} {below : List Frame} {meth : Method} {c : Code} {H : Heap} {locs : List Loc} {cells slots : Nat} {Q : State → Prop}
variable {cc : ByteArray} {pc : Nat} {ls : Array Slot} {rest : List Value} {A : Nat → Prop} {H0 : Heap} {D : va_G} {cl : List vw_C} {tys : List (ClassId × FieldType)} {a : Nat}
theorem h_last (hexec : p.tables.exec = Jvm.exec) (hb : c.code = cc) (hK : va_K D cl tys s) {cX : ClassId} {n : Nat} {f : Nat → Int64} (hP : va_at D cl (a, .inl (cX, n, .inr (.inl f))) H) (hAa : A a) (hS : va_S A H0 H locs) (t0 : Nat) (ht : tys[t0]? = some (cX, .long)) {i : Int32} {x : Int64} {j : Nat} (hj : ix i = j) (hin : vp_in i n) (hdg : decode cc pc = .ok (.lastore, 1))
    (kk : ∀ (H1 : Heap) (locs1 : List Loc), va_at D cl (a, .inl (cX, n, .inr (.inl (vp_updL f j x)))) H1 → (∀ q, q ≠ a → H1[q]? = H[q]?) → H1.size = H.size → va_S A H0 H1 locs1 → W p l e R s m args below meth c H1 locs1 cells slots Q (F0 m (pc + 1) ls rest)) : W p l e R s m args below meth c H locs cells slots Q (F0 m pc ls (.long x :: .int i :: .ref a :: rest)) := by
  subst hj
  refine W.last hexec hb (show H[a]? = some (vp_cell cX (n, .inr (.inl f))) from hP) ((hK.2 t0 _ ht).1 n (fun j => .long (f j))) (fun q => by cases q) (by show ¬ (i < 0 ∨ (arrV _ _ _).slots.size ≤ _); rw [arrV_size]; exact hin) rfl rfl hdg fun H1 e z oq => ?_
  refine kk H1 _ ?_ oq z (hS.put z oq hAa)
  show H1[a]? = some (vp_cell _ _)
  rw [e]
  rw [vp_cell_l, vp_cell_l, arrV_store]
  congr 2
  funext q
  by_cases hq : q = i.toNatClampNeg
  · subst hq
    simp [updV, vp_updL, ix]
  · simp [updV, vp_updL, hq, ix]
end LAST
/-- the out array -/
def OZ (D : va_G) (cJ : ClassId) (qo : Nat) (v : Int64) (H : Heap) : Prop := ∃ f : Nat → Int64, f 0 = v ∧ va_at D vwCl (qo, .inl (cJ, 1, .inr (.inl f))) H
theorem OZ.kept {D : va_G} {cJ : ClassId} {qo : Nat} {v : Int64} {H H1 : Heap} (h : OZ D cJ qo v H) (hk : qo < H.size → H1[qo]? = H[qo]?) : OZ D cJ qo v H1 := by
  obtain ⟨f, h1, h2⟩ := h
  exact ⟨f, h1, h2.kept (hk h2.lt)⟩
theorem OZ.at {D : va_G} {cJ : ClassId} {qo : Nat} {v : Int64} {H : Heap} {t : State} (h : OZ D cJ qo v H) (ht : t.heap = H) : OZ D cJ qo v t.heap := ht ▸ h
def LB (ad ai : Nat → Nat) (Pm Pi : Nat → Prop) (qo sz : Nat) : Nat → Prop := fun q => YB ad ai Pm Pi sz q ∨ q = qo
def PhO (D : va_G) (cA : Nat → ClassId) (z0 : Nat) (E : Nat → Nat → Nat) (T : TT) (tw : Nat → Nat) (N : Nat → Prop) (ad ai : Nat → Nat) (Pm Pi : Nat → Prop) (cJ : ClassId) (qo sz : Nat) (h : Mem) (k : KM) (o : Int64) (U : State) : Prop := PhY D cA z0 E T tw N ad ai Pm Pi sz h k U ∧ OZ D cJ qo o U.heap ∧ va_K D vwCl [(cJ, .long)] U ∧ (z0 ≤ qo ∧ ¬ YA ad ai Pm Pi qo ∧ ¬ N qo) ∧ va_Nc "java/lang/IllegalArgumentException" "java/util/NoSuchElementException" U
theorem PhO.blind {D : va_G} {cA : Nat → ClassId} {z0 : Nat} {E : Nat → Nat → Nat} {T : TT} {tw : Nat → Nat} {N : Nat → Prop} {ad ai : Nat → Nat} {Pm Pi : Nat → Prop} {cJ : ClassId} {qo sz : Nat} {h : Mem} {k : KM} {o : Int64} : Blind (PhO D cA z0 E T tw N ad ai Pm Pi cJ qo sz h k o) := fun U g mk a h => ⟨PhY.blind U g mk a h.1, h.2.1, va_K.moved (u := U) (U := U.calling g mk a) (Vm.Alike.refl U.vm) h.2.2.1, h.2.2.2.1, va_Nc.moved (u := U) (U := U.calling g mk a) (Vm.Alike.refl U.vm) h.2.2.2.2⟩
abbrev LPT : Type := Int32 → Int64 → Mem → KM → Prop
abbrev MeL (l : Launch) (D : va_G) (cA : Nat → ClassId) (z0 : Nat) (E : Nat → Nat → Nat) (T : TT) (tw : Nat → Nat) (N : Nat → Prop) (ad ai : Nat → Nat) (Pm Pi : Nat → Prop) (cJ : ClassId) (qo sz : Nat) (y : MethodName) (ws : List Cond) (rm : Room) (av : List Value) (h : Mem) (k : KM) (o : Int64) (post : LPT) (mc ms : Nat) : Prop := vx_Met l y ws rm (va_Pc av (PhO D cA z0 E T tw N ad ai Pm Pi cJ qo sz h k o)) (va_Qi (fun r (u : Int64 × Mem × KM) => post r u.1 u.2.1 u.2.2) (fun u t => XW D cA ad (tw 9) u.2.1 t.heap ∧ YZ D cA ad ai Pm Pi u.2.2 t.heap ∧ OZ D cJ qo u.1 t.heap) (LB ad ai Pm Pi qo sz)) (vx_X (fun _ : Unit => False) (fun _ _ _ => True) (LB ad ai Pm Pi qo sz)) mc ms (LB ad ai Pm Pi qo sz)
theorem YZ.keptY {D : va_G} {cA : Nat → ClassId} {z0 : Nat} {ad ai : Nat → Nat} {Pm Pi : Nat → Prop} {k : KM} {H H1 : Heap} (h : YZ D cA ad ai Pm Pi k H) (hY : YJ z0 ad ai Pm Pi) (hk : ∀ q, YA ad ai Pm Pi q → q < H.size → H1[q]? = H[q]?) : YZ D cA ad ai Pm Pi k H1 := by
  obtain ⟨⟨f, ps, a1, a2, a3, a4, a5⟩, hB, hQ⟩ := h
  exact ⟨⟨f, ps, a1.kept (fun h => hk _ (Or.inr (Or.inl hY.2.1.1)) h) (fun h => hk _ (Or.inr (Or.inl hY.2.1.2.1)) h), a2, fun i hi => (a3 i hi).keptP (fun a ha hz => hk _ (Or.inr (Or.inl (a5 i a hi ha).1)) hz), a4, a5⟩, hB.kept (fun i hi hz => hk _ (Or.inr (Or.inr (Or.inr ⟨i, hi, rfl⟩))) hz), hQ.kept hY.2.2.1.pj (fun q hq hz => hk q (Or.inr (Or.inr (Or.inl hq))) hz)⟩
theorem vp_updL_0 {f : Nat → Int64} {v : Int64} : vp_updL f 0 v 0 = v := by simp [vp_updL]
def wpX0_count (post : LPT) (T : TT) (h : Mem) (km : KM) (o : Int64) (a1 : Int32) : Prop :=
  wpX1_count (fun r h' => post 0 r.toInt64 h' km) h T (fun j => (j = 0 ∧ post 1 o h km)) a1
set_option maxHeartbeats 4000000 in
set_option maxRecDepth 100000 in
theorem metX0_count (l : Launch) (hlt : l.stackTraces = false) (D : va_G) (cA : Nat → ClassId) (z0 : Nat) (E : Nat → Nat → Nat) (T : TT) (tw : Nat → Nat) (N : Nat → Prop) (ad ai : Nat → Nat) (Pm Pi : Nat → Prop) (cJ : ClassId) (qo sz : Nat) (h : Mem) (km : KM) (o : Int64) (a1 : Int32) (hn0 : T 0 0 < 2 ^ 31) (hn1 : T 0 1 < 2 ^ 31) (post : LPT) (hw : wpX0_count post T h km o a1) : MeL l D cA z0 E T tw N ad ai Pm Pi cJ qo sz yX0_count (wsW_ yX0_count cX0_count 4 (some .int) [((0 : Nat), (9 : Nat), (12 : Nat), (18 : Nat))]) ({ frames := 11, cells := 1, slots := 6, locals := 353 }) [.ref (ad 17), .int a1, .ref qo] h km o post 1 6 := by
  refine vx_ofWH (cc := cX0_count) (maxL := 4) (ret := (some .int)) (hh := [((0 : Nat), (9 : Nat), (12 : Nat), (18 : Nat))]) (by decide) rfl ?_
  intro p e s m args below meth c s₁ B hml hv
  obtain ⟨rfl, ⟨hsz, hM, hJ, hY, hN9, hP, hT, hK, hZ⟩, hO, hKJ, hqo, hNc⟩ := hv
  have hx := B.exec
  have hb := B.bytes
  have hr := B.returns
  have hts := atoms_spec (ws := wsW_ yX0_count cX0_count 4 (some .int) [((0 : Nat), (9 : Nat), (12 : Nat), (18 : Nat))]) B.pre
  have htab := vx_table (x := yX0_count) B (hts _ List.mem_cons_self)
  have hts : ∀ w ∈ lw_all, w.before _ s = true := fun w h => hts w (List.mem_cons_of_mem _ h)
  have hown : s.vm.findClass RX0 = some m.cls := findClass_of_methodNamed B.named
  have hlocks := B.notSynchronized
  subst hsz
  have hqs : qo < s.heap.size := by obtain ⟨f, -, h9⟩ := hO; exact h9.lt
  have hqx : ¬ XA ad qo := fun h => hqo.2.1 (Or.inl h)
  have hBz : ∀ q, LB ad ai Pm Pi qo s.heap.size q → z0 ≤ q := fun q h => h.elim (YB.z hZ hY hJ q) (fun h => h ▸ hqo.1)
  have hN : ∀ q, N q → ¬ XA ad q := fun q h h2 => hN9 q h (Or.inl h2)
  have hS : va_S (LB ad ai Pm Pi qo s.heap.size) s.heap s.heap [] := va_S.rf
  have hl := lv_entry ([.ref (ad 17), .int a1, .ref qo]) (n := 4) (Nat.le_of_ble_eq_true rfl)
  rw [lg_entry_eq]
  generalize (lg_sl ([.ref (ad 17), .int a1, .ref qo]) ++ List.replicate (4 - (lg_sl ([.ref (ad 17), .int a1, .ref qo])).length) Slot.unset).toArray = ls at hl ⊢
  have hl : lv_has ls 4 [(0, .ref (ad 17)), (1, .int a1), (2, .ref qo)] := hl
  unfold wpX0_count at hw
  refine lv_aload_n hx hb dX0_count_0 rfl (lv_at hl 2 rfl) ?_
  refine lv_iconst (v := 0) hx hb dX0_count_1 (by decide) ?_
  refine lv_aload_n hx hb dX0_count_2 rfl (lv_at hl 0 rfl) ?_
  refine lv_iload_n hx hb dX0_count_3 rfl (lv_at hl 1 rfl) ?_
  have done : ∀ (v : Int64) (h' : Mem) (km' : KM) (H : Heap) (locs : List Loc), post 0 v h' km' → va_S (LB ad ai Pm Pi qo s.heap.size) s.heap H locs → XW D cA ad (tw 9) h' H → YZ D cA ad ai Pm Pi km' H → OZ D cJ qo o H → W p l e (headSpec (wsW_ yX0_count cX0_count 4 (some .int) [((0 : Nat), (9 : Nat), (12 : Nat), (18 : Nat))]) ({ frames := 11, cells := 1, slots := 6, locals := 353 })).room s m ([.ref (ad 17), .int a1, .ref qo] : List Value).toArray below meth c H locs 1 6 (vx_MQ below (va_Qi (fun r (u : Int64 × Mem × KM) => post r u.1 u.2.1 u.2.2) (fun u t => XW D cA ad (tw 9) u.2.1 t.heap ∧ YZ D cA ad ai Pm Pi u.2.2 t.heap ∧ OZ D cJ qo u.1 t.heap) (LB ad ai Pm Pi qo s.heap.size)) (vx_X (fun _ : Unit => False) (fun _ _ _ => True) (LB ad ai Pm Pi qo s.heap.size)) ([.ref (ad 17), .int a1, .ref qo] : List Value).toArray s 1 6 (LB ad ai Pm Pi qo s.heap.size)) (F0 m 8 ls [.long v, .int 0, .ref qo]) := by
    intro v h' km' H locs hw hS hM hP hO
    obtain ⟨f, hf, hO⟩ := hO
    refine h_last (A := LB ad ai Pm Pi qo s.heap.size) hx hb hKJ hO (Or.inr rfl) hS 0 rfl (j := 0) rfl (by unfold vp_in; decide) dX0_count_8 (fun H1 locs1 hO1 oq _ hS => ?_)
    refine lv_goto (tgt := 15) hx hb dX0_count_9 (by decide) ?_
    refine lv_iconst (v := 0) hx hb dX0_count_15 (by decide) ?_
    have hM := hM.keptX (fun j hj => oq _ (fun e => hqx (e ▸ ⟨j, hj, rfl⟩)))
    have hP := YZ.keptY hP hY (fun q hq _ => oq q (fun e => hqo.2.1 (e ▸ hq)))
    have hO : OZ D cJ qo v H1 := ⟨_, vp_updL_0, hO1⟩
    exact vx_ret (W.iret hx hb hr (fun t ht _ => ⟨⟨0, (v, h', km'), rfl, hw, hM.at ht, hP.at ht, hO.at ht⟩, hS.F ht⟩) hS.2.2 dX0_count_16 hlocks)
  have caught1 : ∀ (H : Heap) (locs : List Loc) (q9 : Nat), post 1 o h km → va_S (LB ad ai Pm Pi qo s.heap.size) s.heap H locs → XW D cA ad (tw 9) h H → YZ D cA ad ai Pm Pi km H → OZ D cJ qo o H → W p l e (headSpec (wsW_ yX0_count cX0_count 4 (some .int) [((0 : Nat), (9 : Nat), (12 : Nat), (18 : Nat))]) ({ frames := 11, cells := 1, slots := 6, locals := 353 })).room s m ([.ref (ad 17), .int a1, .ref qo] : List Value).toArray below meth c H locs 1 6 (vx_MQ below (va_Qi (fun r (u : Int64 × Mem × KM) => post r u.1 u.2.1 u.2.2) (fun u t => XW D cA ad (tw 9) u.2.1 t.heap ∧ YZ D cA ad ai Pm Pi u.2.2 t.heap ∧ OZ D cJ qo u.1 t.heap) (LB ad ai Pm Pi qo s.heap.size)) (vx_X (fun _ : Unit => False) (fun _ _ _ => True) (LB ad ai Pm Pi qo s.heap.size)) ([.ref (ad 17), .int a1, .ref qo] : List Value).toArray s 1 6 (LB ad ai Pm Pi qo s.heap.size)) (F0 m 12 ls [.ref q9]) := by
    intro H locs q9 hw hS hM hP hO
    refine lv_astore_n (lv' := (3, .ref q9) :: [(0, .ref (ad 17)), (1, .int a1), (2, .ref qo)]) hx hb dX0_count_12 rfl hl (by decide) rfl (fun ls hl => ?_)
    refine lv_iconst (v := 1) hx hb dX0_count_13 (by decide) ?_
    exact vx_ret (W.iret hx hb hr (fun t ht _ => ⟨⟨1, (o, h, km), rfl, hw, hM.at ht, hP.at ht, hO.at ht⟩, hS.F ht⟩) hS.2.2 dX0_count_14 hlocks)
  refine vx_calli (vx_runV (As := [.int a1]) (rest := [.int 0, .ref qo]) ⟨hx, hb, hml, hown, hts⟩ (metX1_count l hlt D cA z0 E tw N ad s.heap.size h T _ a1 hn0 hn1 _ hw) (cwV 1 hts (lw_V q1390 q1391 q1392 q104 q1393) rfl rfl rfl (by decide +kernel) ⟨Nat.le_of_ble_eq_true rfl, Nat.le_of_ble_eq_true rfl⟩) ⟨PhXt.blind.pc, hM.recv hK, fun U hU hW => ⟨rfl, by rw [hU], by rw [hU]; exact hM, hJ, hN, PhT.go hT hK hZ hS hBz hU hW⟩⟩ rfl rfl hl.1 rfl (lv_room (Nat.le_of_ble_eq_true rfl)) dX0_count_4 ⟨Nat.le_of_ble_eq_true rfl, Nat.le_of_ble_eq_true rfl⟩) hS (fun q _ h => Or.inl (h.elim (fun h => Or.inl (Or.inl h)) (fun h => Or.inr h))) (fun q h => Or.inl (h.elim (fun h => Or.inl (Or.inl h)) (fun h => Or.inr h))) (fun q _ h => Or.inl (h.elim (fun h => Or.inl (Or.inl h)) (fun h => Or.inr h))) (fun En ce q9 u t H1 locs1 ht hvm hpx hBX hsz9 hk hS hce hcv hcl => ?_) (fun r u t H1 locs1 ht hvm hw hB hsz9 hk hS => ?_)
  · subst ht
    have hO := hO.kept (fun h9 => hk qo h9 (fun h => h.elim hqx (fun h => absurd h (Nat.not_le.mpr hqs))))
    have hP := hP.kept hY hJ (fun q hz hn => hk q hz (fun h => h.elim hn (fun h => absurd h (Nat.not_le.mpr hz))))
    obtain ⟨eE, hM⟩ := hBX
    obtain ⟨ej, hpx⟩ := hpx
    subst ej
    subst eE
    exact vx_catch (E := "java/util/NoSuchElementException") (name := "java/util/NoSuchElementException") hown [] ⟨0, 9, 12, 18⟩ [] (htab.trans rfl) (fun z hz => absurd hz (List.not_mem_nil)) (by decide) (by decide) (hts _ q1389) (hZ.2.1.nC 39 rfl) hce hcv hcl (caught1 _ _ q9 hpx hS hM hP hO)
  · subst ht
    have hO := hO.kept (fun h9 => hk qo h9 (fun h => h.elim hqx (fun h => absurd h (Nat.not_le.mpr hqs))))
    have hP := hP.kept hY hJ (fun q hz hn => hk q hz (fun h => h.elim hn (fun h => absurd h (Nat.not_le.mpr hz))))
    have hM := hB
    refine lv_i2l (v := r.toInt64) hx hb dX0_count_7 rfl ?_
    exact done _ u km _ _ hw hS hM hP hO
def wpX0_person (post : LPT) (T : TT) (h : Mem) (km : KM) (o : Int64) (a1 : Int32) (a2 : Int32) : Prop :=
  wpX1_person (fun r h' => post 0 r.toInt64 h' km) h T (fun j => (j = 0 ∧ post 1 o h km)) a1 a2
set_option maxHeartbeats 4000000 in
set_option maxRecDepth 100000 in
theorem metX0_person (l : Launch) (hlt : l.stackTraces = false) (D : va_G) (cA : Nat → ClassId) (z0 : Nat) (E : Nat → Nat → Nat) (T : TT) (tw : Nat → Nat) (N : Nat → Prop) (ad ai : Nat → Nat) (Pm Pi : Nat → Prop) (cJ : ClassId) (qo sz : Nat) (h : Mem) (km : KM) (o : Int64) (a1 : Int32) (a2 : Int32) (hn0 : T 0 0 < 2 ^ 31) (hn1 : T 0 1 < 2 ^ 31) (post : LPT) (hw : wpX0_person post T h km o a1 a2) : MeL l D cA z0 E T tw N ad ai Pm Pi cJ qo sz yX0_person (wsW_ yX0_person cX0_person 5 (some .int) [((0 : Nat), (10 : Nat), (13 : Nat), (18 : Nat))]) ({ frames := 15, cells := 2, slots := 12, locals := 481 }) [.ref (ad 17), .int a1, .int a2, .ref qo] h km o post 2 12 := by
  refine vx_ofWH (cc := cX0_person) (maxL := 5) (ret := (some .int)) (hh := [((0 : Nat), (10 : Nat), (13 : Nat), (18 : Nat))]) (by decide) rfl ?_
  intro p e s m args below meth c s₁ B hml hv
  obtain ⟨rfl, ⟨hsz, hM, hJ, hY, hN9, hP, hT, hK, hZ⟩, hO, hKJ, hqo, hNc⟩ := hv
  have hx := B.exec
  have hb := B.bytes
  have hr := B.returns
  have hts := atoms_spec (ws := wsW_ yX0_person cX0_person 5 (some .int) [((0 : Nat), (10 : Nat), (13 : Nat), (18 : Nat))]) B.pre
  have htab := vx_table (x := yX0_count) B (hts _ List.mem_cons_self)
  have hts : ∀ w ∈ lw_all, w.before _ s = true := fun w h => hts w (List.mem_cons_of_mem _ h)
  have hown : s.vm.findClass RX0 = some m.cls := findClass_of_methodNamed B.named
  have hlocks := B.notSynchronized
  subst hsz
  have hqs : qo < s.heap.size := by obtain ⟨f, -, h9⟩ := hO; exact h9.lt
  have hqx : ¬ XA ad qo := fun h => hqo.2.1 (Or.inl h)
  have hBz : ∀ q, LB ad ai Pm Pi qo s.heap.size q → z0 ≤ q := fun q h => h.elim (YB.z hZ hY hJ q) (fun h => h ▸ hqo.1)
  have hN : ∀ q, N q → ¬ XA ad q := fun q h h2 => hN9 q h (Or.inl h2)
  have hS : va_S (LB ad ai Pm Pi qo s.heap.size) s.heap s.heap [] := va_S.rf
  have hl := lv_entry ([.ref (ad 17), .int a1, .int a2, .ref qo]) (n := 5) (Nat.le_of_ble_eq_true rfl)
  rw [lg_entry_eq]
  generalize (lg_sl ([.ref (ad 17), .int a1, .int a2, .ref qo]) ++ List.replicate (5 - (lg_sl ([.ref (ad 17), .int a1, .int a2, .ref qo])).length) Slot.unset).toArray = ls at hl ⊢
  have hl : lv_has ls 5 [(0, .ref (ad 17)), (1, .int a1), (2, .int a2), (3, .ref qo)] := hl
  unfold wpX0_person at hw
  refine lv_aload_n hx hb dX0_person_0 rfl (lv_at hl 3 rfl) ?_
  refine lv_iconst (v := 0) hx hb dX0_person_1 (by decide) ?_
  refine lv_aload_n hx hb dX0_person_2 rfl (lv_at hl 0 rfl) ?_
  refine lv_iload_n hx hb dX0_person_3 rfl (lv_at hl 1 rfl) ?_
  refine lv_iload_n hx hb dX0_person_4 rfl (lv_at hl 2 rfl) ?_
  have done : ∀ (v : Int64) (h' : Mem) (km' : KM) (H : Heap) (locs : List Loc), post 0 v h' km' → va_S (LB ad ai Pm Pi qo s.heap.size) s.heap H locs → XW D cA ad (tw 9) h' H → YZ D cA ad ai Pm Pi km' H → OZ D cJ qo o H → W p l e (headSpec (wsW_ yX0_person cX0_person 5 (some .int) [((0 : Nat), (10 : Nat), (13 : Nat), (18 : Nat))]) ({ frames := 15, cells := 2, slots := 12, locals := 481 })).room s m ([.ref (ad 17), .int a1, .int a2, .ref qo] : List Value).toArray below meth c H locs 2 12 (vx_MQ below (va_Qi (fun r (u : Int64 × Mem × KM) => post r u.1 u.2.1 u.2.2) (fun u t => XW D cA ad (tw 9) u.2.1 t.heap ∧ YZ D cA ad ai Pm Pi u.2.2 t.heap ∧ OZ D cJ qo u.1 t.heap) (LB ad ai Pm Pi qo s.heap.size)) (vx_X (fun _ : Unit => False) (fun _ _ _ => True) (LB ad ai Pm Pi qo s.heap.size)) ([.ref (ad 17), .int a1, .int a2, .ref qo] : List Value).toArray s 2 12 (LB ad ai Pm Pi qo s.heap.size)) (F0 m 9 ls [.long v, .int 0, .ref qo]) := by
    intro v h' km' H locs hw hS hM hP hO
    obtain ⟨f, hf, hO⟩ := hO
    refine h_last (A := LB ad ai Pm Pi qo s.heap.size) hx hb hKJ hO (Or.inr rfl) hS 0 rfl (j := 0) rfl (by unfold vp_in; decide) dX0_person_9 (fun H1 locs1 hO1 oq _ hS => ?_)
    refine lv_goto (tgt := 17) hx hb dX0_person_10 (by decide) ?_
    refine lv_iconst (v := 0) hx hb dX0_person_17 (by decide) ?_
    have hM := hM.keptX (fun j hj => oq _ (fun e => hqx (e ▸ ⟨j, hj, rfl⟩)))
    have hP := YZ.keptY hP hY (fun q hq _ => oq q (fun e => hqo.2.1 (e ▸ hq)))
    have hO : OZ D cJ qo v H1 := ⟨_, vp_updL_0, hO1⟩
    exact vx_ret (W.iret hx hb hr (fun t ht _ => ⟨⟨0, (v, h', km'), rfl, hw, hM.at ht, hP.at ht, hO.at ht⟩, hS.F ht⟩) hS.2.2 dX0_person_18 hlocks)
  have caught1 : ∀ (H : Heap) (locs : List Loc) (q9 : Nat), post 1 o h km → va_S (LB ad ai Pm Pi qo s.heap.size) s.heap H locs → XW D cA ad (tw 9) h H → YZ D cA ad ai Pm Pi km H → OZ D cJ qo o H → W p l e (headSpec (wsW_ yX0_person cX0_person 5 (some .int) [((0 : Nat), (10 : Nat), (13 : Nat), (18 : Nat))]) ({ frames := 15, cells := 2, slots := 12, locals := 481 })).room s m ([.ref (ad 17), .int a1, .int a2, .ref qo] : List Value).toArray below meth c H locs 2 12 (vx_MQ below (va_Qi (fun r (u : Int64 × Mem × KM) => post r u.1 u.2.1 u.2.2) (fun u t => XW D cA ad (tw 9) u.2.1 t.heap ∧ YZ D cA ad ai Pm Pi u.2.2 t.heap ∧ OZ D cJ qo u.1 t.heap) (LB ad ai Pm Pi qo s.heap.size)) (vx_X (fun _ : Unit => False) (fun _ _ _ => True) (LB ad ai Pm Pi qo s.heap.size)) ([.ref (ad 17), .int a1, .int a2, .ref qo] : List Value).toArray s 2 12 (LB ad ai Pm Pi qo s.heap.size)) (F0 m 13 ls [.ref q9]) := by
    intro H locs q9 hw hS hM hP hO
    refine lv_astore (lv' := (4, .ref q9) :: [(0, .ref (ad 17)), (1, .int a1), (2, .int a2), (3, .ref qo)]) hx hb dX0_person_13 hl (by decide) rfl (fun ls hl => ?_)
    refine lv_iconst (v := 1) hx hb dX0_person_15 (by decide) ?_
    exact vx_ret (W.iret hx hb hr (fun t ht _ => ⟨⟨1, (o, h, km), rfl, hw, hM.at ht, hP.at ht, hO.at ht⟩, hS.F ht⟩) hS.2.2 dX0_person_16 hlocks)
  refine vx_calli (vx_runV (As := [.int a1, .int a2]) (rest := [.int 0, .ref qo]) ⟨hx, hb, hml, hown, hts⟩ (metX1_person l hlt D cA z0 E tw N ad s.heap.size h T _ a1 a2 hn0 hn1 _ hw) (cwV 2 hts (lw_V q1423 q1424 q1425 q104 q1426) rfl rfl rfl (by decide +kernel) ⟨Nat.le_of_ble_eq_true rfl, Nat.le_of_ble_eq_true rfl⟩) ⟨PhXt.blind.pc, hM.recv hK, fun U hU hW => ⟨rfl, by rw [hU], by rw [hU]; exact hM, hJ, hN, PhT.go hT hK hZ hS hBz hU hW⟩⟩ rfl rfl hl.1 rfl (lv_room (Nat.le_of_ble_eq_true rfl)) dX0_person_5 ⟨Nat.le_of_ble_eq_true rfl, Nat.le_of_ble_eq_true rfl⟩) hS (fun q _ h => Or.inl (h.elim (fun h => Or.inl (Or.inl h)) (fun h => Or.inr h))) (fun q h => Or.inl (h.elim (fun h => Or.inl (Or.inl h)) (fun h => Or.inr h))) (fun q _ h => Or.inl (h.elim (fun h => Or.inl (Or.inl h)) (fun h => Or.inr h))) (fun En ce q9 u t H1 locs1 ht hvm hpx hBX hsz9 hk hS hce hcv hcl => ?_) (fun r u t H1 locs1 ht hvm hw hB hsz9 hk hS => ?_)
  · subst ht
    have hO := hO.kept (fun h9 => hk qo h9 (fun h => h.elim hqx (fun h => absurd h (Nat.not_le.mpr hqs))))
    have hP := hP.kept hY hJ (fun q hz hn => hk q hz (fun h => h.elim hn (fun h => absurd h (Nat.not_le.mpr hz))))
    obtain ⟨eE, hM⟩ := hBX
    obtain ⟨ej, hpx⟩ := hpx
    subst ej
    subst eE
    exact vx_catch (E := "java/util/NoSuchElementException") (name := "java/util/NoSuchElementException") hown [] ⟨0, 10, 13, 18⟩ [] (htab.trans rfl) (fun z hz => absurd hz (List.not_mem_nil)) (by decide) (by decide) (hts _ q1389) (hZ.2.1.nC 39 rfl) hce hcv hcl (caught1 _ _ q9 hpx hS hM hP hO)
  · subst ht
    have hO := hO.kept (fun h9 => hk qo h9 (fun h => h.elim hqx (fun h => absurd h (Nat.not_le.mpr hqs))))
    have hP := hP.kept hY hJ (fun q hz hn => hk q hz (fun h => h.elim hn (fun h => absurd h (Nat.not_le.mpr hz))))
    have hM := hB
    refine lv_i2l (v := r.toInt64) hx hb dX0_person_8 rfl ?_
    exact done _ u km _ _ hw hS hM hP hO
def wpX0_loaf (post : LPT) (T : TT) (h : Mem) (km : KM) (o : Int64) (a1 : Int32) (a2 : Int32) : Prop :=
  wpX1_loaf (fun r h' => post 0 r.toInt64 h' km) h T (fun j => (j = 0 ∧ post 1 o h km)) a1 a2
set_option maxHeartbeats 4000000 in
set_option maxRecDepth 100000 in
theorem metX0_loaf (l : Launch) (hlt : l.stackTraces = false) (D : va_G) (cA : Nat → ClassId) (z0 : Nat) (E : Nat → Nat → Nat) (T : TT) (tw : Nat → Nat) (N : Nat → Prop) (ad ai : Nat → Nat) (Pm Pi : Nat → Prop) (cJ : ClassId) (qo sz : Nat) (h : Mem) (km : KM) (o : Int64) (a1 : Int32) (a2 : Int32) (hn0 : T 0 0 < 2 ^ 31) (hn1 : T 0 1 < 2 ^ 31) (post : LPT) (hw : wpX0_loaf post T h km o a1 a2) : MeL l D cA z0 E T tw N ad ai Pm Pi cJ qo sz yX0_loaf (wsW_ yX0_loaf cX0_loaf 5 (some .int) [((0 : Nat), (10 : Nat), (13 : Nat), (18 : Nat))]) ({ frames := 15, cells := 2, slots := 12, locals := 481 }) [.ref (ad 17), .int a1, .int a2, .ref qo] h km o post 2 12 := by
  refine vx_ofWH (cc := cX0_loaf) (maxL := 5) (ret := (some .int)) (hh := [((0 : Nat), (10 : Nat), (13 : Nat), (18 : Nat))]) (by decide) rfl ?_
  intro p e s m args below meth c s₁ B hml hv
  obtain ⟨rfl, ⟨hsz, hM, hJ, hY, hN9, hP, hT, hK, hZ⟩, hO, hKJ, hqo, hNc⟩ := hv
  have hx := B.exec
  have hb := B.bytes
  have hr := B.returns
  have hts := atoms_spec (ws := wsW_ yX0_loaf cX0_loaf 5 (some .int) [((0 : Nat), (10 : Nat), (13 : Nat), (18 : Nat))]) B.pre
  have htab := vx_table (x := yX0_count) B (hts _ List.mem_cons_self)
  have hts : ∀ w ∈ lw_all, w.before _ s = true := fun w h => hts w (List.mem_cons_of_mem _ h)
  have hown : s.vm.findClass RX0 = some m.cls := findClass_of_methodNamed B.named
  have hlocks := B.notSynchronized
  subst hsz
  have hqs : qo < s.heap.size := by obtain ⟨f, -, h9⟩ := hO; exact h9.lt
  have hqx : ¬ XA ad qo := fun h => hqo.2.1 (Or.inl h)
  have hBz : ∀ q, LB ad ai Pm Pi qo s.heap.size q → z0 ≤ q := fun q h => h.elim (YB.z hZ hY hJ q) (fun h => h ▸ hqo.1)
  have hN : ∀ q, N q → ¬ XA ad q := fun q h h2 => hN9 q h (Or.inl h2)
  have hS : va_S (LB ad ai Pm Pi qo s.heap.size) s.heap s.heap [] := va_S.rf
  have hl := lv_entry ([.ref (ad 17), .int a1, .int a2, .ref qo]) (n := 5) (Nat.le_of_ble_eq_true rfl)
  rw [lg_entry_eq]
  generalize (lg_sl ([.ref (ad 17), .int a1, .int a2, .ref qo]) ++ List.replicate (5 - (lg_sl ([.ref (ad 17), .int a1, .int a2, .ref qo])).length) Slot.unset).toArray = ls at hl ⊢
  have hl : lv_has ls 5 [(0, .ref (ad 17)), (1, .int a1), (2, .int a2), (3, .ref qo)] := hl
  unfold wpX0_loaf at hw
  refine lv_aload_n hx hb dX0_loaf_0 rfl (lv_at hl 3 rfl) ?_
  refine lv_iconst (v := 0) hx hb dX0_loaf_1 (by decide) ?_
  refine lv_aload_n hx hb dX0_loaf_2 rfl (lv_at hl 0 rfl) ?_
  refine lv_iload_n hx hb dX0_loaf_3 rfl (lv_at hl 1 rfl) ?_
  refine lv_iload_n hx hb dX0_loaf_4 rfl (lv_at hl 2 rfl) ?_
  have done : ∀ (v : Int64) (h' : Mem) (km' : KM) (H : Heap) (locs : List Loc), post 0 v h' km' → va_S (LB ad ai Pm Pi qo s.heap.size) s.heap H locs → XW D cA ad (tw 9) h' H → YZ D cA ad ai Pm Pi km' H → OZ D cJ qo o H → W p l e (headSpec (wsW_ yX0_loaf cX0_loaf 5 (some .int) [((0 : Nat), (10 : Nat), (13 : Nat), (18 : Nat))]) ({ frames := 15, cells := 2, slots := 12, locals := 481 })).room s m ([.ref (ad 17), .int a1, .int a2, .ref qo] : List Value).toArray below meth c H locs 2 12 (vx_MQ below (va_Qi (fun r (u : Int64 × Mem × KM) => post r u.1 u.2.1 u.2.2) (fun u t => XW D cA ad (tw 9) u.2.1 t.heap ∧ YZ D cA ad ai Pm Pi u.2.2 t.heap ∧ OZ D cJ qo u.1 t.heap) (LB ad ai Pm Pi qo s.heap.size)) (vx_X (fun _ : Unit => False) (fun _ _ _ => True) (LB ad ai Pm Pi qo s.heap.size)) ([.ref (ad 17), .int a1, .int a2, .ref qo] : List Value).toArray s 2 12 (LB ad ai Pm Pi qo s.heap.size)) (F0 m 9 ls [.long v, .int 0, .ref qo]) := by
    intro v h' km' H locs hw hS hM hP hO
    obtain ⟨f, hf, hO⟩ := hO
    refine h_last (A := LB ad ai Pm Pi qo s.heap.size) hx hb hKJ hO (Or.inr rfl) hS 0 rfl (j := 0) rfl (by unfold vp_in; decide) dX0_loaf_9 (fun H1 locs1 hO1 oq _ hS => ?_)
    refine lv_goto (tgt := 17) hx hb dX0_loaf_10 (by decide) ?_
    refine lv_iconst (v := 0) hx hb dX0_loaf_17 (by decide) ?_
    have hM := hM.keptX (fun j hj => oq _ (fun e => hqx (e ▸ ⟨j, hj, rfl⟩)))
    have hP := YZ.keptY hP hY (fun q hq _ => oq q (fun e => hqo.2.1 (e ▸ hq)))
    have hO : OZ D cJ qo v H1 := ⟨_, vp_updL_0, hO1⟩
    exact vx_ret (W.iret hx hb hr (fun t ht _ => ⟨⟨0, (v, h', km'), rfl, hw, hM.at ht, hP.at ht, hO.at ht⟩, hS.F ht⟩) hS.2.2 dX0_loaf_18 hlocks)
  have caught1 : ∀ (H : Heap) (locs : List Loc) (q9 : Nat), post 1 o h km → va_S (LB ad ai Pm Pi qo s.heap.size) s.heap H locs → XW D cA ad (tw 9) h H → YZ D cA ad ai Pm Pi km H → OZ D cJ qo o H → W p l e (headSpec (wsW_ yX0_loaf cX0_loaf 5 (some .int) [((0 : Nat), (10 : Nat), (13 : Nat), (18 : Nat))]) ({ frames := 15, cells := 2, slots := 12, locals := 481 })).room s m ([.ref (ad 17), .int a1, .int a2, .ref qo] : List Value).toArray below meth c H locs 2 12 (vx_MQ below (va_Qi (fun r (u : Int64 × Mem × KM) => post r u.1 u.2.1 u.2.2) (fun u t => XW D cA ad (tw 9) u.2.1 t.heap ∧ YZ D cA ad ai Pm Pi u.2.2 t.heap ∧ OZ D cJ qo u.1 t.heap) (LB ad ai Pm Pi qo s.heap.size)) (vx_X (fun _ : Unit => False) (fun _ _ _ => True) (LB ad ai Pm Pi qo s.heap.size)) ([.ref (ad 17), .int a1, .int a2, .ref qo] : List Value).toArray s 2 12 (LB ad ai Pm Pi qo s.heap.size)) (F0 m 13 ls [.ref q9]) := by
    intro H locs q9 hw hS hM hP hO
    refine lv_astore (lv' := (4, .ref q9) :: [(0, .ref (ad 17)), (1, .int a1), (2, .int a2), (3, .ref qo)]) hx hb dX0_loaf_13 hl (by decide) rfl (fun ls hl => ?_)
    refine lv_iconst (v := 1) hx hb dX0_loaf_15 (by decide) ?_
    exact vx_ret (W.iret hx hb hr (fun t ht _ => ⟨⟨1, (o, h, km), rfl, hw, hM.at ht, hP.at ht, hO.at ht⟩, hS.F ht⟩) hS.2.2 dX0_loaf_16 hlocks)
  refine vx_calli (vx_runV (As := [.int a1, .int a2]) (rest := [.int 0, .ref qo]) ⟨hx, hb, hml, hown, hts⟩ (metX1_loaf l hlt D cA z0 E tw N ad s.heap.size h T _ a1 a2 hn0 hn1 _ hw) (cwV 2 hts (lw_V q1452 q1453 q1454 q104 q1455) rfl rfl rfl (by decide +kernel) ⟨Nat.le_of_ble_eq_true rfl, Nat.le_of_ble_eq_true rfl⟩) ⟨PhXt.blind.pc, hM.recv hK, fun U hU hW => ⟨rfl, by rw [hU], by rw [hU]; exact hM, hJ, hN, PhT.go hT hK hZ hS hBz hU hW⟩⟩ rfl rfl hl.1 rfl (lv_room (Nat.le_of_ble_eq_true rfl)) dX0_loaf_5 ⟨Nat.le_of_ble_eq_true rfl, Nat.le_of_ble_eq_true rfl⟩) hS (fun q _ h => Or.inl (h.elim (fun h => Or.inl (Or.inl h)) (fun h => Or.inr h))) (fun q h => Or.inl (h.elim (fun h => Or.inl (Or.inl h)) (fun h => Or.inr h))) (fun q _ h => Or.inl (h.elim (fun h => Or.inl (Or.inl h)) (fun h => Or.inr h))) (fun En ce q9 u t H1 locs1 ht hvm hpx hBX hsz9 hk hS hce hcv hcl => ?_) (fun r u t H1 locs1 ht hvm hw hB hsz9 hk hS => ?_)
  · subst ht
    have hO := hO.kept (fun h9 => hk qo h9 (fun h => h.elim hqx (fun h => absurd h (Nat.not_le.mpr hqs))))
    have hP := hP.kept hY hJ (fun q hz hn => hk q hz (fun h => h.elim hn (fun h => absurd h (Nat.not_le.mpr hz))))
    obtain ⟨eE, hM⟩ := hBX
    obtain ⟨ej, hpx⟩ := hpx
    subst ej
    subst eE
    exact vx_catch (E := "java/util/NoSuchElementException") (name := "java/util/NoSuchElementException") hown [] ⟨0, 10, 13, 18⟩ [] (htab.trans rfl) (fun z hz => absurd hz (List.not_mem_nil)) (by decide) (by decide) (hts _ q1389) (hZ.2.1.nC 39 rfl) hce hcv hcl (caught1 _ _ q9 hpx hS hM hP hO)
  · subst ht
    have hO := hO.kept (fun h9 => hk qo h9 (fun h => h.elim hqx (fun h => absurd h (Nat.not_le.mpr hqs))))
    have hP := hP.kept hY hJ (fun q hz hn => hk q hz (fun h => h.elim hn (fun h => absurd h (Nat.not_le.mpr hz))))
    have hM := hB
    refine lv_i2l (v := r.toInt64) hx hb dX0_loaf_8 rfl ?_
    exact done _ u km _ _ hw hS hM hP hO
def wpX0_met (post : LPT) (T : TT) (h : Mem) (km : KM) (o : Int64) (a1 : Int32) (a2 : Int32) : Prop :=
  wpX1_met (fun r h' => post 0 r.toInt64 h' km) h T (fun j => (j = 0 ∧ post 1 o h km) ∨ (j = 1 ∧ post 2 o h km)) a1 a2
set_option maxHeartbeats 4000000 in
set_option maxRecDepth 100000 in
theorem metX0_met (l : Launch) (hlt : l.stackTraces = false) (D : va_G) (cA : Nat → ClassId) (z0 : Nat) (E : Nat → Nat → Nat) (T : TT) (tw : Nat → Nat) (N : Nat → Prop) (ad ai : Nat → Nat) (Pm Pi : Nat → Prop) (cJ : ClassId) (qo sz : Nat) (h : Mem) (km : KM) (o : Int64) (a1 : Int32) (a2 : Int32) (hn0 : T 0 0 < 2 ^ 31) (hn1 : T 0 1 < 2 ^ 31) (post : LPT) (hw : wpX0_met post T h km o a1 a2) : MeL l D cA z0 E T tw N ad ai Pm Pi cJ qo sz yX0_met (wsW_ yX0_met cX0_met 5 (some .int) [((0 : Nat), (10 : Nat), (13 : Nat), (18 : Nat)), ((0 : Nat), (10 : Nat), (17 : Nat), (13 : Nat))]) ({ frames := 15, cells := 3, slots := 18, locals := 481 }) [.ref (ad 17), .int a1, .int a2, .ref qo] h km o post 3 18 := by
  refine vx_ofWH (cc := cX0_met) (maxL := 5) (ret := (some .int)) (hh := [((0 : Nat), (10 : Nat), (13 : Nat), (18 : Nat)), ((0 : Nat), (10 : Nat), (17 : Nat), (13 : Nat))]) (by decide) rfl ?_
  intro p e s m args below meth c s₁ B hml hv
  obtain ⟨rfl, ⟨hsz, hM, hJ, hY, hN9, hP, hT, hK, hZ⟩, hO, hKJ, hqo, hNc⟩ := hv
  have hx := B.exec
  have hb := B.bytes
  have hr := B.returns
  have hts := atoms_spec (ws := wsW_ yX0_met cX0_met 5 (some .int) [((0 : Nat), (10 : Nat), (13 : Nat), (18 : Nat)), ((0 : Nat), (10 : Nat), (17 : Nat), (13 : Nat))]) B.pre
  have htab := vx_table (x := yX0_count) B (hts _ List.mem_cons_self)
  have hts : ∀ w ∈ lw_all, w.before _ s = true := fun w h => hts w (List.mem_cons_of_mem _ h)
  have hown : s.vm.findClass RX0 = some m.cls := findClass_of_methodNamed B.named
  have hlocks := B.notSynchronized
  subst hsz
  have hqs : qo < s.heap.size := by obtain ⟨f, -, h9⟩ := hO; exact h9.lt
  have hqx : ¬ XA ad qo := fun h => hqo.2.1 (Or.inl h)
  have hBz : ∀ q, LB ad ai Pm Pi qo s.heap.size q → z0 ≤ q := fun q h => h.elim (YB.z hZ hY hJ q) (fun h => h ▸ hqo.1)
  have hN : ∀ q, N q → ¬ XA ad q := fun q h h2 => hN9 q h (Or.inl h2)
  have hS : va_S (LB ad ai Pm Pi qo s.heap.size) s.heap s.heap [] := va_S.rf
  have hl := lv_entry ([.ref (ad 17), .int a1, .int a2, .ref qo]) (n := 5) (Nat.le_of_ble_eq_true rfl)
  rw [lg_entry_eq]
  generalize (lg_sl ([.ref (ad 17), .int a1, .int a2, .ref qo]) ++ List.replicate (5 - (lg_sl ([.ref (ad 17), .int a1, .int a2, .ref qo])).length) Slot.unset).toArray = ls at hl ⊢
  have hl : lv_has ls 5 [(0, .ref (ad 17)), (1, .int a1), (2, .int a2), (3, .ref qo)] := hl
  unfold wpX0_met at hw
  refine lv_aload_n hx hb dX0_met_0 rfl (lv_at hl 3 rfl) ?_
  refine lv_iconst (v := 0) hx hb dX0_met_1 (by decide) ?_
  refine lv_aload_n hx hb dX0_met_2 rfl (lv_at hl 0 rfl) ?_
  refine lv_iload_n hx hb dX0_met_3 rfl (lv_at hl 1 rfl) ?_
  refine lv_iload_n hx hb dX0_met_4 rfl (lv_at hl 2 rfl) ?_
  have done : ∀ (v : Int64) (h' : Mem) (km' : KM) (H : Heap) (locs : List Loc), post 0 v h' km' → va_S (LB ad ai Pm Pi qo s.heap.size) s.heap H locs → XW D cA ad (tw 9) h' H → YZ D cA ad ai Pm Pi km' H → OZ D cJ qo o H → W p l e (headSpec (wsW_ yX0_met cX0_met 5 (some .int) [((0 : Nat), (10 : Nat), (13 : Nat), (18 : Nat)), ((0 : Nat), (10 : Nat), (17 : Nat), (13 : Nat))]) ({ frames := 15, cells := 3, slots := 18, locals := 481 })).room s m ([.ref (ad 17), .int a1, .int a2, .ref qo] : List Value).toArray below meth c H locs 3 18 (vx_MQ below (va_Qi (fun r (u : Int64 × Mem × KM) => post r u.1 u.2.1 u.2.2) (fun u t => XW D cA ad (tw 9) u.2.1 t.heap ∧ YZ D cA ad ai Pm Pi u.2.2 t.heap ∧ OZ D cJ qo u.1 t.heap) (LB ad ai Pm Pi qo s.heap.size)) (vx_X (fun _ : Unit => False) (fun _ _ _ => True) (LB ad ai Pm Pi qo s.heap.size)) ([.ref (ad 17), .int a1, .int a2, .ref qo] : List Value).toArray s 3 18 (LB ad ai Pm Pi qo s.heap.size)) (F0 m 9 ls [.long v, .int 0, .ref qo]) := by
    intro v h' km' H locs hw hS hM hP hO
    obtain ⟨f, hf, hO⟩ := hO
    refine h_last (A := LB ad ai Pm Pi qo s.heap.size) hx hb hKJ hO (Or.inr rfl) hS 0 rfl (j := 0) rfl (by unfold vp_in; decide) dX0_met_9 (fun H1 locs1 hO1 oq _ hS => ?_)
    refine lv_goto (tgt := 21) hx hb dX0_met_10 (by decide) ?_
    refine lv_iconst (v := 0) hx hb dX0_met_21 (by decide) ?_
    have hM := hM.keptX (fun j hj => oq _ (fun e => hqx (e ▸ ⟨j, hj, rfl⟩)))
    have hP := YZ.keptY hP hY (fun q hq _ => oq q (fun e => hqo.2.1 (e ▸ hq)))
    have hO : OZ D cJ qo v H1 := ⟨_, vp_updL_0, hO1⟩
    exact vx_ret (W.iret hx hb hr (fun t ht _ => ⟨⟨0, (v, h', km'), rfl, hw, hM.at ht, hP.at ht, hO.at ht⟩, hS.F ht⟩) hS.2.2 dX0_met_22 hlocks)
  have caught1 : ∀ (H : Heap) (locs : List Loc) (q9 : Nat), post 1 o h km → va_S (LB ad ai Pm Pi qo s.heap.size) s.heap H locs → XW D cA ad (tw 9) h H → YZ D cA ad ai Pm Pi km H → OZ D cJ qo o H → W p l e (headSpec (wsW_ yX0_met cX0_met 5 (some .int) [((0 : Nat), (10 : Nat), (13 : Nat), (18 : Nat)), ((0 : Nat), (10 : Nat), (17 : Nat), (13 : Nat))]) ({ frames := 15, cells := 3, slots := 18, locals := 481 })).room s m ([.ref (ad 17), .int a1, .int a2, .ref qo] : List Value).toArray below meth c H locs 3 18 (vx_MQ below (va_Qi (fun r (u : Int64 × Mem × KM) => post r u.1 u.2.1 u.2.2) (fun u t => XW D cA ad (tw 9) u.2.1 t.heap ∧ YZ D cA ad ai Pm Pi u.2.2 t.heap ∧ OZ D cJ qo u.1 t.heap) (LB ad ai Pm Pi qo s.heap.size)) (vx_X (fun _ : Unit => False) (fun _ _ _ => True) (LB ad ai Pm Pi qo s.heap.size)) ([.ref (ad 17), .int a1, .int a2, .ref qo] : List Value).toArray s 3 18 (LB ad ai Pm Pi qo s.heap.size)) (F0 m 13 ls [.ref q9]) := by
    intro H locs q9 hw hS hM hP hO
    refine lv_astore (lv' := (4, .ref q9) :: [(0, .ref (ad 17)), (1, .int a1), (2, .int a2), (3, .ref qo)]) hx hb dX0_met_13 hl (by decide) rfl (fun ls hl => ?_)
    refine lv_iconst (v := 1) hx hb dX0_met_15 (by decide) ?_
    exact vx_ret (W.iret hx hb hr (fun t ht _ => ⟨⟨1, (o, h, km), rfl, hw, hM.at ht, hP.at ht, hO.at ht⟩, hS.F ht⟩) hS.2.2 dX0_met_16 hlocks)
  have caught2 : ∀ (H : Heap) (locs : List Loc) (q9 : Nat), post 2 o h km → va_S (LB ad ai Pm Pi qo s.heap.size) s.heap H locs → XW D cA ad (tw 9) h H → YZ D cA ad ai Pm Pi km H → OZ D cJ qo o H → W p l e (headSpec (wsW_ yX0_met cX0_met 5 (some .int) [((0 : Nat), (10 : Nat), (13 : Nat), (18 : Nat)), ((0 : Nat), (10 : Nat), (17 : Nat), (13 : Nat))]) ({ frames := 15, cells := 3, slots := 18, locals := 481 })).room s m ([.ref (ad 17), .int a1, .int a2, .ref qo] : List Value).toArray below meth c H locs 3 18 (vx_MQ below (va_Qi (fun r (u : Int64 × Mem × KM) => post r u.1 u.2.1 u.2.2) (fun u t => XW D cA ad (tw 9) u.2.1 t.heap ∧ YZ D cA ad ai Pm Pi u.2.2 t.heap ∧ OZ D cJ qo u.1 t.heap) (LB ad ai Pm Pi qo s.heap.size)) (vx_X (fun _ : Unit => False) (fun _ _ _ => True) (LB ad ai Pm Pi qo s.heap.size)) ([.ref (ad 17), .int a1, .int a2, .ref qo] : List Value).toArray s 3 18 (LB ad ai Pm Pi qo s.heap.size)) (F0 m 17 ls [.ref q9]) := by
    intro H locs q9 hw hS hM hP hO
    refine lv_astore (lv' := (4, .ref q9) :: [(0, .ref (ad 17)), (1, .int a1), (2, .int a2), (3, .ref qo)]) hx hb dX0_met_17 hl (by decide) rfl (fun ls hl => ?_)
    refine lv_iconst (v := 2) hx hb dX0_met_19 (by decide) ?_
    exact vx_ret (W.iret hx hb hr (fun t ht _ => ⟨⟨2, (o, h, km), rfl, hw, hM.at ht, hP.at ht, hO.at ht⟩, hS.F ht⟩) hS.2.2 dX0_met_20 hlocks)
  refine vx_calli (vx_runV (As := [.int a1, .int a2]) (rest := [.int 0, .ref qo]) ⟨hx, hb, hml, hown, hts⟩ (metX1_met l hlt D cA z0 E tw N ad s.heap.size h T _ a1 a2 hn0 hn1 _ hw) (cwV 2 hts (lw_V q1475 q1476 q1477 q104 q1478) rfl rfl rfl (by decide +kernel) ⟨Nat.le_of_ble_eq_true rfl, Nat.le_of_ble_eq_true rfl⟩) ⟨PhXt.blind.pc, hM.recv hK, fun U hU hW => ⟨rfl, by rw [hU], by rw [hU]; exact hM, hJ, hN, PhT.go hT hK hZ hS hBz hU hW⟩⟩ rfl rfl hl.1 rfl (lv_room (Nat.le_of_ble_eq_true rfl)) dX0_met_5 ⟨Nat.le_of_ble_eq_true rfl, Nat.le_of_ble_eq_true rfl⟩) hS (fun q _ h => Or.inl (h.elim (fun h => Or.inl (Or.inl h)) (fun h => Or.inr h))) (fun q h => Or.inl (h.elim (fun h => Or.inl (Or.inl h)) (fun h => Or.inr h))) (fun q _ h => Or.inl (h.elim (fun h => Or.inl (Or.inl h)) (fun h => Or.inr h))) (fun En ce q9 u t H1 locs1 ht hvm hpx hBX hsz9 hk hS hce hcv hcl => ?_) (fun r u t H1 locs1 ht hvm hw hB hsz9 hk hS => ?_)
  · subst ht
    have hO := hO.kept (fun h9 => hk qo h9 (fun h => h.elim hqx (fun h => absurd h (Nat.not_le.mpr hqs))))
    have hP := hP.kept hY hJ (fun q hz hn => hk q hz (fun h => h.elim hn (fun h => absurd h (Nat.not_le.mpr hz))))
    obtain ⟨eE, hM⟩ := hBX
    rcases hpx with ⟨ej, hpx⟩ | ⟨ej, hpx⟩
    · subst ej
      subst eE
      exact vx_catch (E := "java/util/NoSuchElementException") (name := "java/util/NoSuchElementException") hown [] ⟨0, 10, 13, 18⟩ [⟨0, 10, 17, 13⟩] (htab.trans rfl) (fun z hz => absurd hz (List.not_mem_nil)) (by decide) (by decide) (hts _ q1389) (hZ.2.1.nC 39 rfl) hce hcv hcl (caught1 _ _ q9 hpx hS hM hP hO)
    · subst ej
      subst eE
      exact vx_catch (E := "java/lang/IllegalArgumentException") (name := "java/lang/IllegalArgumentException") hown [⟨0, 10, 13, 18⟩] ⟨0, 10, 17, 13⟩ [] (htab.trans rfl) (fun z hz => by rw [List.mem_singleton.mp hz]; exact Or.inr ⟨by decide, "java/util/NoSuchElementException", hts _ q1389, hNc⟩) (by decide) (by decide) (hts _ q983) (hZ.2.1.nC 32 rfl) hce hcv hcl (caught2 _ _ q9 hpx hS hM hP hO)
  · subst ht
    have hO := hO.kept (fun h9 => hk qo h9 (fun h => h.elim hqx (fun h => absurd h (Nat.not_le.mpr hqs))))
    have hP := hP.kept hY hJ (fun q hz hn => hk q hz (fun h => h.elim hn (fun h => absurd h (Nat.not_le.mpr hz))))
    have hM := hB
    refine lv_i2l (v := r.toInt64) hx hb dX0_met_8 rfl ?_
    exact done _ u km _ _ hw hS hM hP hO
def wpX0_knows (post : LPT) (T : TT) (h : Mem) (km : KM) (o : Int64) (a1 : Int32) (a2 : Int32) : Prop :=
  wpX1_knows (fun r h' => post 0 (if r = true then 1 else 0) h' km) h T (fun j => (j = 0 ∧ post 1 o h km)) a1 a2
set_option maxHeartbeats 4000000 in
set_option maxRecDepth 100000 in
theorem metX0_knows (l : Launch) (hlt : l.stackTraces = false) (D : va_G) (cA : Nat → ClassId) (z0 : Nat) (E : Nat → Nat → Nat) (T : TT) (tw : Nat → Nat) (N : Nat → Prop) (ad ai : Nat → Nat) (Pm Pi : Nat → Prop) (cJ : ClassId) (qo sz : Nat) (h : Mem) (km : KM) (o : Int64) (a1 : Int32) (a2 : Int32) (hn0 : T 0 0 < 2 ^ 31) (hn1 : T 0 1 < 2 ^ 31) (post : LPT) (hw : wpX0_knows post T h km o a1 a2) : MeL l D cA z0 E T tw N ad ai Pm Pi cJ qo sz yX0_knows (wsW_ yX0_knows cX0_knows 5 (some .int) [((0 : Nat), (17 : Nat), (20 : Nat), (18 : Nat))]) ({ frames := 15, cells := 2, slots := 12, locals := 481 }) [.ref (ad 17), .int a1, .int a2, .ref qo] h km o post 2 12 := by
  refine vx_ofWH (cc := cX0_knows) (maxL := 5) (ret := (some .int)) (hh := [((0 : Nat), (17 : Nat), (20 : Nat), (18 : Nat))]) (by decide) rfl ?_
  intro p e s m args below meth c s₁ B hml hv
  obtain ⟨rfl, ⟨hsz, hM, hJ, hY, hN9, hP, hT, hK, hZ⟩, hO, hKJ, hqo, hNc⟩ := hv
  have hx := B.exec
  have hb := B.bytes
  have hr := B.returns
  have hts := atoms_spec (ws := wsW_ yX0_knows cX0_knows 5 (some .int) [((0 : Nat), (17 : Nat), (20 : Nat), (18 : Nat))]) B.pre
  have htab := vx_table (x := yX0_count) B (hts _ List.mem_cons_self)
  have hts : ∀ w ∈ lw_all, w.before _ s = true := fun w h => hts w (List.mem_cons_of_mem _ h)
  have hown : s.vm.findClass RX0 = some m.cls := findClass_of_methodNamed B.named
  have hlocks := B.notSynchronized
  subst hsz
  have hqs : qo < s.heap.size := by obtain ⟨f, -, h9⟩ := hO; exact h9.lt
  have hqx : ¬ XA ad qo := fun h => hqo.2.1 (Or.inl h)
  have hBz : ∀ q, LB ad ai Pm Pi qo s.heap.size q → z0 ≤ q := fun q h => h.elim (YB.z hZ hY hJ q) (fun h => h ▸ hqo.1)
  have hN : ∀ q, N q → ¬ XA ad q := fun q h h2 => hN9 q h (Or.inl h2)
  have hS : va_S (LB ad ai Pm Pi qo s.heap.size) s.heap s.heap [] := va_S.rf
  have hl := lv_entry ([.ref (ad 17), .int a1, .int a2, .ref qo]) (n := 5) (Nat.le_of_ble_eq_true rfl)
  rw [lg_entry_eq]
  generalize (lg_sl ([.ref (ad 17), .int a1, .int a2, .ref qo]) ++ List.replicate (5 - (lg_sl ([.ref (ad 17), .int a1, .int a2, .ref qo])).length) Slot.unset).toArray = ls at hl ⊢
  have hl : lv_has ls 5 [(0, .ref (ad 17)), (1, .int a1), (2, .int a2), (3, .ref qo)] := hl
  unfold wpX0_knows at hw
  refine lv_aload_n hx hb dX0_knows_0 rfl (lv_at hl 3 rfl) ?_
  refine lv_iconst (v := 0) hx hb dX0_knows_1 (by decide) ?_
  refine lv_aload_n hx hb dX0_knows_2 rfl (lv_at hl 0 rfl) ?_
  refine lv_iload_n hx hb dX0_knows_3 rfl (lv_at hl 1 rfl) ?_
  refine lv_iload_n hx hb dX0_knows_4 rfl (lv_at hl 2 rfl) ?_
  have done : ∀ (v : Int64) (h' : Mem) (km' : KM) (H : Heap) (locs : List Loc), post 0 v h' km' → va_S (LB ad ai Pm Pi qo s.heap.size) s.heap H locs → XW D cA ad (tw 9) h' H → YZ D cA ad ai Pm Pi km' H → OZ D cJ qo o H → W p l e (headSpec (wsW_ yX0_knows cX0_knows 5 (some .int) [((0 : Nat), (17 : Nat), (20 : Nat), (18 : Nat))]) ({ frames := 15, cells := 2, slots := 12, locals := 481 })).room s m ([.ref (ad 17), .int a1, .int a2, .ref qo] : List Value).toArray below meth c H locs 2 12 (vx_MQ below (va_Qi (fun r (u : Int64 × Mem × KM) => post r u.1 u.2.1 u.2.2) (fun u t => XW D cA ad (tw 9) u.2.1 t.heap ∧ YZ D cA ad ai Pm Pi u.2.2 t.heap ∧ OZ D cJ qo u.1 t.heap) (LB ad ai Pm Pi qo s.heap.size)) (vx_X (fun _ : Unit => False) (fun _ _ _ => True) (LB ad ai Pm Pi qo s.heap.size)) ([.ref (ad 17), .int a1, .int a2, .ref qo] : List Value).toArray s 2 12 (LB ad ai Pm Pi qo s.heap.size)) (F0 m 16 ls [.long v, .int 0, .ref qo]) := by
    intro v h' km' H locs hw hS hM hP hO
    obtain ⟨f, hf, hO⟩ := hO
    refine h_last (A := LB ad ai Pm Pi qo s.heap.size) hx hb hKJ hO (Or.inr rfl) hS 0 rfl (j := 0) rfl (by unfold vp_in; decide) dX0_knows_16 (fun H1 locs1 hO1 oq _ hS => ?_)
    refine lv_goto (tgt := 24) hx hb dX0_knows_17 (by decide) ?_
    refine lv_iconst (v := 0) hx hb dX0_knows_24 (by decide) ?_
    have hM := hM.keptX (fun j hj => oq _ (fun e => hqx (e ▸ ⟨j, hj, rfl⟩)))
    have hP := YZ.keptY hP hY (fun q hq _ => oq q (fun e => hqo.2.1 (e ▸ hq)))
    have hO : OZ D cJ qo v H1 := ⟨_, vp_updL_0, hO1⟩
    exact vx_ret (W.iret hx hb hr (fun t ht _ => ⟨⟨0, (v, h', km'), rfl, hw, hM.at ht, hP.at ht, hO.at ht⟩, hS.F ht⟩) hS.2.2 dX0_knows_25 hlocks)
  have caught1 : ∀ (H : Heap) (locs : List Loc) (q9 : Nat), post 1 o h km → va_S (LB ad ai Pm Pi qo s.heap.size) s.heap H locs → XW D cA ad (tw 9) h H → YZ D cA ad ai Pm Pi km H → OZ D cJ qo o H → W p l e (headSpec (wsW_ yX0_knows cX0_knows 5 (some .int) [((0 : Nat), (17 : Nat), (20 : Nat), (18 : Nat))]) ({ frames := 15, cells := 2, slots := 12, locals := 481 })).room s m ([.ref (ad 17), .int a1, .int a2, .ref qo] : List Value).toArray below meth c H locs 2 12 (vx_MQ below (va_Qi (fun r (u : Int64 × Mem × KM) => post r u.1 u.2.1 u.2.2) (fun u t => XW D cA ad (tw 9) u.2.1 t.heap ∧ YZ D cA ad ai Pm Pi u.2.2 t.heap ∧ OZ D cJ qo u.1 t.heap) (LB ad ai Pm Pi qo s.heap.size)) (vx_X (fun _ : Unit => False) (fun _ _ _ => True) (LB ad ai Pm Pi qo s.heap.size)) ([.ref (ad 17), .int a1, .int a2, .ref qo] : List Value).toArray s 2 12 (LB ad ai Pm Pi qo s.heap.size)) (F0 m 20 ls [.ref q9]) := by
    intro H locs q9 hw hS hM hP hO
    refine lv_astore (lv' := (4, .ref q9) :: [(0, .ref (ad 17)), (1, .int a1), (2, .int a2), (3, .ref qo)]) hx hb dX0_knows_20 hl (by decide) rfl (fun ls hl => ?_)
    refine lv_iconst (v := 1) hx hb dX0_knows_22 (by decide) ?_
    exact vx_ret (W.iret hx hb hr (fun t ht _ => ⟨⟨1, (o, h, km), rfl, hw, hM.at ht, hP.at ht, hO.at ht⟩, hS.F ht⟩) hS.2.2 dX0_knows_23 hlocks)
  refine vx_calli (vx_runV (As := [.int a1, .int a2]) (rest := [.int 0, .ref qo]) ⟨hx, hb, hml, hown, hts⟩ (metX1_knows l hlt D cA z0 E tw N ad s.heap.size h T _ a1 a2 hn0 hn1 _ hw) (cwV 2 hts (lw_V q1483 q1484 q1485 q104 q1486) rfl rfl rfl (by decide +kernel) ⟨Nat.le_of_ble_eq_true rfl, Nat.le_of_ble_eq_true rfl⟩) ⟨PhXt.blind.pc, hM.recv hK, fun U hU hW => ⟨rfl, by rw [hU], by rw [hU]; exact hM, hJ, hN, PhT.go hT hK hZ hS hBz hU hW⟩⟩ rfl rfl hl.1 rfl (lv_room (Nat.le_of_ble_eq_true rfl)) dX0_knows_5 ⟨Nat.le_of_ble_eq_true rfl, Nat.le_of_ble_eq_true rfl⟩) hS (fun q _ h => Or.inl (h.elim (fun h => Or.inl (Or.inl h)) (fun h => Or.inr h))) (fun q h => Or.inl (h.elim (fun h => Or.inl (Or.inl h)) (fun h => Or.inr h))) (fun q _ h => Or.inl (h.elim (fun h => Or.inl (Or.inl h)) (fun h => Or.inr h))) (fun En ce q9 u t H1 locs1 ht hvm hpx hBX hsz9 hk hS hce hcv hcl => ?_) (fun r u t H1 locs1 ht hvm hw hB hsz9 hk hS => ?_)
  · subst ht
    have hO := hO.kept (fun h9 => hk qo h9 (fun h => h.elim hqx (fun h => absurd h (Nat.not_le.mpr hqs))))
    have hP := hP.kept hY hJ (fun q hz hn => hk q hz (fun h => h.elim hn (fun h => absurd h (Nat.not_le.mpr hz))))
    obtain ⟨eE, hM⟩ := hBX
    obtain ⟨ej, hpx⟩ := hpx
    subst ej
    subst eE
    exact vx_catch (E := "java/util/NoSuchElementException") (name := "java/util/NoSuchElementException") hown [] ⟨0, 17, 20, 18⟩ [] (htab.trans rfl) (fun z hz => absurd hz (List.not_mem_nil)) (by decide) (by decide) (hts _ q1389) (hZ.2.1.nC 39 rfl) hce hcv hcl (caught1 _ _ q9 hpx hS hM hP hO)
  · subst ht
    have hO := hO.kept (fun h9 => hk qo h9 (fun h => h.elim hqx (fun h => absurd h (Nat.not_le.mpr hqs))))
    have hP := hP.kept hY hJ (fun q hz hn => hk q hz (fun h => h.elim hn (fun h => absurd h (Nat.not_le.mpr hz))))
    have hM := hB
    obtain ⟨b, rfl, hw⟩ := hw
    refine lv_if_eq (tgt := 15) hx hb dX0_knows_8 (by decide) (fun c1 => ?_) (fun c1 => ?_)
    · have eb : b = false := by cases b with | false => rfl | true => exact absurd c1 (by decide)
      subst eb
      refine lv_lconst (v := 0) hx hb dX0_knows_15 (by decide) ?_
      exact done _ u km _ _ hw hS hM hP hO
    · have eb : b = true := by cases b with | true => rfl | false => exact absurd rfl c1
      subst eb
      refine lv_lconst (v := 1) hx hb dX0_knows_11 (by decide) ?_
      refine lv_goto (tgt := 16) hx hb dX0_knows_12 (by decide) ?_
      exact done _ u km _ _ hw hS hM hP hO
def wpX0_may (post : LPT) (T : TT) (h : Mem) (km : KM) (o : Int64) (a1 : Int32) (a2 : Int32) : Prop :=
  wpX1_may (fun r h' => post 0 r.toInt64 h' km) h T (fun j => (j = 0 ∧ post 1 o h km)) a1 a2
set_option maxHeartbeats 4000000 in
set_option maxRecDepth 100000 in
theorem metX0_may (l : Launch) (hlt : l.stackTraces = false) (D : va_G) (cA : Nat → ClassId) (z0 : Nat) (E : Nat → Nat → Nat) (T : TT) (tw : Nat → Nat) (N : Nat → Prop) (ad ai : Nat → Nat) (Pm Pi : Nat → Prop) (cJ : ClassId) (qo sz : Nat) (h : Mem) (km : KM) (o : Int64) (a1 : Int32) (a2 : Int32) (hn0 : T 0 0 < 2 ^ 31) (hn1 : T 0 1 < 2 ^ 31) (post : LPT) (hw : wpX0_may post T h km o a1 a2) : MeL l D cA z0 E T tw N ad ai Pm Pi cJ qo sz yX0_may (wsW_ yX0_may cX0_may 5 (some .int) [((0 : Nat), (10 : Nat), (13 : Nat), (18 : Nat))]) ({ frames := 15, cells := 2, slots := 12, locals := 481 }) [.ref (ad 17), .int a1, .int a2, .ref qo] h km o post 2 12 := by
  refine vx_ofWH (cc := cX0_may) (maxL := 5) (ret := (some .int)) (hh := [((0 : Nat), (10 : Nat), (13 : Nat), (18 : Nat))]) (by decide) rfl ?_
  intro p e s m args below meth c s₁ B hml hv
  obtain ⟨rfl, ⟨hsz, hM, hJ, hY, hN9, hP, hT, hK, hZ⟩, hO, hKJ, hqo, hNc⟩ := hv
  have hx := B.exec
  have hb := B.bytes
  have hr := B.returns
  have hts := atoms_spec (ws := wsW_ yX0_may cX0_may 5 (some .int) [((0 : Nat), (10 : Nat), (13 : Nat), (18 : Nat))]) B.pre
  have htab := vx_table (x := yX0_count) B (hts _ List.mem_cons_self)
  have hts : ∀ w ∈ lw_all, w.before _ s = true := fun w h => hts w (List.mem_cons_of_mem _ h)
  have hown : s.vm.findClass RX0 = some m.cls := findClass_of_methodNamed B.named
  have hlocks := B.notSynchronized
  subst hsz
  have hqs : qo < s.heap.size := by obtain ⟨f, -, h9⟩ := hO; exact h9.lt
  have hqx : ¬ XA ad qo := fun h => hqo.2.1 (Or.inl h)
  have hBz : ∀ q, LB ad ai Pm Pi qo s.heap.size q → z0 ≤ q := fun q h => h.elim (YB.z hZ hY hJ q) (fun h => h ▸ hqo.1)
  have hN : ∀ q, N q → ¬ XA ad q := fun q h h2 => hN9 q h (Or.inl h2)
  have hS : va_S (LB ad ai Pm Pi qo s.heap.size) s.heap s.heap [] := va_S.rf
  have hl := lv_entry ([.ref (ad 17), .int a1, .int a2, .ref qo]) (n := 5) (Nat.le_of_ble_eq_true rfl)
  rw [lg_entry_eq]
  generalize (lg_sl ([.ref (ad 17), .int a1, .int a2, .ref qo]) ++ List.replicate (5 - (lg_sl ([.ref (ad 17), .int a1, .int a2, .ref qo])).length) Slot.unset).toArray = ls at hl ⊢
  have hl : lv_has ls 5 [(0, .ref (ad 17)), (1, .int a1), (2, .int a2), (3, .ref qo)] := hl
  unfold wpX0_may at hw
  refine lv_aload_n hx hb dX0_may_0 rfl (lv_at hl 3 rfl) ?_
  refine lv_iconst (v := 0) hx hb dX0_may_1 (by decide) ?_
  refine lv_aload_n hx hb dX0_may_2 rfl (lv_at hl 0 rfl) ?_
  refine lv_iload_n hx hb dX0_may_3 rfl (lv_at hl 1 rfl) ?_
  refine lv_iload_n hx hb dX0_may_4 rfl (lv_at hl 2 rfl) ?_
  have done : ∀ (v : Int64) (h' : Mem) (km' : KM) (H : Heap) (locs : List Loc), post 0 v h' km' → va_S (LB ad ai Pm Pi qo s.heap.size) s.heap H locs → XW D cA ad (tw 9) h' H → YZ D cA ad ai Pm Pi km' H → OZ D cJ qo o H → W p l e (headSpec (wsW_ yX0_may cX0_may 5 (some .int) [((0 : Nat), (10 : Nat), (13 : Nat), (18 : Nat))]) ({ frames := 15, cells := 2, slots := 12, locals := 481 })).room s m ([.ref (ad 17), .int a1, .int a2, .ref qo] : List Value).toArray below meth c H locs 2 12 (vx_MQ below (va_Qi (fun r (u : Int64 × Mem × KM) => post r u.1 u.2.1 u.2.2) (fun u t => XW D cA ad (tw 9) u.2.1 t.heap ∧ YZ D cA ad ai Pm Pi u.2.2 t.heap ∧ OZ D cJ qo u.1 t.heap) (LB ad ai Pm Pi qo s.heap.size)) (vx_X (fun _ : Unit => False) (fun _ _ _ => True) (LB ad ai Pm Pi qo s.heap.size)) ([.ref (ad 17), .int a1, .int a2, .ref qo] : List Value).toArray s 2 12 (LB ad ai Pm Pi qo s.heap.size)) (F0 m 9 ls [.long v, .int 0, .ref qo]) := by
    intro v h' km' H locs hw hS hM hP hO
    obtain ⟨f, hf, hO⟩ := hO
    refine h_last (A := LB ad ai Pm Pi qo s.heap.size) hx hb hKJ hO (Or.inr rfl) hS 0 rfl (j := 0) rfl (by unfold vp_in; decide) dX0_may_9 (fun H1 locs1 hO1 oq _ hS => ?_)
    refine lv_goto (tgt := 17) hx hb dX0_may_10 (by decide) ?_
    refine lv_iconst (v := 0) hx hb dX0_may_17 (by decide) ?_
    have hM := hM.keptX (fun j hj => oq _ (fun e => hqx (e ▸ ⟨j, hj, rfl⟩)))
    have hP := YZ.keptY hP hY (fun q hq _ => oq q (fun e => hqo.2.1 (e ▸ hq)))
    have hO : OZ D cJ qo v H1 := ⟨_, vp_updL_0, hO1⟩
    exact vx_ret (W.iret hx hb hr (fun t ht _ => ⟨⟨0, (v, h', km'), rfl, hw, hM.at ht, hP.at ht, hO.at ht⟩, hS.F ht⟩) hS.2.2 dX0_may_18 hlocks)
  have caught1 : ∀ (H : Heap) (locs : List Loc) (q9 : Nat), post 1 o h km → va_S (LB ad ai Pm Pi qo s.heap.size) s.heap H locs → XW D cA ad (tw 9) h H → YZ D cA ad ai Pm Pi km H → OZ D cJ qo o H → W p l e (headSpec (wsW_ yX0_may cX0_may 5 (some .int) [((0 : Nat), (10 : Nat), (13 : Nat), (18 : Nat))]) ({ frames := 15, cells := 2, slots := 12, locals := 481 })).room s m ([.ref (ad 17), .int a1, .int a2, .ref qo] : List Value).toArray below meth c H locs 2 12 (vx_MQ below (va_Qi (fun r (u : Int64 × Mem × KM) => post r u.1 u.2.1 u.2.2) (fun u t => XW D cA ad (tw 9) u.2.1 t.heap ∧ YZ D cA ad ai Pm Pi u.2.2 t.heap ∧ OZ D cJ qo u.1 t.heap) (LB ad ai Pm Pi qo s.heap.size)) (vx_X (fun _ : Unit => False) (fun _ _ _ => True) (LB ad ai Pm Pi qo s.heap.size)) ([.ref (ad 17), .int a1, .int a2, .ref qo] : List Value).toArray s 2 12 (LB ad ai Pm Pi qo s.heap.size)) (F0 m 13 ls [.ref q9]) := by
    intro H locs q9 hw hS hM hP hO
    refine lv_astore (lv' := (4, .ref q9) :: [(0, .ref (ad 17)), (1, .int a1), (2, .int a2), (3, .ref qo)]) hx hb dX0_may_13 hl (by decide) rfl (fun ls hl => ?_)
    refine lv_iconst (v := 1) hx hb dX0_may_15 (by decide) ?_
    exact vx_ret (W.iret hx hb hr (fun t ht _ => ⟨⟨1, (o, h, km), rfl, hw, hM.at ht, hP.at ht, hO.at ht⟩, hS.F ht⟩) hS.2.2 dX0_may_16 hlocks)
  refine vx_calli (vx_runV (As := [.int a1, .int a2]) (rest := [.int 0, .ref qo]) ⟨hx, hb, hml, hown, hts⟩ (metX1_may l hlt D cA z0 E tw N ad s.heap.size h T _ a1 a2 hn0 hn1 _ hw) (cwV 2 hts (lw_V q1490 q1491 q1492 q104 q1493) rfl rfl rfl (by decide +kernel) ⟨Nat.le_of_ble_eq_true rfl, Nat.le_of_ble_eq_true rfl⟩) ⟨PhXt.blind.pc, hM.recv hK, fun U hU hW => ⟨rfl, by rw [hU], by rw [hU]; exact hM, hJ, hN, PhT.go hT hK hZ hS hBz hU hW⟩⟩ rfl rfl hl.1 rfl (lv_room (Nat.le_of_ble_eq_true rfl)) dX0_may_5 ⟨Nat.le_of_ble_eq_true rfl, Nat.le_of_ble_eq_true rfl⟩) hS (fun q _ h => Or.inl (h.elim (fun h => Or.inl (Or.inl h)) (fun h => Or.inr h))) (fun q h => Or.inl (h.elim (fun h => Or.inl (Or.inl h)) (fun h => Or.inr h))) (fun q _ h => Or.inl (h.elim (fun h => Or.inl (Or.inl h)) (fun h => Or.inr h))) (fun En ce q9 u t H1 locs1 ht hvm hpx hBX hsz9 hk hS hce hcv hcl => ?_) (fun r u t H1 locs1 ht hvm hw hB hsz9 hk hS => ?_)
  · subst ht
    have hO := hO.kept (fun h9 => hk qo h9 (fun h => h.elim hqx (fun h => absurd h (Nat.not_le.mpr hqs))))
    have hP := hP.kept hY hJ (fun q hz hn => hk q hz (fun h => h.elim hn (fun h => absurd h (Nat.not_le.mpr hz))))
    obtain ⟨eE, hM⟩ := hBX
    obtain ⟨ej, hpx⟩ := hpx
    subst ej
    subst eE
    exact vx_catch (E := "java/util/NoSuchElementException") (name := "java/util/NoSuchElementException") hown [] ⟨0, 10, 13, 18⟩ [] (htab.trans rfl) (fun z hz => absurd hz (List.not_mem_nil)) (by decide) (by decide) (hts _ q1389) (hZ.2.1.nC 39 rfl) hce hcv hcl (caught1 _ _ q9 hpx hS hM hP hO)
  · subst ht
    have hO := hO.kept (fun h9 => hk qo h9 (fun h => h.elim hqx (fun h => absurd h (Nat.not_le.mpr hqs))))
    have hP := hP.kept hY hJ (fun q hz hn => hk q hz (fun h => h.elim hn (fun h => absurd h (Nat.not_le.mpr hz))))
    have hM := hB
    refine lv_i2l (v := r.toInt64) hx hb dX0_may_8 rfl ?_
    exact done _ u km _ _ hw hS hM hP hO
def wpX0_slice (post : LPT) (T : TT) (h : Mem) (km : KM) (o : Int64) (a1 : Int32) (a2 : Int32) (a3 : Int32) : Prop :=
  wpX1_slice (fun r h' => post 0 r.toInt64 h' km) h T (fun j => (j = 0 ∧ post 1 o h km)) a1 a2 a3
set_option maxHeartbeats 4000000 in
set_option maxRecDepth 100000 in
theorem metX0_slice (l : Launch) (hlt : l.stackTraces = false) (D : va_G) (cA : Nat → ClassId) (z0 : Nat) (E : Nat → Nat → Nat) (T : TT) (tw : Nat → Nat) (N : Nat → Prop) (ad ai : Nat → Nat) (Pm Pi : Nat → Prop) (cJ : ClassId) (qo sz : Nat) (h : Mem) (km : KM) (o : Int64) (a1 : Int32) (a2 : Int32) (a3 : Int32) (hn0 : T 0 0 < 2 ^ 31) (hn1 : T 0 1 < 2 ^ 31) (post : LPT) (hw : wpX0_slice post T h km o a1 a2 a3) : MeL l D cA z0 E T tw N ad ai Pm Pi cJ qo sz yX0_slice (wsW_ yX0_slice cX0_slice 6 (some .int) [((0 : Nat), (12 : Nat), (15 : Nat), (18 : Nat))]) ({ frames := 724, cells := 3, slots := 18, locals := 40114 }) [.ref (ad 17), .int a1, .int a2, .int a3, .ref qo] h km o post 3 18 := by
  refine vx_ofWH (cc := cX0_slice) (maxL := 6) (ret := (some .int)) (hh := [((0 : Nat), (12 : Nat), (15 : Nat), (18 : Nat))]) (by decide) rfl ?_
  intro p e s m args below meth c s₁ B hml hv
  obtain ⟨rfl, ⟨hsz, hM, hJ, hY, hN9, hP, hT, hK, hZ⟩, hO, hKJ, hqo, hNc⟩ := hv
  have hx := B.exec
  have hb := B.bytes
  have hr := B.returns
  have hts := atoms_spec (ws := wsW_ yX0_slice cX0_slice 6 (some .int) [((0 : Nat), (12 : Nat), (15 : Nat), (18 : Nat))]) B.pre
  have htab := vx_table (x := yX0_count) B (hts _ List.mem_cons_self)
  have hts : ∀ w ∈ lw_all, w.before _ s = true := fun w h => hts w (List.mem_cons_of_mem _ h)
  have hown : s.vm.findClass RX0 = some m.cls := findClass_of_methodNamed B.named
  have hlocks := B.notSynchronized
  subst hsz
  have hqs : qo < s.heap.size := by obtain ⟨f, -, h9⟩ := hO; exact h9.lt
  have hqx : ¬ XA ad qo := fun h => hqo.2.1 (Or.inl h)
  have hBz : ∀ q, LB ad ai Pm Pi qo s.heap.size q → z0 ≤ q := fun q h => h.elim (YB.z hZ hY hJ q) (fun h => h ▸ hqo.1)
  have hN : ∀ q, N q → ¬ XA ad q := fun q h h2 => hN9 q h (Or.inl h2)
  have hS : va_S (LB ad ai Pm Pi qo s.heap.size) s.heap s.heap [] := va_S.rf
  have hl := lv_entry ([.ref (ad 17), .int a1, .int a2, .int a3, .ref qo]) (n := 6) (Nat.le_of_ble_eq_true rfl)
  rw [lg_entry_eq]
  generalize (lg_sl ([.ref (ad 17), .int a1, .int a2, .int a3, .ref qo]) ++ List.replicate (6 - (lg_sl ([.ref (ad 17), .int a1, .int a2, .int a3, .ref qo])).length) Slot.unset).toArray = ls at hl ⊢
  have hl : lv_has ls 6 [(0, .ref (ad 17)), (1, .int a1), (2, .int a2), (3, .int a3), (4, .ref qo)] := hl
  unfold wpX0_slice at hw
  refine lv_aload hx hb dX0_slice_0 (lv_at hl 4 rfl) ?_
  refine lv_iconst (v := 0) hx hb dX0_slice_2 (by decide) ?_
  refine lv_aload_n hx hb dX0_slice_3 rfl (lv_at hl 0 rfl) ?_
  refine lv_iload_n hx hb dX0_slice_4 rfl (lv_at hl 1 rfl) ?_
  refine lv_iload_n hx hb dX0_slice_5 rfl (lv_at hl 2 rfl) ?_
  refine lv_iload_n hx hb dX0_slice_6 rfl (lv_at hl 3 rfl) ?_
  have done : ∀ (v : Int64) (h' : Mem) (km' : KM) (H : Heap) (locs : List Loc), post 0 v h' km' → va_S (LB ad ai Pm Pi qo s.heap.size) s.heap H locs → XW D cA ad (tw 9) h' H → YZ D cA ad ai Pm Pi km' H → OZ D cJ qo o H → W p l e (headSpec (wsW_ yX0_slice cX0_slice 6 (some .int) [((0 : Nat), (12 : Nat), (15 : Nat), (18 : Nat))]) ({ frames := 724, cells := 3, slots := 18, locals := 40114 })).room s m ([.ref (ad 17), .int a1, .int a2, .int a3, .ref qo] : List Value).toArray below meth c H locs 3 18 (vx_MQ below (va_Qi (fun r (u : Int64 × Mem × KM) => post r u.1 u.2.1 u.2.2) (fun u t => XW D cA ad (tw 9) u.2.1 t.heap ∧ YZ D cA ad ai Pm Pi u.2.2 t.heap ∧ OZ D cJ qo u.1 t.heap) (LB ad ai Pm Pi qo s.heap.size)) (vx_X (fun _ : Unit => False) (fun _ _ _ => True) (LB ad ai Pm Pi qo s.heap.size)) ([.ref (ad 17), .int a1, .int a2, .int a3, .ref qo] : List Value).toArray s 3 18 (LB ad ai Pm Pi qo s.heap.size)) (F0 m 11 ls [.long v, .int 0, .ref qo]) := by
    intro v h' km' H locs hw hS hM hP hO
    obtain ⟨f, hf, hO⟩ := hO
    refine h_last (A := LB ad ai Pm Pi qo s.heap.size) hx hb hKJ hO (Or.inr rfl) hS 0 rfl (j := 0) rfl (by unfold vp_in; decide) dX0_slice_11 (fun H1 locs1 hO1 oq _ hS => ?_)
    refine lv_goto (tgt := 19) hx hb dX0_slice_12 (by decide) ?_
    refine lv_iconst (v := 0) hx hb dX0_slice_19 (by decide) ?_
    have hM := hM.keptX (fun j hj => oq _ (fun e => hqx (e ▸ ⟨j, hj, rfl⟩)))
    have hP := YZ.keptY hP hY (fun q hq _ => oq q (fun e => hqo.2.1 (e ▸ hq)))
    have hO : OZ D cJ qo v H1 := ⟨_, vp_updL_0, hO1⟩
    exact vx_ret (W.iret hx hb hr (fun t ht _ => ⟨⟨0, (v, h', km'), rfl, hw, hM.at ht, hP.at ht, hO.at ht⟩, hS.F ht⟩) hS.2.2 dX0_slice_20 hlocks)
  have caught1 : ∀ (H : Heap) (locs : List Loc) (q9 : Nat), post 1 o h km → va_S (LB ad ai Pm Pi qo s.heap.size) s.heap H locs → XW D cA ad (tw 9) h H → YZ D cA ad ai Pm Pi km H → OZ D cJ qo o H → W p l e (headSpec (wsW_ yX0_slice cX0_slice 6 (some .int) [((0 : Nat), (12 : Nat), (15 : Nat), (18 : Nat))]) ({ frames := 724, cells := 3, slots := 18, locals := 40114 })).room s m ([.ref (ad 17), .int a1, .int a2, .int a3, .ref qo] : List Value).toArray below meth c H locs 3 18 (vx_MQ below (va_Qi (fun r (u : Int64 × Mem × KM) => post r u.1 u.2.1 u.2.2) (fun u t => XW D cA ad (tw 9) u.2.1 t.heap ∧ YZ D cA ad ai Pm Pi u.2.2 t.heap ∧ OZ D cJ qo u.1 t.heap) (LB ad ai Pm Pi qo s.heap.size)) (vx_X (fun _ : Unit => False) (fun _ _ _ => True) (LB ad ai Pm Pi qo s.heap.size)) ([.ref (ad 17), .int a1, .int a2, .int a3, .ref qo] : List Value).toArray s 3 18 (LB ad ai Pm Pi qo s.heap.size)) (F0 m 15 ls [.ref q9]) := by
    intro H locs q9 hw hS hM hP hO
    refine lv_astore (lv' := (5, .ref q9) :: [(0, .ref (ad 17)), (1, .int a1), (2, .int a2), (3, .int a3), (4, .ref qo)]) hx hb dX0_slice_15 hl (by decide) rfl (fun ls hl => ?_)
    refine lv_iconst (v := 1) hx hb dX0_slice_17 (by decide) ?_
    exact vx_ret (W.iret hx hb hr (fun t ht _ => ⟨⟨1, (o, h, km), rfl, hw, hM.at ht, hP.at ht, hO.at ht⟩, hS.F ht⟩) hS.2.2 dX0_slice_18 hlocks)
  refine vx_calli (vx_runV (As := [.int a1, .int a2, .int a3]) (rest := [.int 0, .ref qo]) ⟨hx, hb, hml, hown, hts⟩ (metX1_slice l hlt D cA z0 E tw N ad s.heap.size h T _ a1 a2 a3 hn0 hn1 _ hw) (cwV 3 hts (lw_V q1497 q1498 q1499 q104 q1500) rfl rfl rfl (by decide +kernel) ⟨Nat.le_of_ble_eq_true rfl, Nat.le_of_ble_eq_true rfl⟩) ⟨PhXt.blind.pc, hM.recv hK, fun U hU hW => ⟨rfl, by rw [hU], by rw [hU]; exact hM, hJ, hN, PhT.go hT hK hZ hS hBz hU hW⟩⟩ rfl rfl hl.1 rfl (lv_room (Nat.le_of_ble_eq_true rfl)) dX0_slice_7 ⟨Nat.le_of_ble_eq_true rfl, Nat.le_of_ble_eq_true rfl⟩) hS (fun q _ h => Or.inl (h.elim (fun h => Or.inl (Or.inl h)) (fun h => Or.inr h))) (fun q h => Or.inl (h.elim (fun h => Or.inl (Or.inl h)) (fun h => Or.inr h))) (fun q _ h => Or.inl (h.elim (fun h => Or.inl (Or.inl h)) (fun h => Or.inr h))) (fun En ce q9 u t H1 locs1 ht hvm hpx hBX hsz9 hk hS hce hcv hcl => ?_) (fun r u t H1 locs1 ht hvm hw hB hsz9 hk hS => ?_)
  · subst ht
    have hO := hO.kept (fun h9 => hk qo h9 (fun h => h.elim hqx (fun h => absurd h (Nat.not_le.mpr hqs))))
    have hP := hP.kept hY hJ (fun q hz hn => hk q hz (fun h => h.elim hn (fun h => absurd h (Nat.not_le.mpr hz))))
    obtain ⟨eE, hM⟩ := hBX
    obtain ⟨ej, hpx⟩ := hpx
    subst ej
    subst eE
    exact vx_catch (E := "java/util/NoSuchElementException") (name := "java/util/NoSuchElementException") hown [] ⟨0, 12, 15, 18⟩ [] (htab.trans rfl) (fun z hz => absurd hz (List.not_mem_nil)) (by decide) (by decide) (hts _ q1389) (hZ.2.1.nC 39 rfl) hce hcv hcl (caught1 _ _ q9 hpx hS hM hP hO)
  · subst ht
    have hO := hO.kept (fun h9 => hk qo h9 (fun h => h.elim hqx (fun h => absurd h (Nat.not_le.mpr hqs))))
    have hP := hP.kept hY hJ (fun q hz hn => hk q hz (fun h => h.elim hn (fun h => absurd h (Nat.not_le.mpr hz))))
    have hM := hB
    refine lv_i2l (v := r.toInt64) hx hb dX0_slice_10 rfl ?_
    exact done _ u km _ _ hw hS hM hP hO
def wpX0_cut (post : LPT) (T : TT) (h : Mem) (km : KM) (o : Int64) (a1 : Int32) (a2 : Int32) : Prop :=
  wpX1_cut (fun r h' km' => post 0 (if r = true then 1 else 0) h' km') h T (fun j => (j = 0 ∧ post 1 o h km)) km a1 a2
set_option maxHeartbeats 4000000 in
set_option maxRecDepth 100000 in
theorem metX0_cut (l : Launch) (hlt : l.stackTraces = false) (D : va_G) (cA : Nat → ClassId) (z0 : Nat) (E : Nat → Nat → Nat) (T : TT) (tw : Nat → Nat) (N : Nat → Prop) (ad ai : Nat → Nat) (Pm Pi : Nat → Prop) (cJ : ClassId) (qo sz : Nat) (h : Mem) (km : KM) (o : Int64) (a1 : Int32) (a2 : Int32) (hn0 : T 0 0 < 2 ^ 31) (hn1 : T 0 1 < 2 ^ 31) (post : LPT) (hw : wpX0_cut post T h km o a1 a2) : MeL l D cA z0 E T tw N ad ai Pm Pi cJ qo sz yX0_cut (wsW_ yX0_cut cX0_cut 5 (some .int) [((0 : Nat), (17 : Nat), (20 : Nat), (18 : Nat))]) ({ frames := 15, cells := 2, slots := 12, locals := 481 }) [.ref (ad 17), .int a1, .int a2, .ref qo] h km o post 2 12 := by
  refine vx_ofWH (cc := cX0_cut) (maxL := 5) (ret := (some .int)) (hh := [((0 : Nat), (17 : Nat), (20 : Nat), (18 : Nat))]) (by decide) rfl ?_
  intro p e s m args below meth c s₁ B hml hv
  obtain ⟨rfl, ⟨hsz, hM, hJ, hY, hN9, hP, hT, hK, hZ⟩, hO, hKJ, hqo, hNc⟩ := hv
  have hx := B.exec
  have hb := B.bytes
  have hr := B.returns
  have hts := atoms_spec (ws := wsW_ yX0_cut cX0_cut 5 (some .int) [((0 : Nat), (17 : Nat), (20 : Nat), (18 : Nat))]) B.pre
  have htab := vx_table (x := yX0_count) B (hts _ List.mem_cons_self)
  have hts : ∀ w ∈ lw_all, w.before _ s = true := fun w h => hts w (List.mem_cons_of_mem _ h)
  have hown : s.vm.findClass RX0 = some m.cls := findClass_of_methodNamed B.named
  have hlocks := B.notSynchronized
  subst hsz
  have hqs : qo < s.heap.size := by obtain ⟨f, -, h9⟩ := hO; exact h9.lt
  have hqx : ¬ XA ad qo := fun h => hqo.2.1 (Or.inl h)
  have hBz : ∀ q, LB ad ai Pm Pi qo s.heap.size q → z0 ≤ q := fun q h => h.elim (YB.z hZ hY hJ q) (fun h => h ▸ hqo.1)
  have hN : ∀ q, N q → ¬ XA ad q := fun q h h2 => hN9 q h (Or.inl h2)
  have hS : va_S (LB ad ai Pm Pi qo s.heap.size) s.heap s.heap [] := va_S.rf
  have hl := lv_entry ([.ref (ad 17), .int a1, .int a2, .ref qo]) (n := 5) (Nat.le_of_ble_eq_true rfl)
  rw [lg_entry_eq]
  generalize (lg_sl ([.ref (ad 17), .int a1, .int a2, .ref qo]) ++ List.replicate (5 - (lg_sl ([.ref (ad 17), .int a1, .int a2, .ref qo])).length) Slot.unset).toArray = ls at hl ⊢
  have hl : lv_has ls 5 [(0, .ref (ad 17)), (1, .int a1), (2, .int a2), (3, .ref qo)] := hl
  unfold wpX0_cut at hw
  refine lv_aload_n hx hb dX0_cut_0 rfl (lv_at hl 3 rfl) ?_
  refine lv_iconst (v := 0) hx hb dX0_cut_1 (by decide) ?_
  refine lv_aload_n hx hb dX0_cut_2 rfl (lv_at hl 0 rfl) ?_
  refine lv_iload_n hx hb dX0_cut_3 rfl (lv_at hl 1 rfl) ?_
  refine lv_iload_n hx hb dX0_cut_4 rfl (lv_at hl 2 rfl) ?_
  have done : ∀ (v : Int64) (h' : Mem) (km' : KM) (H : Heap) (locs : List Loc), post 0 v h' km' → va_S (LB ad ai Pm Pi qo s.heap.size) s.heap H locs → XW D cA ad (tw 9) h' H → YZ D cA ad ai Pm Pi km' H → OZ D cJ qo o H → W p l e (headSpec (wsW_ yX0_cut cX0_cut 5 (some .int) [((0 : Nat), (17 : Nat), (20 : Nat), (18 : Nat))]) ({ frames := 15, cells := 2, slots := 12, locals := 481 })).room s m ([.ref (ad 17), .int a1, .int a2, .ref qo] : List Value).toArray below meth c H locs 2 12 (vx_MQ below (va_Qi (fun r (u : Int64 × Mem × KM) => post r u.1 u.2.1 u.2.2) (fun u t => XW D cA ad (tw 9) u.2.1 t.heap ∧ YZ D cA ad ai Pm Pi u.2.2 t.heap ∧ OZ D cJ qo u.1 t.heap) (LB ad ai Pm Pi qo s.heap.size)) (vx_X (fun _ : Unit => False) (fun _ _ _ => True) (LB ad ai Pm Pi qo s.heap.size)) ([.ref (ad 17), .int a1, .int a2, .ref qo] : List Value).toArray s 2 12 (LB ad ai Pm Pi qo s.heap.size)) (F0 m 16 ls [.long v, .int 0, .ref qo]) := by
    intro v h' km' H locs hw hS hM hP hO
    obtain ⟨f, hf, hO⟩ := hO
    refine h_last (A := LB ad ai Pm Pi qo s.heap.size) hx hb hKJ hO (Or.inr rfl) hS 0 rfl (j := 0) rfl (by unfold vp_in; decide) dX0_cut_16 (fun H1 locs1 hO1 oq _ hS => ?_)
    refine lv_goto (tgt := 24) hx hb dX0_cut_17 (by decide) ?_
    refine lv_iconst (v := 0) hx hb dX0_cut_24 (by decide) ?_
    have hM := hM.keptX (fun j hj => oq _ (fun e => hqx (e ▸ ⟨j, hj, rfl⟩)))
    have hP := YZ.keptY hP hY (fun q hq _ => oq q (fun e => hqo.2.1 (e ▸ hq)))
    have hO : OZ D cJ qo v H1 := ⟨_, vp_updL_0, hO1⟩
    exact vx_ret (W.iret hx hb hr (fun t ht _ => ⟨⟨0, (v, h', km'), rfl, hw, hM.at ht, hP.at ht, hO.at ht⟩, hS.F ht⟩) hS.2.2 dX0_cut_25 hlocks)
  have caught1 : ∀ (H : Heap) (locs : List Loc) (q9 : Nat), post 1 o h km → va_S (LB ad ai Pm Pi qo s.heap.size) s.heap H locs → XW D cA ad (tw 9) h H → YZ D cA ad ai Pm Pi km H → OZ D cJ qo o H → W p l e (headSpec (wsW_ yX0_cut cX0_cut 5 (some .int) [((0 : Nat), (17 : Nat), (20 : Nat), (18 : Nat))]) ({ frames := 15, cells := 2, slots := 12, locals := 481 })).room s m ([.ref (ad 17), .int a1, .int a2, .ref qo] : List Value).toArray below meth c H locs 2 12 (vx_MQ below (va_Qi (fun r (u : Int64 × Mem × KM) => post r u.1 u.2.1 u.2.2) (fun u t => XW D cA ad (tw 9) u.2.1 t.heap ∧ YZ D cA ad ai Pm Pi u.2.2 t.heap ∧ OZ D cJ qo u.1 t.heap) (LB ad ai Pm Pi qo s.heap.size)) (vx_X (fun _ : Unit => False) (fun _ _ _ => True) (LB ad ai Pm Pi qo s.heap.size)) ([.ref (ad 17), .int a1, .int a2, .ref qo] : List Value).toArray s 2 12 (LB ad ai Pm Pi qo s.heap.size)) (F0 m 20 ls [.ref q9]) := by
    intro H locs q9 hw hS hM hP hO
    refine lv_astore (lv' := (4, .ref q9) :: [(0, .ref (ad 17)), (1, .int a1), (2, .int a2), (3, .ref qo)]) hx hb dX0_cut_20 hl (by decide) rfl (fun ls hl => ?_)
    refine lv_iconst (v := 1) hx hb dX0_cut_22 (by decide) ?_
    exact vx_ret (W.iret hx hb hr (fun t ht _ => ⟨⟨1, (o, h, km), rfl, hw, hM.at ht, hP.at ht, hO.at ht⟩, hS.F ht⟩) hS.2.2 dX0_cut_23 hlocks)
  refine vx_calli (vx_runV (As := [.int a1, .int a2]) (rest := [.int 0, .ref qo]) ⟨hx, hb, hml, hown, hts⟩ (metX1_cut l hlt D cA z0 E tw N ad ai Pm Pi s.heap.size h T _ km a1 a2 hn0 hn1 _ hw) (cwV 2 hts (lw_V q1572 q1573 q1574 q104 q1575) rfl rfl rfl (by decide +kernel) ⟨Nat.le_of_ble_eq_true rfl, Nat.le_of_ble_eq_true rfl⟩) ⟨PhY.blind.pc, hM.recv hK, fun U hU hW => ⟨rfl, by rw [hU], by rw [hU]; exact hM, hJ, hY, hN9, by rw [hU]; exact hP, PhT.go hT hK hZ hS hBz hU hW⟩⟩ rfl rfl hl.1 rfl (lv_room (Nat.le_of_ble_eq_true rfl)) dX0_cut_5 ⟨Nat.le_of_ble_eq_true rfl, Nat.le_of_ble_eq_true rfl⟩) hS (fun q _ h => Or.inl h) (fun q h => Or.inl h) (fun q _ h => Or.inl h) (fun En ce q9 u t H1 locs1 ht hvm hpx hBX hsz9 hk hS hce hcv hcl => ?_) (fun r u t H1 locs1 ht hvm hw hB hsz9 hk hS => ?_)
  · subst ht
    have hO := hO.kept (fun h9 => hk qo h9 (fun h => h.elim hqo.2.1 (fun h => absurd h (Nat.not_le.mpr hqs))))
    obtain ⟨eE, hM, hP⟩ := hBX
    obtain ⟨ej, hpx⟩ := hpx
    subst ej
    subst eE
    exact vx_catch (E := "java/util/NoSuchElementException") (name := "java/util/NoSuchElementException") hown [] ⟨0, 17, 20, 18⟩ [] (htab.trans rfl) (fun z hz => absurd hz (List.not_mem_nil)) (by decide) (by decide) (hts _ q1389) (hZ.2.1.nC 39 rfl) hce hcv hcl (caught1 _ _ q9 hpx hS hM hP hO)
  · subst ht
    have hO := hO.kept (fun h9 => hk qo h9 (fun h => h.elim hqo.2.1 (fun h => absurd h (Nat.not_le.mpr hqs))))
    obtain ⟨hM, hP⟩ := hB
    obtain ⟨b, rfl, hw⟩ := hw
    refine lv_if_eq (tgt := 15) hx hb dX0_cut_8 (by decide) (fun c1 => ?_) (fun c1 => ?_)
    · have eb : b = false := by cases b with | false => rfl | true => exact absurd c1 (by decide)
      subst eb
      refine lv_lconst (v := 0) hx hb dX0_cut_15 (by decide) ?_
      exact done _ u.1 u.2 _ _ hw hS hM hP hO
    · have eb : b = true := by cases b with | true => rfl | false => exact absurd rfl c1
      subst eb
      refine lv_lconst (v := 1) hx hb dX0_cut_11 (by decide) ?_
      refine lv_goto (tgt := 16) hx hb dX0_cut_12 (by decide) ?_
      exact done _ u.1 u.2 _ _ hw hS hM hP hO
def wpX0_thank (post : LPT) (T : TT) (h : Mem) (km : KM) (o : Int64) (a1 : Int32) (a2 : Int32) : Prop :=
  wpX1_thank (fun r h' km' => post 0 r.toInt64 h' km') h T (fun j => (j = 0 ∧ post 1 o h km)) km a1 a2
set_option maxHeartbeats 4000000 in
set_option maxRecDepth 100000 in
theorem metX0_thank (l : Launch) (hlt : l.stackTraces = false) (D : va_G) (cA : Nat → ClassId) (z0 : Nat) (E : Nat → Nat → Nat) (T : TT) (tw : Nat → Nat) (N : Nat → Prop) (ad ai : Nat → Nat) (Pm Pi : Nat → Prop) (cJ : ClassId) (qo sz : Nat) (h : Mem) (km : KM) (o : Int64) (a1 : Int32) (a2 : Int32) (hn0 : T 0 0 < 2 ^ 31) (hn1 : T 0 1 < 2 ^ 31) (post : LPT) (hw : wpX0_thank post T h km o a1 a2) : MeL l D cA z0 E T tw N ad ai Pm Pi cJ qo sz yX0_thank (wsW_ yX0_thank cX0_thank 5 (some .int) [((0 : Nat), (10 : Nat), (13 : Nat), (18 : Nat))]) ({ frames := 15, cells := 2, slots := 12, locals := 481 }) [.ref (ad 17), .int a1, .int a2, .ref qo] h km o post 2 12 := by
  refine vx_ofWH (cc := cX0_thank) (maxL := 5) (ret := (some .int)) (hh := [((0 : Nat), (10 : Nat), (13 : Nat), (18 : Nat))]) (by decide) rfl ?_
  intro p e s m args below meth c s₁ B hml hv
  obtain ⟨rfl, ⟨hsz, hM, hJ, hY, hN9, hP, hT, hK, hZ⟩, hO, hKJ, hqo, hNc⟩ := hv
  have hx := B.exec
  have hb := B.bytes
  have hr := B.returns
  have hts := atoms_spec (ws := wsW_ yX0_thank cX0_thank 5 (some .int) [((0 : Nat), (10 : Nat), (13 : Nat), (18 : Nat))]) B.pre
  have htab := vx_table (x := yX0_count) B (hts _ List.mem_cons_self)
  have hts : ∀ w ∈ lw_all, w.before _ s = true := fun w h => hts w (List.mem_cons_of_mem _ h)
  have hown : s.vm.findClass RX0 = some m.cls := findClass_of_methodNamed B.named
  have hlocks := B.notSynchronized
  subst hsz
  have hqs : qo < s.heap.size := by obtain ⟨f, -, h9⟩ := hO; exact h9.lt
  have hqx : ¬ XA ad qo := fun h => hqo.2.1 (Or.inl h)
  have hBz : ∀ q, LB ad ai Pm Pi qo s.heap.size q → z0 ≤ q := fun q h => h.elim (YB.z hZ hY hJ q) (fun h => h ▸ hqo.1)
  have hN : ∀ q, N q → ¬ XA ad q := fun q h h2 => hN9 q h (Or.inl h2)
  have hS : va_S (LB ad ai Pm Pi qo s.heap.size) s.heap s.heap [] := va_S.rf
  have hl := lv_entry ([.ref (ad 17), .int a1, .int a2, .ref qo]) (n := 5) (Nat.le_of_ble_eq_true rfl)
  rw [lg_entry_eq]
  generalize (lg_sl ([.ref (ad 17), .int a1, .int a2, .ref qo]) ++ List.replicate (5 - (lg_sl ([.ref (ad 17), .int a1, .int a2, .ref qo])).length) Slot.unset).toArray = ls at hl ⊢
  have hl : lv_has ls 5 [(0, .ref (ad 17)), (1, .int a1), (2, .int a2), (3, .ref qo)] := hl
  unfold wpX0_thank at hw
  refine lv_aload_n hx hb dX0_thank_0 rfl (lv_at hl 3 rfl) ?_
  refine lv_iconst (v := 0) hx hb dX0_thank_1 (by decide) ?_
  refine lv_aload_n hx hb dX0_thank_2 rfl (lv_at hl 0 rfl) ?_
  refine lv_iload_n hx hb dX0_thank_3 rfl (lv_at hl 1 rfl) ?_
  refine lv_iload_n hx hb dX0_thank_4 rfl (lv_at hl 2 rfl) ?_
  have done : ∀ (v : Int64) (h' : Mem) (km' : KM) (H : Heap) (locs : List Loc), post 0 v h' km' → va_S (LB ad ai Pm Pi qo s.heap.size) s.heap H locs → XW D cA ad (tw 9) h' H → YZ D cA ad ai Pm Pi km' H → OZ D cJ qo o H → W p l e (headSpec (wsW_ yX0_thank cX0_thank 5 (some .int) [((0 : Nat), (10 : Nat), (13 : Nat), (18 : Nat))]) ({ frames := 15, cells := 2, slots := 12, locals := 481 })).room s m ([.ref (ad 17), .int a1, .int a2, .ref qo] : List Value).toArray below meth c H locs 2 12 (vx_MQ below (va_Qi (fun r (u : Int64 × Mem × KM) => post r u.1 u.2.1 u.2.2) (fun u t => XW D cA ad (tw 9) u.2.1 t.heap ∧ YZ D cA ad ai Pm Pi u.2.2 t.heap ∧ OZ D cJ qo u.1 t.heap) (LB ad ai Pm Pi qo s.heap.size)) (vx_X (fun _ : Unit => False) (fun _ _ _ => True) (LB ad ai Pm Pi qo s.heap.size)) ([.ref (ad 17), .int a1, .int a2, .ref qo] : List Value).toArray s 2 12 (LB ad ai Pm Pi qo s.heap.size)) (F0 m 9 ls [.long v, .int 0, .ref qo]) := by
    intro v h' km' H locs hw hS hM hP hO
    obtain ⟨f, hf, hO⟩ := hO
    refine h_last (A := LB ad ai Pm Pi qo s.heap.size) hx hb hKJ hO (Or.inr rfl) hS 0 rfl (j := 0) rfl (by unfold vp_in; decide) dX0_thank_9 (fun H1 locs1 hO1 oq _ hS => ?_)
    refine lv_goto (tgt := 17) hx hb dX0_thank_10 (by decide) ?_
    refine lv_iconst (v := 0) hx hb dX0_thank_17 (by decide) ?_
    have hM := hM.keptX (fun j hj => oq _ (fun e => hqx (e ▸ ⟨j, hj, rfl⟩)))
    have hP := YZ.keptY hP hY (fun q hq _ => oq q (fun e => hqo.2.1 (e ▸ hq)))
    have hO : OZ D cJ qo v H1 := ⟨_, vp_updL_0, hO1⟩
    exact vx_ret (W.iret hx hb hr (fun t ht _ => ⟨⟨0, (v, h', km'), rfl, hw, hM.at ht, hP.at ht, hO.at ht⟩, hS.F ht⟩) hS.2.2 dX0_thank_18 hlocks)
  have caught1 : ∀ (H : Heap) (locs : List Loc) (q9 : Nat), post 1 o h km → va_S (LB ad ai Pm Pi qo s.heap.size) s.heap H locs → XW D cA ad (tw 9) h H → YZ D cA ad ai Pm Pi km H → OZ D cJ qo o H → W p l e (headSpec (wsW_ yX0_thank cX0_thank 5 (some .int) [((0 : Nat), (10 : Nat), (13 : Nat), (18 : Nat))]) ({ frames := 15, cells := 2, slots := 12, locals := 481 })).room s m ([.ref (ad 17), .int a1, .int a2, .ref qo] : List Value).toArray below meth c H locs 2 12 (vx_MQ below (va_Qi (fun r (u : Int64 × Mem × KM) => post r u.1 u.2.1 u.2.2) (fun u t => XW D cA ad (tw 9) u.2.1 t.heap ∧ YZ D cA ad ai Pm Pi u.2.2 t.heap ∧ OZ D cJ qo u.1 t.heap) (LB ad ai Pm Pi qo s.heap.size)) (vx_X (fun _ : Unit => False) (fun _ _ _ => True) (LB ad ai Pm Pi qo s.heap.size)) ([.ref (ad 17), .int a1, .int a2, .ref qo] : List Value).toArray s 2 12 (LB ad ai Pm Pi qo s.heap.size)) (F0 m 13 ls [.ref q9]) := by
    intro H locs q9 hw hS hM hP hO
    refine lv_astore (lv' := (4, .ref q9) :: [(0, .ref (ad 17)), (1, .int a1), (2, .int a2), (3, .ref qo)]) hx hb dX0_thank_13 hl (by decide) rfl (fun ls hl => ?_)
    refine lv_iconst (v := 1) hx hb dX0_thank_15 (by decide) ?_
    exact vx_ret (W.iret hx hb hr (fun t ht _ => ⟨⟨1, (o, h, km), rfl, hw, hM.at ht, hP.at ht, hO.at ht⟩, hS.F ht⟩) hS.2.2 dX0_thank_16 hlocks)
  refine vx_calli (vx_runV (As := [.int a1, .int a2]) (rest := [.int 0, .ref qo]) ⟨hx, hb, hml, hown, hts⟩ (metX1_thank l hlt D cA z0 E tw N ad ai Pm Pi s.heap.size h T _ km a1 a2 hn0 hn1 _ hw) (cwV 2 hts (lw_V q1579 q1580 q1581 q104 q1582) rfl rfl rfl (by decide +kernel) ⟨Nat.le_of_ble_eq_true rfl, Nat.le_of_ble_eq_true rfl⟩) ⟨PhY.blind.pc, hM.recv hK, fun U hU hW => ⟨rfl, by rw [hU], by rw [hU]; exact hM, hJ, hY, hN9, by rw [hU]; exact hP, PhT.go hT hK hZ hS hBz hU hW⟩⟩ rfl rfl hl.1 rfl (lv_room (Nat.le_of_ble_eq_true rfl)) dX0_thank_5 ⟨Nat.le_of_ble_eq_true rfl, Nat.le_of_ble_eq_true rfl⟩) hS (fun q _ h => Or.inl h) (fun q h => Or.inl h) (fun q _ h => Or.inl h) (fun En ce q9 u t H1 locs1 ht hvm hpx hBX hsz9 hk hS hce hcv hcl => ?_) (fun r u t H1 locs1 ht hvm hw hB hsz9 hk hS => ?_)
  · subst ht
    have hO := hO.kept (fun h9 => hk qo h9 (fun h => h.elim hqo.2.1 (fun h => absurd h (Nat.not_le.mpr hqs))))
    obtain ⟨eE, hM, hP⟩ := hBX
    obtain ⟨ej, hpx⟩ := hpx
    subst ej
    subst eE
    exact vx_catch (E := "java/util/NoSuchElementException") (name := "java/util/NoSuchElementException") hown [] ⟨0, 10, 13, 18⟩ [] (htab.trans rfl) (fun z hz => absurd hz (List.not_mem_nil)) (by decide) (by decide) (hts _ q1389) (hZ.2.1.nC 39 rfl) hce hcv hcl (caught1 _ _ q9 hpx hS hM hP hO)
  · subst ht
    have hO := hO.kept (fun h9 => hk qo h9 (fun h => h.elim hqo.2.1 (fun h => absurd h (Nat.not_le.mpr hqs))))
    obtain ⟨hM, hP⟩ := hB
    refine lv_i2l (v := r.toInt64) hx hb dX0_thank_8 rfl ?_
    exact done _ u.1 u.2 _ _ hw hS hM hP hO
def wpX0_carried (post : LPT) (T : TT) (h : Mem) (km : KM) (o : Int64) (a1 : Int32) : Prop :=
  wpX1_carried (fun r h' => post 0 r.toInt64 h' km) h T (fun j => (j = 0 ∧ post 1 o h km)) a1
set_option maxHeartbeats 4000000 in
set_option maxRecDepth 100000 in
theorem metX0_carried (l : Launch) (hlt : l.stackTraces = false) (D : va_G) (cA : Nat → ClassId) (z0 : Nat) (E : Nat → Nat → Nat) (T : TT) (tw : Nat → Nat) (N : Nat → Prop) (ad ai : Nat → Nat) (Pm Pi : Nat → Prop) (cJ : ClassId) (qo sz : Nat) (h : Mem) (km : KM) (o : Int64) (a1 : Int32) (hn0 : T 0 0 < 2 ^ 31) (hn1 : T 0 1 < 2 ^ 31) (post : LPT) (hw : wpX0_carried post T h km o a1) : MeL l D cA z0 E T tw N ad ai Pm Pi cJ qo sz yX0_carried (wsW_ yX0_carried cX0_carried 4 (some .int) [((0 : Nat), (9 : Nat), (12 : Nat), (18 : Nat))]) ({ frames := 15, cells := 2, slots := 12, locals := 481 }) [.ref (ad 17), .int a1, .ref qo] h km o post 2 12 := by
  refine vx_ofWH (cc := cX0_carried) (maxL := 4) (ret := (some .int)) (hh := [((0 : Nat), (9 : Nat), (12 : Nat), (18 : Nat))]) (by decide) rfl ?_
  intro p e s m args below meth c s₁ B hml hv
  obtain ⟨rfl, ⟨hsz, hM, hJ, hY, hN9, hP, hT, hK, hZ⟩, hO, hKJ, hqo, hNc⟩ := hv
  have hx := B.exec
  have hb := B.bytes
  have hr := B.returns
  have hts := atoms_spec (ws := wsW_ yX0_carried cX0_carried 4 (some .int) [((0 : Nat), (9 : Nat), (12 : Nat), (18 : Nat))]) B.pre
  have htab := vx_table (x := yX0_count) B (hts _ List.mem_cons_self)
  have hts : ∀ w ∈ lw_all, w.before _ s = true := fun w h => hts w (List.mem_cons_of_mem _ h)
  have hown : s.vm.findClass RX0 = some m.cls := findClass_of_methodNamed B.named
  have hlocks := B.notSynchronized
  subst hsz
  have hqs : qo < s.heap.size := by obtain ⟨f, -, h9⟩ := hO; exact h9.lt
  have hqx : ¬ XA ad qo := fun h => hqo.2.1 (Or.inl h)
  have hBz : ∀ q, LB ad ai Pm Pi qo s.heap.size q → z0 ≤ q := fun q h => h.elim (YB.z hZ hY hJ q) (fun h => h ▸ hqo.1)
  have hN : ∀ q, N q → ¬ XA ad q := fun q h h2 => hN9 q h (Or.inl h2)
  have hS : va_S (LB ad ai Pm Pi qo s.heap.size) s.heap s.heap [] := va_S.rf
  have hl := lv_entry ([.ref (ad 17), .int a1, .ref qo]) (n := 4) (Nat.le_of_ble_eq_true rfl)
  rw [lg_entry_eq]
  generalize (lg_sl ([.ref (ad 17), .int a1, .ref qo]) ++ List.replicate (4 - (lg_sl ([.ref (ad 17), .int a1, .ref qo])).length) Slot.unset).toArray = ls at hl ⊢
  have hl : lv_has ls 4 [(0, .ref (ad 17)), (1, .int a1), (2, .ref qo)] := hl
  unfold wpX0_carried at hw
  refine lv_aload_n hx hb dX0_carried_0 rfl (lv_at hl 2 rfl) ?_
  refine lv_iconst (v := 0) hx hb dX0_carried_1 (by decide) ?_
  refine lv_aload_n hx hb dX0_carried_2 rfl (lv_at hl 0 rfl) ?_
  refine lv_iload_n hx hb dX0_carried_3 rfl (lv_at hl 1 rfl) ?_
  have done : ∀ (v : Int64) (h' : Mem) (km' : KM) (H : Heap) (locs : List Loc), post 0 v h' km' → va_S (LB ad ai Pm Pi qo s.heap.size) s.heap H locs → XW D cA ad (tw 9) h' H → YZ D cA ad ai Pm Pi km' H → OZ D cJ qo o H → W p l e (headSpec (wsW_ yX0_carried cX0_carried 4 (some .int) [((0 : Nat), (9 : Nat), (12 : Nat), (18 : Nat))]) ({ frames := 15, cells := 2, slots := 12, locals := 481 })).room s m ([.ref (ad 17), .int a1, .ref qo] : List Value).toArray below meth c H locs 2 12 (vx_MQ below (va_Qi (fun r (u : Int64 × Mem × KM) => post r u.1 u.2.1 u.2.2) (fun u t => XW D cA ad (tw 9) u.2.1 t.heap ∧ YZ D cA ad ai Pm Pi u.2.2 t.heap ∧ OZ D cJ qo u.1 t.heap) (LB ad ai Pm Pi qo s.heap.size)) (vx_X (fun _ : Unit => False) (fun _ _ _ => True) (LB ad ai Pm Pi qo s.heap.size)) ([.ref (ad 17), .int a1, .ref qo] : List Value).toArray s 2 12 (LB ad ai Pm Pi qo s.heap.size)) (F0 m 8 ls [.long v, .int 0, .ref qo]) := by
    intro v h' km' H locs hw hS hM hP hO
    obtain ⟨f, hf, hO⟩ := hO
    refine h_last (A := LB ad ai Pm Pi qo s.heap.size) hx hb hKJ hO (Or.inr rfl) hS 0 rfl (j := 0) rfl (by unfold vp_in; decide) dX0_carried_8 (fun H1 locs1 hO1 oq _ hS => ?_)
    refine lv_goto (tgt := 15) hx hb dX0_carried_9 (by decide) ?_
    refine lv_iconst (v := 0) hx hb dX0_carried_15 (by decide) ?_
    have hM := hM.keptX (fun j hj => oq _ (fun e => hqx (e ▸ ⟨j, hj, rfl⟩)))
    have hP := YZ.keptY hP hY (fun q hq _ => oq q (fun e => hqo.2.1 (e ▸ hq)))
    have hO : OZ D cJ qo v H1 := ⟨_, vp_updL_0, hO1⟩
    exact vx_ret (W.iret hx hb hr (fun t ht _ => ⟨⟨0, (v, h', km'), rfl, hw, hM.at ht, hP.at ht, hO.at ht⟩, hS.F ht⟩) hS.2.2 dX0_carried_16 hlocks)
  have caught1 : ∀ (H : Heap) (locs : List Loc) (q9 : Nat), post 1 o h km → va_S (LB ad ai Pm Pi qo s.heap.size) s.heap H locs → XW D cA ad (tw 9) h H → YZ D cA ad ai Pm Pi km H → OZ D cJ qo o H → W p l e (headSpec (wsW_ yX0_carried cX0_carried 4 (some .int) [((0 : Nat), (9 : Nat), (12 : Nat), (18 : Nat))]) ({ frames := 15, cells := 2, slots := 12, locals := 481 })).room s m ([.ref (ad 17), .int a1, .ref qo] : List Value).toArray below meth c H locs 2 12 (vx_MQ below (va_Qi (fun r (u : Int64 × Mem × KM) => post r u.1 u.2.1 u.2.2) (fun u t => XW D cA ad (tw 9) u.2.1 t.heap ∧ YZ D cA ad ai Pm Pi u.2.2 t.heap ∧ OZ D cJ qo u.1 t.heap) (LB ad ai Pm Pi qo s.heap.size)) (vx_X (fun _ : Unit => False) (fun _ _ _ => True) (LB ad ai Pm Pi qo s.heap.size)) ([.ref (ad 17), .int a1, .ref qo] : List Value).toArray s 2 12 (LB ad ai Pm Pi qo s.heap.size)) (F0 m 12 ls [.ref q9]) := by
    intro H locs q9 hw hS hM hP hO
    refine lv_astore_n (lv' := (3, .ref q9) :: [(0, .ref (ad 17)), (1, .int a1), (2, .ref qo)]) hx hb dX0_carried_12 rfl hl (by decide) rfl (fun ls hl => ?_)
    refine lv_iconst (v := 1) hx hb dX0_carried_13 (by decide) ?_
    exact vx_ret (W.iret hx hb hr (fun t ht _ => ⟨⟨1, (o, h, km), rfl, hw, hM.at ht, hP.at ht, hO.at ht⟩, hS.F ht⟩) hS.2.2 dX0_carried_14 hlocks)
  refine vx_calli (vx_runV (As := [.int a1]) (rest := [.int 0, .ref qo]) ⟨hx, hb, hml, hown, hts⟩ (metX1_carried l hlt D cA z0 E tw N ad s.heap.size h T _ a1 hn0 hn1 _ hw) (cwV 1 hts (lw_V q1587 q1588 q1589 q104 q1590) rfl rfl rfl (by decide +kernel) ⟨Nat.le_of_ble_eq_true rfl, Nat.le_of_ble_eq_true rfl⟩) ⟨PhXt.blind.pc, hM.recv hK, fun U hU hW => ⟨rfl, by rw [hU], by rw [hU]; exact hM, hJ, hN, PhT.go hT hK hZ hS hBz hU hW⟩⟩ rfl rfl hl.1 rfl (lv_room (Nat.le_of_ble_eq_true rfl)) dX0_carried_4 ⟨Nat.le_of_ble_eq_true rfl, Nat.le_of_ble_eq_true rfl⟩) hS (fun q _ h => Or.inl (h.elim (fun h => Or.inl (Or.inl h)) (fun h => Or.inr h))) (fun q h => Or.inl (h.elim (fun h => Or.inl (Or.inl h)) (fun h => Or.inr h))) (fun q _ h => Or.inl (h.elim (fun h => Or.inl (Or.inl h)) (fun h => Or.inr h))) (fun En ce q9 u t H1 locs1 ht hvm hpx hBX hsz9 hk hS hce hcv hcl => ?_) (fun r u t H1 locs1 ht hvm hw hB hsz9 hk hS => ?_)
  · subst ht
    have hO := hO.kept (fun h9 => hk qo h9 (fun h => h.elim hqx (fun h => absurd h (Nat.not_le.mpr hqs))))
    have hP := hP.kept hY hJ (fun q hz hn => hk q hz (fun h => h.elim hn (fun h => absurd h (Nat.not_le.mpr hz))))
    obtain ⟨eE, hM⟩ := hBX
    obtain ⟨ej, hpx⟩ := hpx
    subst ej
    subst eE
    exact vx_catch (E := "java/util/NoSuchElementException") (name := "java/util/NoSuchElementException") hown [] ⟨0, 9, 12, 18⟩ [] (htab.trans rfl) (fun z hz => absurd hz (List.not_mem_nil)) (by decide) (by decide) (hts _ q1389) (hZ.2.1.nC 39 rfl) hce hcv hcl (caught1 _ _ q9 hpx hS hM hP hO)
  · subst ht
    have hO := hO.kept (fun h9 => hk qo h9 (fun h => h.elim hqx (fun h => absurd h (Nat.not_le.mpr hqs))))
    have hP := hP.kept hY hJ (fun q hz hn => hk q hz (fun h => h.elim hn (fun h => absurd h (Nat.not_le.mpr hz))))
    have hM := hB
    refine lv_i2l (v := r.toInt64) hx hb dX0_carried_7 rfl ?_
    exact done _ u km _ _ hw hS hM hP hO
def wpX0_see (post : LPT) (T : TT) (h : Mem) (km : KM) (o : Int64) (a1 : Int32) (a2 : Int32) (a3 : Int32) : Prop :=
  wpX1_see (fun r h' => post 0 r.toInt64 h' km) h T (fun j => (j = 0 ∧ post 1 o h km)) a1 a2 a3
set_option maxHeartbeats 4000000 in
set_option maxRecDepth 100000 in
theorem metX0_see (l : Launch) (hlt : l.stackTraces = false) (D : va_G) (cA : Nat → ClassId) (z0 : Nat) (E : Nat → Nat → Nat) (T : TT) (tw : Nat → Nat) (N : Nat → Prop) (ad ai : Nat → Nat) (Pm Pi : Nat → Prop) (cJ : ClassId) (qo sz : Nat) (h : Mem) (km : KM) (o : Int64) (a1 : Int32) (a2 : Int32) (a3 : Int32) (hn0 : T 0 0 < 2 ^ 31) (hn1 : T 0 1 < 2 ^ 31) (post : LPT) (hw : wpX0_see post T h km o a1 a2 a3) : MeL l D cA z0 E T tw N ad ai Pm Pi cJ qo sz yX0_see (wsW_ yX0_see cX0_see 6 (some .int) [((0 : Nat), (12 : Nat), (15 : Nat), (18 : Nat))]) ({ frames := 15, cells := 1, slots := 6, locals := 481 }) [.ref (ad 17), .int a1, .int a2, .int a3, .ref qo] h km o post 1 6 := by
  refine vx_ofWH (cc := cX0_see) (maxL := 6) (ret := (some .int)) (hh := [((0 : Nat), (12 : Nat), (15 : Nat), (18 : Nat))]) (by decide) rfl ?_
  intro p e s m args below meth c s₁ B hml hv
  obtain ⟨rfl, ⟨hsz, hM, hJ, hY, hN9, hP, hT, hK, hZ⟩, hO, hKJ, hqo, hNc⟩ := hv
  have hx := B.exec
  have hb := B.bytes
  have hr := B.returns
  have hts := atoms_spec (ws := wsW_ yX0_see cX0_see 6 (some .int) [((0 : Nat), (12 : Nat), (15 : Nat), (18 : Nat))]) B.pre
  have htab := vx_table (x := yX0_count) B (hts _ List.mem_cons_self)
  have hts : ∀ w ∈ lw_all, w.before _ s = true := fun w h => hts w (List.mem_cons_of_mem _ h)
  have hown : s.vm.findClass RX0 = some m.cls := findClass_of_methodNamed B.named
  have hlocks := B.notSynchronized
  subst hsz
  have hqs : qo < s.heap.size := by obtain ⟨f, -, h9⟩ := hO; exact h9.lt
  have hqx : ¬ XA ad qo := fun h => hqo.2.1 (Or.inl h)
  have hBz : ∀ q, LB ad ai Pm Pi qo s.heap.size q → z0 ≤ q := fun q h => h.elim (YB.z hZ hY hJ q) (fun h => h ▸ hqo.1)
  have hN : ∀ q, N q → ¬ XA ad q := fun q h h2 => hN9 q h (Or.inl h2)
  have hS : va_S (LB ad ai Pm Pi qo s.heap.size) s.heap s.heap [] := va_S.rf
  have hl := lv_entry ([.ref (ad 17), .int a1, .int a2, .int a3, .ref qo]) (n := 6) (Nat.le_of_ble_eq_true rfl)
  rw [lg_entry_eq]
  generalize (lg_sl ([.ref (ad 17), .int a1, .int a2, .int a3, .ref qo]) ++ List.replicate (6 - (lg_sl ([.ref (ad 17), .int a1, .int a2, .int a3, .ref qo])).length) Slot.unset).toArray = ls at hl ⊢
  have hl : lv_has ls 6 [(0, .ref (ad 17)), (1, .int a1), (2, .int a2), (3, .int a3), (4, .ref qo)] := hl
  unfold wpX0_see at hw
  refine lv_aload hx hb dX0_see_0 (lv_at hl 4 rfl) ?_
  refine lv_iconst (v := 0) hx hb dX0_see_2 (by decide) ?_
  refine lv_aload_n hx hb dX0_see_3 rfl (lv_at hl 0 rfl) ?_
  refine lv_iload_n hx hb dX0_see_4 rfl (lv_at hl 1 rfl) ?_
  refine lv_iload_n hx hb dX0_see_5 rfl (lv_at hl 2 rfl) ?_
  refine lv_iload_n hx hb dX0_see_6 rfl (lv_at hl 3 rfl) ?_
  have done : ∀ (v : Int64) (h' : Mem) (km' : KM) (H : Heap) (locs : List Loc), post 0 v h' km' → va_S (LB ad ai Pm Pi qo s.heap.size) s.heap H locs → XW D cA ad (tw 9) h' H → YZ D cA ad ai Pm Pi km' H → OZ D cJ qo o H → W p l e (headSpec (wsW_ yX0_see cX0_see 6 (some .int) [((0 : Nat), (12 : Nat), (15 : Nat), (18 : Nat))]) ({ frames := 15, cells := 1, slots := 6, locals := 481 })).room s m ([.ref (ad 17), .int a1, .int a2, .int a3, .ref qo] : List Value).toArray below meth c H locs 1 6 (vx_MQ below (va_Qi (fun r (u : Int64 × Mem × KM) => post r u.1 u.2.1 u.2.2) (fun u t => XW D cA ad (tw 9) u.2.1 t.heap ∧ YZ D cA ad ai Pm Pi u.2.2 t.heap ∧ OZ D cJ qo u.1 t.heap) (LB ad ai Pm Pi qo s.heap.size)) (vx_X (fun _ : Unit => False) (fun _ _ _ => True) (LB ad ai Pm Pi qo s.heap.size)) ([.ref (ad 17), .int a1, .int a2, .int a3, .ref qo] : List Value).toArray s 1 6 (LB ad ai Pm Pi qo s.heap.size)) (F0 m 11 ls [.long v, .int 0, .ref qo]) := by
    intro v h' km' H locs hw hS hM hP hO
    obtain ⟨f, hf, hO⟩ := hO
    refine h_last (A := LB ad ai Pm Pi qo s.heap.size) hx hb hKJ hO (Or.inr rfl) hS 0 rfl (j := 0) rfl (by unfold vp_in; decide) dX0_see_11 (fun H1 locs1 hO1 oq _ hS => ?_)
    refine lv_goto (tgt := 19) hx hb dX0_see_12 (by decide) ?_
    refine lv_iconst (v := 0) hx hb dX0_see_19 (by decide) ?_
    have hM := hM.keptX (fun j hj => oq _ (fun e => hqx (e ▸ ⟨j, hj, rfl⟩)))
    have hP := YZ.keptY hP hY (fun q hq _ => oq q (fun e => hqo.2.1 (e ▸ hq)))
    have hO : OZ D cJ qo v H1 := ⟨_, vp_updL_0, hO1⟩
    exact vx_ret (W.iret hx hb hr (fun t ht _ => ⟨⟨0, (v, h', km'), rfl, hw, hM.at ht, hP.at ht, hO.at ht⟩, hS.F ht⟩) hS.2.2 dX0_see_20 hlocks)
  have caught1 : ∀ (H : Heap) (locs : List Loc) (q9 : Nat), post 1 o h km → va_S (LB ad ai Pm Pi qo s.heap.size) s.heap H locs → XW D cA ad (tw 9) h H → YZ D cA ad ai Pm Pi km H → OZ D cJ qo o H → W p l e (headSpec (wsW_ yX0_see cX0_see 6 (some .int) [((0 : Nat), (12 : Nat), (15 : Nat), (18 : Nat))]) ({ frames := 15, cells := 1, slots := 6, locals := 481 })).room s m ([.ref (ad 17), .int a1, .int a2, .int a3, .ref qo] : List Value).toArray below meth c H locs 1 6 (vx_MQ below (va_Qi (fun r (u : Int64 × Mem × KM) => post r u.1 u.2.1 u.2.2) (fun u t => XW D cA ad (tw 9) u.2.1 t.heap ∧ YZ D cA ad ai Pm Pi u.2.2 t.heap ∧ OZ D cJ qo u.1 t.heap) (LB ad ai Pm Pi qo s.heap.size)) (vx_X (fun _ : Unit => False) (fun _ _ _ => True) (LB ad ai Pm Pi qo s.heap.size)) ([.ref (ad 17), .int a1, .int a2, .int a3, .ref qo] : List Value).toArray s 1 6 (LB ad ai Pm Pi qo s.heap.size)) (F0 m 15 ls [.ref q9]) := by
    intro H locs q9 hw hS hM hP hO
    refine lv_astore (lv' := (5, .ref q9) :: [(0, .ref (ad 17)), (1, .int a1), (2, .int a2), (3, .int a3), (4, .ref qo)]) hx hb dX0_see_15 hl (by decide) rfl (fun ls hl => ?_)
    refine lv_iconst (v := 1) hx hb dX0_see_17 (by decide) ?_
    exact vx_ret (W.iret hx hb hr (fun t ht _ => ⟨⟨1, (o, h, km), rfl, hw, hM.at ht, hP.at ht, hO.at ht⟩, hS.F ht⟩) hS.2.2 dX0_see_18 hlocks)
  refine vx_calli (vx_runV (As := [.int a1, .int a2, .int a3]) (rest := [.int 0, .ref qo]) ⟨hx, hb, hml, hown, hts⟩ (metX1_see l hlt D cA z0 E tw N ad s.heap.size h T _ a1 a2 a3 hn0 hn1 _ hw) (cwV 3 hts (lw_V q1594 q1595 q1596 q104 q1597) rfl rfl rfl (by decide +kernel) ⟨Nat.le_of_ble_eq_true rfl, Nat.le_of_ble_eq_true rfl⟩) ⟨PhXt.blind.pc, hM.recv hK, fun U hU hW => ⟨rfl, by rw [hU], by rw [hU]; exact hM, hJ, hN, PhT.go hT hK hZ hS hBz hU hW⟩⟩ rfl rfl hl.1 rfl (lv_room (Nat.le_of_ble_eq_true rfl)) dX0_see_7 ⟨Nat.le_of_ble_eq_true rfl, Nat.le_of_ble_eq_true rfl⟩) hS (fun q _ h => Or.inl (h.elim (fun h => Or.inl (Or.inl h)) (fun h => Or.inr h))) (fun q h => Or.inl (h.elim (fun h => Or.inl (Or.inl h)) (fun h => Or.inr h))) (fun q _ h => Or.inl (h.elim (fun h => Or.inl (Or.inl h)) (fun h => Or.inr h))) (fun En ce q9 u t H1 locs1 ht hvm hpx hBX hsz9 hk hS hce hcv hcl => ?_) (fun r u t H1 locs1 ht hvm hw hB hsz9 hk hS => ?_)
  · subst ht
    have hO := hO.kept (fun h9 => hk qo h9 (fun h => h.elim hqx (fun h => absurd h (Nat.not_le.mpr hqs))))
    have hP := hP.kept hY hJ (fun q hz hn => hk q hz (fun h => h.elim hn (fun h => absurd h (Nat.not_le.mpr hz))))
    obtain ⟨eE, hM⟩ := hBX
    obtain ⟨ej, hpx⟩ := hpx
    subst ej
    subst eE
    exact vx_catch (E := "java/util/NoSuchElementException") (name := "java/util/NoSuchElementException") hown [] ⟨0, 12, 15, 18⟩ [] (htab.trans rfl) (fun z hz => absurd hz (List.not_mem_nil)) (by decide) (by decide) (hts _ q1389) (hZ.2.1.nC 39 rfl) hce hcv hcl (caught1 _ _ q9 hpx hS hM hP hO)
  · subst ht
    have hO := hO.kept (fun h9 => hk qo h9 (fun h => h.elim hqx (fun h => absurd h (Nat.not_le.mpr hqs))))
    have hP := hP.kept hY hJ (fun q hz hn => hk q hz (fun h => h.elim hn (fun h => absurd h (Nat.not_le.mpr hz))))
    have hM := hB
    refine lv_i2l (v := r.toInt64) hx hb dX0_see_10 rfl ?_
    exact done _ u km _ _ hw hS hM hP hO
def wpX0_who (post : LPT) (T : TT) (h : Mem) (km : KM) (o : Int64) (a1 : Int32) : Prop :=
  wpX1_who (fun r h' => post 0 r.toInt64 h' km) h T (fun j => (j = 0 ∧ post 1 o h km)) a1
set_option maxHeartbeats 4000000 in
set_option maxRecDepth 100000 in
theorem metX0_who (l : Launch) (hlt : l.stackTraces = false) (D : va_G) (cA : Nat → ClassId) (z0 : Nat) (E : Nat → Nat → Nat) (T : TT) (tw : Nat → Nat) (N : Nat → Prop) (ad ai : Nat → Nat) (Pm Pi : Nat → Prop) (cJ : ClassId) (qo sz : Nat) (h : Mem) (km : KM) (o : Int64) (a1 : Int32) (hn0 : T 0 0 < 2 ^ 31) (hn1 : T 0 1 < 2 ^ 31) (post : LPT) (hw : wpX0_who post T h km o a1) : MeL l D cA z0 E T tw N ad ai Pm Pi cJ qo sz yX0_who (wsW_ yX0_who cX0_who 4 (some .int) [((0 : Nat), (9 : Nat), (12 : Nat), (18 : Nat))]) ({ frames := 724, cells := 1, slots := 6, locals := 40114 }) [.ref (ad 17), .int a1, .ref qo] h km o post 1 6 := by
  refine vx_ofWH (cc := cX0_who) (maxL := 4) (ret := (some .int)) (hh := [((0 : Nat), (9 : Nat), (12 : Nat), (18 : Nat))]) (by decide) rfl ?_
  intro p e s m args below meth c s₁ B hml hv
  obtain ⟨rfl, ⟨hsz, hM, hJ, hY, hN9, hP, hT, hK, hZ⟩, hO, hKJ, hqo, hNc⟩ := hv
  have hx := B.exec
  have hb := B.bytes
  have hr := B.returns
  have hts := atoms_spec (ws := wsW_ yX0_who cX0_who 4 (some .int) [((0 : Nat), (9 : Nat), (12 : Nat), (18 : Nat))]) B.pre
  have htab := vx_table (x := yX0_count) B (hts _ List.mem_cons_self)
  have hts : ∀ w ∈ lw_all, w.before _ s = true := fun w h => hts w (List.mem_cons_of_mem _ h)
  have hown : s.vm.findClass RX0 = some m.cls := findClass_of_methodNamed B.named
  have hlocks := B.notSynchronized
  subst hsz
  have hqs : qo < s.heap.size := by obtain ⟨f, -, h9⟩ := hO; exact h9.lt
  have hqx : ¬ XA ad qo := fun h => hqo.2.1 (Or.inl h)
  have hBz : ∀ q, LB ad ai Pm Pi qo s.heap.size q → z0 ≤ q := fun q h => h.elim (YB.z hZ hY hJ q) (fun h => h ▸ hqo.1)
  have hN : ∀ q, N q → ¬ XA ad q := fun q h h2 => hN9 q h (Or.inl h2)
  have hS : va_S (LB ad ai Pm Pi qo s.heap.size) s.heap s.heap [] := va_S.rf
  have hl := lv_entry ([.ref (ad 17), .int a1, .ref qo]) (n := 4) (Nat.le_of_ble_eq_true rfl)
  rw [lg_entry_eq]
  generalize (lg_sl ([.ref (ad 17), .int a1, .ref qo]) ++ List.replicate (4 - (lg_sl ([.ref (ad 17), .int a1, .ref qo])).length) Slot.unset).toArray = ls at hl ⊢
  have hl : lv_has ls 4 [(0, .ref (ad 17)), (1, .int a1), (2, .ref qo)] := hl
  unfold wpX0_who at hw
  refine lv_aload_n hx hb dX0_who_0 rfl (lv_at hl 2 rfl) ?_
  refine lv_iconst (v := 0) hx hb dX0_who_1 (by decide) ?_
  refine lv_aload_n hx hb dX0_who_2 rfl (lv_at hl 0 rfl) ?_
  refine lv_iload_n hx hb dX0_who_3 rfl (lv_at hl 1 rfl) ?_
  have done : ∀ (v : Int64) (h' : Mem) (km' : KM) (H : Heap) (locs : List Loc), post 0 v h' km' → va_S (LB ad ai Pm Pi qo s.heap.size) s.heap H locs → XW D cA ad (tw 9) h' H → YZ D cA ad ai Pm Pi km' H → OZ D cJ qo o H → W p l e (headSpec (wsW_ yX0_who cX0_who 4 (some .int) [((0 : Nat), (9 : Nat), (12 : Nat), (18 : Nat))]) ({ frames := 724, cells := 1, slots := 6, locals := 40114 })).room s m ([.ref (ad 17), .int a1, .ref qo] : List Value).toArray below meth c H locs 1 6 (vx_MQ below (va_Qi (fun r (u : Int64 × Mem × KM) => post r u.1 u.2.1 u.2.2) (fun u t => XW D cA ad (tw 9) u.2.1 t.heap ∧ YZ D cA ad ai Pm Pi u.2.2 t.heap ∧ OZ D cJ qo u.1 t.heap) (LB ad ai Pm Pi qo s.heap.size)) (vx_X (fun _ : Unit => False) (fun _ _ _ => True) (LB ad ai Pm Pi qo s.heap.size)) ([.ref (ad 17), .int a1, .ref qo] : List Value).toArray s 1 6 (LB ad ai Pm Pi qo s.heap.size)) (F0 m 8 ls [.long v, .int 0, .ref qo]) := by
    intro v h' km' H locs hw hS hM hP hO
    obtain ⟨f, hf, hO⟩ := hO
    refine h_last (A := LB ad ai Pm Pi qo s.heap.size) hx hb hKJ hO (Or.inr rfl) hS 0 rfl (j := 0) rfl (by unfold vp_in; decide) dX0_who_8 (fun H1 locs1 hO1 oq _ hS => ?_)
    refine lv_goto (tgt := 15) hx hb dX0_who_9 (by decide) ?_
    refine lv_iconst (v := 0) hx hb dX0_who_15 (by decide) ?_
    have hM := hM.keptX (fun j hj => oq _ (fun e => hqx (e ▸ ⟨j, hj, rfl⟩)))
    have hP := YZ.keptY hP hY (fun q hq _ => oq q (fun e => hqo.2.1 (e ▸ hq)))
    have hO : OZ D cJ qo v H1 := ⟨_, vp_updL_0, hO1⟩
    exact vx_ret (W.iret hx hb hr (fun t ht _ => ⟨⟨0, (v, h', km'), rfl, hw, hM.at ht, hP.at ht, hO.at ht⟩, hS.F ht⟩) hS.2.2 dX0_who_16 hlocks)
  have caught1 : ∀ (H : Heap) (locs : List Loc) (q9 : Nat), post 1 o h km → va_S (LB ad ai Pm Pi qo s.heap.size) s.heap H locs → XW D cA ad (tw 9) h H → YZ D cA ad ai Pm Pi km H → OZ D cJ qo o H → W p l e (headSpec (wsW_ yX0_who cX0_who 4 (some .int) [((0 : Nat), (9 : Nat), (12 : Nat), (18 : Nat))]) ({ frames := 724, cells := 1, slots := 6, locals := 40114 })).room s m ([.ref (ad 17), .int a1, .ref qo] : List Value).toArray below meth c H locs 1 6 (vx_MQ below (va_Qi (fun r (u : Int64 × Mem × KM) => post r u.1 u.2.1 u.2.2) (fun u t => XW D cA ad (tw 9) u.2.1 t.heap ∧ YZ D cA ad ai Pm Pi u.2.2 t.heap ∧ OZ D cJ qo u.1 t.heap) (LB ad ai Pm Pi qo s.heap.size)) (vx_X (fun _ : Unit => False) (fun _ _ _ => True) (LB ad ai Pm Pi qo s.heap.size)) ([.ref (ad 17), .int a1, .ref qo] : List Value).toArray s 1 6 (LB ad ai Pm Pi qo s.heap.size)) (F0 m 12 ls [.ref q9]) := by
    intro H locs q9 hw hS hM hP hO
    refine lv_astore_n (lv' := (3, .ref q9) :: [(0, .ref (ad 17)), (1, .int a1), (2, .ref qo)]) hx hb dX0_who_12 rfl hl (by decide) rfl (fun ls hl => ?_)
    refine lv_iconst (v := 1) hx hb dX0_who_13 (by decide) ?_
    exact vx_ret (W.iret hx hb hr (fun t ht _ => ⟨⟨1, (o, h, km), rfl, hw, hM.at ht, hP.at ht, hO.at ht⟩, hS.F ht⟩) hS.2.2 dX0_who_14 hlocks)
  refine vx_calli (vx_runV (As := [.int a1]) (rest := [.int 0, .ref qo]) ⟨hx, hb, hml, hown, hts⟩ (metX1_who l hlt D cA z0 E tw N ad s.heap.size h T _ a1 hn0 hn1 _ hw) (cwV 1 hts (lw_V q1601 q1602 q1603 q104 q1604) rfl rfl rfl (by decide +kernel) ⟨Nat.le_of_ble_eq_true rfl, Nat.le_of_ble_eq_true rfl⟩) ⟨PhXt.blind.pc, hM.recv hK, fun U hU hW => ⟨rfl, by rw [hU], by rw [hU]; exact hM, hJ, hN, PhT.go hT hK hZ hS hBz hU hW⟩⟩ rfl rfl hl.1 rfl (lv_room (Nat.le_of_ble_eq_true rfl)) dX0_who_4 ⟨Nat.le_of_ble_eq_true rfl, Nat.le_of_ble_eq_true rfl⟩) hS (fun q _ h => Or.inl (h.elim (fun h => Or.inl (Or.inl h)) (fun h => Or.inr h))) (fun q h => Or.inl (h.elim (fun h => Or.inl (Or.inl h)) (fun h => Or.inr h))) (fun q _ h => Or.inl (h.elim (fun h => Or.inl (Or.inl h)) (fun h => Or.inr h))) (fun En ce q9 u t H1 locs1 ht hvm hpx hBX hsz9 hk hS hce hcv hcl => ?_) (fun r u t H1 locs1 ht hvm hw hB hsz9 hk hS => ?_)
  · subst ht
    have hO := hO.kept (fun h9 => hk qo h9 (fun h => h.elim hqx (fun h => absurd h (Nat.not_le.mpr hqs))))
    have hP := hP.kept hY hJ (fun q hz hn => hk q hz (fun h => h.elim hn (fun h => absurd h (Nat.not_le.mpr hz))))
    obtain ⟨eE, hM⟩ := hBX
    obtain ⟨ej, hpx⟩ := hpx
    subst ej
    subst eE
    exact vx_catch (E := "java/util/NoSuchElementException") (name := "java/util/NoSuchElementException") hown [] ⟨0, 9, 12, 18⟩ [] (htab.trans rfl) (fun z hz => absurd hz (List.not_mem_nil)) (by decide) (by decide) (hts _ q1389) (hZ.2.1.nC 39 rfl) hce hcv hcl (caught1 _ _ q9 hpx hS hM hP hO)
  · subst ht
    have hO := hO.kept (fun h9 => hk qo h9 (fun h => h.elim hqx (fun h => absurd h (Nat.not_le.mpr hqs))))
    have hP := hP.kept hY hJ (fun q hz hn => hk q hz (fun h => h.elim hn (fun h => absurd h (Nat.not_le.mpr hz))))
    have hM := hB
    refine lv_i2l (v := r.toInt64) hx hb dX0_who_7 rfl ?_
    exact done _ u km _ _ hw hS hM hP hO
def wpX0_balk (post : LPT) (T : TT) (h : Mem) (km : KM) (o : Int64) (a1 : Int32) (a2 : Int32) : Prop :=
  wpX1_balk (fun r h' => post 0 r.toInt64 h' km) h T (fun j => (j = 0 ∧ post 1 o h km)) a1 a2
set_option maxHeartbeats 4000000 in
set_option maxRecDepth 100000 in
theorem metX0_balk (l : Launch) (hlt : l.stackTraces = false) (D : va_G) (cA : Nat → ClassId) (z0 : Nat) (E : Nat → Nat → Nat) (T : TT) (tw : Nat → Nat) (N : Nat → Prop) (ad ai : Nat → Nat) (Pm Pi : Nat → Prop) (cJ : ClassId) (qo sz : Nat) (h : Mem) (km : KM) (o : Int64) (a1 : Int32) (a2 : Int32) (hn0 : T 0 0 < 2 ^ 31) (hn1 : T 0 1 < 2 ^ 31) (post : LPT) (hw : wpX0_balk post T h km o a1 a2) : MeL l D cA z0 E T tw N ad ai Pm Pi cJ qo sz yX0_balk (wsW_ yX0_balk cX0_balk 5 (some .int) [((0 : Nat), (10 : Nat), (13 : Nat), (18 : Nat))]) ({ frames := 15, cells := 2, slots := 12, locals := 481 }) [.ref (ad 17), .int a1, .int a2, .ref qo] h km o post 2 12 := by
  refine vx_ofWH (cc := cX0_balk) (maxL := 5) (ret := (some .int)) (hh := [((0 : Nat), (10 : Nat), (13 : Nat), (18 : Nat))]) (by decide) rfl ?_
  intro p e s m args below meth c s₁ B hml hv
  obtain ⟨rfl, ⟨hsz, hM, hJ, hY, hN9, hP, hT, hK, hZ⟩, hO, hKJ, hqo, hNc⟩ := hv
  have hx := B.exec
  have hb := B.bytes
  have hr := B.returns
  have hts := atoms_spec (ws := wsW_ yX0_balk cX0_balk 5 (some .int) [((0 : Nat), (10 : Nat), (13 : Nat), (18 : Nat))]) B.pre
  have htab := vx_table (x := yX0_count) B (hts _ List.mem_cons_self)
  have hts : ∀ w ∈ lw_all, w.before _ s = true := fun w h => hts w (List.mem_cons_of_mem _ h)
  have hown : s.vm.findClass RX0 = some m.cls := findClass_of_methodNamed B.named
  have hlocks := B.notSynchronized
  subst hsz
  have hqs : qo < s.heap.size := by obtain ⟨f, -, h9⟩ := hO; exact h9.lt
  have hqx : ¬ XA ad qo := fun h => hqo.2.1 (Or.inl h)
  have hBz : ∀ q, LB ad ai Pm Pi qo s.heap.size q → z0 ≤ q := fun q h => h.elim (YB.z hZ hY hJ q) (fun h => h ▸ hqo.1)
  have hN : ∀ q, N q → ¬ XA ad q := fun q h h2 => hN9 q h (Or.inl h2)
  have hS : va_S (LB ad ai Pm Pi qo s.heap.size) s.heap s.heap [] := va_S.rf
  have hl := lv_entry ([.ref (ad 17), .int a1, .int a2, .ref qo]) (n := 5) (Nat.le_of_ble_eq_true rfl)
  rw [lg_entry_eq]
  generalize (lg_sl ([.ref (ad 17), .int a1, .int a2, .ref qo]) ++ List.replicate (5 - (lg_sl ([.ref (ad 17), .int a1, .int a2, .ref qo])).length) Slot.unset).toArray = ls at hl ⊢
  have hl : lv_has ls 5 [(0, .ref (ad 17)), (1, .int a1), (2, .int a2), (3, .ref qo)] := hl
  unfold wpX0_balk at hw
  refine lv_aload_n hx hb dX0_balk_0 rfl (lv_at hl 3 rfl) ?_
  refine lv_iconst (v := 0) hx hb dX0_balk_1 (by decide) ?_
  refine lv_aload_n hx hb dX0_balk_2 rfl (lv_at hl 0 rfl) ?_
  refine lv_iload_n hx hb dX0_balk_3 rfl (lv_at hl 1 rfl) ?_
  refine lv_iload_n hx hb dX0_balk_4 rfl (lv_at hl 2 rfl) ?_
  have done : ∀ (v : Int64) (h' : Mem) (km' : KM) (H : Heap) (locs : List Loc), post 0 v h' km' → va_S (LB ad ai Pm Pi qo s.heap.size) s.heap H locs → XW D cA ad (tw 9) h' H → YZ D cA ad ai Pm Pi km' H → OZ D cJ qo o H → W p l e (headSpec (wsW_ yX0_balk cX0_balk 5 (some .int) [((0 : Nat), (10 : Nat), (13 : Nat), (18 : Nat))]) ({ frames := 15, cells := 2, slots := 12, locals := 481 })).room s m ([.ref (ad 17), .int a1, .int a2, .ref qo] : List Value).toArray below meth c H locs 2 12 (vx_MQ below (va_Qi (fun r (u : Int64 × Mem × KM) => post r u.1 u.2.1 u.2.2) (fun u t => XW D cA ad (tw 9) u.2.1 t.heap ∧ YZ D cA ad ai Pm Pi u.2.2 t.heap ∧ OZ D cJ qo u.1 t.heap) (LB ad ai Pm Pi qo s.heap.size)) (vx_X (fun _ : Unit => False) (fun _ _ _ => True) (LB ad ai Pm Pi qo s.heap.size)) ([.ref (ad 17), .int a1, .int a2, .ref qo] : List Value).toArray s 2 12 (LB ad ai Pm Pi qo s.heap.size)) (F0 m 9 ls [.long v, .int 0, .ref qo]) := by
    intro v h' km' H locs hw hS hM hP hO
    obtain ⟨f, hf, hO⟩ := hO
    refine h_last (A := LB ad ai Pm Pi qo s.heap.size) hx hb hKJ hO (Or.inr rfl) hS 0 rfl (j := 0) rfl (by unfold vp_in; decide) dX0_balk_9 (fun H1 locs1 hO1 oq _ hS => ?_)
    refine lv_goto (tgt := 17) hx hb dX0_balk_10 (by decide) ?_
    refine lv_iconst (v := 0) hx hb dX0_balk_17 (by decide) ?_
    have hM := hM.keptX (fun j hj => oq _ (fun e => hqx (e ▸ ⟨j, hj, rfl⟩)))
    have hP := YZ.keptY hP hY (fun q hq _ => oq q (fun e => hqo.2.1 (e ▸ hq)))
    have hO : OZ D cJ qo v H1 := ⟨_, vp_updL_0, hO1⟩
    exact vx_ret (W.iret hx hb hr (fun t ht _ => ⟨⟨0, (v, h', km'), rfl, hw, hM.at ht, hP.at ht, hO.at ht⟩, hS.F ht⟩) hS.2.2 dX0_balk_18 hlocks)
  have caught1 : ∀ (H : Heap) (locs : List Loc) (q9 : Nat), post 1 o h km → va_S (LB ad ai Pm Pi qo s.heap.size) s.heap H locs → XW D cA ad (tw 9) h H → YZ D cA ad ai Pm Pi km H → OZ D cJ qo o H → W p l e (headSpec (wsW_ yX0_balk cX0_balk 5 (some .int) [((0 : Nat), (10 : Nat), (13 : Nat), (18 : Nat))]) ({ frames := 15, cells := 2, slots := 12, locals := 481 })).room s m ([.ref (ad 17), .int a1, .int a2, .ref qo] : List Value).toArray below meth c H locs 2 12 (vx_MQ below (va_Qi (fun r (u : Int64 × Mem × KM) => post r u.1 u.2.1 u.2.2) (fun u t => XW D cA ad (tw 9) u.2.1 t.heap ∧ YZ D cA ad ai Pm Pi u.2.2 t.heap ∧ OZ D cJ qo u.1 t.heap) (LB ad ai Pm Pi qo s.heap.size)) (vx_X (fun _ : Unit => False) (fun _ _ _ => True) (LB ad ai Pm Pi qo s.heap.size)) ([.ref (ad 17), .int a1, .int a2, .ref qo] : List Value).toArray s 2 12 (LB ad ai Pm Pi qo s.heap.size)) (F0 m 13 ls [.ref q9]) := by
    intro H locs q9 hw hS hM hP hO
    refine lv_astore (lv' := (4, .ref q9) :: [(0, .ref (ad 17)), (1, .int a1), (2, .int a2), (3, .ref qo)]) hx hb dX0_balk_13 hl (by decide) rfl (fun ls hl => ?_)
    refine lv_iconst (v := 1) hx hb dX0_balk_15 (by decide) ?_
    exact vx_ret (W.iret hx hb hr (fun t ht _ => ⟨⟨1, (o, h, km), rfl, hw, hM.at ht, hP.at ht, hO.at ht⟩, hS.F ht⟩) hS.2.2 dX0_balk_16 hlocks)
  refine vx_calli (vx_runV (As := [.int a1, .int a2]) (rest := [.int 0, .ref qo]) ⟨hx, hb, hml, hown, hts⟩ (metX1_balk l hlt D cA z0 E tw N ad s.heap.size h T _ a1 a2 hn0 hn1 _ hw) (cwV 2 hts (lw_V q1609 q1610 q1611 q104 q1612) rfl rfl rfl (by decide +kernel) ⟨Nat.le_of_ble_eq_true rfl, Nat.le_of_ble_eq_true rfl⟩) ⟨PhXt.blind.pc, hM.recv hK, fun U hU hW => ⟨rfl, by rw [hU], by rw [hU]; exact hM, hJ, hN, PhT.go hT hK hZ hS hBz hU hW⟩⟩ rfl rfl hl.1 rfl (lv_room (Nat.le_of_ble_eq_true rfl)) dX0_balk_5 ⟨Nat.le_of_ble_eq_true rfl, Nat.le_of_ble_eq_true rfl⟩) hS (fun q _ h => Or.inl (h.elim (fun h => Or.inl (Or.inl h)) (fun h => Or.inr h))) (fun q h => Or.inl (h.elim (fun h => Or.inl (Or.inl h)) (fun h => Or.inr h))) (fun q _ h => Or.inl (h.elim (fun h => Or.inl (Or.inl h)) (fun h => Or.inr h))) (fun En ce q9 u t H1 locs1 ht hvm hpx hBX hsz9 hk hS hce hcv hcl => ?_) (fun r u t H1 locs1 ht hvm hw hB hsz9 hk hS => ?_)
  · subst ht
    have hO := hO.kept (fun h9 => hk qo h9 (fun h => h.elim hqx (fun h => absurd h (Nat.not_le.mpr hqs))))
    have hP := hP.kept hY hJ (fun q hz hn => hk q hz (fun h => h.elim hn (fun h => absurd h (Nat.not_le.mpr hz))))
    obtain ⟨eE, hM⟩ := hBX
    obtain ⟨ej, hpx⟩ := hpx
    subst ej
    subst eE
    exact vx_catch (E := "java/util/NoSuchElementException") (name := "java/util/NoSuchElementException") hown [] ⟨0, 10, 13, 18⟩ [] (htab.trans rfl) (fun z hz => absurd hz (List.not_mem_nil)) (by decide) (by decide) (hts _ q1389) (hZ.2.1.nC 39 rfl) hce hcv hcl (caught1 _ _ q9 hpx hS hM hP hO)
  · subst ht
    have hO := hO.kept (fun h9 => hk qo h9 (fun h => h.elim hqx (fun h => absurd h (Nat.not_le.mpr hqs))))
    have hP := hP.kept hY hJ (fun q hz hn => hk q hz (fun h => h.elim hn (fun h => absurd h (Nat.not_le.mpr hz))))
    have hM := hB
    refine lv_i2l (v := r.toInt64) hx hb dX0_balk_8 rfl ?_
    exact done _ u km _ _ hw hS hM hP hO
def wpX0_whom (post : LPT) (T : TT) (h : Mem) (km : KM) (o : Int64) (a1 : Int32) : Prop :=
  wpX1_whom (fun r h' => post 0 r.toInt64 h' km) h T (fun j => (j = 0 ∧ post 1 o h km)) a1
set_option maxHeartbeats 4000000 in
set_option maxRecDepth 100000 in
theorem metX0_whom (l : Launch) (hlt : l.stackTraces = false) (D : va_G) (cA : Nat → ClassId) (z0 : Nat) (E : Nat → Nat → Nat) (T : TT) (tw : Nat → Nat) (N : Nat → Prop) (ad ai : Nat → Nat) (Pm Pi : Nat → Prop) (cJ : ClassId) (qo sz : Nat) (h : Mem) (km : KM) (o : Int64) (a1 : Int32) (hn0 : T 0 0 < 2 ^ 31) (hn1 : T 0 1 < 2 ^ 31) (post : LPT) (hw : wpX0_whom post T h km o a1) : MeL l D cA z0 E T tw N ad ai Pm Pi cJ qo sz yX0_whom (wsW_ yX0_whom cX0_whom 4 (some .int) [((0 : Nat), (9 : Nat), (12 : Nat), (18 : Nat))]) ({ frames := 11, cells := 1, slots := 6, locals := 331 }) [.ref (ad 17), .int a1, .ref qo] h km o post 1 6 := by
  refine vx_ofWH (cc := cX0_whom) (maxL := 4) (ret := (some .int)) (hh := [((0 : Nat), (9 : Nat), (12 : Nat), (18 : Nat))]) (by decide) rfl ?_
  intro p e s m args below meth c s₁ B hml hv
  obtain ⟨rfl, ⟨hsz, hM, hJ, hY, hN9, hP, hT, hK, hZ⟩, hO, hKJ, hqo, hNc⟩ := hv
  have hx := B.exec
  have hb := B.bytes
  have hr := B.returns
  have hts := atoms_spec (ws := wsW_ yX0_whom cX0_whom 4 (some .int) [((0 : Nat), (9 : Nat), (12 : Nat), (18 : Nat))]) B.pre
  have htab := vx_table (x := yX0_count) B (hts _ List.mem_cons_self)
  have hts : ∀ w ∈ lw_all, w.before _ s = true := fun w h => hts w (List.mem_cons_of_mem _ h)
  have hown : s.vm.findClass RX0 = some m.cls := findClass_of_methodNamed B.named
  have hlocks := B.notSynchronized
  subst hsz
  have hqs : qo < s.heap.size := by obtain ⟨f, -, h9⟩ := hO; exact h9.lt
  have hqx : ¬ XA ad qo := fun h => hqo.2.1 (Or.inl h)
  have hBz : ∀ q, LB ad ai Pm Pi qo s.heap.size q → z0 ≤ q := fun q h => h.elim (YB.z hZ hY hJ q) (fun h => h ▸ hqo.1)
  have hN : ∀ q, N q → ¬ XA ad q := fun q h h2 => hN9 q h (Or.inl h2)
  have hS : va_S (LB ad ai Pm Pi qo s.heap.size) s.heap s.heap [] := va_S.rf
  have hl := lv_entry ([.ref (ad 17), .int a1, .ref qo]) (n := 4) (Nat.le_of_ble_eq_true rfl)
  rw [lg_entry_eq]
  generalize (lg_sl ([.ref (ad 17), .int a1, .ref qo]) ++ List.replicate (4 - (lg_sl ([.ref (ad 17), .int a1, .ref qo])).length) Slot.unset).toArray = ls at hl ⊢
  have hl : lv_has ls 4 [(0, .ref (ad 17)), (1, .int a1), (2, .ref qo)] := hl
  unfold wpX0_whom at hw
  refine lv_aload_n hx hb dX0_whom_0 rfl (lv_at hl 2 rfl) ?_
  refine lv_iconst (v := 0) hx hb dX0_whom_1 (by decide) ?_
  refine lv_aload_n hx hb dX0_whom_2 rfl (lv_at hl 0 rfl) ?_
  refine lv_iload_n hx hb dX0_whom_3 rfl (lv_at hl 1 rfl) ?_
  have done : ∀ (v : Int64) (h' : Mem) (km' : KM) (H : Heap) (locs : List Loc), post 0 v h' km' → va_S (LB ad ai Pm Pi qo s.heap.size) s.heap H locs → XW D cA ad (tw 9) h' H → YZ D cA ad ai Pm Pi km' H → OZ D cJ qo o H → W p l e (headSpec (wsW_ yX0_whom cX0_whom 4 (some .int) [((0 : Nat), (9 : Nat), (12 : Nat), (18 : Nat))]) ({ frames := 11, cells := 1, slots := 6, locals := 331 })).room s m ([.ref (ad 17), .int a1, .ref qo] : List Value).toArray below meth c H locs 1 6 (vx_MQ below (va_Qi (fun r (u : Int64 × Mem × KM) => post r u.1 u.2.1 u.2.2) (fun u t => XW D cA ad (tw 9) u.2.1 t.heap ∧ YZ D cA ad ai Pm Pi u.2.2 t.heap ∧ OZ D cJ qo u.1 t.heap) (LB ad ai Pm Pi qo s.heap.size)) (vx_X (fun _ : Unit => False) (fun _ _ _ => True) (LB ad ai Pm Pi qo s.heap.size)) ([.ref (ad 17), .int a1, .ref qo] : List Value).toArray s 1 6 (LB ad ai Pm Pi qo s.heap.size)) (F0 m 8 ls [.long v, .int 0, .ref qo]) := by
    intro v h' km' H locs hw hS hM hP hO
    obtain ⟨f, hf, hO⟩ := hO
    refine h_last (A := LB ad ai Pm Pi qo s.heap.size) hx hb hKJ hO (Or.inr rfl) hS 0 rfl (j := 0) rfl (by unfold vp_in; decide) dX0_whom_8 (fun H1 locs1 hO1 oq _ hS => ?_)
    refine lv_goto (tgt := 15) hx hb dX0_whom_9 (by decide) ?_
    refine lv_iconst (v := 0) hx hb dX0_whom_15 (by decide) ?_
    have hM := hM.keptX (fun j hj => oq _ (fun e => hqx (e ▸ ⟨j, hj, rfl⟩)))
    have hP := YZ.keptY hP hY (fun q hq _ => oq q (fun e => hqo.2.1 (e ▸ hq)))
    have hO : OZ D cJ qo v H1 := ⟨_, vp_updL_0, hO1⟩
    exact vx_ret (W.iret hx hb hr (fun t ht _ => ⟨⟨0, (v, h', km'), rfl, hw, hM.at ht, hP.at ht, hO.at ht⟩, hS.F ht⟩) hS.2.2 dX0_whom_16 hlocks)
  have caught1 : ∀ (H : Heap) (locs : List Loc) (q9 : Nat), post 1 o h km → va_S (LB ad ai Pm Pi qo s.heap.size) s.heap H locs → XW D cA ad (tw 9) h H → YZ D cA ad ai Pm Pi km H → OZ D cJ qo o H → W p l e (headSpec (wsW_ yX0_whom cX0_whom 4 (some .int) [((0 : Nat), (9 : Nat), (12 : Nat), (18 : Nat))]) ({ frames := 11, cells := 1, slots := 6, locals := 331 })).room s m ([.ref (ad 17), .int a1, .ref qo] : List Value).toArray below meth c H locs 1 6 (vx_MQ below (va_Qi (fun r (u : Int64 × Mem × KM) => post r u.1 u.2.1 u.2.2) (fun u t => XW D cA ad (tw 9) u.2.1 t.heap ∧ YZ D cA ad ai Pm Pi u.2.2 t.heap ∧ OZ D cJ qo u.1 t.heap) (LB ad ai Pm Pi qo s.heap.size)) (vx_X (fun _ : Unit => False) (fun _ _ _ => True) (LB ad ai Pm Pi qo s.heap.size)) ([.ref (ad 17), .int a1, .ref qo] : List Value).toArray s 1 6 (LB ad ai Pm Pi qo s.heap.size)) (F0 m 12 ls [.ref q9]) := by
    intro H locs q9 hw hS hM hP hO
    refine lv_astore_n (lv' := (3, .ref q9) :: [(0, .ref (ad 17)), (1, .int a1), (2, .ref qo)]) hx hb dX0_whom_12 rfl hl (by decide) rfl (fun ls hl => ?_)
    refine lv_iconst (v := 1) hx hb dX0_whom_13 (by decide) ?_
    exact vx_ret (W.iret hx hb hr (fun t ht _ => ⟨⟨1, (o, h, km), rfl, hw, hM.at ht, hP.at ht, hO.at ht⟩, hS.F ht⟩) hS.2.2 dX0_whom_14 hlocks)
  refine vx_calli (vx_runV (As := [.int a1]) (rest := [.int 0, .ref qo]) ⟨hx, hb, hml, hown, hts⟩ (metX1_whom l hlt D cA z0 E tw N ad s.heap.size h T _ a1 hn0 hn1 _ hw) (cwV 1 hts (lw_V q1616 q1617 q1618 q104 q1619) rfl rfl rfl (by decide +kernel) ⟨Nat.le_of_ble_eq_true rfl, Nat.le_of_ble_eq_true rfl⟩) ⟨PhXt.blind.pc, hM.recv hK, fun U hU hW => ⟨rfl, by rw [hU], by rw [hU]; exact hM, hJ, hN, PhT.go hT hK hZ hS hBz hU hW⟩⟩ rfl rfl hl.1 rfl (lv_room (Nat.le_of_ble_eq_true rfl)) dX0_whom_4 ⟨Nat.le_of_ble_eq_true rfl, Nat.le_of_ble_eq_true rfl⟩) hS (fun q _ h => Or.inl (h.elim (fun h => Or.inl (Or.inl h)) (fun h => Or.inr h))) (fun q h => Or.inl (h.elim (fun h => Or.inl (Or.inl h)) (fun h => Or.inr h))) (fun q _ h => Or.inl (h.elim (fun h => Or.inl (Or.inl h)) (fun h => Or.inr h))) (fun En ce q9 u t H1 locs1 ht hvm hpx hBX hsz9 hk hS hce hcv hcl => ?_) (fun r u t H1 locs1 ht hvm hw hB hsz9 hk hS => ?_)
  · subst ht
    have hO := hO.kept (fun h9 => hk qo h9 (fun h => h.elim hqx (fun h => absurd h (Nat.not_le.mpr hqs))))
    have hP := hP.kept hY hJ (fun q hz hn => hk q hz (fun h => h.elim hn (fun h => absurd h (Nat.not_le.mpr hz))))
    obtain ⟨eE, hM⟩ := hBX
    obtain ⟨ej, hpx⟩ := hpx
    subst ej
    subst eE
    exact vx_catch (E := "java/util/NoSuchElementException") (name := "java/util/NoSuchElementException") hown [] ⟨0, 9, 12, 18⟩ [] (htab.trans rfl) (fun z hz => absurd hz (List.not_mem_nil)) (by decide) (by decide) (hts _ q1389) (hZ.2.1.nC 39 rfl) hce hcv hcl (caught1 _ _ q9 hpx hS hM hP hO)
  · subst ht
    have hO := hO.kept (fun h9 => hk qo h9 (fun h => h.elim hqx (fun h => absurd h (Nat.not_le.mpr hqs))))
    have hP := hP.kept hY hJ (fun q hz hn => hk q hz (fun h => h.elim hn (fun h => absurd h (Nat.not_le.mpr hz))))
    have hM := hB
    refine lv_i2l (v := r.toInt64) hx hb dX0_whom_7 rfl ?_
    exact done _ u km _ _ hw hS hM hP hO
def wpX0_why (post : LPT) (T : TT) (h : Mem) (km : KM) (o : Int64) (a1 : Int32) (a2 : Int32) : Prop :=
  wpX1_why (fun r h' => post 0 r.toInt64 h' km) h T (fun j => (j = 0 ∧ post 1 o h km)) a1 a2
set_option maxHeartbeats 4000000 in
set_option maxRecDepth 100000 in
theorem metX0_why (l : Launch) (hlt : l.stackTraces = false) (D : va_G) (cA : Nat → ClassId) (z0 : Nat) (E : Nat → Nat → Nat) (T : TT) (tw : Nat → Nat) (N : Nat → Prop) (ad ai : Nat → Nat) (Pm Pi : Nat → Prop) (cJ : ClassId) (qo sz : Nat) (h : Mem) (km : KM) (o : Int64) (a1 : Int32) (a2 : Int32) (hn0 : T 0 0 < 2 ^ 31) (hn1 : T 0 1 < 2 ^ 31) (post : LPT) (hw : wpX0_why post T h km o a1 a2) : MeL l D cA z0 E T tw N ad ai Pm Pi cJ qo sz yX0_why (wsW_ yX0_why cX0_why 5 (some .int) [((0 : Nat), (10 : Nat), (13 : Nat), (18 : Nat))]) ({ frames := 15, cells := 2, slots := 12, locals := 481 }) [.ref (ad 17), .int a1, .int a2, .ref qo] h km o post 2 12 := by
  refine vx_ofWH (cc := cX0_why) (maxL := 5) (ret := (some .int)) (hh := [((0 : Nat), (10 : Nat), (13 : Nat), (18 : Nat))]) (by decide) rfl ?_
  intro p e s m args below meth c s₁ B hml hv
  obtain ⟨rfl, ⟨hsz, hM, hJ, hY, hN9, hP, hT, hK, hZ⟩, hO, hKJ, hqo, hNc⟩ := hv
  have hx := B.exec
  have hb := B.bytes
  have hr := B.returns
  have hts := atoms_spec (ws := wsW_ yX0_why cX0_why 5 (some .int) [((0 : Nat), (10 : Nat), (13 : Nat), (18 : Nat))]) B.pre
  have htab := vx_table (x := yX0_count) B (hts _ List.mem_cons_self)
  have hts : ∀ w ∈ lw_all, w.before _ s = true := fun w h => hts w (List.mem_cons_of_mem _ h)
  have hown : s.vm.findClass RX0 = some m.cls := findClass_of_methodNamed B.named
  have hlocks := B.notSynchronized
  subst hsz
  have hqs : qo < s.heap.size := by obtain ⟨f, -, h9⟩ := hO; exact h9.lt
  have hqx : ¬ XA ad qo := fun h => hqo.2.1 (Or.inl h)
  have hBz : ∀ q, LB ad ai Pm Pi qo s.heap.size q → z0 ≤ q := fun q h => h.elim (YB.z hZ hY hJ q) (fun h => h ▸ hqo.1)
  have hN : ∀ q, N q → ¬ XA ad q := fun q h h2 => hN9 q h (Or.inl h2)
  have hS : va_S (LB ad ai Pm Pi qo s.heap.size) s.heap s.heap [] := va_S.rf
  have hl := lv_entry ([.ref (ad 17), .int a1, .int a2, .ref qo]) (n := 5) (Nat.le_of_ble_eq_true rfl)
  rw [lg_entry_eq]
  generalize (lg_sl ([.ref (ad 17), .int a1, .int a2, .ref qo]) ++ List.replicate (5 - (lg_sl ([.ref (ad 17), .int a1, .int a2, .ref qo])).length) Slot.unset).toArray = ls at hl ⊢
  have hl : lv_has ls 5 [(0, .ref (ad 17)), (1, .int a1), (2, .int a2), (3, .ref qo)] := hl
  unfold wpX0_why at hw
  refine lv_aload_n hx hb dX0_why_0 rfl (lv_at hl 3 rfl) ?_
  refine lv_iconst (v := 0) hx hb dX0_why_1 (by decide) ?_
  refine lv_aload_n hx hb dX0_why_2 rfl (lv_at hl 0 rfl) ?_
  refine lv_iload_n hx hb dX0_why_3 rfl (lv_at hl 1 rfl) ?_
  refine lv_iload_n hx hb dX0_why_4 rfl (lv_at hl 2 rfl) ?_
  have done : ∀ (v : Int64) (h' : Mem) (km' : KM) (H : Heap) (locs : List Loc), post 0 v h' km' → va_S (LB ad ai Pm Pi qo s.heap.size) s.heap H locs → XW D cA ad (tw 9) h' H → YZ D cA ad ai Pm Pi km' H → OZ D cJ qo o H → W p l e (headSpec (wsW_ yX0_why cX0_why 5 (some .int) [((0 : Nat), (10 : Nat), (13 : Nat), (18 : Nat))]) ({ frames := 15, cells := 2, slots := 12, locals := 481 })).room s m ([.ref (ad 17), .int a1, .int a2, .ref qo] : List Value).toArray below meth c H locs 2 12 (vx_MQ below (va_Qi (fun r (u : Int64 × Mem × KM) => post r u.1 u.2.1 u.2.2) (fun u t => XW D cA ad (tw 9) u.2.1 t.heap ∧ YZ D cA ad ai Pm Pi u.2.2 t.heap ∧ OZ D cJ qo u.1 t.heap) (LB ad ai Pm Pi qo s.heap.size)) (vx_X (fun _ : Unit => False) (fun _ _ _ => True) (LB ad ai Pm Pi qo s.heap.size)) ([.ref (ad 17), .int a1, .int a2, .ref qo] : List Value).toArray s 2 12 (LB ad ai Pm Pi qo s.heap.size)) (F0 m 9 ls [.long v, .int 0, .ref qo]) := by
    intro v h' km' H locs hw hS hM hP hO
    obtain ⟨f, hf, hO⟩ := hO
    refine h_last (A := LB ad ai Pm Pi qo s.heap.size) hx hb hKJ hO (Or.inr rfl) hS 0 rfl (j := 0) rfl (by unfold vp_in; decide) dX0_why_9 (fun H1 locs1 hO1 oq _ hS => ?_)
    refine lv_goto (tgt := 17) hx hb dX0_why_10 (by decide) ?_
    refine lv_iconst (v := 0) hx hb dX0_why_17 (by decide) ?_
    have hM := hM.keptX (fun j hj => oq _ (fun e => hqx (e ▸ ⟨j, hj, rfl⟩)))
    have hP := YZ.keptY hP hY (fun q hq _ => oq q (fun e => hqo.2.1 (e ▸ hq)))
    have hO : OZ D cJ qo v H1 := ⟨_, vp_updL_0, hO1⟩
    exact vx_ret (W.iret hx hb hr (fun t ht _ => ⟨⟨0, (v, h', km'), rfl, hw, hM.at ht, hP.at ht, hO.at ht⟩, hS.F ht⟩) hS.2.2 dX0_why_18 hlocks)
  have caught1 : ∀ (H : Heap) (locs : List Loc) (q9 : Nat), post 1 o h km → va_S (LB ad ai Pm Pi qo s.heap.size) s.heap H locs → XW D cA ad (tw 9) h H → YZ D cA ad ai Pm Pi km H → OZ D cJ qo o H → W p l e (headSpec (wsW_ yX0_why cX0_why 5 (some .int) [((0 : Nat), (10 : Nat), (13 : Nat), (18 : Nat))]) ({ frames := 15, cells := 2, slots := 12, locals := 481 })).room s m ([.ref (ad 17), .int a1, .int a2, .ref qo] : List Value).toArray below meth c H locs 2 12 (vx_MQ below (va_Qi (fun r (u : Int64 × Mem × KM) => post r u.1 u.2.1 u.2.2) (fun u t => XW D cA ad (tw 9) u.2.1 t.heap ∧ YZ D cA ad ai Pm Pi u.2.2 t.heap ∧ OZ D cJ qo u.1 t.heap) (LB ad ai Pm Pi qo s.heap.size)) (vx_X (fun _ : Unit => False) (fun _ _ _ => True) (LB ad ai Pm Pi qo s.heap.size)) ([.ref (ad 17), .int a1, .int a2, .ref qo] : List Value).toArray s 2 12 (LB ad ai Pm Pi qo s.heap.size)) (F0 m 13 ls [.ref q9]) := by
    intro H locs q9 hw hS hM hP hO
    refine lv_astore (lv' := (4, .ref q9) :: [(0, .ref (ad 17)), (1, .int a1), (2, .int a2), (3, .ref qo)]) hx hb dX0_why_13 hl (by decide) rfl (fun ls hl => ?_)
    refine lv_iconst (v := 1) hx hb dX0_why_15 (by decide) ?_
    exact vx_ret (W.iret hx hb hr (fun t ht _ => ⟨⟨1, (o, h, km), rfl, hw, hM.at ht, hP.at ht, hO.at ht⟩, hS.F ht⟩) hS.2.2 dX0_why_16 hlocks)
  refine vx_calli (vx_runV (As := [.int a1, .int a2]) (rest := [.int 0, .ref qo]) ⟨hx, hb, hml, hown, hts⟩ (metX1_why l hlt D cA z0 E tw N ad s.heap.size h T _ a1 a2 hn0 hn1 _ hw) (cwV 2 hts (lw_V q1627 q1628 q1629 q104 q1630) rfl rfl rfl (by decide +kernel) ⟨Nat.le_of_ble_eq_true rfl, Nat.le_of_ble_eq_true rfl⟩) ⟨PhXt.blind.pc, hM.recv hK, fun U hU hW => ⟨rfl, by rw [hU], by rw [hU]; exact hM, hJ, hN, PhT.go hT hK hZ hS hBz hU hW⟩⟩ rfl rfl hl.1 rfl (lv_room (Nat.le_of_ble_eq_true rfl)) dX0_why_5 ⟨Nat.le_of_ble_eq_true rfl, Nat.le_of_ble_eq_true rfl⟩) hS (fun q _ h => Or.inl (h.elim (fun h => Or.inl (Or.inl h)) (fun h => Or.inr h))) (fun q h => Or.inl (h.elim (fun h => Or.inl (Or.inl h)) (fun h => Or.inr h))) (fun q _ h => Or.inl (h.elim (fun h => Or.inl (Or.inl h)) (fun h => Or.inr h))) (fun En ce q9 u t H1 locs1 ht hvm hpx hBX hsz9 hk hS hce hcv hcl => ?_) (fun r u t H1 locs1 ht hvm hw hB hsz9 hk hS => ?_)
  · subst ht
    have hO := hO.kept (fun h9 => hk qo h9 (fun h => h.elim hqx (fun h => absurd h (Nat.not_le.mpr hqs))))
    have hP := hP.kept hY hJ (fun q hz hn => hk q hz (fun h => h.elim hn (fun h => absurd h (Nat.not_le.mpr hz))))
    obtain ⟨eE, hM⟩ := hBX
    obtain ⟨ej, hpx⟩ := hpx
    subst ej
    subst eE
    exact vx_catch (E := "java/util/NoSuchElementException") (name := "java/util/NoSuchElementException") hown [] ⟨0, 10, 13, 18⟩ [] (htab.trans rfl) (fun z hz => absurd hz (List.not_mem_nil)) (by decide) (by decide) (hts _ q1389) (hZ.2.1.nC 39 rfl) hce hcv hcl (caught1 _ _ q9 hpx hS hM hP hO)
  · subst ht
    have hO := hO.kept (fun h9 => hk qo h9 (fun h => h.elim hqx (fun h => absurd h (Nat.not_le.mpr hqs))))
    have hP := hP.kept hY hJ (fun q hz hn => hk q hz (fun h => h.elim hn (fun h => absurd h (Nat.not_le.mpr hz))))
    have hM := hB
    refine lv_i2l (v := r.toInt64) hx hb dX0_why_8 rfl ?_
    exact done _ u km _ _ hw hS hM hP hO
def wpX0_fairest (post : LPT) (T : TT) (h : Mem) (km : KM) (o : Int64) (a1 : Int32) (a2 : Int32) : Prop :=
  wpX1_fairest (fun r h' => post 0 r.toInt64 h' km) h T (fun j => (j = 0 ∧ post 1 o h km)) a1 a2
set_option maxHeartbeats 4000000 in
set_option maxRecDepth 100000 in
theorem metX0_fairest (l : Launch) (hlt : l.stackTraces = false) (D : va_G) (cA : Nat → ClassId) (z0 : Nat) (E : Nat → Nat → Nat) (T : TT) (tw : Nat → Nat) (N : Nat → Prop) (ad ai : Nat → Nat) (Pm Pi : Nat → Prop) (cJ : ClassId) (qo sz : Nat) (h : Mem) (km : KM) (o : Int64) (a1 : Int32) (a2 : Int32) (hn0 : T 0 0 < 2 ^ 31) (hn1 : T 0 1 < 2 ^ 31) (post : LPT) (hw : wpX0_fairest post T h km o a1 a2) : MeL l D cA z0 E T tw N ad ai Pm Pi cJ qo sz yX0_fairest (wsW_ yX0_fairest cX0_fairest 5 (some .int) [((0 : Nat), (10 : Nat), (13 : Nat), (18 : Nat))]) ({ frames := 725, cells := 2, slots := 12, locals := 40139 }) [.ref (ad 17), .int a1, .int a2, .ref qo] h km o post 2 12 := by
  refine vx_ofWH (cc := cX0_fairest) (maxL := 5) (ret := (some .int)) (hh := [((0 : Nat), (10 : Nat), (13 : Nat), (18 : Nat))]) (by decide) rfl ?_
  intro p e s m args below meth c s₁ B hml hv
  obtain ⟨rfl, ⟨hsz, hM, hJ, hY, hN9, hP, hT, hK, hZ⟩, hO, hKJ, hqo, hNc⟩ := hv
  have hx := B.exec
  have hb := B.bytes
  have hr := B.returns
  have hts := atoms_spec (ws := wsW_ yX0_fairest cX0_fairest 5 (some .int) [((0 : Nat), (10 : Nat), (13 : Nat), (18 : Nat))]) B.pre
  have htab := vx_table (x := yX0_count) B (hts _ List.mem_cons_self)
  have hts : ∀ w ∈ lw_all, w.before _ s = true := fun w h => hts w (List.mem_cons_of_mem _ h)
  have hown : s.vm.findClass RX0 = some m.cls := findClass_of_methodNamed B.named
  have hlocks := B.notSynchronized
  subst hsz
  have hqs : qo < s.heap.size := by obtain ⟨f, -, h9⟩ := hO; exact h9.lt
  have hqx : ¬ XA ad qo := fun h => hqo.2.1 (Or.inl h)
  have hBz : ∀ q, LB ad ai Pm Pi qo s.heap.size q → z0 ≤ q := fun q h => h.elim (YB.z hZ hY hJ q) (fun h => h ▸ hqo.1)
  have hN : ∀ q, N q → ¬ XA ad q := fun q h h2 => hN9 q h (Or.inl h2)
  have hS : va_S (LB ad ai Pm Pi qo s.heap.size) s.heap s.heap [] := va_S.rf
  have hl := lv_entry ([.ref (ad 17), .int a1, .int a2, .ref qo]) (n := 5) (Nat.le_of_ble_eq_true rfl)
  rw [lg_entry_eq]
  generalize (lg_sl ([.ref (ad 17), .int a1, .int a2, .ref qo]) ++ List.replicate (5 - (lg_sl ([.ref (ad 17), .int a1, .int a2, .ref qo])).length) Slot.unset).toArray = ls at hl ⊢
  have hl : lv_has ls 5 [(0, .ref (ad 17)), (1, .int a1), (2, .int a2), (3, .ref qo)] := hl
  unfold wpX0_fairest at hw
  refine lv_aload_n hx hb dX0_fairest_0 rfl (lv_at hl 3 rfl) ?_
  refine lv_iconst (v := 0) hx hb dX0_fairest_1 (by decide) ?_
  refine lv_aload_n hx hb dX0_fairest_2 rfl (lv_at hl 0 rfl) ?_
  refine lv_iload_n hx hb dX0_fairest_3 rfl (lv_at hl 1 rfl) ?_
  refine lv_iload_n hx hb dX0_fairest_4 rfl (lv_at hl 2 rfl) ?_
  have done : ∀ (v : Int64) (h' : Mem) (km' : KM) (H : Heap) (locs : List Loc), post 0 v h' km' → va_S (LB ad ai Pm Pi qo s.heap.size) s.heap H locs → XW D cA ad (tw 9) h' H → YZ D cA ad ai Pm Pi km' H → OZ D cJ qo o H → W p l e (headSpec (wsW_ yX0_fairest cX0_fairest 5 (some .int) [((0 : Nat), (10 : Nat), (13 : Nat), (18 : Nat))]) ({ frames := 725, cells := 2, slots := 12, locals := 40139 })).room s m ([.ref (ad 17), .int a1, .int a2, .ref qo] : List Value).toArray below meth c H locs 2 12 (vx_MQ below (va_Qi (fun r (u : Int64 × Mem × KM) => post r u.1 u.2.1 u.2.2) (fun u t => XW D cA ad (tw 9) u.2.1 t.heap ∧ YZ D cA ad ai Pm Pi u.2.2 t.heap ∧ OZ D cJ qo u.1 t.heap) (LB ad ai Pm Pi qo s.heap.size)) (vx_X (fun _ : Unit => False) (fun _ _ _ => True) (LB ad ai Pm Pi qo s.heap.size)) ([.ref (ad 17), .int a1, .int a2, .ref qo] : List Value).toArray s 2 12 (LB ad ai Pm Pi qo s.heap.size)) (F0 m 9 ls [.long v, .int 0, .ref qo]) := by
    intro v h' km' H locs hw hS hM hP hO
    obtain ⟨f, hf, hO⟩ := hO
    refine h_last (A := LB ad ai Pm Pi qo s.heap.size) hx hb hKJ hO (Or.inr rfl) hS 0 rfl (j := 0) rfl (by unfold vp_in; decide) dX0_fairest_9 (fun H1 locs1 hO1 oq _ hS => ?_)
    refine lv_goto (tgt := 17) hx hb dX0_fairest_10 (by decide) ?_
    refine lv_iconst (v := 0) hx hb dX0_fairest_17 (by decide) ?_
    have hM := hM.keptX (fun j hj => oq _ (fun e => hqx (e ▸ ⟨j, hj, rfl⟩)))
    have hP := YZ.keptY hP hY (fun q hq _ => oq q (fun e => hqo.2.1 (e ▸ hq)))
    have hO : OZ D cJ qo v H1 := ⟨_, vp_updL_0, hO1⟩
    exact vx_ret (W.iret hx hb hr (fun t ht _ => ⟨⟨0, (v, h', km'), rfl, hw, hM.at ht, hP.at ht, hO.at ht⟩, hS.F ht⟩) hS.2.2 dX0_fairest_18 hlocks)
  have caught1 : ∀ (H : Heap) (locs : List Loc) (q9 : Nat), post 1 o h km → va_S (LB ad ai Pm Pi qo s.heap.size) s.heap H locs → XW D cA ad (tw 9) h H → YZ D cA ad ai Pm Pi km H → OZ D cJ qo o H → W p l e (headSpec (wsW_ yX0_fairest cX0_fairest 5 (some .int) [((0 : Nat), (10 : Nat), (13 : Nat), (18 : Nat))]) ({ frames := 725, cells := 2, slots := 12, locals := 40139 })).room s m ([.ref (ad 17), .int a1, .int a2, .ref qo] : List Value).toArray below meth c H locs 2 12 (vx_MQ below (va_Qi (fun r (u : Int64 × Mem × KM) => post r u.1 u.2.1 u.2.2) (fun u t => XW D cA ad (tw 9) u.2.1 t.heap ∧ YZ D cA ad ai Pm Pi u.2.2 t.heap ∧ OZ D cJ qo u.1 t.heap) (LB ad ai Pm Pi qo s.heap.size)) (vx_X (fun _ : Unit => False) (fun _ _ _ => True) (LB ad ai Pm Pi qo s.heap.size)) ([.ref (ad 17), .int a1, .int a2, .ref qo] : List Value).toArray s 2 12 (LB ad ai Pm Pi qo s.heap.size)) (F0 m 13 ls [.ref q9]) := by
    intro H locs q9 hw hS hM hP hO
    refine lv_astore (lv' := (4, .ref q9) :: [(0, .ref (ad 17)), (1, .int a1), (2, .int a2), (3, .ref qo)]) hx hb dX0_fairest_13 hl (by decide) rfl (fun ls hl => ?_)
    refine lv_iconst (v := 1) hx hb dX0_fairest_15 (by decide) ?_
    exact vx_ret (W.iret hx hb hr (fun t ht _ => ⟨⟨1, (o, h, km), rfl, hw, hM.at ht, hP.at ht, hO.at ht⟩, hS.F ht⟩) hS.2.2 dX0_fairest_16 hlocks)
  refine vx_calli (vx_runV (As := [.int a1, .int a2]) (rest := [.int 0, .ref qo]) ⟨hx, hb, hml, hown, hts⟩ (metX1_fairest l hlt D cA z0 E tw N ad s.heap.size h T _ a1 a2 hn0 hn1 _ hw) (cwV 2 hts (lw_V q1634 q1635 q1636 q104 q1637) rfl rfl rfl (by decide +kernel) ⟨Nat.le_of_ble_eq_true rfl, Nat.le_of_ble_eq_true rfl⟩) ⟨PhXt.blind.pc, hM.recv hK, fun U hU hW => ⟨rfl, by rw [hU], by rw [hU]; exact hM, hJ, hN, PhT.go hT hK hZ hS hBz hU hW⟩⟩ rfl rfl hl.1 rfl (lv_room (Nat.le_of_ble_eq_true rfl)) dX0_fairest_5 ⟨Nat.le_of_ble_eq_true rfl, Nat.le_of_ble_eq_true rfl⟩) hS (fun q _ h => Or.inl (h.elim (fun h => Or.inl (Or.inl h)) (fun h => Or.inr h))) (fun q h => Or.inl (h.elim (fun h => Or.inl (Or.inl h)) (fun h => Or.inr h))) (fun q _ h => Or.inl (h.elim (fun h => Or.inl (Or.inl h)) (fun h => Or.inr h))) (fun En ce q9 u t H1 locs1 ht hvm hpx hBX hsz9 hk hS hce hcv hcl => ?_) (fun r u t H1 locs1 ht hvm hw hB hsz9 hk hS => ?_)
  · subst ht
    have hO := hO.kept (fun h9 => hk qo h9 (fun h => h.elim hqx (fun h => absurd h (Nat.not_le.mpr hqs))))
    have hP := hP.kept hY hJ (fun q hz hn => hk q hz (fun h => h.elim hn (fun h => absurd h (Nat.not_le.mpr hz))))
    obtain ⟨eE, hM⟩ := hBX
    obtain ⟨ej, hpx⟩ := hpx
    subst ej
    subst eE
    exact vx_catch (E := "java/util/NoSuchElementException") (name := "java/util/NoSuchElementException") hown [] ⟨0, 10, 13, 18⟩ [] (htab.trans rfl) (fun z hz => absurd hz (List.not_mem_nil)) (by decide) (by decide) (hts _ q1389) (hZ.2.1.nC 39 rfl) hce hcv hcl (caught1 _ _ q9 hpx hS hM hP hO)
  · subst ht
    have hO := hO.kept (fun h9 => hk qo h9 (fun h => h.elim hqx (fun h => absurd h (Nat.not_le.mpr hqs))))
    have hP := hP.kept hY hJ (fun q hz hn => hk q hz (fun h => h.elim hn (fun h => absurd h (Nat.not_le.mpr hz))))
    have hM := hB
    refine lv_i2l (v := r.toInt64) hx hb dX0_fairest_8 rfl ?_
    exact done _ u km _ _ hw hS hM hP hO
def wpX0_game (post : LPT) (T : TT) (h : Mem) (km : KM) (o : Int64) (a1 : Int32) (a2 : Int32) (a3 : Int32) : Prop :=
  wpX1_game (fun r h' => post 0 r.toInt64 h' km) h T (fun j => (j = 0 ∧ post 1 o h km) ∨ (j = 1 ∧ post 2 o h km)) a1 a2 a3
set_option maxHeartbeats 4000000 in
set_option maxRecDepth 100000 in
theorem metX0_game (l : Launch) (hlt : l.stackTraces = false) (D : va_G) (cA : Nat → ClassId) (z0 : Nat) (E : Nat → Nat → Nat) (T : TT) (tw : Nat → Nat) (N : Nat → Prop) (ad ai : Nat → Nat) (Pm Pi : Nat → Prop) (cJ : ClassId) (qo sz : Nat) (h : Mem) (km : KM) (o : Int64) (a1 : Int32) (a2 : Int32) (a3 : Int32) (hn0 : T 0 0 < 2 ^ 31) (hn1 : T 0 1 < 2 ^ 31) (post : LPT) (hw : wpX0_game post T h km o a1 a2 a3) : MeL l D cA z0 E T tw N ad ai Pm Pi cJ qo sz yX0_game (wsW_ yX0_game cX0_game 6 (some .int) [((0 : Nat), (12 : Nat), (15 : Nat), (18 : Nat)), ((0 : Nat), (12 : Nat), (19 : Nat), (13 : Nat))]) ({ frames := 15, cells := 4, slots := 24, locals := 481 }) [.ref (ad 17), .int a1, .int a2, .int a3, .ref qo] h km o post 4 24 := by
  refine vx_ofWH (cc := cX0_game) (maxL := 6) (ret := (some .int)) (hh := [((0 : Nat), (12 : Nat), (15 : Nat), (18 : Nat)), ((0 : Nat), (12 : Nat), (19 : Nat), (13 : Nat))]) (by decide) rfl ?_
  intro p e s m args below meth c s₁ B hml hv
  obtain ⟨rfl, ⟨hsz, hM, hJ, hY, hN9, hP, hT, hK, hZ⟩, hO, hKJ, hqo, hNc⟩ := hv
  have hx := B.exec
  have hb := B.bytes
  have hr := B.returns
  have hts := atoms_spec (ws := wsW_ yX0_game cX0_game 6 (some .int) [((0 : Nat), (12 : Nat), (15 : Nat), (18 : Nat)), ((0 : Nat), (12 : Nat), (19 : Nat), (13 : Nat))]) B.pre
  have htab := vx_table (x := yX0_count) B (hts _ List.mem_cons_self)
  have hts : ∀ w ∈ lw_all, w.before _ s = true := fun w h => hts w (List.mem_cons_of_mem _ h)
  have hown : s.vm.findClass RX0 = some m.cls := findClass_of_methodNamed B.named
  have hlocks := B.notSynchronized
  subst hsz
  have hqs : qo < s.heap.size := by obtain ⟨f, -, h9⟩ := hO; exact h9.lt
  have hqx : ¬ XA ad qo := fun h => hqo.2.1 (Or.inl h)
  have hBz : ∀ q, LB ad ai Pm Pi qo s.heap.size q → z0 ≤ q := fun q h => h.elim (YB.z hZ hY hJ q) (fun h => h ▸ hqo.1)
  have hN : ∀ q, N q → ¬ XA ad q := fun q h h2 => hN9 q h (Or.inl h2)
  have hS : va_S (LB ad ai Pm Pi qo s.heap.size) s.heap s.heap [] := va_S.rf
  have hl := lv_entry ([.ref (ad 17), .int a1, .int a2, .int a3, .ref qo]) (n := 6) (Nat.le_of_ble_eq_true rfl)
  rw [lg_entry_eq]
  generalize (lg_sl ([.ref (ad 17), .int a1, .int a2, .int a3, .ref qo]) ++ List.replicate (6 - (lg_sl ([.ref (ad 17), .int a1, .int a2, .int a3, .ref qo])).length) Slot.unset).toArray = ls at hl ⊢
  have hl : lv_has ls 6 [(0, .ref (ad 17)), (1, .int a1), (2, .int a2), (3, .int a3), (4, .ref qo)] := hl
  unfold wpX0_game at hw
  refine lv_aload hx hb dX0_game_0 (lv_at hl 4 rfl) ?_
  refine lv_iconst (v := 0) hx hb dX0_game_2 (by decide) ?_
  refine lv_aload_n hx hb dX0_game_3 rfl (lv_at hl 0 rfl) ?_
  refine lv_iload_n hx hb dX0_game_4 rfl (lv_at hl 1 rfl) ?_
  refine lv_iload_n hx hb dX0_game_5 rfl (lv_at hl 2 rfl) ?_
  refine lv_iload_n hx hb dX0_game_6 rfl (lv_at hl 3 rfl) ?_
  have done : ∀ (v : Int64) (h' : Mem) (km' : KM) (H : Heap) (locs : List Loc), post 0 v h' km' → va_S (LB ad ai Pm Pi qo s.heap.size) s.heap H locs → XW D cA ad (tw 9) h' H → YZ D cA ad ai Pm Pi km' H → OZ D cJ qo o H → W p l e (headSpec (wsW_ yX0_game cX0_game 6 (some .int) [((0 : Nat), (12 : Nat), (15 : Nat), (18 : Nat)), ((0 : Nat), (12 : Nat), (19 : Nat), (13 : Nat))]) ({ frames := 15, cells := 4, slots := 24, locals := 481 })).room s m ([.ref (ad 17), .int a1, .int a2, .int a3, .ref qo] : List Value).toArray below meth c H locs 4 24 (vx_MQ below (va_Qi (fun r (u : Int64 × Mem × KM) => post r u.1 u.2.1 u.2.2) (fun u t => XW D cA ad (tw 9) u.2.1 t.heap ∧ YZ D cA ad ai Pm Pi u.2.2 t.heap ∧ OZ D cJ qo u.1 t.heap) (LB ad ai Pm Pi qo s.heap.size)) (vx_X (fun _ : Unit => False) (fun _ _ _ => True) (LB ad ai Pm Pi qo s.heap.size)) ([.ref (ad 17), .int a1, .int a2, .int a3, .ref qo] : List Value).toArray s 4 24 (LB ad ai Pm Pi qo s.heap.size)) (F0 m 11 ls [.long v, .int 0, .ref qo]) := by
    intro v h' km' H locs hw hS hM hP hO
    obtain ⟨f, hf, hO⟩ := hO
    refine h_last (A := LB ad ai Pm Pi qo s.heap.size) hx hb hKJ hO (Or.inr rfl) hS 0 rfl (j := 0) rfl (by unfold vp_in; decide) dX0_game_11 (fun H1 locs1 hO1 oq _ hS => ?_)
    refine lv_goto (tgt := 23) hx hb dX0_game_12 (by decide) ?_
    refine lv_iconst (v := 0) hx hb dX0_game_23 (by decide) ?_
    have hM := hM.keptX (fun j hj => oq _ (fun e => hqx (e ▸ ⟨j, hj, rfl⟩)))
    have hP := YZ.keptY hP hY (fun q hq _ => oq q (fun e => hqo.2.1 (e ▸ hq)))
    have hO : OZ D cJ qo v H1 := ⟨_, vp_updL_0, hO1⟩
    exact vx_ret (W.iret hx hb hr (fun t ht _ => ⟨⟨0, (v, h', km'), rfl, hw, hM.at ht, hP.at ht, hO.at ht⟩, hS.F ht⟩) hS.2.2 dX0_game_24 hlocks)
  have caught1 : ∀ (H : Heap) (locs : List Loc) (q9 : Nat), post 1 o h km → va_S (LB ad ai Pm Pi qo s.heap.size) s.heap H locs → XW D cA ad (tw 9) h H → YZ D cA ad ai Pm Pi km H → OZ D cJ qo o H → W p l e (headSpec (wsW_ yX0_game cX0_game 6 (some .int) [((0 : Nat), (12 : Nat), (15 : Nat), (18 : Nat)), ((0 : Nat), (12 : Nat), (19 : Nat), (13 : Nat))]) ({ frames := 15, cells := 4, slots := 24, locals := 481 })).room s m ([.ref (ad 17), .int a1, .int a2, .int a3, .ref qo] : List Value).toArray below meth c H locs 4 24 (vx_MQ below (va_Qi (fun r (u : Int64 × Mem × KM) => post r u.1 u.2.1 u.2.2) (fun u t => XW D cA ad (tw 9) u.2.1 t.heap ∧ YZ D cA ad ai Pm Pi u.2.2 t.heap ∧ OZ D cJ qo u.1 t.heap) (LB ad ai Pm Pi qo s.heap.size)) (vx_X (fun _ : Unit => False) (fun _ _ _ => True) (LB ad ai Pm Pi qo s.heap.size)) ([.ref (ad 17), .int a1, .int a2, .int a3, .ref qo] : List Value).toArray s 4 24 (LB ad ai Pm Pi qo s.heap.size)) (F0 m 15 ls [.ref q9]) := by
    intro H locs q9 hw hS hM hP hO
    refine lv_astore (lv' := (5, .ref q9) :: [(0, .ref (ad 17)), (1, .int a1), (2, .int a2), (3, .int a3), (4, .ref qo)]) hx hb dX0_game_15 hl (by decide) rfl (fun ls hl => ?_)
    refine lv_iconst (v := 1) hx hb dX0_game_17 (by decide) ?_
    exact vx_ret (W.iret hx hb hr (fun t ht _ => ⟨⟨1, (o, h, km), rfl, hw, hM.at ht, hP.at ht, hO.at ht⟩, hS.F ht⟩) hS.2.2 dX0_game_18 hlocks)
  have caught2 : ∀ (H : Heap) (locs : List Loc) (q9 : Nat), post 2 o h km → va_S (LB ad ai Pm Pi qo s.heap.size) s.heap H locs → XW D cA ad (tw 9) h H → YZ D cA ad ai Pm Pi km H → OZ D cJ qo o H → W p l e (headSpec (wsW_ yX0_game cX0_game 6 (some .int) [((0 : Nat), (12 : Nat), (15 : Nat), (18 : Nat)), ((0 : Nat), (12 : Nat), (19 : Nat), (13 : Nat))]) ({ frames := 15, cells := 4, slots := 24, locals := 481 })).room s m ([.ref (ad 17), .int a1, .int a2, .int a3, .ref qo] : List Value).toArray below meth c H locs 4 24 (vx_MQ below (va_Qi (fun r (u : Int64 × Mem × KM) => post r u.1 u.2.1 u.2.2) (fun u t => XW D cA ad (tw 9) u.2.1 t.heap ∧ YZ D cA ad ai Pm Pi u.2.2 t.heap ∧ OZ D cJ qo u.1 t.heap) (LB ad ai Pm Pi qo s.heap.size)) (vx_X (fun _ : Unit => False) (fun _ _ _ => True) (LB ad ai Pm Pi qo s.heap.size)) ([.ref (ad 17), .int a1, .int a2, .int a3, .ref qo] : List Value).toArray s 4 24 (LB ad ai Pm Pi qo s.heap.size)) (F0 m 19 ls [.ref q9]) := by
    intro H locs q9 hw hS hM hP hO
    refine lv_astore (lv' := (5, .ref q9) :: [(0, .ref (ad 17)), (1, .int a1), (2, .int a2), (3, .int a3), (4, .ref qo)]) hx hb dX0_game_19 hl (by decide) rfl (fun ls hl => ?_)
    refine lv_iconst (v := 2) hx hb dX0_game_21 (by decide) ?_
    exact vx_ret (W.iret hx hb hr (fun t ht _ => ⟨⟨2, (o, h, km), rfl, hw, hM.at ht, hP.at ht, hO.at ht⟩, hS.F ht⟩) hS.2.2 dX0_game_22 hlocks)
  refine vx_calli (vx_runV (As := [.int a1, .int a2, .int a3]) (rest := [.int 0, .ref qo]) ⟨hx, hb, hml, hown, hts⟩ (metX1_game l hlt D cA z0 E tw N ad s.heap.size h T _ a1 a2 a3 hn0 hn1 _ hw) (cwV 3 hts (lw_V q1645 q1646 q1647 q104 q1648) rfl rfl rfl (by decide +kernel) ⟨Nat.le_of_ble_eq_true rfl, Nat.le_of_ble_eq_true rfl⟩) ⟨PhXt.blind.pc, hM.recv hK, fun U hU hW => ⟨rfl, by rw [hU], by rw [hU]; exact hM, hJ, hN, PhT.go hT hK hZ hS hBz hU hW⟩⟩ rfl rfl hl.1 rfl (lv_room (Nat.le_of_ble_eq_true rfl)) dX0_game_7 ⟨Nat.le_of_ble_eq_true rfl, Nat.le_of_ble_eq_true rfl⟩) hS (fun q _ h => Or.inl (h.elim (fun h => Or.inl (Or.inl h)) (fun h => Or.inr h))) (fun q h => Or.inl (h.elim (fun h => Or.inl (Or.inl h)) (fun h => Or.inr h))) (fun q _ h => Or.inl (h.elim (fun h => Or.inl (Or.inl h)) (fun h => Or.inr h))) (fun En ce q9 u t H1 locs1 ht hvm hpx hBX hsz9 hk hS hce hcv hcl => ?_) (fun r u t H1 locs1 ht hvm hw hB hsz9 hk hS => ?_)
  · subst ht
    have hO := hO.kept (fun h9 => hk qo h9 (fun h => h.elim hqx (fun h => absurd h (Nat.not_le.mpr hqs))))
    have hP := hP.kept hY hJ (fun q hz hn => hk q hz (fun h => h.elim hn (fun h => absurd h (Nat.not_le.mpr hz))))
    obtain ⟨eE, hM⟩ := hBX
    rcases hpx with ⟨ej, hpx⟩ | ⟨ej, hpx⟩
    · subst ej
      subst eE
      exact vx_catch (E := "java/util/NoSuchElementException") (name := "java/util/NoSuchElementException") hown [] ⟨0, 12, 15, 18⟩ [⟨0, 12, 19, 13⟩] (htab.trans rfl) (fun z hz => absurd hz (List.not_mem_nil)) (by decide) (by decide) (hts _ q1389) (hZ.2.1.nC 39 rfl) hce hcv hcl (caught1 _ _ q9 hpx hS hM hP hO)
    · subst ej
      subst eE
      exact vx_catch (E := "java/lang/IllegalArgumentException") (name := "java/lang/IllegalArgumentException") hown [⟨0, 12, 15, 18⟩] ⟨0, 12, 19, 13⟩ [] (htab.trans rfl) (fun z hz => by rw [List.mem_singleton.mp hz]; exact Or.inr ⟨by decide, "java/util/NoSuchElementException", hts _ q1389, hNc⟩) (by decide) (by decide) (hts _ q983) (hZ.2.1.nC 32 rfl) hce hcv hcl (caught2 _ _ q9 hpx hS hM hP hO)
  · subst ht
    have hO := hO.kept (fun h9 => hk qo h9 (fun h => h.elim hqx (fun h => absurd h (Nat.not_le.mpr hqs))))
    have hP := hP.kept hY hJ (fun q hz hn => hk q hz (fun h => h.elim hn (fun h => absurd h (Nat.not_le.mpr hz))))
    have hM := hB
    refine lv_i2l (v := r.toInt64) hx hb dX0_game_10 rfl ?_
    exact done _ u km _ _ hw hS hM hP hO
def wpX0_season (post : LPT) (T : TT) (h : Mem) (km : KM) (o : Int64) (a1 : Int32) (a2 : Int32) (a3 : Int32) : Prop :=
  wpX1_season (fun r h' => post 0 r.toInt64 h' km) h T (fun j => (j = 0 ∧ post 1 o h km) ∨ (j = 1 ∧ post 2 o h km)) a1 a2 a3
set_option maxHeartbeats 4000000 in
set_option maxRecDepth 100000 in
theorem metX0_season (l : Launch) (hlt : l.stackTraces = false) (D : va_G) (cA : Nat → ClassId) (z0 : Nat) (E : Nat → Nat → Nat) (T : TT) (tw : Nat → Nat) (N : Nat → Prop) (ad ai : Nat → Nat) (Pm Pi : Nat → Prop) (cJ : ClassId) (qo sz : Nat) (h : Mem) (km : KM) (o : Int64) (a1 : Int32) (a2 : Int32) (a3 : Int32) (hn0 : T 0 0 < 2 ^ 31) (hn1 : T 0 1 < 2 ^ 31) (post : LPT) (hw : wpX0_season post T h km o a1 a2 a3) : MeL l D cA z0 E T tw N ad ai Pm Pi cJ qo sz yX0_season (wsW_ yX0_season cX0_season 6 (some .int) [((0 : Nat), (12 : Nat), (15 : Nat), (18 : Nat)), ((0 : Nat), (12 : Nat), (19 : Nat), (13 : Nat))]) ({ frames := 11, cells := 2, slots := 12, locals := 354 }) [.ref (ad 17), .int a1, .int a2, .int a3, .ref qo] h km o post 2 12 := by
  refine vx_ofWH (cc := cX0_season) (maxL := 6) (ret := (some .int)) (hh := [((0 : Nat), (12 : Nat), (15 : Nat), (18 : Nat)), ((0 : Nat), (12 : Nat), (19 : Nat), (13 : Nat))]) (by decide) rfl ?_
  intro p e s m args below meth c s₁ B hml hv
  obtain ⟨rfl, ⟨hsz, hM, hJ, hY, hN9, hP, hT, hK, hZ⟩, hO, hKJ, hqo, hNc⟩ := hv
  have hx := B.exec
  have hb := B.bytes
  have hr := B.returns
  have hts := atoms_spec (ws := wsW_ yX0_season cX0_season 6 (some .int) [((0 : Nat), (12 : Nat), (15 : Nat), (18 : Nat)), ((0 : Nat), (12 : Nat), (19 : Nat), (13 : Nat))]) B.pre
  have htab := vx_table (x := yX0_count) B (hts _ List.mem_cons_self)
  have hts : ∀ w ∈ lw_all, w.before _ s = true := fun w h => hts w (List.mem_cons_of_mem _ h)
  have hown : s.vm.findClass RX0 = some m.cls := findClass_of_methodNamed B.named
  have hlocks := B.notSynchronized
  subst hsz
  have hqs : qo < s.heap.size := by obtain ⟨f, -, h9⟩ := hO; exact h9.lt
  have hqx : ¬ XA ad qo := fun h => hqo.2.1 (Or.inl h)
  have hBz : ∀ q, LB ad ai Pm Pi qo s.heap.size q → z0 ≤ q := fun q h => h.elim (YB.z hZ hY hJ q) (fun h => h ▸ hqo.1)
  have hN : ∀ q, N q → ¬ XA ad q := fun q h h2 => hN9 q h (Or.inl h2)
  have hS : va_S (LB ad ai Pm Pi qo s.heap.size) s.heap s.heap [] := va_S.rf
  have hl := lv_entry ([.ref (ad 17), .int a1, .int a2, .int a3, .ref qo]) (n := 6) (Nat.le_of_ble_eq_true rfl)
  rw [lg_entry_eq]
  generalize (lg_sl ([.ref (ad 17), .int a1, .int a2, .int a3, .ref qo]) ++ List.replicate (6 - (lg_sl ([.ref (ad 17), .int a1, .int a2, .int a3, .ref qo])).length) Slot.unset).toArray = ls at hl ⊢
  have hl : lv_has ls 6 [(0, .ref (ad 17)), (1, .int a1), (2, .int a2), (3, .int a3), (4, .ref qo)] := hl
  unfold wpX0_season at hw
  refine lv_aload hx hb dX0_season_0 (lv_at hl 4 rfl) ?_
  refine lv_iconst (v := 0) hx hb dX0_season_2 (by decide) ?_
  refine lv_aload_n hx hb dX0_season_3 rfl (lv_at hl 0 rfl) ?_
  refine lv_iload_n hx hb dX0_season_4 rfl (lv_at hl 1 rfl) ?_
  refine lv_iload_n hx hb dX0_season_5 rfl (lv_at hl 2 rfl) ?_
  refine lv_iload_n hx hb dX0_season_6 rfl (lv_at hl 3 rfl) ?_
  have done : ∀ (v : Int64) (h' : Mem) (km' : KM) (H : Heap) (locs : List Loc), post 0 v h' km' → va_S (LB ad ai Pm Pi qo s.heap.size) s.heap H locs → XW D cA ad (tw 9) h' H → YZ D cA ad ai Pm Pi km' H → OZ D cJ qo o H → W p l e (headSpec (wsW_ yX0_season cX0_season 6 (some .int) [((0 : Nat), (12 : Nat), (15 : Nat), (18 : Nat)), ((0 : Nat), (12 : Nat), (19 : Nat), (13 : Nat))]) ({ frames := 11, cells := 2, slots := 12, locals := 354 })).room s m ([.ref (ad 17), .int a1, .int a2, .int a3, .ref qo] : List Value).toArray below meth c H locs 2 12 (vx_MQ below (va_Qi (fun r (u : Int64 × Mem × KM) => post r u.1 u.2.1 u.2.2) (fun u t => XW D cA ad (tw 9) u.2.1 t.heap ∧ YZ D cA ad ai Pm Pi u.2.2 t.heap ∧ OZ D cJ qo u.1 t.heap) (LB ad ai Pm Pi qo s.heap.size)) (vx_X (fun _ : Unit => False) (fun _ _ _ => True) (LB ad ai Pm Pi qo s.heap.size)) ([.ref (ad 17), .int a1, .int a2, .int a3, .ref qo] : List Value).toArray s 2 12 (LB ad ai Pm Pi qo s.heap.size)) (F0 m 11 ls [.long v, .int 0, .ref qo]) := by
    intro v h' km' H locs hw hS hM hP hO
    obtain ⟨f, hf, hO⟩ := hO
    refine h_last (A := LB ad ai Pm Pi qo s.heap.size) hx hb hKJ hO (Or.inr rfl) hS 0 rfl (j := 0) rfl (by unfold vp_in; decide) dX0_season_11 (fun H1 locs1 hO1 oq _ hS => ?_)
    refine lv_goto (tgt := 23) hx hb dX0_season_12 (by decide) ?_
    refine lv_iconst (v := 0) hx hb dX0_season_23 (by decide) ?_
    have hM := hM.keptX (fun j hj => oq _ (fun e => hqx (e ▸ ⟨j, hj, rfl⟩)))
    have hP := YZ.keptY hP hY (fun q hq _ => oq q (fun e => hqo.2.1 (e ▸ hq)))
    have hO : OZ D cJ qo v H1 := ⟨_, vp_updL_0, hO1⟩
    exact vx_ret (W.iret hx hb hr (fun t ht _ => ⟨⟨0, (v, h', km'), rfl, hw, hM.at ht, hP.at ht, hO.at ht⟩, hS.F ht⟩) hS.2.2 dX0_season_24 hlocks)
  have caught1 : ∀ (H : Heap) (locs : List Loc) (q9 : Nat), post 1 o h km → va_S (LB ad ai Pm Pi qo s.heap.size) s.heap H locs → XW D cA ad (tw 9) h H → YZ D cA ad ai Pm Pi km H → OZ D cJ qo o H → W p l e (headSpec (wsW_ yX0_season cX0_season 6 (some .int) [((0 : Nat), (12 : Nat), (15 : Nat), (18 : Nat)), ((0 : Nat), (12 : Nat), (19 : Nat), (13 : Nat))]) ({ frames := 11, cells := 2, slots := 12, locals := 354 })).room s m ([.ref (ad 17), .int a1, .int a2, .int a3, .ref qo] : List Value).toArray below meth c H locs 2 12 (vx_MQ below (va_Qi (fun r (u : Int64 × Mem × KM) => post r u.1 u.2.1 u.2.2) (fun u t => XW D cA ad (tw 9) u.2.1 t.heap ∧ YZ D cA ad ai Pm Pi u.2.2 t.heap ∧ OZ D cJ qo u.1 t.heap) (LB ad ai Pm Pi qo s.heap.size)) (vx_X (fun _ : Unit => False) (fun _ _ _ => True) (LB ad ai Pm Pi qo s.heap.size)) ([.ref (ad 17), .int a1, .int a2, .int a3, .ref qo] : List Value).toArray s 2 12 (LB ad ai Pm Pi qo s.heap.size)) (F0 m 15 ls [.ref q9]) := by
    intro H locs q9 hw hS hM hP hO
    refine lv_astore (lv' := (5, .ref q9) :: [(0, .ref (ad 17)), (1, .int a1), (2, .int a2), (3, .int a3), (4, .ref qo)]) hx hb dX0_season_15 hl (by decide) rfl (fun ls hl => ?_)
    refine lv_iconst (v := 1) hx hb dX0_season_17 (by decide) ?_
    exact vx_ret (W.iret hx hb hr (fun t ht _ => ⟨⟨1, (o, h, km), rfl, hw, hM.at ht, hP.at ht, hO.at ht⟩, hS.F ht⟩) hS.2.2 dX0_season_18 hlocks)
  have caught2 : ∀ (H : Heap) (locs : List Loc) (q9 : Nat), post 2 o h km → va_S (LB ad ai Pm Pi qo s.heap.size) s.heap H locs → XW D cA ad (tw 9) h H → YZ D cA ad ai Pm Pi km H → OZ D cJ qo o H → W p l e (headSpec (wsW_ yX0_season cX0_season 6 (some .int) [((0 : Nat), (12 : Nat), (15 : Nat), (18 : Nat)), ((0 : Nat), (12 : Nat), (19 : Nat), (13 : Nat))]) ({ frames := 11, cells := 2, slots := 12, locals := 354 })).room s m ([.ref (ad 17), .int a1, .int a2, .int a3, .ref qo] : List Value).toArray below meth c H locs 2 12 (vx_MQ below (va_Qi (fun r (u : Int64 × Mem × KM) => post r u.1 u.2.1 u.2.2) (fun u t => XW D cA ad (tw 9) u.2.1 t.heap ∧ YZ D cA ad ai Pm Pi u.2.2 t.heap ∧ OZ D cJ qo u.1 t.heap) (LB ad ai Pm Pi qo s.heap.size)) (vx_X (fun _ : Unit => False) (fun _ _ _ => True) (LB ad ai Pm Pi qo s.heap.size)) ([.ref (ad 17), .int a1, .int a2, .int a3, .ref qo] : List Value).toArray s 2 12 (LB ad ai Pm Pi qo s.heap.size)) (F0 m 19 ls [.ref q9]) := by
    intro H locs q9 hw hS hM hP hO
    refine lv_astore (lv' := (5, .ref q9) :: [(0, .ref (ad 17)), (1, .int a1), (2, .int a2), (3, .int a3), (4, .ref qo)]) hx hb dX0_season_19 hl (by decide) rfl (fun ls hl => ?_)
    refine lv_iconst (v := 2) hx hb dX0_season_21 (by decide) ?_
    exact vx_ret (W.iret hx hb hr (fun t ht _ => ⟨⟨2, (o, h, km), rfl, hw, hM.at ht, hP.at ht, hO.at ht⟩, hS.F ht⟩) hS.2.2 dX0_season_22 hlocks)
  refine vx_calli (vx_runV (As := [.int a1, .int a2, .int a3]) (rest := [.int 0, .ref qo]) ⟨hx, hb, hml, hown, hts⟩ (metX1_season l hlt D cA z0 E tw N ad s.heap.size h T _ a1 a2 a3 hn0 hn1 _ hw) (cwV 3 hts (lw_V q1656 q1657 q1658 q104 q1659) rfl rfl rfl (by decide +kernel) ⟨Nat.le_of_ble_eq_true rfl, Nat.le_of_ble_eq_true rfl⟩) ⟨PhXt.blind.pc, hM.recv hK, fun U hU hW => ⟨rfl, by rw [hU], by rw [hU]; exact hM, hJ, hN, PhT.go hT hK hZ hS hBz hU hW⟩⟩ rfl rfl hl.1 rfl (lv_room (Nat.le_of_ble_eq_true rfl)) dX0_season_7 ⟨Nat.le_of_ble_eq_true rfl, Nat.le_of_ble_eq_true rfl⟩) hS (fun q _ h => Or.inl (h.elim (fun h => Or.inl (Or.inl h)) (fun h => Or.inr h))) (fun q h => Or.inl (h.elim (fun h => Or.inl (Or.inl h)) (fun h => Or.inr h))) (fun q _ h => Or.inl (h.elim (fun h => Or.inl (Or.inl h)) (fun h => Or.inr h))) (fun En ce q9 u t H1 locs1 ht hvm hpx hBX hsz9 hk hS hce hcv hcl => ?_) (fun r u t H1 locs1 ht hvm hw hB hsz9 hk hS => ?_)
  · subst ht
    have hO := hO.kept (fun h9 => hk qo h9 (fun h => h.elim hqx (fun h => absurd h (Nat.not_le.mpr hqs))))
    have hP := hP.kept hY hJ (fun q hz hn => hk q hz (fun h => h.elim hn (fun h => absurd h (Nat.not_le.mpr hz))))
    obtain ⟨eE, hM⟩ := hBX
    rcases hpx with ⟨ej, hpx⟩ | ⟨ej, hpx⟩
    · subst ej
      subst eE
      exact vx_catch (E := "java/util/NoSuchElementException") (name := "java/util/NoSuchElementException") hown [] ⟨0, 12, 15, 18⟩ [⟨0, 12, 19, 13⟩] (htab.trans rfl) (fun z hz => absurd hz (List.not_mem_nil)) (by decide) (by decide) (hts _ q1389) (hZ.2.1.nC 39 rfl) hce hcv hcl (caught1 _ _ q9 hpx hS hM hP hO)
    · subst ej
      subst eE
      exact vx_catch (E := "java/lang/IllegalArgumentException") (name := "java/lang/IllegalArgumentException") hown [⟨0, 12, 15, 18⟩] ⟨0, 12, 19, 13⟩ [] (htab.trans rfl) (fun z hz => by rw [List.mem_singleton.mp hz]; exact Or.inr ⟨by decide, "java/util/NoSuchElementException", hts _ q1389, hNc⟩) (by decide) (by decide) (hts _ q983) (hZ.2.1.nC 32 rfl) hce hcv hcl (caught2 _ _ q9 hpx hS hM hP hO)
  · subst ht
    have hO := hO.kept (fun h9 => hk qo h9 (fun h => h.elim hqx (fun h => absurd h (Nat.not_le.mpr hqs))))
    have hP := hP.kept hY hJ (fun q hz hn => hk q hz (fun h => h.elim hn (fun h => absurd h (Nat.not_le.mpr hz))))
    have hM := hB
    refine lv_i2l (v := r.toInt64) hx hb dX0_season_10 rfl ?_
    exact done _ u km _ _ hw hS hM hP hO
