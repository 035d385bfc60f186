/-! the walks of the component's methods that only read, printed by tools/genx.py: X1_fault X1_people X1_within X2_house X1_arrives X1_latest X1_loaves X1_isInTime X10_isEater X6_knows X6_why X6_whoCan X1_cutMany X1_knownBy X1_familiar X1_ring X1_housesOf X1_doors X1_bothKnow X1_couples X6_may X2_isLater X2_slices X1_isBalked X1_gains -/
/-- StrangeKnives.fault()I -/
def wpX1_fault (post : Int32 → Prop) (h : Mem) (T : TT) : Prop :=
  post (h 8 0)
set_option maxHeartbeats 4000000 in
set_option maxRecDepth 100000 in
theorem metX1_fault (l : Launch) (D : va_G) (cA : Nat → ClassId) (z0 : Nat) (E : Nat → Nat → Nat) (tw : Nat → Nat) (N : Nat → Prop) (ad : Nat → Nat) (h : Mem) (T : TT) (post : Int32 → Prop) (hw : wpX1_fault post h T) : RcI l yX1_fault (ws_ yX1_fault cX1_fault 1 (some .int)) ({ frames := 1, cells := 0, slots := 0, locals := 30 }) [.ref (ad 17)] (PhX D cA z0 E T tw N ad h) post := by
  refine Met.ofW (cc := cX1_fault) (maxL := 1) (ret := (some .int)) (by decide) rfl ?_
  intro p e s m args below meth c s₁ B hml hv
  obtain ⟨rfl, hv⟩ := hv
  have hx := B.exec
  have hb := B.bytes
  have hr := B.returns
  have hts := atoms_spec (ws := ws_ yX1_fault cX1_fault 1 (some .int)) B.pre
  have hts : ∀ w ∈ lw_all, w.before _ s = true := fun w h => hts w (List.mem_cons_of_mem _ h)
  have hown : s.vm.findClass RX1 = some m.cls := findClass_of_methodNamed B.named
  have hlocks := B.notSynchronized
  have hl := lv_entry ([.ref (ad 17)]) (n := 1) (Nat.le_of_ble_eq_true rfl)
  rw [lg_entry_eq]
  generalize (lg_sl ([.ref (ad 17)]) ++ List.replicate (1 - (lg_sl ([.ref (ad 17)])).length) Slot.unset).toArray = ls at hl ⊢
  have hl : lv_has ls 1 [(0, .ref (ad 17))] := hl
  obtain ⟨hM, hT, hK, hZ⟩ := hv
  have hS : va_S NoA s.heap s.heap [] := va_S.rf
  unfold wpX1_fault at hw
  refine lv_aload_n hx hb dX1_fault_0 rfl (lv_at hl 0 rfl) ?_
  refine X_get17 hx hb hts hown hK (hM.kept (rS hS)) 8 (v := .int (h 8 0)) (by decide) (hts _ q732) rfl dX1_fault_1 ?_
  exact R_iret hx hb hr hlocks hS hw dX1_fault_4

/-- StrangeKnives.people()I -/
def wpX1_people (post : Int32 → Prop) (h : Mem) (T : TT) : Prop :=
  post (nI (T 0 0))
set_option maxHeartbeats 4000000 in
set_option maxRecDepth 100000 in
theorem metX1_people (l : Launch) (D : va_G) (cA : Nat → ClassId) (z0 : Nat) (E : Nat → Nat → Nat) (tw : Nat → Nat) (N : Nat → Prop) (ad : Nat → Nat) (h : Mem) (T : TT) (post : Int32 → Prop) (hw : wpX1_people post h T) : RcI l yX1_people (ws_ yX1_people cX1_people 1 (some .int)) ({ frames := 2, cells := 0, slots := 0, locals := 50 }) [.ref (ad 17)] (PhX D cA z0 E T tw N ad h) post := by
  refine Met.ofW (cc := cX1_people) (maxL := 1) (ret := (some .int)) (by decide) rfl ?_
  intro p e s m args below meth c s₁ B hml hv
  obtain ⟨rfl, hv⟩ := hv
  have hx := B.exec
  have hb := B.bytes
  have hr := B.returns
  have hts := atoms_spec (ws := ws_ yX1_people cX1_people 1 (some .int)) B.pre
  have hts : ∀ w ∈ lw_all, w.before _ s = true := fun w h => hts w (List.mem_cons_of_mem _ h)
  have hown : s.vm.findClass RX1 = some m.cls := findClass_of_methodNamed B.named
  have hlocks := B.notSynchronized
  have hl := lv_entry ([.ref (ad 17)]) (n := 1) (Nat.le_of_ble_eq_true rfl)
  rw [lg_entry_eq]
  generalize (lg_sl ([.ref (ad 17)]) ++ List.replicate (1 - (lg_sl ([.ref (ad 17)])).length) Slot.unset).toArray = ls at hl ⊢
  have hl : lv_has ls 1 [(0, .ref (ad 17))] := hl
  obtain ⟨hM, hT, hK, hZ⟩ := hv
  have hS : va_S NoA s.heap s.heap [] := va_S.rf
  unfold wpX1_people at hw
  refine lv_aload_n hx hb dX1_people_0 rfl (lv_at hl 0 rfl) ?_
  refine X_get17 hx hb hts hown hK (hM.kept (rS hS)) 0 (v := .ref (tw 9)) (by decide) (hts _ q724) rfl dX1_people_1 ?_
  refine T_fldN hx hb hts hown hK (hT.at hS hN0) 3 (v := .ref (tw 0)) (by decide) (hZ.2.1.nF 1 rfl) (fun _ _ => rfl) dX1_people_4 ?_
  refine T_psize ⟨hx, hb, hml, hown, hts⟩ hS hK (hT.at hS hN0) q796 ⟨Nat.le_of_ble_eq_true rfl, Nat.le_of_ble_eq_true rfl⟩ hl.1 (Nat.le_of_ble_eq_true rfl) dX1_people_7 ⟨Nat.zero_le _, Nat.zero_le _⟩ (fun H locs hk hS => ?_)
  exact R_iret hx hb hr hlocks hS hw dX1_people_10

/-- StrangeKnives.within(III)Z -/
def wpX1_within (post : Bool → Prop) (h : Mem) (a0 : Int32) (a1 : Int32) (a2 : Int32) : Prop :=
  post (if a0 < a1 then false else (if a2 < a0 then false else true))
set_option maxHeartbeats 4000000 in
set_option maxRecDepth 100000 in
theorem metX1_within (l : Launch) (h : Mem) (a0 : Int32) (a1 : Int32) (a2 : Int32) (post : Bool → Prop) (hw : wpX1_within post h a0 a1 a2) : RcZ l yX1_within (ws_ yX1_within cX1_within 3 (some .boolean)) ({ frames := 1, cells := 0, slots := 0, locals := 30 }) [.int a0, .int a1, .int a2] (fun _ => True) post := by
  refine Met.ofW (cc := cX1_within) (maxL := 3) (ret := (some .boolean)) (by decide) rfl ?_
  intro p e s m args below meth c s₁ B hml hv
  obtain ⟨rfl, hv⟩ := hv
  have hx := B.exec
  have hb := B.bytes
  have hr := B.returns
  have hts := atoms_spec (ws := ws_ yX1_within cX1_within 3 (some .boolean)) B.pre
  have hts : ∀ w ∈ lw_all, w.before _ s = true := fun w h => hts w (List.mem_cons_of_mem _ h)
  have hown : s.vm.findClass RX1 = some m.cls := findClass_of_methodNamed B.named
  have hlocks := B.notSynchronized
  have hl := lv_entry ([.int a0, .int a1, .int a2]) (n := 3) (Nat.le_of_ble_eq_true rfl)
  rw [lg_entry_eq]
  generalize (lg_sl ([.int a0, .int a1, .int a2]) ++ List.replicate (3 - (lg_sl ([.int a0, .int a1, .int a2])).length) Slot.unset).toArray = ls at hl ⊢
  have hl : lv_has ls 3 [(0, .int a0), (1, .int a1), (2, .int a2)] := hl
  have hS : va_S NoA s.heap s.heap [] := va_S.rf
  unfold wpX1_within at hw
  refine lv_iload_n hx hb dX1_within_0 rfl (lv_at hl 0 rfl) ?_
  refine lv_iload_n hx hb dX1_within_1 rfl (lv_at hl 1 rfl) ?_
  have hj1 : JR p l e (headSpec (ws_ yX1_within cX1_within 3 (some .boolean)) ({ frames := 1, cells := 0, slots := 0, locals := 30 })).room s m ([.int a0, .int a1, .int a2] : List Value).toArray below meth c (MQ below (RQi (fun r => ∃ b : Bool, r = b2i b ∧ post b)) ([.int a0, .int a1, .int a2] : List Value).toArray s 0 0 NoA) 3 15 [] [.int (if a0 < a1 then (0 : Int32) else (if a2 < a0 then (0 : Int32) else (1 : Int32)))] := by
    intro H locs ls hS hl
    exact R_zret hx hb hr hlocks hS ⟨_, (b2i_pick rfl (b2i_pick rfl rfl)), hw⟩ dX1_within_15
  refine lv_icmp_lt (tgt := 14) hx hb dX1_within_2 (by decide) (fun c2 => ?_) (fun c2 => ?_)
  · refine lv_iconst (v := (0 : Int32)) hx hb dX1_within_14 (by decide) ?_
    have e3 : (if a0 < a1 then (0 : Int32) else (if a2 < a0 then (0 : Int32) else (1 : Int32))) = (0 : Int32) := by rw [if_pos c2]
    rw [e3] at hj1
    exact hj1 _ _ ls hS (lv_sub hl [] rfl)
  · refine lv_iload_n hx hb dX1_within_5 rfl (lv_at hl 0 rfl) ?_
    refine lv_iload_n hx hb dX1_within_6 rfl (lv_at hl 2 rfl) ?_
    refine lv_icmp_gt (tgt := 14) hx hb dX1_within_7 (by decide) (fun c4 => ?_) (fun c4 => ?_)
    · refine lv_iconst (v := (0 : Int32)) hx hb dX1_within_14 (by decide) ?_
      have e5 : (if a0 < a1 then (0 : Int32) else (if a2 < a0 then (0 : Int32) else (1 : Int32))) = (0 : Int32) := by rw [if_neg c2, if_pos c4]
      rw [e5] at hj1
      exact hj1 _ _ ls hS (lv_sub hl [] rfl)
    · refine lv_iconst (v := (1 : Int32)) hx hb dX1_within_10 (by decide) ?_
      refine lv_goto (tgt := 15) hx hb dX1_within_11 (by decide) ?_
      have e6 : (if a0 < a1 then (0 : Int32) else (if a2 < a0 then (0 : Int32) else (1 : Int32))) = (1 : Int32) := by rw [if_neg c2, if_neg c4]
      rw [e6] at hj1
      exact hj1 _ _ ls hS (lv_sub hl [] rfl)

/-- StrangeKnives$Town.house(I)I -/
def wpX2_house (post : Int32 → Prop) (h : Mem) (T : TT) (a1 : Int32) : Prop :=
  (∃ p1 : Nat, a1 = nI p1 ∧ p1 < T 0 0 ∧ post (nI (T 2 p1)))
set_option maxHeartbeats 4000000 in
set_option maxRecDepth 100000 in
theorem metX2_house (l : Launch) (D : va_G) (cA : Nat → ClassId) (z0 : Nat) (E : Nat → Nat → Nat) (tw : Nat → Nat) (N : Nat → Prop) (vo : Nat) (h : Mem) (T : TT) (a1 : Int32) (post : Int32 → Prop) (hw : wpX2_house post h T a1) : RcI l yX2_house (ws_ yX2_house cX2_house 2 (some .int)) ({ frames := 5, cells := 0, slots := 0, locals := 201 }) [.ref (tw 9), .int a1] (PhT D cA z0 E T tw vo N) post := by
  refine Met.ofW (cc := cX2_house) (maxL := 2) (ret := (some .int)) (by decide) rfl ?_
  intro p e s m args below meth c s₁ B hml hv
  obtain ⟨rfl, hv⟩ := hv
  have hx := B.exec
  have hb := B.bytes
  have hr := B.returns
  have hts := atoms_spec (ws := ws_ yX2_house cX2_house 2 (some .int)) B.pre
  have hts : ∀ w ∈ lw_all, w.before _ s = true := fun w h => hts w (List.mem_cons_of_mem _ h)
  have hown : s.vm.findClass RX2 = some m.cls := findClass_of_methodNamed B.named
  have hlocks := B.notSynchronized
  have hl := lv_entry ([.ref (tw 9), .int a1]) (n := 2) (Nat.le_of_ble_eq_true rfl)
  rw [lg_entry_eq]
  generalize (lg_sl ([.ref (tw 9), .int a1]) ++ List.replicate (2 - (lg_sl ([.ref (tw 9), .int a1])).length) Slot.unset).toArray = ls at hl ⊢
  have hl : lv_has ls 2 [(0, .ref (tw 9)), (1, .int a1)] := hl
  obtain ⟨hT, hK, hZ⟩ := hv
  have hS : va_S NoA s.heap s.heap [] := va_S.rf
  unfold wpX2_house at hw
  refine lv_aload_n hx hb dX2_house_0 rfl (lv_at hl 0 rfl) ?_
  refine T_fld hx hb hts hown hK (hT.at hS hN0) 3 (v := .ref (tw 0)) (by decide) (hts _ q531) (fun _ _ => rfl) dX2_house_1 ?_
  refine lv_iload_n hx hb dX2_house_4 rfl (lv_at hl 1 rfl) ?_
  obtain ⟨p1, ep1, hp1, hw⟩ := hw
  refine T_pgetE ⟨hx, hb, hml, hown, hts⟩ hS hK (hT.at hS hN0) q886 ⟨Nat.le_of_ble_eq_true rfl, Nat.le_of_ble_eq_true rfl⟩ p1 hp1 ep1 hl.1 (Nat.le_of_ble_eq_true rfl) dX2_house_5 ⟨Nat.zero_le _, Nat.zero_le _⟩ (fun H locs hk hS => ?_)
  refine P_cast hx hb hown hK (hT.at hS hN0) hZ.2.1 p1 hp1 (hts _ q887) dX2_house_8 ?_
  refine P_fld hx hb hts hown hK (hT.at hS hN0) p1 hp1 0 (v := .int (nI (T 2 p1))) (by decide) (hts _ q1352) rfl dX2_house_11 ?_
  exact R_iret hx hb hr hlocks hS hw dX2_house_14

/-- StrangeKnives.arrives(II)I -/
def wpX1_arrives (post : Int32 → Prop) (h : Mem) (T : TT) (a1 : Int32) (a2 : Int32) : Prop :=
  (∃ b1 : Nat, a1 = nI b1 ∧ b1 < T 0 1 ∧ (wpX2_house (fun r2 => post ((mxI (h 44 0) (nI (T 6 b1))) + (abI ((nI (T 4 b1)) - r2)))) h T a2))
set_option maxHeartbeats 4000000 in
set_option maxRecDepth 100000 in
theorem metX1_arrives (l : Launch) (D : va_G) (cA : Nat → ClassId) (z0 : Nat) (E : Nat → Nat → Nat) (tw : Nat → Nat) (N : Nat → Prop) (ad : Nat → Nat) (h : Mem) (T : TT) (a1 : Int32) (a2 : Int32) (post : Int32 → Prop) (hw : wpX1_arrives post h T a1 a2) : RcI l yX1_arrives (ws_ yX1_arrives cX1_arrives 4 (some .int)) ({ frames := 6, cells := 0, slots := 0, locals := 222 }) [.ref (ad 17), .int a1, .int a2] (PhX D cA z0 E T tw N ad h) post := by
  refine Met.ofW (cc := cX1_arrives) (maxL := 4) (ret := (some .int)) (by decide) rfl ?_
  intro p e s m args below meth c s₁ B hml hv
  obtain ⟨rfl, hv⟩ := hv
  have hx := B.exec
  have hb := B.bytes
  have hr := B.returns
  have hts := atoms_spec (ws := ws_ yX1_arrives cX1_arrives 4 (some .int)) B.pre
  have hts : ∀ w ∈ lw_all, w.before _ s = true := fun w h => hts w (List.mem_cons_of_mem _ h)
  have hown : s.vm.findClass RX1 = some m.cls := findClass_of_methodNamed B.named
  have hlocks := B.notSynchronized
  have hl := lv_entry ([.ref (ad 17), .int a1, .int a2]) (n := 4) (Nat.le_of_ble_eq_true rfl)
  rw [lg_entry_eq]
  generalize (lg_sl ([.ref (ad 17), .int a1, .int a2]) ++ List.replicate (4 - (lg_sl ([.ref (ad 17), .int a1, .int a2])).length) Slot.unset).toArray = ls at hl ⊢
  have hl : lv_has ls 4 [(0, .ref (ad 17)), (1, .int a1), (2, .int a2)] := hl
  obtain ⟨hM, hT, hK, hZ⟩ := hv
  have hS : va_S NoA s.heap s.heap [] := va_S.rf
  unfold wpX1_arrives at hw
  refine lv_aload_n hx hb dX1_arrives_0 rfl (lv_at hl 0 rfl) ?_
  refine X_get17 hx hb hts hown hK (hM.kept (rS hS)) 0 (v := .ref (tw 9)) (by decide) (hts _ q724) rfl dX1_arrives_1 ?_
  refine T_fldN hx hb hts hown hK (hT.at hS hN0) 4 (v := .ref (tw 2)) (by decide) (hZ.2.1.nF 2 rfl) (fun _ _ => rfl) dX1_arrives_4 ?_
  refine lv_iload_n hx hb dX1_arrives_7 rfl (lv_at hl 1 rfl) ?_
  obtain ⟨b1, eb1, hb1, hw⟩ := hw
  refine T_lgetE ⟨hx, hb, hml, hown, hts⟩ hS hK (hT.at hS hN0) q854 ⟨Nat.le_of_ble_eq_true rfl, Nat.le_of_ble_eq_true rfl⟩ b1 hb1 eb1 hl.1 (Nat.le_of_ble_eq_true rfl) dX1_arrives_8 ⟨Nat.zero_le _, Nat.zero_le _⟩ (fun H locs hk hS => ?_)
  refine L_cast hx hb hown hK (hT.at hS hN0) b1 hb1 (hts _ q880) dX1_arrives_11 ?_
  refine lv_astore_n (lv' := [(3, .ref (tw (200 + b1))), (0, .ref (ad 17)), (1, .int a1), (2, .int a2)]) hx hb dX1_arrives_14 rfl hl (by decide) rfl (fun ls hl => ?_)
  refine lv_aload_n hx hb dX1_arrives_15 rfl (lv_at hl 1 rfl) ?_
  refine X_get17 hx hb hts hown hK (hM.kept (rS hS)) 3 (v := .ref (ad 45)) (by decide) (hts _ q727) rfl dX1_arrives_16 ?_
  refine X_get45N hx hb hts hown hK (hM.kept (rS hS)) 4 (v := .int (h 44 0)) (by decide) (hZ.2.1.nF 13 rfl) rfl dX1_arrives_19 ?_
  refine lv_aload_n hx hb dX1_arrives_22 rfl (lv_at hl 0 rfl) ?_
  refine L_fldN hx hb hts hown hK (hT.at hS hN0) b1 hb1 2 (v := .int (nI (T 6 b1))) (by decide) (hZ.2.1.nF 18 rfl) rfl dX1_arrives_23 ?_
  refine J_mxI hx hb hml hl.1 hown (hts _ q881) (hts _ q273) (hts _ q118) (hts _ q274) (Nat.le_of_ble_eq_true rfl) (Nat.le_of_ble_eq_true rfl) (Nat.zero_le _) (Nat.zero_le _) dX1_arrives_26 ?_
  refine lv_aload_n hx hb dX1_arrives_29 rfl (lv_at hl 0 rfl) ?_
  refine L_fldN hx hb hts hown hK (hT.at hS hN0) b1 hb1 0 (v := .int (nI (T 4 b1))) (by decide) (hZ.2.1.nF 16 rfl) rfl dX1_arrives_30 ?_
  refine lv_aload_n hx hb dX1_arrives_33 rfl (lv_at hl 1 rfl) ?_
  refine X_get17 hx hb hts hown hK (hM.kept (rS hS)) 0 (v := .ref (tw 9)) (by decide) (hts _ q724) rfl dX1_arrives_34 ?_
  refine lv_iload_n hx hb dX1_arrives_37 rfl (lv_at hl 3 rfl) ?_
  refine RT_callI (As := [.int a2]) (rest := [.int (nI (T 4 b1)), .int (mxI (h 44 0) (nI (T 6 b1)))]) ⟨hx, hb, hml, hown, hts⟩ hS (fun _ h => h.elim) hK hZ (hT.at hS hN0) (metX2_house l D cA z0 E tw N (ad 70) h T a2 _ hw) (cwV 1 hts (lw_V q882 q883 q884 q105 q885) rfl rfl rfl (by decide +kernel) ⟨Nat.le_of_ble_eq_true rfl, Nat.le_of_ble_eq_true rfl⟩) rfl hl.1 rfl (Nat.le_of_ble_eq_true rfl) dX1_arrives_38 ⟨Nat.zero_le _, Nat.zero_le _⟩ (fun r2 H locs hw hk hS => ?_)
  refine lv_isub hx hb dX1_arrives_41 ?_
  refine J_abI hx hb hml hl.1 hown (hts _ q888) (hts _ q889) (hts _ q118) (hts _ q890) (Nat.le_of_ble_eq_true rfl) (Nat.le_of_ble_eq_true rfl) (Nat.zero_le _) (Nat.zero_le _) dX1_arrives_42 ?_
  refine lv_iadd hx hb dX1_arrives_45 ?_
  exact R_iret hx hb hr hlocks hS hw dX1_arrives_46

/-- StrangeKnives.latest(I)I -/
def wpX1_latest (post : Int32 → Prop) (h : Mem) (T : TT) (a1 : Int32) : Prop :=
  (∃ b1 : Nat, a1 = nI b1 ∧ b1 < T 0 1 ∧ post (mnI (nI (T 0 4)) ((nI (T 6 b1)) + (nI (T 7 b1)))))
set_option maxHeartbeats 4000000 in
set_option maxRecDepth 100000 in
theorem metX1_latest (l : Launch) (D : va_G) (cA : Nat → ClassId) (z0 : Nat) (E : Nat → Nat → Nat) (tw : Nat → Nat) (N : Nat → Prop) (ad : Nat → Nat) (h : Mem) (T : TT) (a1 : Int32) (post : Int32 → Prop) (hw : wpX1_latest post h T a1) : RcI l yX1_latest (ws_ yX1_latest cX1_latest 2 (some .int)) ({ frames := 5, cells := 0, slots := 0, locals := 201 }) [.ref (ad 17), .int a1] (PhX D cA z0 E T tw N ad h) post := by
  refine Met.ofW (cc := cX1_latest) (maxL := 2) (ret := (some .int)) (by decide) rfl ?_
  intro p e s m args below meth c s₁ B hml hv
  obtain ⟨rfl, hv⟩ := hv
  have hx := B.exec
  have hb := B.bytes
  have hr := B.returns
  have hts := atoms_spec (ws := ws_ yX1_latest cX1_latest 2 (some .int)) B.pre
  have hts : ∀ w ∈ lw_all, w.before _ s = true := fun w h => hts w (List.mem_cons_of_mem _ h)
  have hown : s.vm.findClass RX1 = some m.cls := findClass_of_methodNamed B.named
  have hlocks := B.notSynchronized
  have hl := lv_entry ([.ref (ad 17), .int a1]) (n := 2) (Nat.le_of_ble_eq_true rfl)
  rw [lg_entry_eq]
  generalize (lg_sl ([.ref (ad 17), .int a1]) ++ List.replicate (2 - (lg_sl ([.ref (ad 17), .int a1])).length) Slot.unset).toArray = ls at hl ⊢
  have hl : lv_has ls 2 [(0, .ref (ad 17)), (1, .int a1)] := hl
  obtain ⟨hM, hT, hK, hZ⟩ := hv
  have hS : va_S NoA s.heap s.heap [] := va_S.rf
  unfold wpX1_latest at hw
  refine lv_aload_n hx hb dX1_latest_0 rfl (lv_at hl 0 rfl) ?_
  refine X_get17 hx hb hts hown hK (hM.kept (rS hS)) 0 (v := .ref (tw 9)) (by decide) (hts _ q724) rfl dX1_latest_1 ?_
  refine T_fldN hx hb hts hown hK (hT.at hS hN0) 1 (v := .int (nI (T 0 4))) (by decide) (hZ.2.1.nF 11 rfl) (fun _ _ => rfl) dX1_latest_4 ?_
  refine lv_aload_n hx hb dX1_latest_7 rfl (lv_at hl 0 rfl) ?_
  refine X_get17 hx hb hts hown hK (hM.kept (rS hS)) 0 (v := .ref (tw 9)) (by decide) (hts _ q724) rfl dX1_latest_8 ?_
  refine T_fldN hx hb hts hown hK (hT.at hS hN0) 4 (v := .ref (tw 2)) (by decide) (hZ.2.1.nF 2 rfl) (fun _ _ => rfl) dX1_latest_11 ?_
  refine lv_iload_n hx hb dX1_latest_14 rfl (lv_at hl 1 rfl) ?_
  obtain ⟨b1, eb1, hb1, hw⟩ := hw
  refine T_lgetE ⟨hx, hb, hml, hown, hts⟩ hS hK (hT.at hS hN0) q854 ⟨Nat.le_of_ble_eq_true rfl, Nat.le_of_ble_eq_true rfl⟩ b1 hb1 eb1 hl.1 (Nat.le_of_ble_eq_true rfl) dX1_latest_15 ⟨Nat.zero_le _, Nat.zero_le _⟩ (fun H locs hk hS => ?_)
  refine L_cast hx hb hown hK (hT.at hS hN0) b1 hb1 (hts _ q880) dX1_latest_18 ?_
  refine L_fldN hx hb hts hown hK (hT.at hS hN0) b1 hb1 2 (v := .int (nI (T 6 b1))) (by decide) (hZ.2.1.nF 18 rfl) rfl dX1_latest_21 ?_
  refine lv_aload_n hx hb dX1_latest_24 rfl (lv_at hl 0 rfl) ?_
  refine X_get17 hx hb hts hown hK (hM.kept (rS hS)) 0 (v := .ref (tw 9)) (by decide) (hts _ q724) rfl dX1_latest_25 ?_
  refine T_fldN hx hb hts hown hK (hT.at hS hN0) 4 (v := .ref (tw 2)) (by decide) (hZ.2.1.nF 2 rfl) (fun _ _ => rfl) dX1_latest_28 ?_
  refine lv_iload_n hx hb dX1_latest_31 rfl (lv_at hl 1 rfl) ?_
  refine T_lgetE ⟨hx, hb, hml, hown, hts⟩ hS hK (hT.at hS hN0) q854 ⟨Nat.le_of_ble_eq_true rfl, Nat.le_of_ble_eq_true rfl⟩ b1 hb1 eb1 hl.1 (Nat.le_of_ble_eq_true rfl) dX1_latest_32 ⟨Nat.zero_le _, Nat.zero_le _⟩ (fun H locs hk hS => ?_)
  refine L_cast hx hb hown hK (hT.at hS hN0) b1 hb1 (hts _ q880) dX1_latest_35 ?_
  refine L_fldN hx hb hts hown hK (hT.at hS hN0) b1 hb1 3 (v := .int (nI (T 7 b1))) (by decide) (hZ.2.1.nF 19 rfl) rfl dX1_latest_38 ?_
  refine lv_iadd hx hb dX1_latest_41 ?_
  refine J_mnI hx hb hml hl.1 hown (hts _ q895) (hts _ q291) (hts _ q118) (hts _ q292) (Nat.le_of_ble_eq_true rfl) (Nat.le_of_ble_eq_true rfl) (Nat.zero_le _) (Nat.zero_le _) dX1_latest_42 ?_
  exact R_iret hx hb hr hlocks hS hw dX1_latest_45

/-- StrangeKnives.loaves()I -/
def wpX1_loaves (post : Int32 → Prop) (h : Mem) (T : TT) : Prop :=
  post (nI (T 0 1))
set_option maxHeartbeats 4000000 in
set_option maxRecDepth 100000 in
theorem metX1_loaves (l : Launch) (D : va_G) (cA : Nat → ClassId) (z0 : Nat) (E : Nat → Nat → Nat) (tw : Nat → Nat) (N : Nat → Prop) (ad : Nat → Nat) (h : Mem) (T : TT) (post : Int32 → Prop) (hw : wpX1_loaves post h T) : RcI l yX1_loaves (ws_ yX1_loaves cX1_loaves 1 (some .int)) ({ frames := 2, cells := 0, slots := 0, locals := 50 }) [.ref (ad 17)] (PhX D cA z0 E T tw N ad h) post := by
  refine Met.ofW (cc := cX1_loaves) (maxL := 1) (ret := (some .int)) (by decide) rfl ?_
  intro p e s m args below meth c s₁ B hml hv
  obtain ⟨rfl, hv⟩ := hv
  have hx := B.exec
  have hb := B.bytes
  have hr := B.returns
  have hts := atoms_spec (ws := ws_ yX1_loaves cX1_loaves 1 (some .int)) B.pre
  have hts : ∀ w ∈ lw_all, w.before _ s = true := fun w h => hts w (List.mem_cons_of_mem _ h)
  have hown : s.vm.findClass RX1 = some m.cls := findClass_of_methodNamed B.named
  have hlocks := B.notSynchronized
  have hl := lv_entry ([.ref (ad 17)]) (n := 1) (Nat.le_of_ble_eq_true rfl)
  rw [lg_entry_eq]
  generalize (lg_sl ([.ref (ad 17)]) ++ List.replicate (1 - (lg_sl ([.ref (ad 17)])).length) Slot.unset).toArray = ls at hl ⊢
  have hl : lv_has ls 1 [(0, .ref (ad 17))] := hl
  obtain ⟨hM, hT, hK, hZ⟩ := hv
  have hS : va_S NoA s.heap s.heap [] := va_S.rf
  unfold wpX1_loaves at hw
  refine lv_aload_n hx hb dX1_loaves_0 rfl (lv_at hl 0 rfl) ?_
  refine X_get17 hx hb hts hown hK (hM.kept (rS hS)) 0 (v := .ref (tw 9)) (by decide) (hts _ q724) rfl dX1_loaves_1 ?_
  refine T_fldN hx hb hts hown hK (hT.at hS hN0) 4 (v := .ref (tw 2)) (by decide) (hZ.2.1.nF 2 rfl) (fun _ _ => rfl) dX1_loaves_4 ?_
  refine T_lsize ⟨hx, hb, hml, hown, hts⟩ hS hK (hT.at hS hN0) q796 ⟨Nat.le_of_ble_eq_true rfl, Nat.le_of_ble_eq_true rfl⟩ hl.1 (Nat.le_of_ble_eq_true rfl) dX1_loaves_7 ⟨Nat.zero_le _, Nat.zero_le _⟩ (fun H locs hk hS => ?_)
  exact R_iret hx hb hr hlocks hS hw dX1_loaves_10

/-- StrangeKnives.isInTime(I)Z -/
def wpBX1_isInTime_149 (post : Bool → Prop) (T : TT) (a1 : Int32)  (h : Mem) (x2 : Int32)  : Prop :=
  post (if x2 = 0 then true else false)
def wpBX1_isInTime_103 (post : Bool → Prop) (T : TT) (a1 : Int32) (K36 : Int32 → Int32 → Prop) (K52 : Int32 → Int32 → Prop) (h : Mem) (x2 : Int32) (x3 : Int32) (x5 : Int32)  : Prop :=
  K52 x5 (x5 + (1 : Int32))
def wpBX1_isInTime_52 (post : Bool → Prop) (T : TT) (a1 : Int32) (K36 : Int32 → Int32 → Prop) (K52 : Int32 → Int32 → Prop) (h : Mem) (x2 : Int32) (x3 : Int32) (x4 : Int32) (x5 : Int32) : Prop :=
  (wpX1_loaves (fun r9 => ((r9 ≤ x5 → ((x4 = (-1 : Int32) → K36 x2 (x3 + (1 : Int32))) ∧ (¬ x4 = (-1 : Int32) → (wpX1_latest (fun r12 => ((x3 ≤ r12 → K36 (x2 &&& (((1 : Int32) <<< (x4 &&& 31)) ^^^ (-1 : Int32))) (x3 + (1 : Int32))) ∧ (¬ x3 ≤ r12 → post false))) h T x4)))) ∧ (¬ r9 ≤ x5 → ((((x2 >>> (x5 &&& 31)) &&& (1 : Int32)) = (1 : Int32) → (wpX1_arrives (fun r15 => ((x3 < r15 → K52 x4 (x5 + (1 : Int32))) ∧ (¬ x3 < r15 → ((x4 = (-1 : Int32) → wpBX1_isInTime_103 post T a1 K36 K52 h x2 x3 x5) ∧ (¬ x4 = (-1 : Int32) → (wpX1_latest (fun r18 => (wpX1_latest (fun r19 => K52 (if r19 ≤ r18 then x4 else x5) (x5 + (1 : Int32))) h T x4)) h T x5)))))) h T x5 a1)) ∧ (¬ ((x2 >>> (x5 &&& 31)) &&& (1 : Int32)) = (1 : Int32) → K52 x4 (x5 + (1 : Int32))))))) h T )
def wpLX1_isInTime_52 (post : Bool → Prop) (T : TT) (a1 : Int32) (K36 : Int32 → Int32 → Prop) (h : Mem) (x2 : Int32) (x3 : Int32) : Nat → (Int32 × Int32) → Prop := LW (fun K s => wpBX1_isInTime_52 post T a1 K36 (fun x4 x5 => K (x4, x5)) h x2 x3 s.1 s.2)
def wpBX1_isInTime_36 (post : Bool → Prop) (T : TT) (a1 : Int32)  (K36 : Int32 → Int32 → Prop) (h : Mem)  (x2 : Int32) (x3 : Int32) : Prop :=
  (((24 : Int32) ≤ x3 → wpBX1_isInTime_149 post T a1  h x2) ∧ (¬ (24 : Int32) ≤ x3 → ((x2 = 0 → wpBX1_isInTime_149 post T a1  h x2) ∧ (¬ x2 = 0 → (∃ n, wpLX1_isInTime_52 post T a1 K36 h x2 x3 n ((-1 : Int32), (0 : Int32)))))))
def wpLX1_isInTime_36 (post : Bool → Prop) (T : TT) (a1 : Int32)  (h : Mem)  : Nat → (Int32 × Int32) → Prop := LW (fun K s => wpBX1_isInTime_36 post T a1  (fun x2 x3 => K (x2, x3)) h  s.1 s.2)
def wpBX1_isInTime_4 (post : Bool → Prop) (T : TT) (a1 : Int32)  (K4 : Int32 → Int32 → Prop) (h : Mem)  (x2 : Int32) (x3 : Int32) : Prop :=
  (wpX1_loaves (fun r1 => ((r1 ≤ x3 → (∃ n, wpLX1_isInTime_36 post T a1  h n (x2, (0 : Int32)))) ∧ (¬ r1 ≤ x3 → (vp_in x3 (Xlen 11) ∧ K4 (if (h 11 (ix x3)) = a1 then (x2 ||| ((1 : Int32) <<< (x3 &&& 31))) else x2) (x3 + (1 : Int32)))))) h T )
def wpLX1_isInTime_4 (post : Bool → Prop) (T : TT) (a1 : Int32)  (h : Mem)  : Nat → (Int32 × Int32) → Prop := LW (fun K s => wpBX1_isInTime_4 post T a1  (fun x2 x3 => K (x2, x3)) h  s.1 s.2)
def wpX1_isInTime (post : Bool → Prop) (h : Mem) (T : TT) (a1 : Int32) : Prop :=
  (∃ n, wpLX1_isInTime_4 post T a1  h n ((0 : Int32), (0 : Int32)))
set_option maxHeartbeats 4000000 in
set_option maxRecDepth 100000 in
theorem metX1_isInTime (l : Launch) (D : va_G) (cA : Nat → ClassId) (z0 : Nat) (E : Nat → Nat → Nat) (tw : Nat → Nat) (N : Nat → Prop) (ad : Nat → Nat) (h : Mem) (T : TT) (a1 : Int32) (post : Bool → Prop) (hw : wpX1_isInTime post h T a1) : RcZ l yX1_isInTime (ws_ yX1_isInTime cX1_isInTime 6 (some .boolean)) ({ frames := 7, cells := 0, slots := 0, locals := 245 }) [.ref (ad 17), .int a1] (PhX D cA z0 E T tw N ad h) post := by
  refine Met.ofW (cc := cX1_isInTime) (maxL := 6) (ret := (some .boolean)) (by decide) rfl ?_
  intro p e s m args below meth c s₁ B hml hv
  obtain ⟨rfl, hv⟩ := hv
  have hx := B.exec
  have hb := B.bytes
  have hr := B.returns
  have hts := atoms_spec (ws := ws_ yX1_isInTime cX1_isInTime 6 (some .boolean)) B.pre
  have hts : ∀ w ∈ lw_all, w.before _ s = true := fun w h => hts w (List.mem_cons_of_mem _ h)
  have hown : s.vm.findClass RX1 = some m.cls := findClass_of_methodNamed B.named
  have hlocks := B.notSynchronized
  have hl := lv_entry ([.ref (ad 17), .int a1]) (n := 6) (Nat.le_of_ble_eq_true rfl)
  rw [lg_entry_eq]
  generalize (lg_sl ([.ref (ad 17), .int a1]) ++ List.replicate (6 - (lg_sl ([.ref (ad 17), .int a1])).length) Slot.unset).toArray = ls at hl ⊢
  have hl : lv_has ls 6 [(0, .ref (ad 17)), (1, .int a1)] := hl
  obtain ⟨hM, hT, hK, hZ⟩ := hv
  have hS : va_S NoA s.heap s.heap [] := va_S.rf
  have hB149 : ∀ (x2 : Int32), wpBX1_isInTime_149 post T a1  h x2 → JR p l e (headSpec (ws_ yX1_isInTime cX1_isInTime 6 (some .boolean)) ({ frames := 7, cells := 0, slots := 0, locals := 245 })).room s m ([.ref (ad 17), .int a1] : List Value).toArray below meth c (MQ below (RQi (fun r => ∃ b : Bool, r = b2i b ∧ post b)) ([.ref (ad 17), .int a1] : List Value).toArray s 0 0 NoA) 6 149 [(2, .int x2)] [] := by
    intro x2 hw H locs ls hS hl
    unfold wpBX1_isInTime_149 at hw
    refine lv_iload_n hx hb dX1_isInTime_149 rfl (lv_at hl 0 rfl) ?_
    have hj4 : JR p l e (headSpec (ws_ yX1_isInTime cX1_isInTime 6 (some .boolean)) ({ frames := 7, cells := 0, slots := 0, locals := 245 })).room s m ([.ref (ad 17), .int a1] : List Value).toArray below meth c (MQ below (RQi (fun r => ∃ b : Bool, r = b2i b ∧ post b)) ([.ref (ad 17), .int a1] : List Value).toArray s 0 0 NoA) 6 158 [] [.int (if x2 = 0 then (1 : Int32) else (0 : Int32))] := by
      intro H locs ls hS hl
      exact R_zret hx hb hr hlocks hS ⟨_, (b2i_pick rfl rfl), hw⟩ dX1_isInTime_158
    refine lv_if_ne (tgt := 157) hx hb dX1_isInTime_150 (by decide) (fun c5 => ?_) (fun c5 => ?_)
    · refine lv_iconst (v := (0 : Int32)) hx hb dX1_isInTime_157 (by decide) ?_
      have e6 : (if x2 = 0 then (1 : Int32) else (0 : Int32)) = (0 : Int32) := by rw [if_neg c5]
      rw [e6] at hj4
      exact hj4 _ _ ls hS (lv_sub hl [] rfl)
    · refine lv_iconst (v := (1 : Int32)) hx hb dX1_isInTime_153 (by decide) ?_
      refine lv_goto (tgt := 158) hx hb dX1_isInTime_154 (by decide) ?_
      have e7 : (if x2 = 0 then (1 : Int32) else (0 : Int32)) = (1 : Int32) := by rw [if_pos c5]
      rw [e7] at hj4
      exact hj4 _ _ ls hS (lv_sub hl [] rfl)
  have hL36 : ∀  (n36 : Nat) (x2 : Int32) (x3 : Int32), wpLX1_isInTime_36 post T a1  h  n36 (x2, x3) → JR p l e (headSpec (ws_ yX1_isInTime cX1_isInTime 6 (some .boolean)) ({ frames := 7, cells := 0, slots := 0, locals := 245 })).room s m ([.ref (ad 17), .int a1] : List Value).toArray below meth c (MQ below (RQi (fun r => ∃ b : Bool, r = b2i b ∧ post b)) ([.ref (ad 17), .int a1] : List Value).toArray s 0 0 NoA) 6 36 [(0, .ref (ad 17)), (1, .int a1), (2, .int x2), (3, .int x3)] [] := by
    intro  n36
    induction n36 with
    | zero => intro x2 x3 hw; exact False.elim hw
    | succ n36 ih36 =>
      have hL52 : ∀ (x2 : Int32) (x3 : Int32) (n52 : Nat) (x4 : Int32) (x5 : Int32), wpLX1_isInTime_52 post T a1 (fun x2 x3 => wpLX1_isInTime_36 post T a1  h  n36 (x2, x3)) h x2 x3 n52 (x4, x5) → JR p l e (headSpec (ws_ yX1_isInTime cX1_isInTime 6 (some .boolean)) ({ frames := 7, cells := 0, slots := 0, locals := 245 })).room s m ([.ref (ad 17), .int a1] : List Value).toArray below meth c (MQ below (RQi (fun r => ∃ b : Bool, r = b2i b ∧ post b)) ([.ref (ad 17), .int a1] : List Value).toArray s 0 0 NoA) 6 52 [(0, .ref (ad 17)), (1, .int a1), (2, .int x2), (3, .int x3), (4, .int x4), (5, .int x5)] [] := by
        intro x2 x3 n52
        induction n52 with
        | zero => intro x4 x5 hw; exact False.elim hw
        | succ n52 ih52 =>
          have hB103 : ∀ (x5 : Int32), wpBX1_isInTime_103 post T a1 (fun x2 x3 => wpLX1_isInTime_36 post T a1  h  n36 (x2, x3)) (fun x4 x5 => wpLX1_isInTime_52 post T a1 (fun x2 x3 => wpLX1_isInTime_36 post T a1  h  n36 (x2, x3)) h x2 x3 n52 (x4, x5)) h x2 x3 x5 → JR p l e (headSpec (ws_ yX1_isInTime cX1_isInTime 6 (some .boolean)) ({ frames := 7, cells := 0, slots := 0, locals := 245 })).room s m ([.ref (ad 17), .int a1] : List Value).toArray below meth c (MQ below (RQi (fun r => ∃ b : Bool, r = b2i b ∧ post b)) ([.ref (ad 17), .int a1] : List Value).toArray s 0 0 NoA) 6 103 [(0, .ref (ad 17)), (1, .int a1), (2, .int x2), (3, .int x3), (5, .int x5)] [] := by
            intro x5 hw H locs ls hS hl
            unfold wpBX1_isInTime_103 at hw
            refine lv_iload hx hb dX1_isInTime_103 (lv_at hl 4 rfl) ?_
            refine lv_istore (lv' := [(4, .int x5), (0, .ref (ad 17)), (1, .int a1), (2, .int x2), (3, .int x3), (5, .int x5)]) hx hb dX1_isInTime_105 hl (by decide) rfl (fun ls hl => ?_)
            refine lv_iinc (v := (x5 + (1 : Int32))) (lv' := [(5, .int (x5 + (1 : Int32))), (4, .int x5), (0, .ref (ad 17)), (1, .int a1), (2, .int x2), (3, .int x3)]) hx hb dX1_isInTime_107 hl (k := 5) rfl rfl (by decide) rfl (fun ls hl => ?_)
            refine lv_goto (tgt := 52) hx hb dX1_isInTime_110 (by decide) ?_
            exact ih52 x5 (x5 + (1 : Int32)) hw _ _ ls hS (lv_sub hl [2, 3, 4, 5, 1, 0] rfl)
          intro x4 x5 hw H locs ls hS hl
          have hw : wpBX1_isInTime_52 post T a1 (fun x2 x3 => wpLX1_isInTime_36 post T a1  h  n36 (x2, x3)) (fun x4 x5 => wpLX1_isInTime_52 post T a1 (fun x2 x3 => wpLX1_isInTime_36 post T a1  h  n36 (x2, x3)) h x2 x3 n52 (x4, x5)) h x2 x3 x4 x5 := hw
          unfold wpBX1_isInTime_52 at hw
          refine lv_iload hx hb dX1_isInTime_52 (lv_at hl 5 rfl) ?_
          refine lv_aload_n hx hb dX1_isInTime_54 rfl (lv_at hl 0 rfl) ?_
          refine RX_callI (As := []) (rest := [.int x5]) ⟨hx, hb, hml, hown, hts⟩ hS (fun _ h => h.elim) hK hZ (hT.at hS hN0) (hM.kept (rS hS)) (metX1_loaves l D cA z0 E tw N ad h T  _ hw) (cwV 0 hts (lw_V q860 q862 qs9 q104 q863) rfl rfl rfl (by decide +kernel) ⟨Nat.le_of_ble_eq_true rfl, Nat.le_of_ble_eq_true rfl⟩) rfl hl.1 rfl (Nat.le_of_ble_eq_true rfl) dX1_isInTime_55 ⟨Nat.zero_le _, Nat.zero_le _⟩ (fun r9 H locs hw hk hS => ?_)
          refine lv_icmp_ge (tgt := 113) hx hb dX1_isInTime_58 (by decide) (fun c10 => ?_) (fun c10 => ?_)
          · have hw := hw.1 c10
            refine lv_iload hx hb dX1_isInTime_113 (lv_at hl 4 rfl) ?_
            refine lv_iconst (v := (-1 : Int32)) hx hb dX1_isInTime_115 (by decide) ?_
            refine lv_icmp_ne (tgt := 122) hx hb dX1_isInTime_116 (by decide) (fun c11 => ?_) (fun c11 => ?_)
            · have hw := hw.2 c11
              refine lv_iload_n hx hb dX1_isInTime_122 rfl (lv_at hl 3 rfl) ?_
              refine lv_aload_n hx hb dX1_isInTime_123 rfl (lv_at hl 0 rfl) ?_
              refine lv_iload hx hb dX1_isInTime_124 (lv_at hl 4 rfl) ?_
              refine RX_callI (As := [.int x4]) (rest := [.int x3]) ⟨hx, hb, hml, hown, hts⟩ hS (fun _ h => h.elim) hK hZ (hT.at hS hN0) (hM.kept (rS hS)) (metX1_latest l D cA z0 E tw N ad h T x4 _ hw) (cwV 1 hts (lw_V q891 q893 qs14 q104 q894) rfl rfl rfl (by decide +kernel) ⟨Nat.le_of_ble_eq_true rfl, Nat.le_of_ble_eq_true rfl⟩) rfl hl.1 rfl (Nat.le_of_ble_eq_true rfl) dX1_isInTime_126 ⟨Nat.zero_le _, Nat.zero_le _⟩ (fun r12 H locs hw hk hS => ?_)
              refine lv_icmp_le (tgt := 134) hx hb dX1_isInTime_129 (by decide) (fun c13 => ?_) (fun c13 => ?_)
              · have hw := hw.1 c13
                refine lv_iload_n hx hb dX1_isInTime_134 rfl (lv_at hl 2 rfl) ?_
                refine lv_iconst (v := (1 : Int32)) hx hb dX1_isInTime_135 (by decide) ?_
                refine lv_iload hx hb dX1_isInTime_136 (lv_at hl 4 rfl) ?_
                refine lv_ishl hx hb dX1_isInTime_138 ?_
                refine lv_iconst (v := (-1 : Int32)) hx hb dX1_isInTime_139 (by decide) ?_
                refine lv_ixor hx hb dX1_isInTime_140 ?_
                refine lv_iand hx hb dX1_isInTime_141 ?_
                refine lv_istore_n (lv' := [(2, .int (x2 &&& (((1 : Int32) <<< (x4 &&& 31)) ^^^ (-1 : Int32)))), (0, .ref (ad 17)), (1, .int a1), (3, .int x3), (4, .int x4), (5, .int x5)]) hx hb dX1_isInTime_142 rfl hl (by decide) rfl (fun ls hl => ?_)
                refine lv_iinc (v := (x3 + (1 : Int32))) (lv' := [(3, .int (x3 + (1 : Int32))), (2, .int (x2 &&& (((1 : Int32) <<< (x4 &&& 31)) ^^^ (-1 : Int32)))), (0, .ref (ad 17)), (1, .int a1), (4, .int x4), (5, .int x5)]) hx hb dX1_isInTime_143 hl (k := 3) rfl rfl (by decide) rfl (fun ls hl => ?_)
                refine lv_goto (tgt := 36) hx hb dX1_isInTime_146 (by decide) ?_
                exact ih36 (x2 &&& (((1 : Int32) <<< (x4 &&& 31)) ^^^ (-1 : Int32))) (x3 + (1 : Int32)) hw _ _ ls hS (lv_sub hl [2, 3, 1, 0] rfl)
              · have hw := hw.2 c13
                refine lv_iconst (v := (0 : Int32)) hx hb dX1_isInTime_132 (by decide) ?_
                exact R_zret hx hb hr hlocks hS ⟨_, rfl, hw⟩ dX1_isInTime_133
            · have hw := hw.1 c11
              refine lv_goto (tgt := 143) hx hb dX1_isInTime_119 (by decide) ?_
              refine lv_iinc (v := (x3 + (1 : Int32))) (lv' := [(3, .int (x3 + (1 : Int32))), (0, .ref (ad 17)), (1, .int a1), (2, .int x2), (4, .int x4), (5, .int x5)]) hx hb dX1_isInTime_143 hl (k := 3) rfl rfl (by decide) rfl (fun ls hl => ?_)
              refine lv_goto (tgt := 36) hx hb dX1_isInTime_146 (by decide) ?_
              exact ih36 x2 (x3 + (1 : Int32)) hw _ _ ls hS (lv_sub hl [1, 2, 3, 0] rfl)
          · have hw := hw.2 c10
            refine lv_iload_n hx hb dX1_isInTime_61 rfl (lv_at hl 2 rfl) ?_
            refine lv_iload hx hb dX1_isInTime_62 (lv_at hl 5 rfl) ?_
            refine lv_ishr hx hb dX1_isInTime_64 ?_
            refine lv_iconst (v := (1 : Int32)) hx hb dX1_isInTime_65 (by decide) ?_
            refine lv_iand hx hb dX1_isInTime_66 ?_
            refine lv_iconst (v := (1 : Int32)) hx hb dX1_isInTime_67 (by decide) ?_
            refine lv_icmp_ne (tgt := 107) hx hb dX1_isInTime_68 (by decide) (fun c14 => ?_) (fun c14 => ?_)
            · have hw := hw.2 c14
              refine lv_iinc (v := (x5 + (1 : Int32))) (lv' := [(5, .int (x5 + (1 : Int32))), (0, .ref (ad 17)), (1, .int a1), (2, .int x2), (3, .int x3), (4, .int x4)]) hx hb dX1_isInTime_107 hl (k := 5) rfl rfl (by decide) rfl (fun ls hl => ?_)
              refine lv_goto (tgt := 52) hx hb dX1_isInTime_110 (by decide) ?_
              exact ih52 x4 (x5 + (1 : Int32)) hw _ _ ls hS (lv_sub hl [1, 2, 3, 4, 5, 0] rfl)
            · have hw := hw.1 c14
              refine lv_aload_n hx hb dX1_isInTime_71 rfl (lv_at hl 0 rfl) ?_
              refine lv_iload hx hb dX1_isInTime_72 (lv_at hl 5 rfl) ?_
              refine lv_iload_n hx hb dX1_isInTime_74 rfl (lv_at hl 1 rfl) ?_
              refine RX_callI (As := [.int x5, .int a1]) (rest := []) ⟨hx, hb, hml, hown, hts⟩ hS (fun _ h => h.elim) hK hZ (hT.at hS hN0) (hM.kept (rS hS)) (metX1_arrives l D cA z0 E tw N ad h T x5 a1 _ hw) (cwV 2 hts (lw_V q876 q878 qs13 q104 q879) rfl rfl rfl (by decide +kernel) ⟨Nat.le_of_ble_eq_true rfl, Nat.le_of_ble_eq_true rfl⟩) rfl hl.1 rfl (Nat.le_of_ble_eq_true rfl) dX1_isInTime_75 ⟨Nat.zero_le _, Nat.zero_le _⟩ (fun r15 H locs hw hk hS => ?_)
              refine lv_iload_n hx hb dX1_isInTime_78 rfl (lv_at hl 3 rfl) ?_
              refine lv_icmp_gt (tgt := 107) hx hb dX1_isInTime_79 (by decide) (fun c16 => ?_) (fun c16 => ?_)
              · have hw := hw.1 c16
                refine lv_iinc (v := (x5 + (1 : Int32))) (lv' := [(5, .int (x5 + (1 : Int32))), (0, .ref (ad 17)), (1, .int a1), (2, .int x2), (3, .int x3), (4, .int x4)]) hx hb dX1_isInTime_107 hl (k := 5) rfl rfl (by decide) rfl (fun ls hl => ?_)
                refine lv_goto (tgt := 52) hx hb dX1_isInTime_110 (by decide) ?_
                exact ih52 x4 (x5 + (1 : Int32)) hw _ _ ls hS (lv_sub hl [1, 2, 3, 4, 5, 0] rfl)
              · have hw := hw.2 c16
                refine lv_iload hx hb dX1_isInTime_82 (lv_at hl 4 rfl) ?_
                refine lv_iconst (v := (-1 : Int32)) hx hb dX1_isInTime_84 (by decide) ?_
                refine lv_icmp_eq (tgt := 103) hx hb dX1_isInTime_85 (by decide) (fun c17 => ?_) (fun c17 => ?_)
                · have hw := hw.1 c17
                  exact hB103 x5 hw _ _ ls hS (lv_sub hl [0, 1, 2, 3, 5] rfl)
                · have hw := hw.2 c17
                  refine lv_aload_n hx hb dX1_isInTime_88 rfl (lv_at hl 0 rfl) ?_
                  refine lv_iload hx hb dX1_isInTime_89 (lv_at hl 5 rfl) ?_
                  refine RX_callI (As := [.int x5]) (rest := []) ⟨hx, hb, hml, hown, hts⟩ hS (fun _ h => h.elim) hK hZ (hT.at hS hN0) (hM.kept (rS hS)) (metX1_latest l D cA z0 E tw N ad h T x5 _ hw) (cwV 1 hts (lw_V q891 q893 qs14 q104 q894) rfl rfl rfl (by decide +kernel) ⟨Nat.le_of_ble_eq_true rfl, Nat.le_of_ble_eq_true rfl⟩) rfl hl.1 rfl (Nat.le_of_ble_eq_true rfl) dX1_isInTime_91 ⟨Nat.zero_le _, Nat.zero_le _⟩ (fun r18 H locs hw hk hS => ?_)
                  refine lv_aload_n hx hb dX1_isInTime_94 rfl (lv_at hl 0 rfl) ?_
                  refine lv_iload hx hb dX1_isInTime_95 (lv_at hl 4 rfl) ?_
                  refine RX_callI (As := [.int x4]) (rest := [.int r18]) ⟨hx, hb, hml, hown, hts⟩ hS (fun _ h => h.elim) hK hZ (hT.at hS hN0) (hM.kept (rS hS)) (metX1_latest l D cA z0 E tw N ad h T x4 _ hw) (cwV 1 hts (lw_V q891 q893 qs14 q104 q894) rfl rfl rfl (by decide +kernel) ⟨Nat.le_of_ble_eq_true rfl, Nat.le_of_ble_eq_true rfl⟩) rfl hl.1 rfl (Nat.le_of_ble_eq_true rfl) dX1_isInTime_97 ⟨Nat.zero_le _, Nat.zero_le _⟩ (fun r19 H locs hw hk hS => ?_)
                  have hj20 : JR p l e (headSpec (ws_ yX1_isInTime cX1_isInTime 6 (some .boolean)) ({ frames := 7, cells := 0, slots := 0, locals := 245 })).room s m ([.ref (ad 17), .int a1] : List Value).toArray below meth c (MQ below (RQi (fun r => ∃ b : Bool, r = b2i b ∧ post b)) ([.ref (ad 17), .int a1] : List Value).toArray s 0 0 NoA) 6 107 [(0, .ref (ad 17)), (1, .int a1), (2, .int x2), (3, .int x3), (4, .int (if r19 ≤ r18 then x4 else x5)), (5, .int x5)] [] := by
                    intro H locs ls hS hl
                    refine lv_iinc (v := (x5 + (1 : Int32))) (lv' := [(5, .int (x5 + (1 : Int32))), (0, .ref (ad 17)), (1, .int a1), (2, .int x2), (3, .int x3), (4, .int (if r19 ≤ r18 then x4 else x5))]) hx hb dX1_isInTime_107 hl (k := 5) rfl rfl (by decide) rfl (fun ls hl => ?_)
                    refine lv_goto (tgt := 52) hx hb dX1_isInTime_110 (by decide) ?_
                    exact ih52 (if r19 ≤ r18 then x4 else x5) (x5 + (1 : Int32)) hw _ _ ls hS (lv_sub hl [1, 2, 3, 4, 5, 0] rfl)
                  refine lv_icmp_ge (tgt := 107) hx hb dX1_isInTime_100 (by decide) (fun c21 => ?_) (fun c21 => ?_)
                  · have e22 : (if r19 ≤ r18 then x4 else x5) = x4 := by rw [if_pos c21]
                    rw [e22] at hj20
                    exact hj20 _ _ ls hS (lv_sub hl [0, 1, 2, 3, 4, 5] rfl)
                  · refine lv_iload hx hb dX1_isInTime_103 (lv_at hl 5 rfl) ?_
                    refine lv_istore (lv' := [(4, .int x5), (0, .ref (ad 17)), (1, .int a1), (2, .int x2), (3, .int x3), (5, .int x5)]) hx hb dX1_isInTime_105 hl (by decide) rfl (fun ls hl => ?_)
                    have e23 : (if r19 ≤ r18 then x4 else x5) = x5 := by rw [if_neg c21]
                    rw [e23] at hj20
                    exact hj20 _ _ ls hS (lv_sub hl [1, 2, 3, 4, 0, 5] rfl)
      intro x2 x3 hw H locs ls hS hl
      have hw : wpBX1_isInTime_36 post T a1  (fun x2 x3 => wpLX1_isInTime_36 post T a1  h  n36 (x2, x3)) h  x2 x3 := hw
      unfold wpBX1_isInTime_36 at hw
      refine lv_iload_n hx hb dX1_isInTime_36 rfl (lv_at hl 3 rfl) ?_
      refine lv_bipush (v := (24 : Int32)) hx hb dX1_isInTime_37 (by decide) ?_
      refine lv_icmp_ge (tgt := 149) hx hb dX1_isInTime_39 (by decide) (fun c3 => ?_) (fun c3 => ?_)
      · have hw := hw.1 c3
        exact hB149 x2 hw _ _ ls hS (lv_sub hl [2] rfl)
      · have hw := hw.2 c3
        refine lv_iload_n hx hb dX1_isInTime_42 rfl (lv_at hl 2 rfl) ?_
        refine lv_if_eq (tgt := 149) hx hb dX1_isInTime_43 (by decide) (fun c8 => ?_) (fun c8 => ?_)
        · have hw := hw.1 c8
          exact hB149 x2 hw _ _ ls hS (lv_sub hl [2] rfl)
        · have hw := hw.2 c8
          refine lv_iconst (v := (-1 : Int32)) hx hb dX1_isInTime_46 (by decide) ?_
          refine lv_istore (lv' := [(4, .int (-1 : Int32)), (0, .ref (ad 17)), (1, .int a1), (2, .int x2), (3, .int x3)]) hx hb dX1_isInTime_47 hl (by decide) rfl (fun ls hl => ?_)
          refine lv_iconst (v := (0 : Int32)) hx hb dX1_isInTime_49 (by decide) ?_
          refine lv_istore (lv' := [(5, .int (0 : Int32)), (4, .int (-1 : Int32)), (0, .ref (ad 17)), (1, .int a1), (2, .int x2), (3, .int x3)]) hx hb dX1_isInTime_50 hl (by decide) rfl (fun ls hl => ?_)
          obtain ⟨n24, hw⟩ := hw
          exact hL52 x2 x3 n24 (-1 : Int32) (0 : Int32) hw _ _ ls hS (lv_sub hl [2, 3, 4, 5, 1, 0] rfl)
  have hL4 : ∀  (n4 : Nat) (x2 : Int32) (x3 : Int32), wpLX1_isInTime_4 post T a1  h  n4 (x2, x3) → JR p l e (headSpec (ws_ yX1_isInTime cX1_isInTime 6 (some .boolean)) ({ frames := 7, cells := 0, slots := 0, locals := 245 })).room s m ([.ref (ad 17), .int a1] : List Value).toArray below meth c (MQ below (RQi (fun r => ∃ b : Bool, r = b2i b ∧ post b)) ([.ref (ad 17), .int a1] : List Value).toArray s 0 0 NoA) 6 4 [(0, .ref (ad 17)), (1, .int a1), (2, .int x2), (3, .int x3)] [] := by
    intro  n4
    induction n4 with
    | zero => intro x2 x3 hw; exact False.elim hw
    | succ n4 ih4 =>
      intro x2 x3 hw H locs ls hS hl
      have hw : wpBX1_isInTime_4 post T a1  (fun x2 x3 => wpLX1_isInTime_4 post T a1  h  n4 (x2, x3)) h  x2 x3 := hw
      unfold wpBX1_isInTime_4 at hw
      refine lv_iload_n hx hb dX1_isInTime_4 rfl (lv_at hl 3 rfl) ?_
      refine lv_aload_n hx hb dX1_isInTime_5 rfl (lv_at hl 0 rfl) ?_
      refine RX_callI (As := []) (rest := [.int x3]) ⟨hx, hb, hml, hown, hts⟩ hS (fun _ h => h.elim) hK hZ (hT.at hS hN0) (hM.kept (rS hS)) (metX1_loaves l D cA z0 E tw N ad h T  _ hw) (cwV 0 hts (lw_V q860 q862 qs9 q104 q863) rfl rfl rfl (by decide +kernel) ⟨Nat.le_of_ble_eq_true rfl, Nat.le_of_ble_eq_true rfl⟩) rfl hl.1 rfl (Nat.le_of_ble_eq_true rfl) dX1_isInTime_6 ⟨Nat.zero_le _, Nat.zero_le _⟩ (fun r1 H locs hw hk hS => ?_)
      refine lv_icmp_ge (tgt := 34) hx hb dX1_isInTime_9 (by decide) (fun c2 => ?_) (fun c2 => ?_)
      · have hw := hw.1 c2
        refine lv_iconst (v := (0 : Int32)) hx hb dX1_isInTime_34 (by decide) ?_
        refine lv_istore_n (lv' := [(3, .int (0 : Int32)), (0, .ref (ad 17)), (1, .int a1), (2, .int x2)]) hx hb dX1_isInTime_35 rfl hl (by decide) rfl (fun ls hl => ?_)
        obtain ⟨n25, hw⟩ := hw
        exact hL36 n25 x2 (0 : Int32) hw _ _ ls hS (lv_sub hl [1, 2, 3, 0] rfl)
      · have hw := hw.2 c2
        refine lv_aload_n hx hb dX1_isInTime_12 rfl (lv_at hl 0 rfl) ?_
        refine X_get17 hx hb hts hown hK (hM.kept (rS hS)) 11 (v := .ref (ad 11)) (by decide) (hts _ q735) rfl dX1_isInTime_13 ?_
        refine lv_iload_n hx hb dX1_isInTime_16 rfl (lv_at hl 3 rfl) ?_
        obtain ⟨hv26, hw⟩ := hw
        refine X_iald hx hb hK (hM.kept (rS hS)) 11 rfl (j := (ix x3)) rfl hv26 dX1_isInTime_17 ?_
        refine lv_iload_n hx hb dX1_isInTime_18 rfl (lv_at hl 1 rfl) ?_
        have hj27 : JR p l e (headSpec (ws_ yX1_isInTime cX1_isInTime 6 (some .boolean)) ({ frames := 7, cells := 0, slots := 0, locals := 245 })).room s m ([.ref (ad 17), .int a1] : List Value).toArray below meth c (MQ below (RQi (fun r => ∃ b : Bool, r = b2i b ∧ post b)) ([.ref (ad 17), .int a1] : List Value).toArray s 0 0 NoA) 6 28 [(0, .ref (ad 17)), (1, .int a1), (2, .int (if (h 11 (ix x3)) = a1 then (x2 ||| ((1 : Int32) <<< (x3 &&& 31))) else x2)), (3, .int x3)] [] := by
          intro H locs ls hS hl
          refine lv_iinc (v := (x3 + (1 : Int32))) (lv' := [(3, .int (x3 + (1 : Int32))), (0, .ref (ad 17)), (1, .int a1), (2, .int (if (h 11 (ix x3)) = a1 then (x2 ||| ((1 : Int32) <<< (x3 &&& 31))) else x2))]) hx hb dX1_isInTime_28 hl (k := 3) rfl rfl (by decide) rfl (fun ls hl => ?_)
          refine lv_goto (tgt := 4) hx hb dX1_isInTime_31 (by decide) ?_
          exact ih4 (if (h 11 (ix x3)) = a1 then (x2 ||| ((1 : Int32) <<< (x3 &&& 31))) else x2) (x3 + (1 : Int32)) hw _ _ ls hS (lv_sub hl [1, 2, 3, 0] rfl)
        refine lv_icmp_ne (tgt := 28) hx hb dX1_isInTime_19 (by decide) (fun c28 => ?_) (fun c28 => ?_)
        · have e29 : (if (h 11 (ix x3)) = a1 then (x2 ||| ((1 : Int32) <<< (x3 &&& 31))) else x2) = x2 := by rw [if_neg c28]
          rw [e29] at hj27
          exact hj27 _ _ ls hS (lv_sub hl [0, 1, 2, 3] rfl)
        · refine lv_iload_n hx hb dX1_isInTime_22 rfl (lv_at hl 2 rfl) ?_
          refine lv_iconst (v := (1 : Int32)) hx hb dX1_isInTime_23 (by decide) ?_
          refine lv_iload_n hx hb dX1_isInTime_24 rfl (lv_at hl 3 rfl) ?_
          refine lv_ishl hx hb dX1_isInTime_25 ?_
          refine lv_ior hx hb dX1_isInTime_26 ?_
          refine lv_istore_n (lv' := [(2, .int (x2 ||| ((1 : Int32) <<< (x3 &&& 31)))), (0, .ref (ad 17)), (1, .int a1), (3, .int x3)]) hx hb dX1_isInTime_27 rfl hl (by decide) rfl (fun ls hl => ?_)
          have e30 : (if (h 11 (ix x3)) = a1 then (x2 ||| ((1 : Int32) <<< (x3 &&& 31))) else x2) = (x2 ||| ((1 : Int32) <<< (x3 &&& 31))) := by rw [if_pos c28]
          rw [e30] at hj27
          exact hj27 _ _ ls hS (lv_sub hl [1, 2, 0, 3] rfl)
  unfold wpX1_isInTime at hw
  refine lv_iconst (v := (0 : Int32)) hx hb dX1_isInTime_0 (by decide) ?_
  refine lv_istore_n (lv' := [(2, .int (0 : Int32)), (0, .ref (ad 17)), (1, .int a1)]) hx hb dX1_isInTime_1 rfl hl (by decide) rfl (fun ls hl => ?_)
  refine lv_iconst (v := (0 : Int32)) hx hb dX1_isInTime_2 (by decide) ?_
  refine lv_istore_n (lv' := [(3, .int (0 : Int32)), (2, .int (0 : Int32)), (0, .ref (ad 17)), (1, .int a1)]) hx hb dX1_isInTime_3 rfl hl (by decide) rfl (fun ls hl => ?_)
  obtain ⟨n31, hw⟩ := hw
  exact hL4 n31 (0 : Int32) (0 : Int32) hw _ _ ls hS (lv_sub hl [2, 3, 1, 0] rfl)

/-- StrangeKnives$Loaf.isEater(I)Z -/
def wpBX10_isEater_2 (post : Bool → Prop) (T : TT) (b0 : Nat) (a1 : Int32)  (K2 : Int32 → Prop) (h : Mem)  (x2 : Int32) : Prop :=
  (((nI (T 8 b0)) ≤ x2 → post false) ∧ (¬ (nI (T 8 b0)) ≤ x2 → (vp_in x2 (T 8 b0) ∧ (((nI (T 9 (6 * b0 + ix x2))) = a1 → post true) ∧ (¬ (nI (T 9 (6 * b0 + ix x2))) = a1 → K2 (x2 + (1 : Int32)))))))
def wpLX10_isEater_2 (post : Bool → Prop) (T : TT) (b0 : Nat) (a1 : Int32)  (h : Mem)  : Nat → (Int32) → Prop := LW (fun K s => wpBX10_isEater_2 post T b0 a1  (fun x2 => K x2) h  s)
def wpX10_isEater (post : Bool → Prop) (h : Mem) (T : TT) (b0 : Nat) (a1 : Int32) : Prop :=
  (∃ n, wpLX10_isEater_2 post T b0 a1  h n (0 : Int32))
set_option maxHeartbeats 4000000 in
set_option maxRecDepth 100000 in
theorem metX10_isEater (l : Launch) (D : va_G) (cA : Nat → ClassId) (z0 : Nat) (E : Nat → Nat → Nat) (tw : Nat → Nat) (N : Nat → Prop) (vo : Nat) (h : Mem) (T : TT) (b0 : Nat) (a1 : Int32) (post : Bool → Prop) (hb0 : b0 < T 0 1) (hw : wpX10_isEater post h T b0 a1) : RcZ l yX10_isEater (ws_ yX10_isEater cX10_isEater 3 (some .boolean)) ({ frames := 1, cells := 0, slots := 0, locals := 30 }) [.ref (tw (200 + b0)), .int a1] (PhT D cA z0 E T tw vo N) post := by
  refine Met.ofW (cc := cX10_isEater) (maxL := 3) (ret := (some .boolean)) (by decide) rfl ?_
  intro p e s m args below meth c s₁ B hml hv
  obtain ⟨rfl, hv⟩ := hv
  have hx := B.exec
  have hb := B.bytes
  have hr := B.returns
  have hts := atoms_spec (ws := ws_ yX10_isEater cX10_isEater 3 (some .boolean)) B.pre
  have hts : ∀ w ∈ lw_all, w.before _ s = true := fun w h => hts w (List.mem_cons_of_mem _ h)
  have hown : s.vm.findClass RX10 = some m.cls := findClass_of_methodNamed B.named
  have hlocks := B.notSynchronized
  have hl := lv_entry ([.ref (tw (200 + b0)), .int a1]) (n := 3) (Nat.le_of_ble_eq_true rfl)
  rw [lg_entry_eq]
  generalize (lg_sl ([.ref (tw (200 + b0)), .int a1]) ++ List.replicate (3 - (lg_sl ([.ref (tw (200 + b0)), .int a1])).length) Slot.unset).toArray = ls at hl ⊢
  have hl : lv_has ls 3 [(0, .ref (tw (200 + b0))), (1, .int a1)] := hl
  obtain ⟨hT, hK, hZ⟩ := hv
  have hS : va_S NoA s.heap s.heap [] := va_S.rf
  have hL2 : ∀  (n2 : Nat) (x2 : Int32), wpLX10_isEater_2 post T b0 a1  h  n2 x2 → JR p l e (headSpec (ws_ yX10_isEater cX10_isEater 3 (some .boolean)) ({ frames := 1, cells := 0, slots := 0, locals := 30 })).room s m ([.ref (tw (200 + b0)), .int a1] : List Value).toArray below meth c (MQ below (RQi (fun r => ∃ b : Bool, r = b2i b ∧ post b)) ([.ref (tw (200 + b0)), .int a1] : List Value).toArray s 0 0 NoA) 3 2 [(0, .ref (tw (200 + b0))), (1, .int a1), (2, .int x2)] [] := by
    intro  n2
    induction n2 with
    | zero => intro x2 hw; exact False.elim hw
    | succ n2 ih2 =>
      intro x2 hw H locs ls hS hl
      have hw : wpBX10_isEater_2 post T b0 a1  (fun x2 => wpLX10_isEater_2 post T b0 a1  h  n2 x2) h  x2 := hw
      unfold wpBX10_isEater_2 at hw
      refine lv_iload_n hx hb dX10_isEater_2 rfl (lv_at hl 2 rfl) ?_
      refine lv_aload_n hx hb dX10_isEater_3 rfl (lv_at hl 0 rfl) ?_
      refine L_fld hx hb hts hown hK (hT.at hS hN0) b0 hb0 4 (v := .ref (tw (300 + b0))) (by decide) (hts _ q1181) rfl dX10_isEater_4 ?_
      refine L_alen hx hb hK (hT.at hS hN0) b0 hb0 dX10_isEater_7 ?_
      refine lv_icmp_ge (tgt := 29) hx hb dX10_isEater_8 (by decide) (fun c1 => ?_) (fun c1 => ?_)
      · have hw := hw.1 c1
        refine lv_iconst (v := (0 : Int32)) hx hb dX10_isEater_29 (by decide) ?_
        exact R_zret hx hb hr hlocks hS ⟨_, rfl, hw⟩ dX10_isEater_30
      · have hw := hw.2 c1
        refine lv_aload_n hx hb dX10_isEater_11 rfl (lv_at hl 0 rfl) ?_
        refine L_fld hx hb hts hown hK (hT.at hS hN0) b0 hb0 4 (v := .ref (tw (300 + b0))) (by decide) (hts _ q1181) rfl dX10_isEater_12 ?_
        refine lv_iload_n hx hb dX10_isEater_15 rfl (lv_at hl 2 rfl) ?_
        obtain ⟨hv2, hw⟩ := hw
        refine L_iald hx hb hK (hT.at hS hN0) b0 hb0 hv2 dX10_isEater_16 ?_
        refine lv_iload_n hx hb dX10_isEater_17 rfl (lv_at hl 1 rfl) ?_
        refine lv_icmp_ne (tgt := 23) hx hb dX10_isEater_18 (by decide) (fun c3 => ?_) (fun c3 => ?_)
        · have hw := hw.2 c3
          refine lv_iinc (v := (x2 + (1 : Int32))) (lv' := [(2, .int (x2 + (1 : Int32))), (0, .ref (tw (200 + b0))), (1, .int a1)]) hx hb dX10_isEater_23 hl (k := 2) rfl rfl (by decide) rfl (fun ls hl => ?_)
          refine lv_goto (tgt := 2) hx hb dX10_isEater_26 (by decide) ?_
          exact ih2 (x2 + (1 : Int32)) hw _ _ ls hS (lv_sub hl [1, 2, 0] rfl)
        · have hw := hw.1 c3
          refine lv_iconst (v := (1 : Int32)) hx hb dX10_isEater_21 (by decide) ?_
          exact R_zret hx hb hr hlocks hS ⟨_, rfl, hw⟩ dX10_isEater_22
  unfold wpX10_isEater at hw
  refine lv_iconst (v := (0 : Int32)) hx hb dX10_isEater_0 (by decide) ?_
  refine lv_istore_n (lv' := [(2, .int (0 : Int32)), (0, .ref (tw (200 + b0))), (1, .int a1)]) hx hb dX10_isEater_1 rfl hl (by decide) rfl (fun ls hl => ?_)
  obtain ⟨n4, hw⟩ := hw
  exact hL2 n4 (0 : Int32) hw _ _ ls hS (lv_sub hl [1, 2, 0] rfl)

/-- StrangeKnives$State.knows(LStrangeKnives$Town;II)Z -/
def wpX6_knows (post : Bool → Prop) (h : Mem) (T : TT) (a2 : Int32) (a3 : Int32) : Prop :=
  ((a2 = a3 → post true) ∧ (¬ a2 = a3 → (wpX2_house (fun r2 => (wpX2_house (fun r3 => ((r2 = r3 → post true) ∧ (¬ r2 = r3 → (vp_in a2 (8) ∧ (((twI T (ix a2)) = a3 → post true) ∧ (¬ (twI T (ix a2)) = a3 → (vp_in (((8 : Int32) * a2) + a3) (Slen 0) ∧ (∃ p8 : Nat, a2 = nI p8 ∧ p8 < T 0 0 ∧ (((kknows (T 1 p8)) = true → post (if (h 0 (ix (((8 : Int32) * a2) + a3))) = (-100000 : Int32) then false else (if (nI (T 0 3)) < ((h 3 0) - (h 0 (ix (((8 : Int32) * a2) + a3)))) then false else true))) ∧ (¬ (kknows (T 1 p8)) = true → post false)))))))))) h T a3)) h T a2)))
set_option maxHeartbeats 4000000 in
set_option maxRecDepth 100000 in
theorem metX6_knows (l : Launch) (D : va_G) (cA : Nat → ClassId) (z0 : Nat) (E : Nat → Nat → Nat) (tw : Nat → Nat) (N : Nat → Prop) (vo : Nat) (sa : Nat → Nat) (h : Mem) (T : TT) (a2 : Int32) (a3 : Int32) (post : Bool → Prop) (hw : wpX6_knows post h T a2 a3) : RcZ l yX6_knows (ws_ yX6_knows cX6_knows 5 (some .boolean)) ({ frames := 6, cells := 0, slots := 0, locals := 222 }) [.ref (sa 5), .ref (tw 9), .int a2, .int a3] (PhS D cA z0 E T tw vo N sa h) post := by
  refine Met.ofW (cc := cX6_knows) (maxL := 5) (ret := (some .boolean)) (by decide) rfl ?_
  intro p e s m args below meth c s₁ B hml hv
  obtain ⟨rfl, hv⟩ := hv
  have hx := B.exec
  have hb := B.bytes
  have hr := B.returns
  have hts := atoms_spec (ws := ws_ yX6_knows cX6_knows 5 (some .boolean)) B.pre
  have hts : ∀ w ∈ lw_all, w.before _ s = true := fun w h => hts w (List.mem_cons_of_mem _ h)
  have hown : s.vm.findClass RX6 = some m.cls := findClass_of_methodNamed B.named
  have hlocks := B.notSynchronized
  have hl := lv_entry ([.ref (sa 5), .ref (tw 9), .int a2, .int a3]) (n := 5) (Nat.le_of_ble_eq_true rfl)
  rw [lg_entry_eq]
  generalize (lg_sl ([.ref (sa 5), .ref (tw 9), .int a2, .int a3]) ++ List.replicate (5 - (lg_sl ([.ref (sa 5), .ref (tw 9), .int a2, .int a3])).length) Slot.unset).toArray = ls at hl ⊢
  have hl : lv_has ls 5 [(0, .ref (sa 5)), (1, .ref (tw 9)), (2, .int a2), (3, .int a3)] := hl
  obtain ⟨hM, hT, hK, hZ⟩ := hv
  have hS : va_S NoA s.heap s.heap [] := va_S.rf
  unfold wpX6_knows at hw
  refine lv_iload_n hx hb dX6_knows_0 rfl (lv_at hl 2 rfl) ?_
  refine lv_iload_n hx hb dX6_knows_1 rfl (lv_at hl 3 rfl) ?_
  refine lv_icmp_eq (tgt := 28) hx hb dX6_knows_2 (by decide) (fun c1 => ?_) (fun c1 => ?_)
  · have hw := hw.1 c1
    refine lv_iconst (v := (1 : Int32)) hx hb dX6_knows_28 (by decide) ?_
    exact R_zret hx hb hr hlocks hS ⟨_, rfl, hw⟩ dX6_knows_29
  · have hw := hw.2 c1
    refine lv_aload_n hx hb dX6_knows_5 rfl (lv_at hl 1 rfl) ?_
    refine lv_iload_n hx hb dX6_knows_6 rfl (lv_at hl 2 rfl) ?_
    refine RT_callI (As := [.int a2]) (rest := []) ⟨hx, hb, hml, hown, hts⟩ hS (fun _ h => h.elim) hK hZ (hT.at hS hN0) (metX2_house l D cA z0 E tw N vo h T a2 _ hw) (cwV 1 hts (lw_V q911 q883 q884 q105 q885) rfl rfl rfl (by decide +kernel) ⟨Nat.le_of_ble_eq_true rfl, Nat.le_of_ble_eq_true rfl⟩) rfl hl.1 rfl (Nat.le_of_ble_eq_true rfl) dX6_knows_7 ⟨Nat.zero_le _, Nat.zero_le _⟩ (fun r2 H locs hw hk hS => ?_)
    refine lv_aload_n hx hb dX6_knows_10 rfl (lv_at hl 1 rfl) ?_
    refine lv_iload_n hx hb dX6_knows_11 rfl (lv_at hl 3 rfl) ?_
    refine RT_callI (As := [.int a3]) (rest := [.int r2]) ⟨hx, hb, hml, hown, hts⟩ hS (fun _ h => h.elim) hK hZ (hT.at hS hN0) (metX2_house l D cA z0 E tw N vo h T a3 _ hw) (cwV 1 hts (lw_V q911 q883 q884 q105 q885) rfl rfl rfl (by decide +kernel) ⟨Nat.le_of_ble_eq_true rfl, Nat.le_of_ble_eq_true rfl⟩) rfl hl.1 rfl (Nat.le_of_ble_eq_true rfl) dX6_knows_12 ⟨Nat.zero_le _, Nat.zero_le _⟩ (fun r3 H locs hw hk hS => ?_)
    refine lv_icmp_eq (tgt := 28) hx hb dX6_knows_15 (by decide) (fun c4 => ?_) (fun c4 => ?_)
    · have hw := hw.1 c4
      refine lv_iconst (v := (1 : Int32)) hx hb dX6_knows_28 (by decide) ?_
      exact R_zret hx hb hr hlocks hS ⟨_, rfl, hw⟩ dX6_knows_29
    · have hw := hw.2 c4
      refine lv_aload_n hx hb dX6_knows_18 rfl (lv_at hl 1 rfl) ?_
      refine T_fldN hx hb hts hown hK (hT.at hS hN0) 5 (v := .ref (tw 4)) (by decide) (hZ.2.1.nF 39 rfl) (fun _ _ => rfl) dX6_knows_19 ?_
      refine lv_iload_n hx hb dX6_knows_22 rfl (lv_at hl 2 rfl) ?_
      obtain ⟨hv5, hw⟩ := hw
      refine T_twin hx hb hK (hT.at hS hN0) hv5 dX6_knows_23 ?_
      refine lv_iload_n hx hb dX6_knows_24 rfl (lv_at hl 3 rfl) ?_
      refine lv_icmp_ne (tgt := 30) hx hb dX6_knows_25 (by decide) (fun c6 => ?_) (fun c6 => ?_)
      · have hw := hw.2 c6
        refine lv_aload_n hx hb dX6_knows_30 rfl (lv_at hl 0 rfl) ?_
        refine S_get5 hx hb hts hown hK (hM.kept (rS hS)) 0 (v := .ref (sa 0)) (by decide) (hts _ q580) rfl dX6_knows_31 ?_
        refine lv_bipush (v := (8 : Int32)) hx hb dX6_knows_34 (by decide) ?_
        refine lv_iload_n hx hb dX6_knows_36 rfl (lv_at hl 2 rfl) ?_
        refine lv_imul hx hb dX6_knows_37 ?_
        refine lv_iload_n hx hb dX6_knows_38 rfl (lv_at hl 3 rfl) ?_
        refine lv_iadd hx hb dX6_knows_39 ?_
        obtain ⟨hv7, hw⟩ := hw
        refine S_iald hx hb hK (hM.kept (rS hS)) 0 rfl (j := (ix (((8 : Int32) * a2) + a3))) rfl hv7 dX6_knows_40 ?_
        refine lv_istore (lv' := [(4, .int (h 0 (ix (((8 : Int32) * a2) + a3)))), (0, .ref (sa 5)), (1, .ref (tw 9)), (2, .int a2), (3, .int a3)]) hx hb dX6_knows_41 hl (by decide) rfl (fun ls hl => ?_)
        refine lv_aload_n hx hb dX6_knows_43 rfl (lv_at hl 2 rfl) ?_
        refine T_fldN hx hb hts hown hK (hT.at hS hN0) 3 (v := .ref (tw 0)) (by decide) (hZ.2.1.nF 37 rfl) (fun _ _ => rfl) dX6_knows_44 ?_
        refine lv_iload_n hx hb dX6_knows_47 rfl (lv_at hl 3 rfl) ?_
        obtain ⟨p8, ep8, hp8, hw⟩ := hw
        refine T_pgetE ⟨hx, hb, hml, hown, hts⟩ hS hK (hT.at hS hN0) q901 ⟨Nat.le_of_ble_eq_true rfl, Nat.le_of_ble_eq_true rfl⟩ p8 hp8 ep8 hl.1 (Nat.le_of_ble_eq_true rfl) dX6_knows_48 ⟨Nat.zero_le _, Nat.zero_le _⟩ (fun H locs hk hS => ?_)
        refine P_cast hx hb hown hK (hT.at hS hN0) hZ.2.1 p8 hp8 (hts _ q916) dX6_knows_51 ?_
        refine P_knows ⟨hx, hb, hml, hown, hts⟩ hS hK (hT.at hS hN0) q917 ⟨Nat.le_of_ble_eq_true rfl, Nat.le_of_ble_eq_true rfl⟩ p8 hp8 hl.1 (Nat.le_of_ble_eq_true rfl) dX6_knows_54 ⟨Nat.zero_le _, Nat.zero_le _⟩ (fun H locs hk hS => ?_)
        refine lv_if_eq (tgt := 85) hx hb dX6_knows_57 (by decide) (fun c9 => ?_) (fun c9 => ?_)
        · have c9 := b2i_f c9
          have hw := hw.2 c9
          refine lv_iconst (v := (0 : Int32)) hx hb dX6_knows_85 (by decide) ?_
          exact R_zret hx hb hr hlocks hS ⟨_, rfl, hw⟩ dX6_knows_86
        · have c9 := b2i_t c9
          have hw := hw.1 c9
          refine lv_iload hx hb dX6_knows_60 (lv_at hl 0 rfl) ?_
          refine lv_ldc hx hb hown (hts _ q710) dX6_knows_62 ?_
          have hj10 : JR p l e (headSpec (ws_ yX6_knows cX6_knows 5 (some .boolean)) ({ frames := 6, cells := 0, slots := 0, locals := 222 })).room s m ([.ref (sa 5), .ref (tw 9), .int a2, .int a3] : List Value).toArray below meth c (MQ below (RQi (fun r => ∃ b : Bool, r = b2i b ∧ post b)) ([.ref (sa 5), .ref (tw 9), .int a2, .int a3] : List Value).toArray s 0 0 NoA) 5 86 [] [.int (if (h 0 (ix (((8 : Int32) * a2) + a3))) = (-100000 : Int32) then (0 : Int32) else (if (nI (T 0 3)) < ((h 3 0) - (h 0 (ix (((8 : Int32) * a2) + a3)))) then (0 : Int32) else (1 : Int32)))] := by
            intro H locs ls hS hl
            exact R_zret hx hb hr hlocks hS ⟨_, (b2i_pick rfl (b2i_pick rfl rfl)), hw⟩ dX6_knows_86
          refine lv_icmp_eq (tgt := 85) hx hb dX6_knows_64 (by decide) (fun c11 => ?_) (fun c11 => ?_)
          · refine lv_iconst (v := (0 : Int32)) hx hb dX6_knows_85 (by decide) ?_
            have e12 : (if (h 0 (ix (((8 : Int32) * a2) + a3))) = (-100000 : Int32) then (0 : Int32) else (if (nI (T 0 3)) < ((h 3 0) - (h 0 (ix (((8 : Int32) * a2) + a3)))) then (0 : Int32) else (1 : Int32))) = (0 : Int32) := by rw [if_pos c11]
            rw [e12] at hj10
            exact hj10 _ _ ls hS (lv_sub hl [] rfl)
          · refine lv_aload_n hx hb dX6_knows_67 rfl (lv_at hl 1 rfl) ?_
            refine S_get5 hx hb hts hown hK (hM.kept (rS hS)) 3 (v := .int (h 3 0)) (by decide) (hts _ q586) rfl dX6_knows_68 ?_
            refine lv_iload hx hb dX6_knows_71 (lv_at hl 0 rfl) ?_
            refine lv_isub hx hb dX6_knows_73 ?_
            refine lv_aload_n hx hb dX6_knows_74 rfl (lv_at hl 2 rfl) ?_
            refine T_fldN hx hb hts hown hK (hT.at hS hN0) 0 (v := .int (nI (T 0 3))) (by decide) (hZ.2.1.nF 40 rfl) (fun _ _ => rfl) dX6_knows_75 ?_
            refine lv_icmp_gt (tgt := 85) hx hb dX6_knows_78 (by decide) (fun c13 => ?_) (fun c13 => ?_)
            · refine lv_iconst (v := (0 : Int32)) hx hb dX6_knows_85 (by decide) ?_
              have e14 : (if (h 0 (ix (((8 : Int32) * a2) + a3))) = (-100000 : Int32) then (0 : Int32) else (if (nI (T 0 3)) < ((h 3 0) - (h 0 (ix (((8 : Int32) * a2) + a3)))) then (0 : Int32) else (1 : Int32))) = (0 : Int32) := by rw [if_neg c11, if_pos c13]
              rw [e14] at hj10
              exact hj10 _ _ ls hS (lv_sub hl [] rfl)
            · refine lv_iconst (v := (1 : Int32)) hx hb dX6_knows_81 (by decide) ?_
              refine lv_goto (tgt := 86) hx hb dX6_knows_82 (by decide) ?_
              have e15 : (if (h 0 (ix (((8 : Int32) * a2) + a3))) = (-100000 : Int32) then (0 : Int32) else (if (nI (T 0 3)) < ((h 3 0) - (h 0 (ix (((8 : Int32) * a2) + a3)))) then (0 : Int32) else (1 : Int32))) = (1 : Int32) := by rw [if_neg c11, if_neg c13]
              rw [e15] at hj10
              exact hj10 _ _ ls hS (lv_sub hl [] rfl)
      · have hw := hw.1 c6
        refine lv_iconst (v := (1 : Int32)) hx hb dX6_knows_28 (by decide) ?_
        exact R_zret hx hb hr hlocks hS ⟨_, rfl, hw⟩ dX6_knows_29

/-- StrangeKnives$State.why(LStrangeKnives$Town;ILStrangeKnives$Loaf;)I -/
def wpBX6_why_76 (post : Int32 → Prop) (T : TT) (a2 : Int32) (b3 : Nat)  (K76 : Int32 → Prop) (h : Mem)  (x4 : Int32) : Prop :=
  (((nI (T 8 b3)) ≤ x4 → post (0 : Int32)) ∧ (¬ (nI (T 8 b3)) ≤ x4 → (vp_in x4 (T 8 b3) ∧ (wpX6_knows (fun r8 => ((r8 = true → post (3 : Int32)) ∧ (¬ r8 = true → K76 (x4 + (1 : Int32))))) h T a2 (nI (T 9 (6 * b3 + ix x4)))))))
def wpLX6_why_76 (post : Int32 → Prop) (T : TT) (a2 : Int32) (b3 : Nat)  (h : Mem)  : Nat → (Int32) → Prop := LW (fun K s => wpBX6_why_76 post T a2 b3  (fun x4 => K x4) h  s)
def wpBX6_why_36 (post : Int32 → Prop) (T : TT) (a2 : Int32) (b3 : Nat)  (K36 : Int32 → Prop) (h : Mem)  (x4 : Int32) : Prop :=
  (((nI (T 8 b3)) ≤ x4 → (∃ n, wpLX6_why_76 post T a2 b3  h n (0 : Int32))) ∧ (¬ (nI (T 8 b3)) ≤ x4 → (wpX2_house (fun r11 => (vp_in x4 (T 8 b3) ∧ (wpX2_house (fun r13 => ((r11 = r13 → post (2 : Int32)) ∧ (¬ r11 = r13 → K36 (x4 + (1 : Int32))))) h T (nI (T 9 (6 * b3 + ix x4)))))) h T a2)))
def wpLX6_why_36 (post : Int32 → Prop) (T : TT) (a2 : Int32) (b3 : Nat)  (h : Mem)  : Nat → (Int32) → Prop := LW (fun K s => wpBX6_why_36 post T a2 b3  (fun x4 => K x4) h  s)
def wpX6_why (post : Int32 → Prop) (h : Mem) (T : TT) (a2 : Int32) (b3 : Nat) : Prop :=
  (wpX10_isEater (fun r1 => ((r1 = true → post (1 : Int32)) ∧ (¬ r1 = true → (vp_in a2 (8) ∧ (((twI T (ix a2)) = (-1 : Int32) → (∃ n, wpLX6_why_36 post T a2 b3  h n (0 : Int32))) ∧ (¬ (twI T (ix a2)) = (-1 : Int32) → (wpX10_isEater (fun r16 => ((r16 = true → post (1 : Int32)) ∧ (¬ r16 = true → (∃ n, wpLX6_why_36 post T a2 b3  h n (0 : Int32))))) h T b3 (twI T (ix a2))))))))) h T b3 a2)
set_option maxHeartbeats 4000000 in
set_option maxRecDepth 100000 in
theorem metX6_why (l : Launch) (D : va_G) (cA : Nat → ClassId) (z0 : Nat) (E : Nat → Nat → Nat) (tw : Nat → Nat) (N : Nat → Prop) (vo : Nat) (sa : Nat → Nat) (h : Mem) (T : TT) (a2 : Int32) (b3 : Nat) (post : Int32 → Prop) (hb3 : b3 < T 0 1) (hw : wpX6_why post h T a2 b3) : RcI l yX6_why (ws_ yX6_why cX6_why 5 (some .int)) ({ frames := 7, cells := 0, slots := 0, locals := 246 }) [.ref (sa 5), .ref (tw 9), .int a2, .ref (tw (200 + b3))] (PhS D cA z0 E T tw vo N sa h) post := by
  refine Met.ofW (cc := cX6_why) (maxL := 5) (ret := (some .int)) (by decide) rfl ?_
  intro p e s m args below meth c s₁ B hml hv
  obtain ⟨rfl, hv⟩ := hv
  have hx := B.exec
  have hb := B.bytes
  have hr := B.returns
  have hts := atoms_spec (ws := ws_ yX6_why cX6_why 5 (some .int)) B.pre
  have hts : ∀ w ∈ lw_all, w.before _ s = true := fun w h => hts w (List.mem_cons_of_mem _ h)
  have hown : s.vm.findClass RX6 = some m.cls := findClass_of_methodNamed B.named
  have hlocks := B.notSynchronized
  have hl := lv_entry ([.ref (sa 5), .ref (tw 9), .int a2, .ref (tw (200 + b3))]) (n := 5) (Nat.le_of_ble_eq_true rfl)
  rw [lg_entry_eq]
  generalize (lg_sl ([.ref (sa 5), .ref (tw 9), .int a2, .ref (tw (200 + b3))]) ++ List.replicate (5 - (lg_sl ([.ref (sa 5), .ref (tw 9), .int a2, .ref (tw (200 + b3))])).length) Slot.unset).toArray = ls at hl ⊢
  have hl : lv_has ls 5 [(0, .ref (sa 5)), (1, .ref (tw 9)), (2, .int a2), (3, .ref (tw (200 + b3)))] := hl
  obtain ⟨hM, hT, hK, hZ⟩ := hv
  have hS : va_S NoA s.heap s.heap [] := va_S.rf
  have hL76 : ∀  (n76 : Nat) (x4 : Int32), wpLX6_why_76 post T a2 b3  h  n76 x4 → JR p l e (headSpec (ws_ yX6_why cX6_why 5 (some .int)) ({ frames := 7, cells := 0, slots := 0, locals := 246 })).room s m ([.ref (sa 5), .ref (tw 9), .int a2, .ref (tw (200 + b3))] : List Value).toArray below meth c (MQ below (RQi post) ([.ref (sa 5), .ref (tw 9), .int a2, .ref (tw (200 + b3))] : List Value).toArray s 0 0 NoA) 5 76 [(0, .ref (sa 5)), (1, .ref (tw 9)), (2, .int a2), (3, .ref (tw (200 + b3))), (4, .int x4)] [] := by
    intro  n76
    induction n76 with
    | zero => intro x4 hw; exact False.elim hw
    | succ n76 ih76 =>
      intro x4 hw H locs ls hS hl
      have hw : wpBX6_why_76 post T a2 b3  (fun x4 => wpLX6_why_76 post T a2 b3  h  n76 x4) h  x4 := hw
      unfold wpBX6_why_76 at hw
      refine lv_iload hx hb dX6_why_76 (lv_at hl 4 rfl) ?_
      refine lv_aload_n hx hb dX6_why_78 rfl (lv_at hl 3 rfl) ?_
      refine L_fldN hx hb hts hown hK (hT.at hS hN0) b3 hb3 4 (v := .ref (tw (300 + b3))) (by decide) (hZ.2.1.nF 41 rfl) rfl dX6_why_79 ?_
      refine L_alen hx hb hK (hT.at hS hN0) b3 hb3 dX6_why_82 ?_
      refine lv_icmp_ge (tgt := 110) hx hb dX6_why_83 (by decide) (fun c6 => ?_) (fun c6 => ?_)
      · have hw := hw.1 c6
        refine lv_iconst (v := (0 : Int32)) hx hb dX6_why_110 (by decide) ?_
        exact R_iret hx hb hr hlocks hS hw dX6_why_111
      · have hw := hw.2 c6
        refine lv_aload_n hx hb dX6_why_86 rfl (lv_at hl 0 rfl) ?_
        refine lv_aload_n hx hb dX6_why_87 rfl (lv_at hl 1 rfl) ?_
        refine lv_iload_n hx hb dX6_why_88 rfl (lv_at hl 2 rfl) ?_
        refine lv_aload_n hx hb dX6_why_89 rfl (lv_at hl 3 rfl) ?_
        refine L_fldN hx hb hts hown hK (hT.at hS hN0) b3 hb3 4 (v := .ref (tw (300 + b3))) (by decide) (hZ.2.1.nF 41 rfl) rfl dX6_why_90 ?_
        refine lv_iload hx hb dX6_why_93 (lv_at hl 4 rfl) ?_
        obtain ⟨hv7, hw⟩ := hw
        refine L_iald hx hb hK (hT.at hS hN0) b3 hb3 hv7 dX6_why_95 ?_
        refine RS_callZ (As := [.ref (tw 9), .int a2, .int (nI (T 9 (6 * b3 + ix x4)))]) (rest := []) (sa := sa) (h := h) ⟨hx, hb, hml, hown, hts⟩ hS (fun _ h => h.elim) hK hZ (hT.at hS hN0) (hM.kept (rS hS)) (metX6_knows l D cA z0 E tw N vo sa h T a2 (nI (T 9 (6 * b3 + ix x4))) _ hw) (cwV 3 hts (lw_V q912 q913 q914 q129 q915) rfl rfl rfl (by decide +kernel) ⟨Nat.le_of_ble_eq_true rfl, Nat.le_of_ble_eq_true rfl⟩) rfl hl.1 rfl (Nat.le_of_ble_eq_true rfl) dX6_why_96 ⟨Nat.zero_le _, Nat.zero_le _⟩ (fun r8 H locs hw hk hS => ?_)
        refine lv_if_eq (tgt := 104) hx hb dX6_why_99 (by decide) (fun c9 => ?_) (fun c9 => ?_)
        · have c9 := b2i_f c9
          have hw := hw.2 c9
          refine lv_iinc (v := (x4 + (1 : Int32))) (lv' := [(4, .int (x4 + (1 : Int32))), (0, .ref (sa 5)), (1, .ref (tw 9)), (2, .int a2), (3, .ref (tw (200 + b3)))]) hx hb dX6_why_104 hl (k := 4) rfl rfl (by decide) rfl (fun ls hl => ?_)
          refine lv_goto (tgt := 76) hx hb dX6_why_107 (by decide) ?_
          exact ih76 (x4 + (1 : Int32)) hw _ _ ls hS (lv_sub hl [1, 2, 3, 4, 0] rfl)
        · have c9 := b2i_t c9
          have hw := hw.1 c9
          refine lv_iconst (v := (3 : Int32)) hx hb dX6_why_102 (by decide) ?_
          exact R_iret hx hb hr hlocks hS hw dX6_why_103
  have hL36 : ∀  (n36 : Nat) (x4 : Int32), wpLX6_why_36 post T a2 b3  h  n36 x4 → JR p l e (headSpec (ws_ yX6_why cX6_why 5 (some .int)) ({ frames := 7, cells := 0, slots := 0, locals := 246 })).room s m ([.ref (sa 5), .ref (tw 9), .int a2, .ref (tw (200 + b3))] : List Value).toArray below meth c (MQ below (RQi post) ([.ref (sa 5), .ref (tw 9), .int a2, .ref (tw (200 + b3))] : List Value).toArray s 0 0 NoA) 5 36 [(0, .ref (sa 5)), (1, .ref (tw 9)), (2, .int a2), (3, .ref (tw (200 + b3))), (4, .int x4)] [] := by
    intro  n36
    induction n36 with
    | zero => intro x4 hw; exact False.elim hw
    | succ n36 ih36 =>
      intro x4 hw H locs ls hS hl
      have hw : wpBX6_why_36 post T a2 b3  (fun x4 => wpLX6_why_36 post T a2 b3  h  n36 x4) h  x4 := hw
      unfold wpBX6_why_36 at hw
      refine lv_iload hx hb dX6_why_36 (lv_at hl 4 rfl) ?_
      refine lv_aload_n hx hb dX6_why_38 rfl (lv_at hl 3 rfl) ?_
      refine L_fldN hx hb hts hown hK (hT.at hS hN0) b3 hb3 4 (v := .ref (tw (300 + b3))) (by decide) (hZ.2.1.nF 41 rfl) rfl dX6_why_39 ?_
      refine L_alen hx hb hK (hT.at hS hN0) b3 hb3 dX6_why_42 ?_
      refine lv_icmp_ge (tgt := 73) hx hb dX6_why_43 (by decide) (fun c5 => ?_) (fun c5 => ?_)
      · have hw := hw.1 c5
        refine lv_iconst (v := (0 : Int32)) hx hb dX6_why_73 (by decide) ?_
        refine lv_istore (lv' := [(4, .int (0 : Int32)), (0, .ref (sa 5)), (1, .ref (tw 9)), (2, .int a2), (3, .ref (tw (200 + b3)))]) hx hb dX6_why_74 hl (by decide) rfl (fun ls hl => ?_)
        obtain ⟨n10, hw⟩ := hw
        exact hL76 n10 (0 : Int32) hw _ _ ls hS (lv_sub hl [1, 2, 3, 4, 0] rfl)
      · have hw := hw.2 c5
        refine lv_aload_n hx hb dX6_why_46 rfl (lv_at hl 1 rfl) ?_
        refine lv_iload_n hx hb dX6_why_47 rfl (lv_at hl 2 rfl) ?_
        refine RT_callI (As := [.int a2]) (rest := []) ⟨hx, hb, hml, hown, hts⟩ hS (fun _ h => h.elim) hK hZ (hT.at hS hN0) (metX2_house l D cA z0 E tw N vo h T a2 _ hw) (cwV 1 hts (lw_V q911 q883 q884 q105 q885) rfl rfl rfl (by decide +kernel) ⟨Nat.le_of_ble_eq_true rfl, Nat.le_of_ble_eq_true rfl⟩) rfl hl.1 rfl (Nat.le_of_ble_eq_true rfl) dX6_why_48 ⟨Nat.zero_le _, Nat.zero_le _⟩ (fun r11 H locs hw hk hS => ?_)
        refine lv_aload_n hx hb dX6_why_51 rfl (lv_at hl 1 rfl) ?_
        refine lv_aload_n hx hb dX6_why_52 rfl (lv_at hl 3 rfl) ?_
        refine L_fldN hx hb hts hown hK (hT.at hS hN0) b3 hb3 4 (v := .ref (tw (300 + b3))) (by decide) (hZ.2.1.nF 41 rfl) rfl dX6_why_53 ?_
        refine lv_iload hx hb dX6_why_56 (lv_at hl 4 rfl) ?_
        obtain ⟨hv12, hw⟩ := hw
        refine L_iald hx hb hK (hT.at hS hN0) b3 hb3 hv12 dX6_why_58 ?_
        refine RT_callI (As := [.int (nI (T 9 (6 * b3 + ix x4)))]) (rest := [.int r11]) ⟨hx, hb, hml, hown, hts⟩ hS (fun _ h => h.elim) hK hZ (hT.at hS hN0) (metX2_house l D cA z0 E tw N vo h T (nI (T 9 (6 * b3 + ix x4))) _ hw) (cwV 1 hts (lw_V q911 q883 q884 q105 q885) rfl rfl rfl (by decide +kernel) ⟨Nat.le_of_ble_eq_true rfl, Nat.le_of_ble_eq_true rfl⟩) rfl hl.1 rfl (Nat.le_of_ble_eq_true rfl) dX6_why_59 ⟨Nat.zero_le _, Nat.zero_le _⟩ (fun r13 H locs hw hk hS => ?_)
        refine lv_icmp_ne (tgt := 67) hx hb dX6_why_62 (by decide) (fun c14 => ?_) (fun c14 => ?_)
        · have hw := hw.2 c14
          refine lv_iinc (v := (x4 + (1 : Int32))) (lv' := [(4, .int (x4 + (1 : Int32))), (0, .ref (sa 5)), (1, .ref (tw 9)), (2, .int a2), (3, .ref (tw (200 + b3)))]) hx hb dX6_why_67 hl (k := 4) rfl rfl (by decide) rfl (fun ls hl => ?_)
          refine lv_goto (tgt := 36) hx hb dX6_why_70 (by decide) ?_
          exact ih36 (x4 + (1 : Int32)) hw _ _ ls hS (lv_sub hl [1, 2, 3, 4, 0] rfl)
        · have hw := hw.1 c14
          refine lv_iconst (v := (2 : Int32)) hx hb dX6_why_65 (by decide) ?_
          exact R_iret hx hb hr hlocks hS hw dX6_why_66
  unfold wpX6_why at hw
  refine lv_aload_n hx hb dX6_why_0 rfl (lv_at hl 3 rfl) ?_
  refine lv_iload_n hx hb dX6_why_1 rfl (lv_at hl 2 rfl) ?_
  refine RL_callZ (As := [.int a2]) (rest := []) ⟨hx, hb, hml, hown, hts⟩ hS (fun _ h => h.elim) hK hZ (hT.at hS hN0) b3 hb3 (metX10_isEater l D cA z0 E tw N vo h T b3 a2 _ hb3 hw) (cwV 1 hts (lw_V q907 q908 q909 q134 q910) rfl rfl rfl (by decide +kernel) ⟨Nat.le_of_ble_eq_true rfl, Nat.le_of_ble_eq_true rfl⟩) rfl hl.1 rfl (Nat.le_of_ble_eq_true rfl) dX6_why_2 ⟨Nat.zero_le _, Nat.zero_le _⟩ (fun r1 H locs hw hk hS => ?_)
  refine lv_if_ne (tgt := 31) hx hb dX6_why_5 (by decide) (fun c2 => ?_) (fun c2 => ?_)
  · have c2 := b2i_t c2
    have hw := hw.1 c2
    refine lv_iconst (v := (1 : Int32)) hx hb dX6_why_31 (by decide) ?_
    exact R_iret hx hb hr hlocks hS hw dX6_why_32
  · have c2 := b2i_f c2
    have hw := hw.2 c2
    refine lv_aload_n hx hb dX6_why_8 rfl (lv_at hl 1 rfl) ?_
    refine T_fldN hx hb hts hown hK (hT.at hS hN0) 5 (v := .ref (tw 4)) (by decide) (hZ.2.1.nF 39 rfl) (fun _ _ => rfl) dX6_why_9 ?_
    refine lv_iload_n hx hb dX6_why_12 rfl (lv_at hl 2 rfl) ?_
    obtain ⟨hv3, hw⟩ := hw
    refine T_twin hx hb hK (hT.at hS hN0) hv3 dX6_why_13 ?_
    refine lv_iconst (v := (-1 : Int32)) hx hb dX6_why_14 (by decide) ?_
    refine lv_icmp_eq (tgt := 33) hx hb dX6_why_15 (by decide) (fun c4 => ?_) (fun c4 => ?_)
    · have hw := hw.1 c4
      refine lv_iconst (v := (0 : Int32)) hx hb dX6_why_33 (by decide) ?_
      refine lv_istore (lv' := [(4, .int (0 : Int32)), (0, .ref (sa 5)), (1, .ref (tw 9)), (2, .int a2), (3, .ref (tw (200 + b3)))]) hx hb dX6_why_34 hl (by decide) rfl (fun ls hl => ?_)
      obtain ⟨n15, hw⟩ := hw
      exact hL36 n15 (0 : Int32) hw _ _ ls hS (lv_sub hl [1, 2, 3, 4, 0] rfl)
    · have hw := hw.2 c4
      refine lv_aload_n hx hb dX6_why_18 rfl (lv_at hl 3 rfl) ?_
      refine lv_aload_n hx hb dX6_why_19 rfl (lv_at hl 1 rfl) ?_
      refine T_fldN hx hb hts hown hK (hT.at hS hN0) 5 (v := .ref (tw 4)) (by decide) (hZ.2.1.nF 39 rfl) (fun _ _ => rfl) dX6_why_20 ?_
      refine lv_iload_n hx hb dX6_why_23 rfl (lv_at hl 2 rfl) ?_
      refine T_twin hx hb hK (hT.at hS hN0) hv3 dX6_why_24 ?_
      refine RL_callZ (As := [.int (twI T (ix a2))]) (rest := []) ⟨hx, hb, hml, hown, hts⟩ hS (fun _ h => h.elim) hK hZ (hT.at hS hN0) b3 hb3 (metX10_isEater l D cA z0 E tw N vo h T b3 (twI T (ix a2)) _ hb3 hw) (cwV 1 hts (lw_V q907 q908 q909 q134 q910) rfl rfl rfl (by decide +kernel) ⟨Nat.le_of_ble_eq_true rfl, Nat.le_of_ble_eq_true rfl⟩) rfl hl.1 rfl (Nat.le_of_ble_eq_true rfl) dX6_why_25 ⟨Nat.zero_le _, Nat.zero_le _⟩ (fun r16 H locs hw hk hS => ?_)
      refine lv_if_eq (tgt := 33) hx hb dX6_why_28 (by decide) (fun c17 => ?_) (fun c17 => ?_)
      · have c17 := b2i_f c17
        have hw := hw.2 c17
        refine lv_iconst (v := (0 : Int32)) hx hb dX6_why_33 (by decide) ?_
        refine lv_istore (lv' := [(4, .int (0 : Int32)), (0, .ref (sa 5)), (1, .ref (tw 9)), (2, .int a2), (3, .ref (tw (200 + b3)))]) hx hb dX6_why_34 hl (by decide) rfl (fun ls hl => ?_)
        obtain ⟨n18, hw⟩ := hw
        exact hL36 n18 (0 : Int32) hw _ _ ls hS (lv_sub hl [1, 2, 3, 4, 0] rfl)
      · have c17 := b2i_t c17
        have hw := hw.1 c17
        refine lv_iconst (v := (1 : Int32)) hx hb dX6_why_31 (by decide) ?_
        exact R_iret hx hb hr hlocks hS hw dX6_why_32

/-- StrangeKnives$State.whoCan(LStrangeKnives$Town;I)I -/
def wpBX6_whoCan_5 (post : Int32 → Prop) (T : TT) (a2 : Int32)  (K5 : Int32 → Int32 → Prop) (h : Mem)  (x3 : Int32) (x4 : Int32) : Prop :=
  (((nI (T 0 0)) ≤ x4 → post x3) ∧ (¬ (nI (T 0 0)) ≤ x4 → (∃ b2 : Nat, a2 = nI b2 ∧ b2 < T 0 1 ∧ (wpX6_why (fun r3 => K5 (if r3 = 0 then (x3 ||| ((1 : Int32) <<< (x4 &&& 31))) else x3) (x4 + (1 : Int32))) h T x4 b2))))
def wpLX6_whoCan_5 (post : Int32 → Prop) (T : TT) (a2 : Int32)  (h : Mem)  : Nat → (Int32 × Int32) → Prop := LW (fun K s => wpBX6_whoCan_5 post T a2  (fun x3 x4 => K (x3, x4)) h  s.1 s.2)
def wpX6_whoCan (post : Int32 → Prop) (h : Mem) (T : TT) (a2 : Int32) : Prop :=
  (∃ n, wpLX6_whoCan_5 post T a2  h n ((0 : Int32), (0 : Int32)))
set_option maxHeartbeats 4000000 in
set_option maxRecDepth 100000 in
theorem metX6_whoCan (l : Launch) (D : va_G) (cA : Nat → ClassId) (z0 : Nat) (E : Nat → Nat → Nat) (tw : Nat → Nat) (N : Nat → Prop) (vo : Nat) (sa : Nat → Nat) (h : Mem) (T : TT) (a2 : Int32) (post : Int32 → Prop) (hw : wpX6_whoCan post h T a2) : RcI l yX6_whoCan (ws_ yX6_whoCan cX6_whoCan 5 (some .int)) ({ frames := 8, cells := 0, slots := 0, locals := 270 }) [.ref (sa 5), .ref (tw 9), .int a2] (PhS D cA z0 E T tw vo N sa h) post := by
  refine Met.ofW (cc := cX6_whoCan) (maxL := 5) (ret := (some .int)) (by decide) rfl ?_
  intro p e s m args below meth c s₁ B hml hv
  obtain ⟨rfl, hv⟩ := hv
  have hx := B.exec
  have hb := B.bytes
  have hr := B.returns
  have hts := atoms_spec (ws := ws_ yX6_whoCan cX6_whoCan 5 (some .int)) B.pre
  have hts : ∀ w ∈ lw_all, w.before _ s = true := fun w h => hts w (List.mem_cons_of_mem _ h)
  have hown : s.vm.findClass RX6 = some m.cls := findClass_of_methodNamed B.named
  have hlocks := B.notSynchronized
  have hl := lv_entry ([.ref (sa 5), .ref (tw 9), .int a2]) (n := 5) (Nat.le_of_ble_eq_true rfl)
  rw [lg_entry_eq]
  generalize (lg_sl ([.ref (sa 5), .ref (tw 9), .int a2]) ++ List.replicate (5 - (lg_sl ([.ref (sa 5), .ref (tw 9), .int a2])).length) Slot.unset).toArray = ls at hl ⊢
  have hl : lv_has ls 5 [(0, .ref (sa 5)), (1, .ref (tw 9)), (2, .int a2)] := hl
  obtain ⟨hM, hT, hK, hZ⟩ := hv
  have hS : va_S NoA s.heap s.heap [] := va_S.rf
  have hL5 : ∀  (n5 : Nat) (x3 : Int32) (x4 : Int32), wpLX6_whoCan_5 post T a2  h  n5 (x3, x4) → JR p l e (headSpec (ws_ yX6_whoCan cX6_whoCan 5 (some .int)) ({ frames := 8, cells := 0, slots := 0, locals := 270 })).room s m ([.ref (sa 5), .ref (tw 9), .int a2] : List Value).toArray below meth c (MQ below (RQi post) ([.ref (sa 5), .ref (tw 9), .int a2] : List Value).toArray s 0 0 NoA) 5 5 [(0, .ref (sa 5)), (1, .ref (tw 9)), (2, .int a2), (3, .int x3), (4, .int x4)] [] := by
    intro  n5
    induction n5 with
    | zero => intro x3 x4 hw; exact False.elim hw
    | succ n5 ih5 =>
      intro x3 x4 hw H locs ls hS hl
      have hw : wpBX6_whoCan_5 post T a2  (fun x3 x4 => wpLX6_whoCan_5 post T a2  h  n5 (x3, x4)) h  x3 x4 := hw
      unfold wpBX6_whoCan_5 at hw
      refine lv_iload hx hb dX6_whoCan_5 (lv_at hl 4 rfl) ?_
      refine lv_aload_n hx hb dX6_whoCan_7 rfl (lv_at hl 1 rfl) ?_
      refine T_fldN hx hb hts hown hK (hT.at hS hN0) 3 (v := .ref (tw 0)) (by decide) (hZ.2.1.nF 37 rfl) (fun _ _ => rfl) dX6_whoCan_8 ?_
      refine T_psize ⟨hx, hb, hml, hown, hts⟩ hS hK (hT.at hS hN0) q711 ⟨Nat.le_of_ble_eq_true rfl, Nat.le_of_ble_eq_true rfl⟩ hl.1 (Nat.le_of_ble_eq_true rfl) dX6_whoCan_11 ⟨Nat.zero_le _, Nat.zero_le _⟩ (fun H locs hk hS => ?_)
      refine lv_icmp_ge (tgt := 51) hx hb dX6_whoCan_14 (by decide) (fun c1 => ?_) (fun c1 => ?_)
      · have hw := hw.1 c1
        refine lv_iload_n hx hb dX6_whoCan_51 rfl (lv_at hl 3 rfl) ?_
        exact R_iret hx hb hr hlocks hS hw dX6_whoCan_52
      · have hw := hw.2 c1
        refine lv_aload_n hx hb dX6_whoCan_17 rfl (lv_at hl 0 rfl) ?_
        refine lv_aload_n hx hb dX6_whoCan_18 rfl (lv_at hl 1 rfl) ?_
        refine lv_iload hx hb dX6_whoCan_19 (lv_at hl 4 rfl) ?_
        refine lv_aload_n hx hb dX6_whoCan_21 rfl (lv_at hl 1 rfl) ?_
        refine T_fldN hx hb hts hown hK (hT.at hS hN0) 4 (v := .ref (tw 2)) (by decide) (hZ.2.1.nF 42 rfl) (fun _ _ => rfl) dX6_whoCan_22 ?_
        refine lv_iload_n hx hb dX6_whoCan_25 rfl (lv_at hl 2 rfl) ?_
        obtain ⟨b2, eb2, hb2, hw⟩ := hw
        refine T_lgetE ⟨hx, hb, hml, hown, hts⟩ hS hK (hT.at hS hN0) q901 ⟨Nat.le_of_ble_eq_true rfl, Nat.le_of_ble_eq_true rfl⟩ b2 hb2 eb2 hl.1 (Nat.le_of_ble_eq_true rfl) dX6_whoCan_26 ⟨Nat.zero_le _, Nat.zero_le _⟩ (fun H locs hk hS => ?_)
        refine L_cast hx hb hown hK (hT.at hS hN0) b2 hb2 (hts _ q902) dX6_whoCan_29 ?_
        refine RS_callI (As := [.ref (tw 9), .int x4, .ref (tw (200 + b2))]) (rest := []) (sa := sa) (h := h) ⟨hx, hb, hml, hown, hts⟩ hS (fun _ h => h.elim) hK hZ (hT.at hS hN0) (hM.kept (rS hS)) (metX6_why l D cA z0 E tw N vo sa h T x4 b2 _ hb2 hw) (cwV 3 hts (lw_V q903 q904 q905 q129 q906) rfl rfl rfl (by decide +kernel) ⟨Nat.le_of_ble_eq_true rfl, Nat.le_of_ble_eq_true rfl⟩) rfl hl.1 rfl (Nat.le_of_ble_eq_true rfl) dX6_whoCan_32 ⟨Nat.zero_le _, Nat.zero_le _⟩ (fun r3 H locs hw hk hS => ?_)
        have hj4 : JR p l e (headSpec (ws_ yX6_whoCan cX6_whoCan 5 (some .int)) ({ frames := 8, cells := 0, slots := 0, locals := 270 })).room s m ([.ref (sa 5), .ref (tw 9), .int a2] : List Value).toArray below meth c (MQ below (RQi post) ([.ref (sa 5), .ref (tw 9), .int a2] : List Value).toArray s 0 0 NoA) 5 45 [(0, .ref (sa 5)), (1, .ref (tw 9)), (2, .int a2), (3, .int (if r3 = 0 then (x3 ||| ((1 : Int32) <<< (x4 &&& 31))) else x3)), (4, .int x4)] [] := by
          intro H locs ls hS hl
          refine lv_iinc (v := (x4 + (1 : Int32))) (lv' := [(4, .int (x4 + (1 : Int32))), (0, .ref (sa 5)), (1, .ref (tw 9)), (2, .int a2), (3, .int (if r3 = 0 then (x3 ||| ((1 : Int32) <<< (x4 &&& 31))) else x3))]) hx hb dX6_whoCan_45 hl (k := 4) rfl rfl (by decide) rfl (fun ls hl => ?_)
          refine lv_goto (tgt := 5) hx hb dX6_whoCan_48 (by decide) ?_
          exact ih5 (if r3 = 0 then (x3 ||| ((1 : Int32) <<< (x4 &&& 31))) else x3) (x4 + (1 : Int32)) hw _ _ ls hS (lv_sub hl [1, 2, 3, 4, 0] rfl)
        refine lv_if_ne (tgt := 45) hx hb dX6_whoCan_35 (by decide) (fun c5 => ?_) (fun c5 => ?_)
        · have e6 : (if r3 = 0 then (x3 ||| ((1 : Int32) <<< (x4 &&& 31))) else x3) = x3 := by rw [if_neg c5]
          rw [e6] at hj4
          exact hj4 _ _ ls hS (lv_sub hl [0, 1, 2, 3, 4] rfl)
        · refine lv_iload_n hx hb dX6_whoCan_38 rfl (lv_at hl 3 rfl) ?_
          refine lv_iconst (v := (1 : Int32)) hx hb dX6_whoCan_39 (by decide) ?_
          refine lv_iload hx hb dX6_whoCan_40 (lv_at hl 4 rfl) ?_
          refine lv_ishl hx hb dX6_whoCan_42 ?_
          refine lv_ior hx hb dX6_whoCan_43 ?_
          refine lv_istore_n (lv' := [(3, .int (x3 ||| ((1 : Int32) <<< (x4 &&& 31)))), (0, .ref (sa 5)), (1, .ref (tw 9)), (2, .int a2), (4, .int x4)]) hx hb dX6_whoCan_44 rfl hl (by decide) rfl (fun ls hl => ?_)
          have e7 : (if r3 = 0 then (x3 ||| ((1 : Int32) <<< (x4 &&& 31))) else x3) = (x3 ||| ((1 : Int32) <<< (x4 &&& 31))) := by rw [if_pos c5]
          rw [e7] at hj4
          exact hj4 _ _ ls hS (lv_sub hl [1, 2, 3, 0, 4] rfl)
  unfold wpX6_whoCan at hw
  refine lv_iconst (v := (0 : Int32)) hx hb dX6_whoCan_0 (by decide) ?_
  refine lv_istore_n (lv' := [(3, .int (0 : Int32)), (0, .ref (sa 5)), (1, .ref (tw 9)), (2, .int a2)]) hx hb dX6_whoCan_1 rfl hl (by decide) rfl (fun ls hl => ?_)
  refine lv_iconst (v := (0 : Int32)) hx hb dX6_whoCan_2 (by decide) ?_
  refine lv_istore (lv' := [(4, .int (0 : Int32)), (3, .int (0 : Int32)), (0, .ref (sa 5)), (1, .ref (tw 9)), (2, .int a2)]) hx hb dX6_whoCan_3 hl (by decide) rfl (fun ls hl => ?_)
  obtain ⟨n8, hw⟩ := hw
  exact hL5 n8 (0 : Int32) (0 : Int32) hw _ _ ls hS (lv_sub hl [2, 3, 4, 1, 0] rfl)

/-- StrangeKnives.cutMany()I -/
def wpBX1_cutMany_4 (post : Int32 → Prop) (T : TT)  (K4 : Int32 → Int32 → Prop) (h : Mem)  (x1 : Int32) (x2 : Int32) : Prop :=
  (wpX1_loaves (fun r1 => ((r1 ≤ x2 → post x1) ∧ (¬ r1 ≤ x2 → (vp_in x2 (Xlen 41) ∧ K4 (if (h 41 (ix x2)) = (-1 : Int32) then x1 else (x1 + (1 : Int32))) (x2 + (1 : Int32)))))) h T )
def wpLX1_cutMany_4 (post : Int32 → Prop) (T : TT)  (h : Mem)  : Nat → (Int32 × Int32) → Prop := LW (fun K s => wpBX1_cutMany_4 post T  (fun x1 x2 => K (x1, x2)) h  s.1 s.2)
def wpX1_cutMany (post : Int32 → Prop) (h : Mem) (T : TT) : Prop :=
  (∃ n, wpLX1_cutMany_4 post T  h n ((0 : Int32), (0 : Int32)))
set_option maxHeartbeats 4000000 in
set_option maxRecDepth 100000 in
theorem metX1_cutMany (l : Launch) (D : va_G) (cA : Nat → ClassId) (z0 : Nat) (E : Nat → Nat → Nat) (tw : Nat → Nat) (N : Nat → Prop) (ad : Nat → Nat) (h : Mem) (T : TT) (post : Int32 → Prop) (hw : wpX1_cutMany post h T) : RcI l yX1_cutMany (ws_ yX1_cutMany cX1_cutMany 3 (some .int)) ({ frames := 3, cells := 0, slots := 0, locals := 70 }) [.ref (ad 17)] (PhX D cA z0 E T tw N ad h) post := by
  refine Met.ofW (cc := cX1_cutMany) (maxL := 3) (ret := (some .int)) (by decide) rfl ?_
  intro p e s m args below meth c s₁ B hml hv
  obtain ⟨rfl, hv⟩ := hv
  have hx := B.exec
  have hb := B.bytes
  have hr := B.returns
  have hts := atoms_spec (ws := ws_ yX1_cutMany cX1_cutMany 3 (some .int)) B.pre
  have hts : ∀ w ∈ lw_all, w.before _ s = true := fun w h => hts w (List.mem_cons_of_mem _ h)
  have hown : s.vm.findClass RX1 = some m.cls := findClass_of_methodNamed B.named
  have hlocks := B.notSynchronized
  have hl := lv_entry ([.ref (ad 17)]) (n := 3) (Nat.le_of_ble_eq_true rfl)
  rw [lg_entry_eq]
  generalize (lg_sl ([.ref (ad 17)]) ++ List.replicate (3 - (lg_sl ([.ref (ad 17)])).length) Slot.unset).toArray = ls at hl ⊢
  have hl : lv_has ls 3 [(0, .ref (ad 17))] := hl
  obtain ⟨hM, hT, hK, hZ⟩ := hv
  have hS : va_S NoA s.heap s.heap [] := va_S.rf
  have hL4 : ∀  (n4 : Nat) (x1 : Int32) (x2 : Int32), wpLX1_cutMany_4 post T  h  n4 (x1, x2) → JR p l e (headSpec (ws_ yX1_cutMany cX1_cutMany 3 (some .int)) ({ frames := 3, cells := 0, slots := 0, locals := 70 })).room s m ([.ref (ad 17)] : List Value).toArray below meth c (MQ below (RQi post) ([.ref (ad 17)] : List Value).toArray s 0 0 NoA) 3 4 [(0, .ref (ad 17)), (1, .int x1), (2, .int x2)] [] := by
    intro  n4
    induction n4 with
    | zero => intro x1 x2 hw; exact False.elim hw
    | succ n4 ih4 =>
      intro x1 x2 hw H locs ls hS hl
      have hw : wpBX1_cutMany_4 post T  (fun x1 x2 => wpLX1_cutMany_4 post T  h  n4 (x1, x2)) h  x1 x2 := hw
      unfold wpBX1_cutMany_4 at hw
      refine lv_iload_n hx hb dX1_cutMany_4 rfl (lv_at hl 2 rfl) ?_
      refine lv_aload_n hx hb dX1_cutMany_5 rfl (lv_at hl 0 rfl) ?_
      refine RX_callI (As := []) (rest := [.int x2]) ⟨hx, hb, hml, hown, hts⟩ hS (fun _ h => h.elim) hK hZ (hT.at hS hN0) (hM.kept (rS hS)) (metX1_loaves l D cA z0 E tw N ad h T  _ hw) (cwV 0 hts (lw_V q860 q862 qs9 q104 q863) rfl rfl rfl (by decide +kernel) ⟨Nat.le_of_ble_eq_true rfl, Nat.le_of_ble_eq_true rfl⟩) rfl hl.1 rfl (Nat.le_of_ble_eq_true rfl) dX1_cutMany_6 ⟨Nat.zero_le _, Nat.zero_le _⟩ (fun r1 H locs hw hk hS => ?_)
      refine lv_icmp_ge (tgt := 34) hx hb dX1_cutMany_9 (by decide) (fun c2 => ?_) (fun c2 => ?_)
      · have hw := hw.1 c2
        refine lv_iload_n hx hb dX1_cutMany_34 rfl (lv_at hl 1 rfl) ?_
        exact R_iret hx hb hr hlocks hS hw dX1_cutMany_35
      · have hw := hw.2 c2
        refine lv_aload_n hx hb dX1_cutMany_12 rfl (lv_at hl 0 rfl) ?_
        refine X_get17 hx hb hts hown hK (hM.kept (rS hS)) 3 (v := .ref (ad 45)) (by decide) (hts _ q727) rfl dX1_cutMany_13 ?_
        refine X_get45N hx hb hts hown hK (hM.kept (rS hS)) 1 (v := .ref (ad 41)) (by decide) (hZ.2.1.nF 9 rfl) rfl dX1_cutMany_16 ?_
        refine lv_iload_n hx hb dX1_cutMany_19 rfl (lv_at hl 2 rfl) ?_
        obtain ⟨hv3, hw⟩ := hw
        refine X_iald hx hb hK (hM.kept (rS hS)) 41 rfl (j := (ix x2)) rfl hv3 dX1_cutMany_20 ?_
        refine lv_iconst (v := (-1 : Int32)) hx hb dX1_cutMany_21 (by decide) ?_
        have hj4 : JR p l e (headSpec (ws_ yX1_cutMany cX1_cutMany 3 (some .int)) ({ frames := 3, cells := 0, slots := 0, locals := 70 })).room s m ([.ref (ad 17)] : List Value).toArray below meth c (MQ below (RQi post) ([.ref (ad 17)] : List Value).toArray s 0 0 NoA) 3 28 [(0, .ref (ad 17)), (1, .int (if (h 41 (ix x2)) = (-1 : Int32) then x1 else (x1 + (1 : Int32)))), (2, .int x2)] [] := by
          intro H locs ls hS hl
          refine lv_iinc (v := (x2 + (1 : Int32))) (lv' := [(2, .int (x2 + (1 : Int32))), (0, .ref (ad 17)), (1, .int (if (h 41 (ix x2)) = (-1 : Int32) then x1 else (x1 + (1 : Int32))))]) hx hb dX1_cutMany_28 hl (k := 2) rfl rfl (by decide) rfl (fun ls hl => ?_)
          refine lv_goto (tgt := 4) hx hb dX1_cutMany_31 (by decide) ?_
          exact ih4 (if (h 41 (ix x2)) = (-1 : Int32) then x1 else (x1 + (1 : Int32))) (x2 + (1 : Int32)) hw _ _ ls hS (lv_sub hl [1, 2, 0] rfl)
        refine lv_icmp_eq (tgt := 28) hx hb dX1_cutMany_22 (by decide) (fun c5 => ?_) (fun c5 => ?_)
        · have e6 : (if (h 41 (ix x2)) = (-1 : Int32) then x1 else (x1 + (1 : Int32))) = x1 := by rw [if_pos c5]
          rw [e6] at hj4
          exact hj4 _ _ ls hS (lv_sub hl [0, 1, 2] rfl)
        · refine lv_iinc (v := (x1 + (1 : Int32))) (lv' := [(1, .int (x1 + (1 : Int32))), (0, .ref (ad 17)), (2, .int x2)]) hx hb dX1_cutMany_25 hl (k := 1) rfl rfl (by decide) rfl (fun ls hl => ?_)
          have e7 : (if (h 41 (ix x2)) = (-1 : Int32) then x1 else (x1 + (1 : Int32))) = (x1 + (1 : Int32)) := by rw [if_neg c5]
          rw [e7] at hj4
          exact hj4 _ _ ls hS (lv_sub hl [1, 0, 2] rfl)
  unfold wpX1_cutMany at hw
  refine lv_iconst (v := (0 : Int32)) hx hb dX1_cutMany_0 (by decide) ?_
  refine lv_istore_n (lv' := [(1, .int (0 : Int32)), (0, .ref (ad 17))]) hx hb dX1_cutMany_1 rfl hl (by decide) rfl (fun ls hl => ?_)
  refine lv_iconst (v := (0 : Int32)) hx hb dX1_cutMany_2 (by decide) ?_
  refine lv_istore_n (lv' := [(2, .int (0 : Int32)), (1, .int (0 : Int32)), (0, .ref (ad 17))]) hx hb dX1_cutMany_3 rfl hl (by decide) rfl (fun ls hl => ?_)
  obtain ⟨n8, hw⟩ := hw
  exact hL4 n8 (0 : Int32) (0 : Int32) hw _ _ ls hS (lv_sub hl [2, 1, 0] rfl)

/-- StrangeKnives.knownBy(I)I -/
def wpBX1_knownBy_4 (post : Int32 → Prop) (T : TT) (a1 : Int32)  (K4 : Int32 → Int32 → Prop) (h : Mem)  (x2 : Int32) (x3 : Int32) : Prop :=
  (wpX1_people (fun r1 => ((r1 ≤ x3 → post x2) ∧ (¬ r1 ≤ x3 → ((x3 = a1 → K4 x2 (x3 + (1 : Int32))) ∧ (¬ x3 = a1 → (wpX6_knows (fun r4 => K4 (if r4 = true then (x2 ||| ((1 : Int32) <<< (x3 &&& 31))) else x2) (x3 + (1 : Int32))) (sub h 40) T a1 x3)))))) h T )
def wpLX1_knownBy_4 (post : Int32 → Prop) (T : TT) (a1 : Int32)  (h : Mem)  : Nat → (Int32 × Int32) → Prop := LW (fun K s => wpBX1_knownBy_4 post T a1  (fun x2 x3 => K (x2, x3)) h  s.1 s.2)
def wpX1_knownBy (post : Int32 → Prop) (h : Mem) (T : TT) (a1 : Int32) : Prop :=
  (∃ n, wpLX1_knownBy_4 post T a1  h n ((0 : Int32), (0 : Int32)))
set_option maxHeartbeats 4000000 in
set_option maxRecDepth 100000 in
theorem metX1_knownBy (l : Launch) (D : va_G) (cA : Nat → ClassId) (z0 : Nat) (E : Nat → Nat → Nat) (tw : Nat → Nat) (N : Nat → Prop) (ad : Nat → Nat) (h : Mem) (T : TT) (a1 : Int32) (post : Int32 → Prop) (hw : wpX1_knownBy post h T a1) : RcI l yX1_knownBy (ws_ yX1_knownBy cX1_knownBy 4 (some .int)) ({ frames := 7, cells := 0, slots := 0, locals := 246 }) [.ref (ad 17), .int a1] (PhX D cA z0 E T tw N ad h) post := by
  refine Met.ofW (cc := cX1_knownBy) (maxL := 4) (ret := (some .int)) (by decide) rfl ?_
  intro p e s m args below meth c s₁ B hml hv
  obtain ⟨rfl, hv⟩ := hv
  have hx := B.exec
  have hb := B.bytes
  have hr := B.returns
  have hts := atoms_spec (ws := ws_ yX1_knownBy cX1_knownBy 4 (some .int)) B.pre
  have hts : ∀ w ∈ lw_all, w.before _ s = true := fun w h => hts w (List.mem_cons_of_mem _ h)
  have hown : s.vm.findClass RX1 = some m.cls := findClass_of_methodNamed B.named
  have hlocks := B.notSynchronized
  have hl := lv_entry ([.ref (ad 17), .int a1]) (n := 4) (Nat.le_of_ble_eq_true rfl)
  rw [lg_entry_eq]
  generalize (lg_sl ([.ref (ad 17), .int a1]) ++ List.replicate (4 - (lg_sl ([.ref (ad 17), .int a1])).length) Slot.unset).toArray = ls at hl ⊢
  have hl : lv_has ls 4 [(0, .ref (ad 17)), (1, .int a1)] := hl
  obtain ⟨hM, hT, hK, hZ⟩ := hv
  have hS : va_S NoA s.heap s.heap [] := va_S.rf
  have hL4 : ∀  (n4 : Nat) (x2 : Int32) (x3 : Int32), wpLX1_knownBy_4 post T a1  h  n4 (x2, x3) → JR p l e (headSpec (ws_ yX1_knownBy cX1_knownBy 4 (some .int)) ({ frames := 7, cells := 0, slots := 0, locals := 246 })).room s m ([.ref (ad 17), .int a1] : List Value).toArray below meth c (MQ below (RQi post) ([.ref (ad 17), .int a1] : List Value).toArray s 0 0 NoA) 4 4 [(0, .ref (ad 17)), (1, .int a1), (2, .int x2), (3, .int x3)] [] := by
    intro  n4
    induction n4 with
    | zero => intro x2 x3 hw; exact False.elim hw
    | succ n4 ih4 =>
      intro x2 x3 hw H locs ls hS hl
      have hw : wpBX1_knownBy_4 post T a1  (fun x2 x3 => wpLX1_knownBy_4 post T a1  h  n4 (x2, x3)) h  x2 x3 := hw
      unfold wpBX1_knownBy_4 at hw
      refine lv_iload_n hx hb dX1_knownBy_4 rfl (lv_at hl 3 rfl) ?_
      refine lv_aload_n hx hb dX1_knownBy_5 rfl (lv_at hl 0 rfl) ?_
      refine RX_callI (As := []) (rest := [.int x3]) ⟨hx, hb, hml, hown, hts⟩ hS (fun _ h => h.elim) hK hZ (hT.at hS hN0) (hM.kept (rS hS)) (metX1_people l D cA z0 E tw N ad h T  _ hw) (cwV 0 hts (lw_V q792 q794 qs6 q104 q795) rfl rfl rfl (by decide +kernel) ⟨Nat.le_of_ble_eq_true rfl, Nat.le_of_ble_eq_true rfl⟩) rfl hl.1 rfl (Nat.le_of_ble_eq_true rfl) dX1_knownBy_6 ⟨Nat.zero_le _, Nat.zero_le _⟩ (fun r1 H locs hw hk hS => ?_)
      refine lv_icmp_ge (tgt := 45) hx hb dX1_knownBy_9 (by decide) (fun c2 => ?_) (fun c2 => ?_)
      · have hw := hw.1 c2
        refine lv_iload_n hx hb dX1_knownBy_45 rfl (lv_at hl 2 rfl) ?_
        exact R_iret hx hb hr hlocks hS hw dX1_knownBy_46
      · have hw := hw.2 c2
        refine lv_iload_n hx hb dX1_knownBy_12 rfl (lv_at hl 3 rfl) ?_
        refine lv_iload_n hx hb dX1_knownBy_13 rfl (lv_at hl 1 rfl) ?_
        refine lv_icmp_eq (tgt := 39) hx hb dX1_knownBy_14 (by decide) (fun c3 => ?_) (fun c3 => ?_)
        · have hw := hw.1 c3
          refine lv_iinc (v := (x3 + (1 : Int32))) (lv' := [(3, .int (x3 + (1 : Int32))), (0, .ref (ad 17)), (1, .int a1), (2, .int x2)]) hx hb dX1_knownBy_39 hl (k := 3) rfl rfl (by decide) rfl (fun ls hl => ?_)
          refine lv_goto (tgt := 4) hx hb dX1_knownBy_42 (by decide) ?_
          exact ih4 x2 (x3 + (1 : Int32)) hw _ _ ls hS (lv_sub hl [1, 2, 3, 0] rfl)
        · have hw := hw.2 c3
          refine lv_aload_n hx hb dX1_knownBy_17 rfl (lv_at hl 0 rfl) ?_
          refine X_get17 hx hb hts hown hK (hM.kept (rS hS)) 3 (v := .ref (ad 45)) (by decide) (hts _ q727) rfl dX1_knownBy_18 ?_
          refine lv_aload_n hx hb dX1_knownBy_21 rfl (lv_at hl 0 rfl) ?_
          refine X_get17 hx hb hts hown hK (hM.kept (rS hS)) 0 (v := .ref (tw 9)) (by decide) (hts _ q724) rfl dX1_knownBy_22 ?_
          refine lv_iload_n hx hb dX1_knownBy_25 rfl (lv_at hl 1 rfl) ?_
          refine lv_iload_n hx hb dX1_knownBy_26 rfl (lv_at hl 3 rfl) ?_
          refine RS_callZ (As := [.ref (tw 9), .int a1, .int x3]) (rest := []) (sa := (shf ad 40)) (h := (sub h 40)) ⟨hx, hb, hml, hown, hts⟩ hS (fun _ h => h.elim) hK hZ (hT.at hS hN0) (hM.kept (rS hS)).now (metX6_knows l D cA z0 E tw N (ad 70) (shf ad 40) (sub h 40) T a1 x3 _ hw) (cwV 3 hts (lw_V q937 q913 q914 q129 q915) rfl rfl rfl (by decide +kernel) ⟨Nat.le_of_ble_eq_true rfl, Nat.le_of_ble_eq_true rfl⟩) rfl hl.1 rfl (Nat.le_of_ble_eq_true rfl) dX1_knownBy_27 ⟨Nat.zero_le _, Nat.zero_le _⟩ (fun r4 H locs hw hk hS => ?_)
          have hj5 : JR p l e (headSpec (ws_ yX1_knownBy cX1_knownBy 4 (some .int)) ({ frames := 7, cells := 0, slots := 0, locals := 246 })).room s m ([.ref (ad 17), .int a1] : List Value).toArray below meth c (MQ below (RQi post) ([.ref (ad 17), .int a1] : List Value).toArray s 0 0 NoA) 4 39 [(0, .ref (ad 17)), (1, .int a1), (2, .int (if r4 = true then (x2 ||| ((1 : Int32) <<< (x3 &&& 31))) else x2)), (3, .int x3)] [] := by
            intro H locs ls hS hl
            refine lv_iinc (v := (x3 + (1 : Int32))) (lv' := [(3, .int (x3 + (1 : Int32))), (0, .ref (ad 17)), (1, .int a1), (2, .int (if r4 = true then (x2 ||| ((1 : Int32) <<< (x3 &&& 31))) else x2))]) hx hb dX1_knownBy_39 hl (k := 3) rfl rfl (by decide) rfl (fun ls hl => ?_)
            refine lv_goto (tgt := 4) hx hb dX1_knownBy_42 (by decide) ?_
            exact ih4 (if r4 = true then (x2 ||| ((1 : Int32) <<< (x3 &&& 31))) else x2) (x3 + (1 : Int32)) hw _ _ ls hS (lv_sub hl [1, 2, 3, 0] rfl)
          refine lv_if_eq (tgt := 39) hx hb dX1_knownBy_30 (by decide) (fun c6 => ?_) (fun c6 => ?_)
          · have c6 := b2i_f c6
            have e7 : (if r4 = true then (x2 ||| ((1 : Int32) <<< (x3 &&& 31))) else x2) = x2 := by rw [if_neg c6]
            rw [e7] at hj5
            exact hj5 _ _ ls hS (lv_sub hl [0, 1, 2, 3] rfl)
          · have c6 := b2i_t c6
            refine lv_iload_n hx hb dX1_knownBy_33 rfl (lv_at hl 2 rfl) ?_
            refine lv_iconst (v := (1 : Int32)) hx hb dX1_knownBy_34 (by decide) ?_
            refine lv_iload_n hx hb dX1_knownBy_35 rfl (lv_at hl 3 rfl) ?_
            refine lv_ishl hx hb dX1_knownBy_36 ?_
            refine lv_ior hx hb dX1_knownBy_37 ?_
            refine lv_istore_n (lv' := [(2, .int (x2 ||| ((1 : Int32) <<< (x3 &&& 31)))), (0, .ref (ad 17)), (1, .int a1), (3, .int x3)]) hx hb dX1_knownBy_38 rfl hl (by decide) rfl (fun ls hl => ?_)
            have e8 : (if r4 = true then (x2 ||| ((1 : Int32) <<< (x3 &&& 31))) else x2) = (x2 ||| ((1 : Int32) <<< (x3 &&& 31))) := by rw [if_pos c6]
            rw [e8] at hj5
            exact hj5 _ _ ls hS (lv_sub hl [1, 2, 0, 3] rfl)
  unfold wpX1_knownBy at hw
  refine lv_iconst (v := (0 : Int32)) hx hb dX1_knownBy_0 (by decide) ?_
  refine lv_istore_n (lv' := [(2, .int (0 : Int32)), (0, .ref (ad 17)), (1, .int a1)]) hx hb dX1_knownBy_1 rfl hl (by decide) rfl (fun ls hl => ?_)
  refine lv_iconst (v := (0 : Int32)) hx hb dX1_knownBy_2 (by decide) ?_
  refine lv_istore_n (lv' := [(3, .int (0 : Int32)), (2, .int (0 : Int32)), (0, .ref (ad 17)), (1, .int a1)]) hx hb dX1_knownBy_3 rfl hl (by decide) rfl (fun ls hl => ?_)
  obtain ⟨n9, hw⟩ := hw
  exact hL4 n9 (0 : Int32) (0 : Int32) hw _ _ ls hS (lv_sub hl [2, 3, 1, 0] rfl)

/-- StrangeKnives.familiar()I -/
def wpBX1_familiar_4 (post : Int32 → Prop) (T : TT)  (K4 : Int32 → Int32 → Prop) (h : Mem)  (x1 : Int32) (x2 : Int32) : Prop :=
  (wpX1_people (fun r1 => ((r1 ≤ x2 → post x1) ∧ (¬ r1 ≤ x2 → (wpX1_knownBy (fun r3 => (wpX1_people (fun r5 => K4 (if (bitc r3) = (r5 - (1 : Int32)) then (x1 ||| ((1 : Int32) <<< (x2 &&& 31))) else x1) (x2 + (1 : Int32))) h T )) h T x2)))) h T )
def wpLX1_familiar_4 (post : Int32 → Prop) (T : TT)  (h : Mem)  : Nat → (Int32 × Int32) → Prop := LW (fun K s => wpBX1_familiar_4 post T  (fun x1 x2 => K (x1, x2)) h  s.1 s.2)
def wpX1_familiar (post : Int32 → Prop) (h : Mem) (T : TT) : Prop :=
  (∃ n, wpLX1_familiar_4 post T  h n ((0 : Int32), (0 : Int32)))
set_option maxHeartbeats 4000000 in
set_option maxRecDepth 100000 in
theorem metX1_familiar (l : Launch) (D : va_G) (cA : Nat → ClassId) (z0 : Nat) (E : Nat → Nat → Nat) (tw : Nat → Nat) (N : Nat → Prop) (ad : Nat → Nat) (h : Mem) (T : TT) (post : Int32 → Prop) (hw : wpX1_familiar post h T) : RcI l yX1_familiar (ws_ yX1_familiar cX1_familiar 3 (some .int)) ({ frames := 8, cells := 0, slots := 0, locals := 269 }) [.ref (ad 17)] (PhX D cA z0 E T tw N ad h) post := by
  refine Met.ofW (cc := cX1_familiar) (maxL := 3) (ret := (some .int)) (by decide) rfl ?_
  intro p e s m args below meth c s₁ B hml hv
  obtain ⟨rfl, hv⟩ := hv
  have hx := B.exec
  have hb := B.bytes
  have hr := B.returns
  have hts := atoms_spec (ws := ws_ yX1_familiar cX1_familiar 3 (some .int)) B.pre
  have hts : ∀ w ∈ lw_all, w.before _ s = true := fun w h => hts w (List.mem_cons_of_mem _ h)
  have hown : s.vm.findClass RX1 = some m.cls := findClass_of_methodNamed B.named
  have hlocks := B.notSynchronized
  have hl := lv_entry ([.ref (ad 17)]) (n := 3) (Nat.le_of_ble_eq_true rfl)
  rw [lg_entry_eq]
  generalize (lg_sl ([.ref (ad 17)]) ++ List.replicate (3 - (lg_sl ([.ref (ad 17)])).length) Slot.unset).toArray = ls at hl ⊢
  have hl : lv_has ls 3 [(0, .ref (ad 17))] := hl
  obtain ⟨hM, hT, hK, hZ⟩ := hv
  have hS : va_S NoA s.heap s.heap [] := va_S.rf
  have hL4 : ∀  (n4 : Nat) (x1 : Int32) (x2 : Int32), wpLX1_familiar_4 post T  h  n4 (x1, x2) → JR p l e (headSpec (ws_ yX1_familiar cX1_familiar 3 (some .int)) ({ frames := 8, cells := 0, slots := 0, locals := 269 })).room s m ([.ref (ad 17)] : List Value).toArray below meth c (MQ below (RQi post) ([.ref (ad 17)] : List Value).toArray s 0 0 NoA) 3 4 [(0, .ref (ad 17)), (1, .int x1), (2, .int x2)] [] := by
    intro  n4
    induction n4 with
    | zero => intro x1 x2 hw; exact False.elim hw
    | succ n4 ih4 =>
      intro x1 x2 hw H locs ls hS hl
      have hw : wpBX1_familiar_4 post T  (fun x1 x2 => wpLX1_familiar_4 post T  h  n4 (x1, x2)) h  x1 x2 := hw
      unfold wpBX1_familiar_4 at hw
      refine lv_iload_n hx hb dX1_familiar_4 rfl (lv_at hl 2 rfl) ?_
      refine lv_aload_n hx hb dX1_familiar_5 rfl (lv_at hl 0 rfl) ?_
      refine RX_callI (As := []) (rest := [.int x2]) ⟨hx, hb, hml, hown, hts⟩ hS (fun _ h => h.elim) hK hZ (hT.at hS hN0) (hM.kept (rS hS)) (metX1_people l D cA z0 E tw N ad h T  _ hw) (cwV 0 hts (lw_V q792 q794 qs6 q104 q795) rfl rfl rfl (by decide +kernel) ⟨Nat.le_of_ble_eq_true rfl, Nat.le_of_ble_eq_true rfl⟩) rfl hl.1 rfl (Nat.le_of_ble_eq_true rfl) dX1_familiar_6 ⟨Nat.zero_le _, Nat.zero_le _⟩ (fun r1 H locs hw hk hS => ?_)
      refine lv_icmp_ge (tgt := 41) hx hb dX1_familiar_9 (by decide) (fun c2 => ?_) (fun c2 => ?_)
      · have hw := hw.1 c2
        refine lv_iload_n hx hb dX1_familiar_41 rfl (lv_at hl 1 rfl) ?_
        exact R_iret hx hb hr hlocks hS hw dX1_familiar_42
      · have hw := hw.2 c2
        refine lv_aload_n hx hb dX1_familiar_12 rfl (lv_at hl 0 rfl) ?_
        refine lv_iload_n hx hb dX1_familiar_13 rfl (lv_at hl 2 rfl) ?_
        refine RX_callI (As := [.int x2]) (rest := []) ⟨hx, hb, hml, hown, hts⟩ hS (fun _ h => h.elim) hK hZ (hT.at hS hN0) (hM.kept (rS hS)) (metX1_knownBy l D cA z0 E tw N ad h T x2 _ hw) (cwV 1 hts (lw_V q933 q935 qs15 q104 q936) rfl rfl rfl (by decide +kernel) ⟨Nat.le_of_ble_eq_true rfl, Nat.le_of_ble_eq_true rfl⟩) rfl hl.1 rfl (Nat.le_of_ble_eq_true rfl) dX1_familiar_14 ⟨Nat.zero_le _, Nat.zero_le _⟩ (fun r3 H locs hw hk hS => ?_)
        refine RN_callI (As := [.int r3]) (rest := []) ⟨hx, hb, hml, hown, hts⟩ hS (metJ16_bitCount l) (va_cwS 1 hts (lw_S q797 q798 q124 q799) rfl rfl rfl (by decide +kernel) ⟨Nat.le_of_ble_eq_true rfl, Nat.le_of_ble_eq_true rfl⟩) rfl hl.1 rfl (Nat.le_of_ble_eq_true rfl) dX1_familiar_17 ⟨Nat.zero_le _, Nat.zero_le _⟩ (fun r4 H locs er4 hk hS => ?_)
        subst er4
        refine lv_aload_n hx hb dX1_familiar_20 rfl (lv_at hl 0 rfl) ?_
        refine RX_callI (As := []) (rest := [.int (bitc r3)]) ⟨hx, hb, hml, hown, hts⟩ hS (fun _ h => h.elim) hK hZ (hT.at hS hN0) (hM.kept (rS hS)) (metX1_people l D cA z0 E tw N ad h T  _ hw) (cwV 0 hts (lw_V q792 q794 qs6 q104 q795) rfl rfl rfl (by decide +kernel) ⟨Nat.le_of_ble_eq_true rfl, Nat.le_of_ble_eq_true rfl⟩) rfl hl.1 rfl (Nat.le_of_ble_eq_true rfl) dX1_familiar_21 ⟨Nat.zero_le _, Nat.zero_le _⟩ (fun r5 H locs hw hk hS => ?_)
        refine lv_iconst (v := (1 : Int32)) hx hb dX1_familiar_24 (by decide) ?_
        refine lv_isub hx hb dX1_familiar_25 ?_
        have hj6 : JR p l e (headSpec (ws_ yX1_familiar cX1_familiar 3 (some .int)) ({ frames := 8, cells := 0, slots := 0, locals := 269 })).room s m ([.ref (ad 17)] : List Value).toArray below meth c (MQ below (RQi post) ([.ref (ad 17)] : List Value).toArray s 0 0 NoA) 3 35 [(0, .ref (ad 17)), (1, .int (if (bitc r3) = (r5 - (1 : Int32)) then (x1 ||| ((1 : Int32) <<< (x2 &&& 31))) else x1)), (2, .int x2)] [] := by
          intro H locs ls hS hl
          refine lv_iinc (v := (x2 + (1 : Int32))) (lv' := [(2, .int (x2 + (1 : Int32))), (0, .ref (ad 17)), (1, .int (if (bitc r3) = (r5 - (1 : Int32)) then (x1 ||| ((1 : Int32) <<< (x2 &&& 31))) else x1))]) hx hb dX1_familiar_35 hl (k := 2) rfl rfl (by decide) rfl (fun ls hl => ?_)
          refine lv_goto (tgt := 4) hx hb dX1_familiar_38 (by decide) ?_
          exact ih4 (if (bitc r3) = (r5 - (1 : Int32)) then (x1 ||| ((1 : Int32) <<< (x2 &&& 31))) else x1) (x2 + (1 : Int32)) hw _ _ ls hS (lv_sub hl [1, 2, 0] rfl)
        refine lv_icmp_ne (tgt := 35) hx hb dX1_familiar_26 (by decide) (fun c7 => ?_) (fun c7 => ?_)
        · have e8 : (if (bitc r3) = (r5 - (1 : Int32)) then (x1 ||| ((1 : Int32) <<< (x2 &&& 31))) else x1) = x1 := by rw [if_neg c7]
          rw [e8] at hj6
          exact hj6 _ _ ls hS (lv_sub hl [0, 1, 2] rfl)
        · refine lv_iload_n hx hb dX1_familiar_29 rfl (lv_at hl 1 rfl) ?_
          refine lv_iconst (v := (1 : Int32)) hx hb dX1_familiar_30 (by decide) ?_
          refine lv_iload_n hx hb dX1_familiar_31 rfl (lv_at hl 2 rfl) ?_
          refine lv_ishl hx hb dX1_familiar_32 ?_
          refine lv_ior hx hb dX1_familiar_33 ?_
          refine lv_istore_n (lv' := [(1, .int (x1 ||| ((1 : Int32) <<< (x2 &&& 31)))), (0, .ref (ad 17)), (2, .int x2)]) hx hb dX1_familiar_34 rfl hl (by decide) rfl (fun ls hl => ?_)
          have e9 : (if (bitc r3) = (r5 - (1 : Int32)) then (x1 ||| ((1 : Int32) <<< (x2 &&& 31))) else x1) = (x1 ||| ((1 : Int32) <<< (x2 &&& 31))) := by rw [if_pos c7]
          rw [e9] at hj6
          exact hj6 _ _ ls hS (lv_sub hl [1, 0, 2] rfl)
  unfold wpX1_familiar at hw
  refine lv_iconst (v := (0 : Int32)) hx hb dX1_familiar_0 (by decide) ?_
  refine lv_istore_n (lv' := [(1, .int (0 : Int32)), (0, .ref (ad 17))]) hx hb dX1_familiar_1 rfl hl (by decide) rfl (fun ls hl => ?_)
  refine lv_iconst (v := (0 : Int32)) hx hb dX1_familiar_2 (by decide) ?_
  refine lv_istore_n (lv' := [(2, .int (0 : Int32)), (1, .int (0 : Int32)), (0, .ref (ad 17))]) hx hb dX1_familiar_3 rfl hl (by decide) rfl (fun ls hl => ?_)
  obtain ⟨n10, hw⟩ := hw
  exact hL4 n10 (0 : Int32) (0 : Int32) hw _ _ ls hS (lv_sub hl [2, 1, 0] rfl)

/-- StrangeKnives.ring()I -/
def wpBX1_ring_106 (post : Int32 → Prop) (T : TT) (K4 : Int32 → Int32 → Prop) (K33 : Int32 → Int32 → Prop) (K45 : Int32 → Int32 → Prop) (h : Mem) (x1 : Int32) (x2 : Int32) (x4 : Int32) (x5 : Int32)  : Prop :=
  K45 (0 : Int32) (x5 + (1 : Int32))
def wpBX1_ring_102 (post : Int32 → Prop) (T : TT) (K4 : Int32 → Int32 → Prop) (K33 : Int32 → Int32 → Prop) (K45 : Int32 → Int32 → Prop) (h : Mem) (x1 : Int32) (x2 : Int32) (x4 : Int32) (x5 : Int32)  : Prop :=
  K45 (1 : Int32) (x5 + (1 : Int32))
def wpBX1_ring_45 (post : Int32 → Prop) (T : TT) (K4 : Int32 → Int32 → Prop) (K33 : Int32 → Int32 → Prop) (K45 : Int32 → Int32 → Prop) (h : Mem) (x1 : Int32) (x2 : Int32) (x4 : Int32) (x3 : Int32) (x5 : Int32) : Prop :=
  (wpX1_people (fun r12 => ((r12 ≤ x5 → K33 x3 (x4 + (1 : Int32))) ∧ (¬ r12 ≤ x5 → ((((x2 >>> (x4 &&& 31)) &&& (1 : Int32)) = (1 : Int32) → ((x3 = 0 → wpBX1_ring_106 post T K4 K33 K45 h x1 x2 x4 x5) ∧ (¬ x3 = 0 → ((x4 = x5 → wpBX1_ring_102 post T K4 K33 K45 h x1 x2 x4 x5) ∧ (¬ x4 = x5 → ((((x2 >>> (x5 &&& 31)) &&& (1 : Int32)) = 0 → wpBX1_ring_102 post T K4 K33 K45 h x1 x2 x4 x5) ∧ (¬ ((x2 >>> (x5 &&& 31)) &&& (1 : Int32)) = 0 → (wpX6_knows (fun r18 => K45 (if r18 = true then (0 : Int32) else (1 : Int32)) (x5 + (1 : Int32))) (sub h 40) T x4 x5)))))))) ∧ (¬ ((x2 >>> (x4 &&& 31)) &&& (1 : Int32)) = (1 : Int32) → K33 x3 (x4 + (1 : Int32))))))) h T )
def wpLX1_ring_45 (post : Int32 → Prop) (T : TT) (K4 : Int32 → Int32 → Prop) (K33 : Int32 → Int32 → Prop) (h : Mem) (x1 : Int32) (x2 : Int32) (x4 : Int32) : Nat → (Int32 × Int32) → Prop := LW (fun K s => wpBX1_ring_45 post T K4 K33 (fun x3 x5 => K (x3, x5)) h x1 x2 x4 s.1 s.2)
def wpBX1_ring_33 (post : Int32 → Prop) (T : TT) (K4 : Int32 → Int32 → Prop) (K33 : Int32 → Int32 → Prop) (h : Mem) (x1 : Int32) (x2 : Int32) (x3 : Int32) (x4 : Int32) : Prop :=
  (wpX1_people (fun r6 => ((r6 ≤ x4 → K4 (if x3 = 0 then x1 else x2) (x2 + (1 : Int32))) ∧ (¬ r6 ≤ x4 → (∃ n, wpLX1_ring_45 post T K4 K33 h x1 x2 x4 n (x3, (0 : Int32)))))) h T )
def wpLX1_ring_33 (post : Int32 → Prop) (T : TT) (K4 : Int32 → Int32 → Prop) (h : Mem) (x1 : Int32) (x2 : Int32) : Nat → (Int32 × Int32) → Prop := LW (fun K s => wpBX1_ring_33 post T K4 (fun x3 x4 => K (x3, x4)) h x1 x2 s.1 s.2)
def wpBX1_ring_4 (post : Int32 → Prop) (T : TT)  (K4 : Int32 → Int32 → Prop) (h : Mem)  (x1 : Int32) (x2 : Int32) : Prop :=
  (wpX1_people (fun r1 => ((((1 : Int32) <<< (r1 &&& 31)) ≤ x2 → post x1) ∧ (¬ ((1 : Int32) <<< (r1 &&& 31)) ≤ x2 → (((bitc x1) < (bitc x2) → (∃ n, wpLX1_ring_33 post T K4 h x1 x2 n ((1 : Int32), (0 : Int32)))) ∧ (¬ (bitc x1) < (bitc x2) → K4 x1 (x2 + (1 : Int32))))))) h T )
def wpLX1_ring_4 (post : Int32 → Prop) (T : TT)  (h : Mem)  : Nat → (Int32 × Int32) → Prop := LW (fun K s => wpBX1_ring_4 post T  (fun x1 x2 => K (x1, x2)) h  s.1 s.2)
def wpX1_ring (post : Int32 → Prop) (h : Mem) (T : TT) : Prop :=
  (∃ n, wpLX1_ring_4 post T  h n ((0 : Int32), (0 : Int32)))
set_option maxHeartbeats 4000000 in
set_option maxRecDepth 100000 in
theorem metX1_ring (l : Launch) (D : va_G) (cA : Nat → ClassId) (z0 : Nat) (E : Nat → Nat → Nat) (tw : Nat → Nat) (N : Nat → Prop) (ad : Nat → Nat) (h : Mem) (T : TT) (post : Int32 → Prop) (hw : wpX1_ring post h T) : RcI l yX1_ring (ws_ yX1_ring cX1_ring 6 (some .int)) ({ frames := 7, cells := 0, slots := 0, locals := 246 }) [.ref (ad 17)] (PhX D cA z0 E T tw N ad h) post := by
  refine Met.ofW (cc := cX1_ring) (maxL := 6) (ret := (some .int)) (by decide) rfl ?_
  intro p e s m args below meth c s₁ B hml hv
  obtain ⟨rfl, hv⟩ := hv
  have hx := B.exec
  have hb := B.bytes
  have hr := B.returns
  have hts := atoms_spec (ws := ws_ yX1_ring cX1_ring 6 (some .int)) B.pre
  have hts : ∀ w ∈ lw_all, w.before _ s = true := fun w h => hts w (List.mem_cons_of_mem _ h)
  have hown : s.vm.findClass RX1 = some m.cls := findClass_of_methodNamed B.named
  have hlocks := B.notSynchronized
  have hl := lv_entry ([.ref (ad 17)]) (n := 6) (Nat.le_of_ble_eq_true rfl)
  rw [lg_entry_eq]
  generalize (lg_sl ([.ref (ad 17)]) ++ List.replicate (6 - (lg_sl ([.ref (ad 17)])).length) Slot.unset).toArray = ls at hl ⊢
  have hl : lv_has ls 6 [(0, .ref (ad 17))] := hl
  obtain ⟨hM, hT, hK, hZ⟩ := hv
  have hS : va_S NoA s.heap s.heap [] := va_S.rf
  have hL4 : ∀  (n4 : Nat) (x1 : Int32) (x2 : Int32), wpLX1_ring_4 post T  h  n4 (x1, x2) → JR p l e (headSpec (ws_ yX1_ring cX1_ring 6 (some .int)) ({ frames := 7, cells := 0, slots := 0, locals := 246 })).room s m ([.ref (ad 17)] : List Value).toArray below meth c (MQ below (RQi post) ([.ref (ad 17)] : List Value).toArray s 0 0 NoA) 6 4 [(0, .ref (ad 17)), (1, .int x1), (2, .int x2)] [] := by
    intro  n4
    induction n4 with
    | zero => intro x1 x2 hw; exact False.elim hw
    | succ n4 ih4 =>
      have hL33 : ∀ (x1 : Int32) (x2 : Int32) (n33 : Nat) (x3 : Int32) (x4 : Int32), wpLX1_ring_33 post T (fun x1 x2 => wpLX1_ring_4 post T  h  n4 (x1, x2)) h x1 x2 n33 (x3, x4) → JR p l e (headSpec (ws_ yX1_ring cX1_ring 6 (some .int)) ({ frames := 7, cells := 0, slots := 0, locals := 246 })).room s m ([.ref (ad 17)] : List Value).toArray below meth c (MQ below (RQi post) ([.ref (ad 17)] : List Value).toArray s 0 0 NoA) 6 33 [(0, .ref (ad 17)), (1, .int x1), (2, .int x2), (3, .int x3), (4, .int x4)] [] := by
        intro x1 x2 n33
        induction n33 with
        | zero => intro x3 x4 hw; exact False.elim hw
        | succ n33 ih33 =>
          have hL45 : ∀ (x4 : Int32) (n45 : Nat) (x3 : Int32) (x5 : Int32), wpLX1_ring_45 post T (fun x1 x2 => wpLX1_ring_4 post T  h  n4 (x1, x2)) (fun x3 x4 => wpLX1_ring_33 post T (fun x1 x2 => wpLX1_ring_4 post T  h  n4 (x1, x2)) h x1 x2 n33 (x3, x4)) h x1 x2 x4 n45 (x3, x5) → JR p l e (headSpec (ws_ yX1_ring cX1_ring 6 (some .int)) ({ frames := 7, cells := 0, slots := 0, locals := 246 })).room s m ([.ref (ad 17)] : List Value).toArray below meth c (MQ below (RQi post) ([.ref (ad 17)] : List Value).toArray s 0 0 NoA) 6 45 [(0, .ref (ad 17)), (1, .int x1), (2, .int x2), (3, .int x3), (4, .int x4), (5, .int x5)] [] := by
            intro x4 n45
            induction n45 with
            | zero => intro x3 x5 hw; exact False.elim hw
            | succ n45 ih45 =>
              have hB106 : ∀ (x5 : Int32), wpBX1_ring_106 post T (fun x1 x2 => wpLX1_ring_4 post T  h  n4 (x1, x2)) (fun x3 x4 => wpLX1_ring_33 post T (fun x1 x2 => wpLX1_ring_4 post T  h  n4 (x1, x2)) h x1 x2 n33 (x3, x4)) (fun x3 x5 => wpLX1_ring_45 post T (fun x1 x2 => wpLX1_ring_4 post T  h  n4 (x1, x2)) (fun x3 x4 => wpLX1_ring_33 post T (fun x1 x2 => wpLX1_ring_4 post T  h  n4 (x1, x2)) h x1 x2 n33 (x3, x4)) h x1 x2 x4 n45 (x3, x5)) h x1 x2 x4 x5 → JR p l e (headSpec (ws_ yX1_ring cX1_ring 6 (some .int)) ({ frames := 7, cells := 0, slots := 0, locals := 246 })).room s m ([.ref (ad 17)] : List Value).toArray below meth c (MQ below (RQi post) ([.ref (ad 17)] : List Value).toArray s 0 0 NoA) 6 106 [(0, .ref (ad 17)), (1, .int x1), (2, .int x2), (4, .int x4), (5, .int x5)] [] := by
                intro x5 hw H locs ls hS hl
                unfold wpBX1_ring_106 at hw
                refine lv_iconst (v := (0 : Int32)) hx hb dX1_ring_106 (by decide) ?_
                refine lv_istore_n (lv' := [(3, .int (0 : Int32)), (0, .ref (ad 17)), (1, .int x1), (2, .int x2), (4, .int x4), (5, .int x5)]) hx hb dX1_ring_107 rfl hl (by decide) rfl (fun ls hl => ?_)
                refine lv_iinc (v := (x5 + (1 : Int32))) (lv' := [(5, .int (x5 + (1 : Int32))), (3, .int (0 : Int32)), (0, .ref (ad 17)), (1, .int x1), (2, .int x2), (4, .int x4)]) hx hb dX1_ring_108 hl (k := 5) rfl rfl (by decide) rfl (fun ls hl => ?_)
                refine lv_goto (tgt := 45) hx hb dX1_ring_111 (by decide) ?_
                exact ih45 (0 : Int32) (x5 + (1 : Int32)) hw _ _ ls hS (lv_sub hl [2, 3, 4, 1, 5, 0] rfl)
              have hB102 : ∀ (x5 : Int32), wpBX1_ring_102 post T (fun x1 x2 => wpLX1_ring_4 post T  h  n4 (x1, x2)) (fun x3 x4 => wpLX1_ring_33 post T (fun x1 x2 => wpLX1_ring_4 post T  h  n4 (x1, x2)) h x1 x2 n33 (x3, x4)) (fun x3 x5 => wpLX1_ring_45 post T (fun x1 x2 => wpLX1_ring_4 post T  h  n4 (x1, x2)) (fun x3 x4 => wpLX1_ring_33 post T (fun x1 x2 => wpLX1_ring_4 post T  h  n4 (x1, x2)) h x1 x2 n33 (x3, x4)) h x1 x2 x4 n45 (x3, x5)) h x1 x2 x4 x5 → JR p l e (headSpec (ws_ yX1_ring cX1_ring 6 (some .int)) ({ frames := 7, cells := 0, slots := 0, locals := 246 })).room s m ([.ref (ad 17)] : List Value).toArray below meth c (MQ below (RQi post) ([.ref (ad 17)] : List Value).toArray s 0 0 NoA) 6 102 [(0, .ref (ad 17)), (1, .int x1), (2, .int x2), (4, .int x4), (5, .int x5)] [] := by
                intro x5 hw H locs ls hS hl
                unfold wpBX1_ring_102 at hw
                refine lv_iconst (v := (1 : Int32)) hx hb dX1_ring_102 (by decide) ?_
                refine lv_goto (tgt := 107) hx hb dX1_ring_103 (by decide) ?_
                refine lv_istore_n (lv' := [(3, .int (1 : Int32)), (0, .ref (ad 17)), (1, .int x1), (2, .int x2), (4, .int x4), (5, .int x5)]) hx hb dX1_ring_107 rfl hl (by decide) rfl (fun ls hl => ?_)
                refine lv_iinc (v := (x5 + (1 : Int32))) (lv' := [(5, .int (x5 + (1 : Int32))), (3, .int (1 : Int32)), (0, .ref (ad 17)), (1, .int x1), (2, .int x2), (4, .int x4)]) hx hb dX1_ring_108 hl (k := 5) rfl rfl (by decide) rfl (fun ls hl => ?_)
                refine lv_goto (tgt := 45) hx hb dX1_ring_111 (by decide) ?_
                exact ih45 (1 : Int32) (x5 + (1 : Int32)) hw _ _ ls hS (lv_sub hl [2, 3, 4, 1, 5, 0] rfl)
              intro x3 x5 hw H locs ls hS hl
              have hw : wpBX1_ring_45 post T (fun x1 x2 => wpLX1_ring_4 post T  h  n4 (x1, x2)) (fun x3 x4 => wpLX1_ring_33 post T (fun x1 x2 => wpLX1_ring_4 post T  h  n4 (x1, x2)) h x1 x2 n33 (x3, x4)) (fun x3 x5 => wpLX1_ring_45 post T (fun x1 x2 => wpLX1_ring_4 post T  h  n4 (x1, x2)) (fun x3 x4 => wpLX1_ring_33 post T (fun x1 x2 => wpLX1_ring_4 post T  h  n4 (x1, x2)) h x1 x2 n33 (x3, x4)) h x1 x2 x4 n45 (x3, x5)) h x1 x2 x4 x3 x5 := hw
              unfold wpBX1_ring_45 at hw
              refine lv_iload hx hb dX1_ring_45 (lv_at hl 5 rfl) ?_
              refine lv_aload_n hx hb dX1_ring_47 rfl (lv_at hl 0 rfl) ?_
              refine RX_callI (As := []) (rest := [.int x5]) ⟨hx, hb, hml, hown, hts⟩ hS (fun _ h => h.elim) hK hZ (hT.at hS hN0) (hM.kept (rS hS)) (metX1_people l D cA z0 E tw N ad h T  _ hw) (cwV 0 hts (lw_V q792 q794 qs6 q104 q795) rfl rfl rfl (by decide +kernel) ⟨Nat.le_of_ble_eq_true rfl, Nat.le_of_ble_eq_true rfl⟩) rfl hl.1 rfl (Nat.le_of_ble_eq_true rfl) dX1_ring_48 ⟨Nat.zero_le _, Nat.zero_le _⟩ (fun r12 H locs hw hk hS => ?_)
              refine lv_icmp_ge (tgt := 114) hx hb dX1_ring_51 (by decide) (fun c13 => ?_) (fun c13 => ?_)
              · have hw := hw.1 c13
                refine lv_iinc (v := (x4 + (1 : Int32))) (lv' := [(4, .int (x4 + (1 : Int32))), (0, .ref (ad 17)), (1, .int x1), (2, .int x2), (3, .int x3), (5, .int x5)]) hx hb dX1_ring_114 hl (k := 4) rfl rfl (by decide) rfl (fun ls hl => ?_)
                refine lv_goto (tgt := 33) hx hb dX1_ring_117 (by decide) ?_
                exact ih33 x3 (x4 + (1 : Int32)) hw _ _ ls hS (lv_sub hl [1, 2, 3, 4, 0] rfl)
              · have hw := hw.2 c13
                refine lv_iload_n hx hb dX1_ring_54 rfl (lv_at hl 2 rfl) ?_
                refine lv_iload hx hb dX1_ring_55 (lv_at hl 4 rfl) ?_
                refine lv_ishr hx hb dX1_ring_57 ?_
                refine lv_iconst (v := (1 : Int32)) hx hb dX1_ring_58 (by decide) ?_
                refine lv_iand hx hb dX1_ring_59 ?_
                refine lv_iconst (v := (1 : Int32)) hx hb dX1_ring_60 (by decide) ?_
                refine lv_icmp_ne (tgt := 114) hx hb dX1_ring_61 (by decide) (fun c14 => ?_) (fun c14 => ?_)
                · have hw := hw.2 c14
                  refine lv_iinc (v := (x4 + (1 : Int32))) (lv' := [(4, .int (x4 + (1 : Int32))), (0, .ref (ad 17)), (1, .int x1), (2, .int x2), (3, .int x3), (5, .int x5)]) hx hb dX1_ring_114 hl (k := 4) rfl rfl (by decide) rfl (fun ls hl => ?_)
                  refine lv_goto (tgt := 33) hx hb dX1_ring_117 (by decide) ?_
                  exact ih33 x3 (x4 + (1 : Int32)) hw _ _ ls hS (lv_sub hl [1, 2, 3, 4, 0] rfl)
                · have hw := hw.1 c14
                  refine lv_iload_n hx hb dX1_ring_64 rfl (lv_at hl 3 rfl) ?_
                  refine lv_if_eq (tgt := 106) hx hb dX1_ring_65 (by decide) (fun c15 => ?_) (fun c15 => ?_)
                  · have hw := hw.1 c15
                    exact hB106 x5 hw _ _ ls hS (lv_sub hl [0, 1, 2, 4, 5] rfl)
                  · have hw := hw.2 c15
                    refine lv_iload hx hb dX1_ring_68 (lv_at hl 4 rfl) ?_
                    refine lv_iload hx hb dX1_ring_70 (lv_at hl 5 rfl) ?_
                    refine lv_icmp_eq (tgt := 102) hx hb dX1_ring_72 (by decide) (fun c16 => ?_) (fun c16 => ?_)
                    · have hw := hw.1 c16
                      exact hB102 x5 hw _ _ ls hS (lv_sub hl [0, 1, 2, 4, 5] rfl)
                    · have hw := hw.2 c16
                      refine lv_iload_n hx hb dX1_ring_75 rfl (lv_at hl 2 rfl) ?_
                      refine lv_iload hx hb dX1_ring_76 (lv_at hl 5 rfl) ?_
                      refine lv_ishr hx hb dX1_ring_78 ?_
                      refine lv_iconst (v := (1 : Int32)) hx hb dX1_ring_79 (by decide) ?_
                      refine lv_iand hx hb dX1_ring_80 ?_
                      refine lv_if_eq (tgt := 102) hx hb dX1_ring_81 (by decide) (fun c17 => ?_) (fun c17 => ?_)
                      · have hw := hw.1 c17
                        exact hB102 x5 hw _ _ ls hS (lv_sub hl [0, 1, 2, 4, 5] rfl)
                      · have hw := hw.2 c17
                        refine lv_aload_n hx hb dX1_ring_84 rfl (lv_at hl 0 rfl) ?_
                        refine X_get17 hx hb hts hown hK (hM.kept (rS hS)) 3 (v := .ref (ad 45)) (by decide) (hts _ q727) rfl dX1_ring_85 ?_
                        refine lv_aload_n hx hb dX1_ring_88 rfl (lv_at hl 0 rfl) ?_
                        refine X_get17 hx hb hts hown hK (hM.kept (rS hS)) 0 (v := .ref (tw 9)) (by decide) (hts _ q724) rfl dX1_ring_89 ?_
                        refine lv_iload hx hb dX1_ring_92 (lv_at hl 4 rfl) ?_
                        refine lv_iload hx hb dX1_ring_94 (lv_at hl 5 rfl) ?_
                        refine RS_callZ (As := [.ref (tw 9), .int x4, .int x5]) (rest := []) (sa := (shf ad 40)) (h := (sub h 40)) ⟨hx, hb, hml, hown, hts⟩ hS (fun _ h => h.elim) hK hZ (hT.at hS hN0) (hM.kept (rS hS)).now (metX6_knows l D cA z0 E tw N (ad 70) (shf ad 40) (sub h 40) T x4 x5 _ hw) (cwV 3 hts (lw_V q937 q913 q914 q129 q915) rfl rfl rfl (by decide +kernel) ⟨Nat.le_of_ble_eq_true rfl, Nat.le_of_ble_eq_true rfl⟩) rfl hl.1 rfl (Nat.le_of_ble_eq_true rfl) dX1_ring_96 ⟨Nat.zero_le _, Nat.zero_le _⟩ (fun r18 H locs hw hk hS => ?_)
                        have hj19 : JR p l e (headSpec (ws_ yX1_ring cX1_ring 6 (some .int)) ({ frames := 7, cells := 0, slots := 0, locals := 246 })).room s m ([.ref (ad 17)] : List Value).toArray below meth c (MQ below (RQi post) ([.ref (ad 17)] : List Value).toArray s 0 0 NoA) 6 107 [(0, .ref (ad 17)), (1, .int x1), (2, .int x2), (4, .int x4), (5, .int x5)] [.int (if r18 = true then (0 : Int32) else (1 : Int32))] := by
                          intro H locs ls hS hl
                          refine lv_istore_n (lv' := [(3, .int (if r18 = true then (0 : Int32) else (1 : Int32))), (0, .ref (ad 17)), (1, .int x1), (2, .int x2), (4, .int x4), (5, .int x5)]) hx hb dX1_ring_107 rfl hl (by decide) rfl (fun ls hl => ?_)
                          refine lv_iinc (v := (x5 + (1 : Int32))) (lv' := [(5, .int (x5 + (1 : Int32))), (3, .int (if r18 = true then (0 : Int32) else (1 : Int32))), (0, .ref (ad 17)), (1, .int x1), (2, .int x2), (4, .int x4)]) hx hb dX1_ring_108 hl (k := 5) rfl rfl (by decide) rfl (fun ls hl => ?_)
                          refine lv_goto (tgt := 45) hx hb dX1_ring_111 (by decide) ?_
                          exact ih45 (if r18 = true then (0 : Int32) else (1 : Int32)) (x5 + (1 : Int32)) hw _ _ ls hS (lv_sub hl [2, 3, 4, 1, 5, 0] rfl)
                        refine lv_if_ne (tgt := 106) hx hb dX1_ring_99 (by decide) (fun c20 => ?_) (fun c20 => ?_)
                        · have c20 := b2i_t c20
                          refine lv_iconst (v := (0 : Int32)) hx hb dX1_ring_106 (by decide) ?_
                          have e21 : (if r18 = true then (0 : Int32) else (1 : Int32)) = (0 : Int32) := by rw [if_pos c20]
                          rw [e21] at hj19
                          exact hj19 _ _ ls hS (lv_sub hl [0, 1, 2, 4, 5] rfl)
                        · have c20 := b2i_f c20
                          refine lv_iconst (v := (1 : Int32)) hx hb dX1_ring_102 (by decide) ?_
                          refine lv_goto (tgt := 107) hx hb dX1_ring_103 (by decide) ?_
                          have e22 : (if r18 = true then (0 : Int32) else (1 : Int32)) = (1 : Int32) := by rw [if_neg c20]
                          rw [e22] at hj19
                          exact hj19 _ _ ls hS (lv_sub hl [0, 1, 2, 4, 5] rfl)
          intro x3 x4 hw H locs ls hS hl
          have hw : wpBX1_ring_33 post T (fun x1 x2 => wpLX1_ring_4 post T  h  n4 (x1, x2)) (fun x3 x4 => wpLX1_ring_33 post T (fun x1 x2 => wpLX1_ring_4 post T  h  n4 (x1, x2)) h x1 x2 n33 (x3, x4)) h x1 x2 x3 x4 := hw
          unfold wpBX1_ring_33 at hw
          refine lv_iload hx hb dX1_ring_33 (lv_at hl 4 rfl) ?_
          refine lv_aload_n hx hb dX1_ring_35 rfl (lv_at hl 0 rfl) ?_
          refine RX_callI (As := []) (rest := [.int x4]) ⟨hx, hb, hml, hown, hts⟩ hS (fun _ h => h.elim) hK hZ (hT.at hS hN0) (hM.kept (rS hS)) (metX1_people l D cA z0 E tw N ad h T  _ hw) (cwV 0 hts (lw_V q792 q794 qs6 q104 q795) rfl rfl rfl (by decide +kernel) ⟨Nat.le_of_ble_eq_true rfl, Nat.le_of_ble_eq_true rfl⟩) rfl hl.1 rfl (Nat.le_of_ble_eq_true rfl) dX1_ring_36 ⟨Nat.zero_le _, Nat.zero_le _⟩ (fun r6 H locs hw hk hS => ?_)
          refine lv_icmp_ge (tgt := 120) hx hb dX1_ring_39 (by decide) (fun c7 => ?_) (fun c7 => ?_)
          · have hw := hw.1 c7
            refine lv_iload_n hx hb dX1_ring_120 rfl (lv_at hl 3 rfl) ?_
            have hj8 : JR p l e (headSpec (ws_ yX1_ring cX1_ring 6 (some .int)) ({ frames := 7, cells := 0, slots := 0, locals := 246 })).room s m ([.ref (ad 17)] : List Value).toArray below meth c (MQ below (RQi post) ([.ref (ad 17)] : List Value).toArray s 0 0 NoA) 6 126 [(0, .ref (ad 17)), (1, .int (if x3 = 0 then x1 else x2)), (2, .int x2)] [] := by
              intro H locs ls hS hl
              refine lv_iinc (v := (x2 + (1 : Int32))) (lv' := [(2, .int (x2 + (1 : Int32))), (0, .ref (ad 17)), (1, .int (if x3 = 0 then x1 else x2))]) hx hb dX1_ring_126 hl (k := 2) rfl rfl (by decide) rfl (fun ls hl => ?_)
              refine lv_goto (tgt := 4) hx hb dX1_ring_129 (by decide) ?_
              exact ih4 (if x3 = 0 then x1 else x2) (x2 + (1 : Int32)) hw _ _ ls hS (lv_sub hl [1, 2, 0] rfl)
            refine lv_if_eq (tgt := 126) hx hb dX1_ring_121 (by decide) (fun c9 => ?_) (fun c9 => ?_)
            · have e10 : (if x3 = 0 then x1 else x2) = x1 := by rw [if_pos c9]
              rw [e10] at hj8
              exact hj8 _ _ ls hS (lv_sub hl [0, 1, 2] rfl)
            · refine lv_iload_n hx hb dX1_ring_124 rfl (lv_at hl 2 rfl) ?_
              refine lv_istore_n (lv' := [(1, .int x2), (0, .ref (ad 17)), (2, .int x2), (3, .int x3), (4, .int x4)]) hx hb dX1_ring_125 rfl hl (by decide) rfl (fun ls hl => ?_)
              have e11 : (if x3 = 0 then x1 else x2) = x2 := by rw [if_neg c9]
              rw [e11] at hj8
              exact hj8 _ _ ls hS (lv_sub hl [1, 0, 2] rfl)
          · have hw := hw.2 c7
            refine lv_iconst (v := (0 : Int32)) hx hb dX1_ring_42 (by decide) ?_
            refine lv_istore (lv' := [(5, .int (0 : Int32)), (0, .ref (ad 17)), (1, .int x1), (2, .int x2), (3, .int x3), (4, .int x4)]) hx hb dX1_ring_43 hl (by decide) rfl (fun ls hl => ?_)
            obtain ⟨n23, hw⟩ := hw
            exact hL45 x4 n23 x3 (0 : Int32) hw _ _ ls hS (lv_sub hl [1, 2, 3, 4, 5, 0] rfl)
      intro x1 x2 hw H locs ls hS hl
      have hw : wpBX1_ring_4 post T  (fun x1 x2 => wpLX1_ring_4 post T  h  n4 (x1, x2)) h  x1 x2 := hw
      unfold wpBX1_ring_4 at hw
      refine lv_iload_n hx hb dX1_ring_4 rfl (lv_at hl 2 rfl) ?_
      refine lv_iconst (v := (1 : Int32)) hx hb dX1_ring_5 (by decide) ?_
      refine lv_aload_n hx hb dX1_ring_6 rfl (lv_at hl 0 rfl) ?_
      refine RX_callI (As := []) (rest := [.int (1 : Int32), .int x2]) ⟨hx, hb, hml, hown, hts⟩ hS (fun _ h => h.elim) hK hZ (hT.at hS hN0) (hM.kept (rS hS)) (metX1_people l D cA z0 E tw N ad h T  _ hw) (cwV 0 hts (lw_V q792 q794 qs6 q104 q795) rfl rfl rfl (by decide +kernel) ⟨Nat.le_of_ble_eq_true rfl, Nat.le_of_ble_eq_true rfl⟩) rfl hl.1 rfl (Nat.le_of_ble_eq_true rfl) dX1_ring_7 ⟨Nat.zero_le _, Nat.zero_le _⟩ (fun r1 H locs hw hk hS => ?_)
      refine lv_ishl hx hb dX1_ring_10 ?_
      refine lv_icmp_ge (tgt := 132) hx hb dX1_ring_11 (by decide) (fun c2 => ?_) (fun c2 => ?_)
      · have hw := hw.1 c2
        refine lv_iload_n hx hb dX1_ring_132 rfl (lv_at hl 1 rfl) ?_
        exact R_iret hx hb hr hlocks hS hw dX1_ring_133
      · have hw := hw.2 c2
        refine lv_iload_n hx hb dX1_ring_14 rfl (lv_at hl 2 rfl) ?_
        refine RN_callI (As := [.int x2]) (rest := []) ⟨hx, hb, hml, hown, hts⟩ hS (metJ16_bitCount l) (va_cwS 1 hts (lw_S q797 q798 q124 q799) rfl rfl rfl (by decide +kernel) ⟨Nat.le_of_ble_eq_true rfl, Nat.le_of_ble_eq_true rfl⟩) rfl hl.1 rfl (Nat.le_of_ble_eq_true rfl) dX1_ring_15 ⟨Nat.zero_le _, Nat.zero_le _⟩ (fun r3 H locs er3 hk hS => ?_)
        subst er3
        refine lv_iload_n hx hb dX1_ring_18 rfl (lv_at hl 1 rfl) ?_
        refine RN_callI (As := [.int x1]) (rest := [.int (bitc x2)]) ⟨hx, hb, hml, hown, hts⟩ hS (metJ16_bitCount l) (va_cwS 1 hts (lw_S q797 q798 q124 q799) rfl rfl rfl (by decide +kernel) ⟨Nat.le_of_ble_eq_true rfl, Nat.le_of_ble_eq_true rfl⟩) rfl hl.1 rfl (Nat.le_of_ble_eq_true rfl) dX1_ring_19 ⟨Nat.zero_le _, Nat.zero_le _⟩ (fun r4 H locs er4 hk hS => ?_)
        subst er4
        refine lv_icmp_gt (tgt := 28) hx hb dX1_ring_22 (by decide) (fun c5 => ?_) (fun c5 => ?_)
        · have hw := hw.1 c5
          refine lv_iconst (v := (1 : Int32)) hx hb dX1_ring_28 (by decide) ?_
          refine lv_istore_n (lv' := [(3, .int (1 : Int32)), (0, .ref (ad 17)), (1, .int x1), (2, .int x2)]) hx hb dX1_ring_29 rfl hl (by decide) rfl (fun ls hl => ?_)
          refine lv_iconst (v := (0 : Int32)) hx hb dX1_ring_30 (by decide) ?_
          refine lv_istore (lv' := [(4, .int (0 : Int32)), (3, .int (1 : Int32)), (0, .ref (ad 17)), (1, .int x1), (2, .int x2)]) hx hb dX1_ring_31 hl (by decide) rfl (fun ls hl => ?_)
          obtain ⟨n24, hw⟩ := hw
          exact hL33 x1 x2 n24 (1 : Int32) (0 : Int32) hw _ _ ls hS (lv_sub hl [2, 3, 4, 1, 0] rfl)
        · have hw := hw.2 c5
          refine lv_goto (tgt := 126) hx hb dX1_ring_25 (by decide) ?_
          refine lv_iinc (v := (x2 + (1 : Int32))) (lv' := [(2, .int (x2 + (1 : Int32))), (0, .ref (ad 17)), (1, .int x1)]) hx hb dX1_ring_126 hl (k := 2) rfl rfl (by decide) rfl (fun ls hl => ?_)
          refine lv_goto (tgt := 4) hx hb dX1_ring_129 (by decide) ?_
          exact ih4 x1 (x2 + (1 : Int32)) hw _ _ ls hS (lv_sub hl [1, 2, 0] rfl)
  unfold wpX1_ring at hw
  refine lv_iconst (v := (0 : Int32)) hx hb dX1_ring_0 (by decide) ?_
  refine lv_istore_n (lv' := [(1, .int (0 : Int32)), (0, .ref (ad 17))]) hx hb dX1_ring_1 rfl hl (by decide) rfl (fun ls hl => ?_)
  refine lv_iconst (v := (0 : Int32)) hx hb dX1_ring_2 (by decide) ?_
  refine lv_istore_n (lv' := [(2, .int (0 : Int32)), (1, .int (0 : Int32)), (0, .ref (ad 17))]) hx hb dX1_ring_3 rfl hl (by decide) rfl (fun ls hl => ?_)
  obtain ⟨n25, hw⟩ := hw
  exact hL4 n25 (0 : Int32) (0 : Int32) hw _ _ ls hS (lv_sub hl [2, 1, 0] rfl)

/-- StrangeKnives.housesOf(I)I -/
def wpBX1_housesOf_4 (post : Int32 → Prop) (T : TT) (a1 : Int32)  (K4 : Int32 → Int32 → Prop) (h : Mem)  (x2 : Int32) (x3 : Int32) : Prop :=
  (wpX1_people (fun r1 => ((r1 ≤ x3 → post x2) ∧ (¬ r1 ≤ x3 → ((((a1 >>> (x3 &&& 31)) &&& (1 : Int32)) = (1 : Int32) → (wpX2_house (fun r4 => K4 (x2 ||| ((1 : Int32) <<< (r4 &&& 31))) (x3 + (1 : Int32))) h T x3)) ∧ (¬ ((a1 >>> (x3 &&& 31)) &&& (1 : Int32)) = (1 : Int32) → K4 x2 (x3 + (1 : Int32))))))) h T )
def wpLX1_housesOf_4 (post : Int32 → Prop) (T : TT) (a1 : Int32)  (h : Mem)  : Nat → (Int32 × Int32) → Prop := LW (fun K s => wpBX1_housesOf_4 post T a1  (fun x2 x3 => K (x2, x3)) h  s.1 s.2)
def wpX1_housesOf (post : Int32 → Prop) (h : Mem) (T : TT) (a1 : Int32) : Prop :=
  (∃ n, wpLX1_housesOf_4 post T a1  h n ((0 : Int32), (0 : Int32)))
set_option maxHeartbeats 4000000 in
set_option maxRecDepth 100000 in
theorem metX1_housesOf (l : Launch) (D : va_G) (cA : Nat → ClassId) (z0 : Nat) (E : Nat → Nat → Nat) (tw : Nat → Nat) (N : Nat → Prop) (ad : Nat → Nat) (h : Mem) (T : TT) (a1 : Int32) (post : Int32 → Prop) (hw : wpX1_housesOf post h T a1) : RcI l yX1_housesOf (ws_ yX1_housesOf cX1_housesOf 4 (some .int)) ({ frames := 6, cells := 0, slots := 0, locals := 222 }) [.ref (ad 17), .int a1] (PhX D cA z0 E T tw N ad h) post := by
  refine Met.ofW (cc := cX1_housesOf) (maxL := 4) (ret := (some .int)) (by decide) rfl ?_
  intro p e s m args below meth c s₁ B hml hv
  obtain ⟨rfl, hv⟩ := hv
  have hx := B.exec
  have hb := B.bytes
  have hr := B.returns
  have hts := atoms_spec (ws := ws_ yX1_housesOf cX1_housesOf 4 (some .int)) B.pre
  have hts : ∀ w ∈ lw_all, w.before _ s = true := fun w h => hts w (List.mem_cons_of_mem _ h)
  have hown : s.vm.findClass RX1 = some m.cls := findClass_of_methodNamed B.named
  have hlocks := B.notSynchronized
  have hl := lv_entry ([.ref (ad 17), .int a1]) (n := 4) (Nat.le_of_ble_eq_true rfl)
  rw [lg_entry_eq]
  generalize (lg_sl ([.ref (ad 17), .int a1]) ++ List.replicate (4 - (lg_sl ([.ref (ad 17), .int a1])).length) Slot.unset).toArray = ls at hl ⊢
  have hl : lv_has ls 4 [(0, .ref (ad 17)), (1, .int a1)] := hl
  obtain ⟨hM, hT, hK, hZ⟩ := hv
  have hS : va_S NoA s.heap s.heap [] := va_S.rf
  have hL4 : ∀  (n4 : Nat) (x2 : Int32) (x3 : Int32), wpLX1_housesOf_4 post T a1  h  n4 (x2, x3) → JR p l e (headSpec (ws_ yX1_housesOf cX1_housesOf 4 (some .int)) ({ frames := 6, cells := 0, slots := 0, locals := 222 })).room s m ([.ref (ad 17), .int a1] : List Value).toArray below meth c (MQ below (RQi post) ([.ref (ad 17), .int a1] : List Value).toArray s 0 0 NoA) 4 4 [(0, .ref (ad 17)), (1, .int a1), (2, .int x2), (3, .int x3)] [] := by
    intro  n4
    induction n4 with
    | zero => intro x2 x3 hw; exact False.elim hw
    | succ n4 ih4 =>
      intro x2 x3 hw H locs ls hS hl
      have hw : wpBX1_housesOf_4 post T a1  (fun x2 x3 => wpLX1_housesOf_4 post T a1  h  n4 (x2, x3)) h  x2 x3 := hw
      unfold wpBX1_housesOf_4 at hw
      refine lv_iload_n hx hb dX1_housesOf_4 rfl (lv_at hl 3 rfl) ?_
      refine lv_aload_n hx hb dX1_housesOf_5 rfl (lv_at hl 0 rfl) ?_
      refine RX_callI (As := []) (rest := [.int x3]) ⟨hx, hb, hml, hown, hts⟩ hS (fun _ h => h.elim) hK hZ (hT.at hS hN0) (hM.kept (rS hS)) (metX1_people l D cA z0 E tw N ad h T  _ hw) (cwV 0 hts (lw_V q792 q794 qs6 q104 q795) rfl rfl rfl (by decide +kernel) ⟨Nat.le_of_ble_eq_true rfl, Nat.le_of_ble_eq_true rfl⟩) rfl hl.1 rfl (Nat.le_of_ble_eq_true rfl) dX1_housesOf_6 ⟨Nat.zero_le _, Nat.zero_le _⟩ (fun r1 H locs hw hk hS => ?_)
      refine lv_icmp_ge (tgt := 40) hx hb dX1_housesOf_9 (by decide) (fun c2 => ?_) (fun c2 => ?_)
      · have hw := hw.1 c2
        refine lv_iload_n hx hb dX1_housesOf_40 rfl (lv_at hl 2 rfl) ?_
        exact R_iret hx hb hr hlocks hS hw dX1_housesOf_41
      · have hw := hw.2 c2
        refine lv_iload_n hx hb dX1_housesOf_12 rfl (lv_at hl 1 rfl) ?_
        refine lv_iload_n hx hb dX1_housesOf_13 rfl (lv_at hl 3 rfl) ?_
        refine lv_ishr hx hb dX1_housesOf_14 ?_
        refine lv_iconst (v := (1 : Int32)) hx hb dX1_housesOf_15 (by decide) ?_
        refine lv_iand hx hb dX1_housesOf_16 ?_
        refine lv_iconst (v := (1 : Int32)) hx hb dX1_housesOf_17 (by decide) ?_
        refine lv_icmp_ne (tgt := 34) hx hb dX1_housesOf_18 (by decide) (fun c3 => ?_) (fun c3 => ?_)
        · have hw := hw.2 c3
          refine lv_iinc (v := (x3 + (1 : Int32))) (lv' := [(3, .int (x3 + (1 : Int32))), (0, .ref (ad 17)), (1, .int a1), (2, .int x2)]) hx hb dX1_housesOf_34 hl (k := 3) rfl rfl (by decide) rfl (fun ls hl => ?_)
          refine lv_goto (tgt := 4) hx hb dX1_housesOf_37 (by decide) ?_
          exact ih4 x2 (x3 + (1 : Int32)) hw _ _ ls hS (lv_sub hl [1, 2, 3, 0] rfl)
        · have hw := hw.1 c3
          refine lv_iload_n hx hb dX1_housesOf_21 rfl (lv_at hl 2 rfl) ?_
          refine lv_iconst (v := (1 : Int32)) hx hb dX1_housesOf_22 (by decide) ?_
          refine lv_aload_n hx hb dX1_housesOf_23 rfl (lv_at hl 0 rfl) ?_
          refine X_get17 hx hb hts hown hK (hM.kept (rS hS)) 0 (v := .ref (tw 9)) (by decide) (hts _ q724) rfl dX1_housesOf_24 ?_
          refine lv_iload_n hx hb dX1_housesOf_27 rfl (lv_at hl 3 rfl) ?_
          refine RT_callI (As := [.int x3]) (rest := [.int (1 : Int32), .int x2]) ⟨hx, hb, hml, hown, hts⟩ hS (fun _ h => h.elim) hK hZ (hT.at hS hN0) (metX2_house l D cA z0 E tw N (ad 70) h T x3 _ hw) (cwV 1 hts (lw_V q882 q883 q884 q105 q885) rfl rfl rfl (by decide +kernel) ⟨Nat.le_of_ble_eq_true rfl, Nat.le_of_ble_eq_true rfl⟩) rfl hl.1 rfl (Nat.le_of_ble_eq_true rfl) dX1_housesOf_28 ⟨Nat.zero_le _, Nat.zero_le _⟩ (fun r4 H locs hw hk hS => ?_)
          refine lv_ishl hx hb dX1_housesOf_31 ?_
          refine lv_ior hx hb dX1_housesOf_32 ?_
          refine lv_istore_n (lv' := [(2, .int (x2 ||| ((1 : Int32) <<< (r4 &&& 31)))), (0, .ref (ad 17)), (1, .int a1), (3, .int x3)]) hx hb dX1_housesOf_33 rfl hl (by decide) rfl (fun ls hl => ?_)
          refine lv_iinc (v := (x3 + (1 : Int32))) (lv' := [(3, .int (x3 + (1 : Int32))), (2, .int (x2 ||| ((1 : Int32) <<< (r4 &&& 31)))), (0, .ref (ad 17)), (1, .int a1)]) hx hb dX1_housesOf_34 hl (k := 3) rfl rfl (by decide) rfl (fun ls hl => ?_)
          refine lv_goto (tgt := 4) hx hb dX1_housesOf_37 (by decide) ?_
          exact ih4 (x2 ||| ((1 : Int32) <<< (r4 &&& 31))) (x3 + (1 : Int32)) hw _ _ ls hS (lv_sub hl [2, 3, 1, 0] rfl)
  unfold wpX1_housesOf at hw
  refine lv_iconst (v := (0 : Int32)) hx hb dX1_housesOf_0 (by decide) ?_
  refine lv_istore_n (lv' := [(2, .int (0 : Int32)), (0, .ref (ad 17)), (1, .int a1)]) hx hb dX1_housesOf_1 rfl hl (by decide) rfl (fun ls hl => ?_)
  refine lv_iconst (v := (0 : Int32)) hx hb dX1_housesOf_2 (by decide) ?_
  refine lv_istore_n (lv' := [(3, .int (0 : Int32)), (2, .int (0 : Int32)), (0, .ref (ad 17)), (1, .int a1)]) hx hb dX1_housesOf_3 rfl hl (by decide) rfl (fun ls hl => ?_)
  obtain ⟨n5, hw⟩ := hw
  exact hL4 n5 (0 : Int32) (0 : Int32) hw _ _ ls hS (lv_sub hl [2, 3, 1, 0] rfl)

/-- StrangeKnives.doors()I -/
def wpBX1_doors_105 (post : Int32 → Prop) (T : TT) (K4 : Int32 → Int32 → Prop) (h : Mem) (x1 : Int32) (x2 : Int32) (x3 : Int32)  : Prop :=
  K4 (if x3 = 0 then x1 else x2) (x2 + (1 : Int32))
def wpBX1_doors_35 (post : Int32 → Prop) (T : TT) (K4 : Int32 → Int32 → Prop) (K35 : Int32 → Int32 → Prop) (h : Mem) (x1 : Int32) (x2 : Int32) (x3 : Int32) (x4 : Int32) : Prop :=
  (wpX1_loaves (fun r3 => ((r3 ≤ x4 → wpBX1_doors_105 post T K4 h x1 x2 x3) ∧ (¬ r3 ≤ x4 → ((x3 = 0 → wpBX1_doors_105 post T K4 h x1 x2 x3) ∧ (¬ x3 = 0 → (wpX6_whoCan (fun r10 => (wpX1_housesOf (fun r11 => (vp_in x4 (Xlen 41) ∧ K35 (if (h 41 (ix x4)) = (-1 : Int32) then (if r11 = 0 then (1 : Int32) else (if (r11 &&& x2) = 0 then (0 : Int32) else (1 : Int32))) else (1 : Int32)) (x4 + (1 : Int32)))) h T r10)) (sub h 40) T x4)))))) h T )
def wpLX1_doors_35 (post : Int32 → Prop) (T : TT) (K4 : Int32 → Int32 → Prop) (h : Mem) (x1 : Int32) (x2 : Int32) : Nat → (Int32 × Int32) → Prop := LW (fun K s => wpBX1_doors_35 post T K4 (fun x3 x4 => K (x3, x4)) h x1 x2 s.1 s.2)
def wpBX1_doors_30 (post : Int32 → Prop) (T : TT) (K4 : Int32 → Int32 → Prop) (h : Mem) (x1 : Int32) (x2 : Int32)  : Prop :=
  (∃ n, wpLX1_doors_35 post T K4 h x1 x2 n ((1 : Int32), (0 : Int32)))
def wpBX1_doors_4 (post : Int32 → Prop) (T : TT)  (K4 : Int32 → Int32 → Prop) (h : Mem)  (x1 : Int32) (x2 : Int32) : Prop :=
  (((1024 : Int32) ≤ x2 → post x1) ∧ (¬ (1024 : Int32) ≤ x2 → ((x1 = (-1 : Int32) → wpBX1_doors_30 post T K4 h x1 x2) ∧ (¬ x1 = (-1 : Int32) → (((bitc x2) < (bitc x1) → wpBX1_doors_30 post T K4 h x1 x2) ∧ (¬ (bitc x2) < (bitc x1) → K4 x1 (x2 + (1 : Int32))))))))
def wpLX1_doors_4 (post : Int32 → Prop) (T : TT)  (h : Mem)  : Nat → (Int32 × Int32) → Prop := LW (fun K s => wpBX1_doors_4 post T  (fun x1 x2 => K (x1, x2)) h  s.1 s.2)
def wpX1_doors (post : Int32 → Prop) (h : Mem) (T : TT) : Prop :=
  (∃ n, wpLX1_doors_4 post T  h n ((-1 : Int32), (0 : Int32)))
set_option maxHeartbeats 4000000 in
set_option maxRecDepth 100000 in
theorem metX1_doors (l : Launch) (D : va_G) (cA : Nat → ClassId) (z0 : Nat) (E : Nat → Nat → Nat) (tw : Nat → Nat) (N : Nat → Prop) (ad : Nat → Nat) (h : Mem) (T : TT) (post : Int32 → Prop) (hw : wpX1_doors post h T) : RcI l yX1_doors (ws_ yX1_doors cX1_doors 6 (some .int)) ({ frames := 9, cells := 0, slots := 0, locals := 294 }) [.ref (ad 17)] (PhX D cA z0 E T tw N ad h) post := by
  refine Met.ofW (cc := cX1_doors) (maxL := 6) (ret := (some .int)) (by decide) rfl ?_
  intro p e s m args below meth c s₁ B hml hv
  obtain ⟨rfl, hv⟩ := hv
  have hx := B.exec
  have hb := B.bytes
  have hr := B.returns
  have hts := atoms_spec (ws := ws_ yX1_doors cX1_doors 6 (some .int)) B.pre
  have hts : ∀ w ∈ lw_all, w.before _ s = true := fun w h => hts w (List.mem_cons_of_mem _ h)
  have hown : s.vm.findClass RX1 = some m.cls := findClass_of_methodNamed B.named
  have hlocks := B.notSynchronized
  have hl := lv_entry ([.ref (ad 17)]) (n := 6) (Nat.le_of_ble_eq_true rfl)
  rw [lg_entry_eq]
  generalize (lg_sl ([.ref (ad 17)]) ++ List.replicate (6 - (lg_sl ([.ref (ad 17)])).length) Slot.unset).toArray = ls at hl ⊢
  have hl : lv_has ls 6 [(0, .ref (ad 17))] := hl
  obtain ⟨hM, hT, hK, hZ⟩ := hv
  have hS : va_S NoA s.heap s.heap [] := va_S.rf
  have hL4 : ∀  (n4 : Nat) (x1 : Int32) (x2 : Int32), wpLX1_doors_4 post T  h  n4 (x1, x2) → JR p l e (headSpec (ws_ yX1_doors cX1_doors 6 (some .int)) ({ frames := 9, cells := 0, slots := 0, locals := 294 })).room s m ([.ref (ad 17)] : List Value).toArray below meth c (MQ below (RQi post) ([.ref (ad 17)] : List Value).toArray s 0 0 NoA) 6 4 [(0, .ref (ad 17)), (1, .int x1), (2, .int x2)] [] := by
    intro  n4
    induction n4 with
    | zero => intro x1 x2 hw; exact False.elim hw
    | succ n4 ih4 =>
      have hB105 : ∀ (x1 : Int32) (x2 : Int32) (x3 : Int32), wpBX1_doors_105 post T (fun x1 x2 => wpLX1_doors_4 post T  h  n4 (x1, x2)) h x1 x2 x3 → JR p l e (headSpec (ws_ yX1_doors cX1_doors 6 (some .int)) ({ frames := 9, cells := 0, slots := 0, locals := 294 })).room s m ([.ref (ad 17)] : List Value).toArray below meth c (MQ below (RQi post) ([.ref (ad 17)] : List Value).toArray s 0 0 NoA) 6 105 [(0, .ref (ad 17)), (1, .int x1), (2, .int x2), (3, .int x3)] [] := by
        intro x1 x2 x3 hw H locs ls hS hl
        unfold wpBX1_doors_105 at hw
        refine lv_iload_n hx hb dX1_doors_105 rfl (lv_at hl 3 rfl) ?_
        have hj5 : JR p l e (headSpec (ws_ yX1_doors cX1_doors 6 (some .int)) ({ frames := 9, cells := 0, slots := 0, locals := 294 })).room s m ([.ref (ad 17)] : List Value).toArray below meth c (MQ below (RQi post) ([.ref (ad 17)] : List Value).toArray s 0 0 NoA) 6 111 [(0, .ref (ad 17)), (1, .int (if x3 = 0 then x1 else x2)), (2, .int x2)] [] := by
          intro H locs ls hS hl
          refine lv_iinc (v := (x2 + (1 : Int32))) (lv' := [(2, .int (x2 + (1 : Int32))), (0, .ref (ad 17)), (1, .int (if x3 = 0 then x1 else x2))]) hx hb dX1_doors_111 hl (k := 2) rfl rfl (by decide) rfl (fun ls hl => ?_)
          refine lv_goto (tgt := 4) hx hb dX1_doors_114 (by decide) ?_
          exact ih4 (if x3 = 0 then x1 else x2) (x2 + (1 : Int32)) hw _ _ ls hS (lv_sub hl [1, 2, 0] rfl)
        refine lv_if_eq (tgt := 111) hx hb dX1_doors_106 (by decide) (fun c6 => ?_) (fun c6 => ?_)
        · have e7 : (if x3 = 0 then x1 else x2) = x1 := by rw [if_pos c6]
          rw [e7] at hj5
          exact hj5 _ _ ls hS (lv_sub hl [0, 1, 2] rfl)
        · refine lv_iload_n hx hb dX1_doors_109 rfl (lv_at hl 2 rfl) ?_
          refine lv_istore_n (lv' := [(1, .int x2), (0, .ref (ad 17)), (2, .int x2), (3, .int x3)]) hx hb dX1_doors_110 rfl hl (by decide) rfl (fun ls hl => ?_)
          have e8 : (if x3 = 0 then x1 else x2) = x2 := by rw [if_neg c6]
          rw [e8] at hj5
          exact hj5 _ _ ls hS (lv_sub hl [1, 0, 2] rfl)
      have hL35 : ∀ (x1 : Int32) (x2 : Int32) (n35 : Nat) (x3 : Int32) (x4 : Int32), wpLX1_doors_35 post T (fun x1 x2 => wpLX1_doors_4 post T  h  n4 (x1, x2)) h x1 x2 n35 (x3, x4) → JR p l e (headSpec (ws_ yX1_doors cX1_doors 6 (some .int)) ({ frames := 9, cells := 0, slots := 0, locals := 294 })).room s m ([.ref (ad 17)] : List Value).toArray below meth c (MQ below (RQi post) ([.ref (ad 17)] : List Value).toArray s 0 0 NoA) 6 35 [(0, .ref (ad 17)), (1, .int x1), (2, .int x2), (3, .int x3), (4, .int x4)] [] := by
        intro x1 x2 n35
        induction n35 with
        | zero => intro x3 x4 hw; exact False.elim hw
        | succ n35 ih35 =>
          intro x3 x4 hw H locs ls hS hl
          have hw : wpBX1_doors_35 post T (fun x1 x2 => wpLX1_doors_4 post T  h  n4 (x1, x2)) (fun x3 x4 => wpLX1_doors_35 post T (fun x1 x2 => wpLX1_doors_4 post T  h  n4 (x1, x2)) h x1 x2 n35 (x3, x4)) h x1 x2 x3 x4 := hw
          unfold wpBX1_doors_35 at hw
          refine lv_iload hx hb dX1_doors_35 (lv_at hl 4 rfl) ?_
          refine lv_aload_n hx hb dX1_doors_37 rfl (lv_at hl 0 rfl) ?_
          refine RX_callI (As := []) (rest := [.int x4]) ⟨hx, hb, hml, hown, hts⟩ hS (fun _ h => h.elim) hK hZ (hT.at hS hN0) (hM.kept (rS hS)) (metX1_loaves l D cA z0 E tw N ad h T  _ hw) (cwV 0 hts (lw_V q860 q862 qs9 q104 q863) rfl rfl rfl (by decide +kernel) ⟨Nat.le_of_ble_eq_true rfl, Nat.le_of_ble_eq_true rfl⟩) rfl hl.1 rfl (Nat.le_of_ble_eq_true rfl) dX1_doors_38 ⟨Nat.zero_le _, Nat.zero_le _⟩ (fun r3 H locs hw hk hS => ?_)
          refine lv_icmp_ge (tgt := 105) hx hb dX1_doors_41 (by decide) (fun c4 => ?_) (fun c4 => ?_)
          · have hw := hw.1 c4
            exact hB105 x1 x2 x3 hw _ _ ls hS (lv_sub hl [0, 1, 2, 3] rfl)
          · have hw := hw.2 c4
            refine lv_iload_n hx hb dX1_doors_44 rfl (lv_at hl 3 rfl) ?_
            refine lv_if_eq (tgt := 105) hx hb dX1_doors_45 (by decide) (fun c9 => ?_) (fun c9 => ?_)
            · have hw := hw.1 c9
              exact hB105 x1 x2 x3 hw _ _ ls hS (lv_sub hl [0, 1, 2, 3] rfl)
            · have hw := hw.2 c9
              refine lv_aload_n hx hb dX1_doors_48 rfl (lv_at hl 0 rfl) ?_
              refine lv_aload_n hx hb dX1_doors_49 rfl (lv_at hl 0 rfl) ?_
              refine X_get17 hx hb hts hown hK (hM.kept (rS hS)) 3 (v := .ref (ad 45)) (by decide) (hts _ q727) rfl dX1_doors_50 ?_
              refine lv_aload_n hx hb dX1_doors_53 rfl (lv_at hl 0 rfl) ?_
              refine X_get17 hx hb hts hown hK (hM.kept (rS hS)) 0 (v := .ref (tw 9)) (by decide) (hts _ q724) rfl dX1_doors_54 ?_
              refine lv_iload hx hb dX1_doors_57 (lv_at hl 4 rfl) ?_
              refine RS_callI (As := [.ref (tw 9), .int x4]) (rest := [.ref (ad 17)]) (sa := (shf ad 40)) (h := (sub h 40)) ⟨hx, hb, hml, hown, hts⟩ hS (fun _ h => h.elim) hK hZ (hT.at hS hN0) (hM.kept (rS hS)).now (metX6_whoCan l D cA z0 E tw N (ad 70) (shf ad 40) (sub h 40) T x4 _ hw) (cwV 2 hts (lw_V q897 q898 q899 q129 q900) rfl rfl rfl (by decide +kernel) ⟨Nat.le_of_ble_eq_true rfl, Nat.le_of_ble_eq_true rfl⟩) rfl hl.1 rfl (Nat.le_of_ble_eq_true rfl) dX1_doors_59 ⟨Nat.zero_le _, Nat.zero_le _⟩ (fun r10 H locs hw hk hS => ?_)
              refine RX_callI (As := [.int r10]) (rest := []) ⟨hx, hb, hml, hown, hts⟩ hS (fun _ h => h.elim) hK hZ (hT.at hS hN0) (hM.kept (rS hS)) (metX1_housesOf l D cA z0 E tw N ad h T r10 _ hw) (cwV 1 hts (lw_V q959 q961 qs17 q104 q962) rfl rfl rfl (by decide +kernel) ⟨Nat.le_of_ble_eq_true rfl, Nat.le_of_ble_eq_true rfl⟩) rfl hl.1 rfl (Nat.le_of_ble_eq_true rfl) dX1_doors_62 ⟨Nat.zero_le _, Nat.zero_le _⟩ (fun r11 H locs hw hk hS => ?_)
              refine lv_istore (lv' := [(5, .int r11), (0, .ref (ad 17)), (1, .int x1), (2, .int x2), (3, .int x3), (4, .int x4)]) hx hb dX1_doors_65 hl (by decide) rfl (fun ls hl => ?_)
              refine lv_aload_n hx hb dX1_doors_67 rfl (lv_at hl 1 rfl) ?_
              refine X_get17 hx hb hts hown hK (hM.kept (rS hS)) 3 (v := .ref (ad 45)) (by decide) (hts _ q727) rfl dX1_doors_68 ?_
              refine X_get45N hx hb hts hown hK (hM.kept (rS hS)) 1 (v := .ref (ad 41)) (by decide) (hZ.2.1.nF 9 rfl) rfl dX1_doors_71 ?_
              refine lv_iload hx hb dX1_doors_74 (lv_at hl 5 rfl) ?_
              obtain ⟨hv12, hw⟩ := hw
              refine X_iald hx hb hK (hM.kept (rS hS)) 41 rfl (j := (ix x4)) rfl hv12 dX1_doors_76 ?_
              refine lv_iconst (v := (-1 : Int32)) hx hb dX1_doors_77 (by decide) ?_
              have hj13 : JR p l e (headSpec (ws_ yX1_doors cX1_doors 6 (some .int)) ({ frames := 9, cells := 0, slots := 0, locals := 294 })).room s m ([.ref (ad 17)] : List Value).toArray below meth c (MQ below (RQi post) ([.ref (ad 17)] : List Value).toArray s 0 0 NoA) 6 98 [(0, .ref (ad 17)), (1, .int x1), (2, .int x2), (4, .int x4)] [.int (if (h 41 (ix x4)) = (-1 : Int32) then (if r11 = 0 then (1 : Int32) else (if (r11 &&& x2) = 0 then (0 : Int32) else (1 : Int32))) else (1 : Int32))] := by
                intro H locs ls hS hl
                refine lv_istore_n (lv' := [(3, .int (if (h 41 (ix x4)) = (-1 : Int32) then (if r11 = 0 then (1 : Int32) else (if (r11 &&& x2) = 0 then (0 : Int32) else (1 : Int32))) else (1 : Int32))), (0, .ref (ad 17)), (1, .int x1), (2, .int x2), (4, .int x4)]) hx hb dX1_doors_98 rfl hl (by decide) rfl (fun ls hl => ?_)
                refine lv_iinc (v := (x4 + (1 : Int32))) (lv' := [(4, .int (x4 + (1 : Int32))), (3, .int (if (h 41 (ix x4)) = (-1 : Int32) then (if r11 = 0 then (1 : Int32) else (if (r11 &&& x2) = 0 then (0 : Int32) else (1 : Int32))) else (1 : Int32))), (0, .ref (ad 17)), (1, .int x1), (2, .int x2)]) hx hb dX1_doors_99 hl (k := 4) rfl rfl (by decide) rfl (fun ls hl => ?_)
                refine lv_goto (tgt := 35) hx hb dX1_doors_102 (by decide) ?_
                exact ih35 (if (h 41 (ix x4)) = (-1 : Int32) then (if r11 = 0 then (1 : Int32) else (if (r11 &&& x2) = 0 then (0 : Int32) else (1 : Int32))) else (1 : Int32)) (x4 + (1 : Int32)) hw _ _ ls hS (lv_sub hl [2, 3, 4, 1, 0] rfl)
              refine lv_icmp_ne (tgt := 93) hx hb dX1_doors_78 (by decide) (fun c14 => ?_) (fun c14 => ?_)
              · refine lv_iconst (v := (1 : Int32)) hx hb dX1_doors_93 (by decide) ?_
                refine lv_goto (tgt := 98) hx hb dX1_doors_94 (by decide) ?_
                have e15 : (if (h 41 (ix x4)) = (-1 : Int32) then (if r11 = 0 then (1 : Int32) else (if (r11 &&& x2) = 0 then (0 : Int32) else (1 : Int32))) else (1 : Int32)) = (1 : Int32) := by rw [if_neg c14]
                rw [e15] at hj13
                exact hj13 _ _ ls hS (lv_sub hl [1, 2, 3, 5] rfl)
              · refine lv_iload hx hb dX1_doors_81 (lv_at hl 0 rfl) ?_
                refine lv_if_eq (tgt := 93) hx hb dX1_doors_83 (by decide) (fun c16 => ?_) (fun c16 => ?_)
                · refine lv_iconst (v := (1 : Int32)) hx hb dX1_doors_93 (by decide) ?_
                  refine lv_goto (tgt := 98) hx hb dX1_doors_94 (by decide) ?_
                  have e17 : (if (h 41 (ix x4)) = (-1 : Int32) then (if r11 = 0 then (1 : Int32) else (if (r11 &&& x2) = 0 then (0 : Int32) else (1 : Int32))) else (1 : Int32)) = (1 : Int32) := by rw [if_pos c14, if_pos c16]
                  rw [e17] at hj13
                  exact hj13 _ _ ls hS (lv_sub hl [1, 2, 3, 5] rfl)
                · refine lv_iload hx hb dX1_doors_86 (lv_at hl 0 rfl) ?_
                  refine lv_iload_n hx hb dX1_doors_88 rfl (lv_at hl 3 rfl) ?_
                  refine lv_iand hx hb dX1_doors_89 ?_
                  refine lv_if_eq (tgt := 97) hx hb dX1_doors_90 (by decide) (fun c18 => ?_) (fun c18 => ?_)
                  · refine lv_iconst (v := (0 : Int32)) hx hb dX1_doors_97 (by decide) ?_
                    have e19 : (if (h 41 (ix x4)) = (-1 : Int32) then (if r11 = 0 then (1 : Int32) else (if (r11 &&& x2) = 0 then (0 : Int32) else (1 : Int32))) else (1 : Int32)) = (0 : Int32) := by rw [if_pos c14, if_neg c16, if_pos c18]
                    rw [e19] at hj13
                    exact hj13 _ _ ls hS (lv_sub hl [1, 2, 3, 5] rfl)
                  · refine lv_iconst (v := (1 : Int32)) hx hb dX1_doors_93 (by decide) ?_
                    refine lv_goto (tgt := 98) hx hb dX1_doors_94 (by decide) ?_
                    have e20 : (if (h 41 (ix x4)) = (-1 : Int32) then (if r11 = 0 then (1 : Int32) else (if (r11 &&& x2) = 0 then (0 : Int32) else (1 : Int32))) else (1 : Int32)) = (1 : Int32) := by rw [if_pos c14, if_neg c16, if_neg c18]
                    rw [e20] at hj13
                    exact hj13 _ _ ls hS (lv_sub hl [1, 2, 3, 5] rfl)
      have hB30 : ∀ (x1 : Int32) (x2 : Int32), wpBX1_doors_30 post T (fun x1 x2 => wpLX1_doors_4 post T  h  n4 (x1, x2)) h x1 x2 → JR p l e (headSpec (ws_ yX1_doors cX1_doors 6 (some .int)) ({ frames := 9, cells := 0, slots := 0, locals := 294 })).room s m ([.ref (ad 17)] : List Value).toArray below meth c (MQ below (RQi post) ([.ref (ad 17)] : List Value).toArray s 0 0 NoA) 6 30 [(0, .ref (ad 17)), (1, .int x1), (2, .int x2)] [] := by
        intro x1 x2 hw H locs ls hS hl
        unfold wpBX1_doors_30 at hw
        refine lv_iconst (v := (1 : Int32)) hx hb dX1_doors_30 (by decide) ?_
        refine lv_istore_n (lv' := [(3, .int (1 : Int32)), (0, .ref (ad 17)), (1, .int x1), (2, .int x2)]) hx hb dX1_doors_31 rfl hl (by decide) rfl (fun ls hl => ?_)
        refine lv_iconst (v := (0 : Int32)) hx hb dX1_doors_32 (by decide) ?_
        refine lv_istore (lv' := [(4, .int (0 : Int32)), (3, .int (1 : Int32)), (0, .ref (ad 17)), (1, .int x1), (2, .int x2)]) hx hb dX1_doors_33 hl (by decide) rfl (fun ls hl => ?_)
        obtain ⟨n21, hw⟩ := hw
        exact hL35 x1 x2 n21 (1 : Int32) (0 : Int32) hw _ _ ls hS (lv_sub hl [2, 3, 4, 1, 0] rfl)
      intro x1 x2 hw H locs ls hS hl
      have hw : wpBX1_doors_4 post T  (fun x1 x2 => wpLX1_doors_4 post T  h  n4 (x1, x2)) h  x1 x2 := hw
      unfold wpBX1_doors_4 at hw
      refine lv_iload_n hx hb dX1_doors_4 rfl (lv_at hl 2 rfl) ?_
      refine lv_sipush (v := (1024 : Int32)) hx hb dX1_doors_5 (by decide) ?_
      refine lv_icmp_ge (tgt := 117) hx hb dX1_doors_8 (by decide) (fun c1 => ?_) (fun c1 => ?_)
      · have hw := hw.1 c1
        refine lv_iload_n hx hb dX1_doors_117 rfl (lv_at hl 1 rfl) ?_
        exact R_iret hx hb hr hlocks hS hw dX1_doors_118
      · have hw := hw.2 c1
        refine lv_iload_n hx hb dX1_doors_11 rfl (lv_at hl 1 rfl) ?_
        refine lv_iconst (v := (-1 : Int32)) hx hb dX1_doors_12 (by decide) ?_
        refine lv_icmp_eq (tgt := 30) hx hb dX1_doors_13 (by decide) (fun c2 => ?_) (fun c2 => ?_)
        · have hw := hw.1 c2
          exact hB30 x1 x2 hw _ _ ls hS (lv_sub hl [0, 1, 2] rfl)
        · have hw := hw.2 c2
          refine lv_iload_n hx hb dX1_doors_16 rfl (lv_at hl 2 rfl) ?_
          refine RN_callI (As := [.int x2]) (rest := []) ⟨hx, hb, hml, hown, hts⟩ hS (metJ16_bitCount l) (va_cwS 1 hts (lw_S q797 q798 q124 q799) rfl rfl rfl (by decide +kernel) ⟨Nat.le_of_ble_eq_true rfl, Nat.le_of_ble_eq_true rfl⟩) rfl hl.1 rfl (Nat.le_of_ble_eq_true rfl) dX1_doors_17 ⟨Nat.zero_le _, Nat.zero_le _⟩ (fun r22 H locs er22 hk hS => ?_)
          subst er22
          refine lv_iload_n hx hb dX1_doors_20 rfl (lv_at hl 1 rfl) ?_
          refine RN_callI (As := [.int x1]) (rest := [.int (bitc x2)]) ⟨hx, hb, hml, hown, hts⟩ hS (metJ16_bitCount l) (va_cwS 1 hts (lw_S q797 q798 q124 q799) rfl rfl rfl (by decide +kernel) ⟨Nat.le_of_ble_eq_true rfl, Nat.le_of_ble_eq_true rfl⟩) rfl hl.1 rfl (Nat.le_of_ble_eq_true rfl) dX1_doors_21 ⟨Nat.zero_le _, Nat.zero_le _⟩ (fun r23 H locs er23 hk hS => ?_)
          subst er23
          refine lv_icmp_lt (tgt := 30) hx hb dX1_doors_24 (by decide) (fun c24 => ?_) (fun c24 => ?_)
          · have hw := hw.1 c24
            exact hB30 x1 x2 hw _ _ ls hS (lv_sub hl [0, 1, 2] rfl)
          · have hw := hw.2 c24
            refine lv_goto (tgt := 111) hx hb dX1_doors_27 (by decide) ?_
            refine lv_iinc (v := (x2 + (1 : Int32))) (lv' := [(2, .int (x2 + (1 : Int32))), (0, .ref (ad 17)), (1, .int x1)]) hx hb dX1_doors_111 hl (k := 2) rfl rfl (by decide) rfl (fun ls hl => ?_)
            refine lv_goto (tgt := 4) hx hb dX1_doors_114 (by decide) ?_
            exact ih4 x1 (x2 + (1 : Int32)) hw _ _ ls hS (lv_sub hl [1, 2, 0] rfl)
  unfold wpX1_doors at hw
  refine lv_iconst (v := (-1 : Int32)) hx hb dX1_doors_0 (by decide) ?_
  refine lv_istore_n (lv' := [(1, .int (-1 : Int32)), (0, .ref (ad 17))]) hx hb dX1_doors_1 rfl hl (by decide) rfl (fun ls hl => ?_)
  refine lv_iconst (v := (0 : Int32)) hx hb dX1_doors_2 (by decide) ?_
  refine lv_istore_n (lv' := [(2, .int (0 : Int32)), (1, .int (-1 : Int32)), (0, .ref (ad 17))]) hx hb dX1_doors_3 rfl hl (by decide) rfl (fun ls hl => ?_)
  obtain ⟨n25, hw⟩ := hw
  exact hL4 n25 (-1 : Int32) (0 : Int32) hw _ _ ls hS (lv_sub hl [2, 1, 0] rfl)

/-- StrangeKnives.bothKnow(LStrangeKnives$State;II)Z -/
def wpX1_bothKnow (post : Bool → Prop) (h : Mem) (T : TT) (k1 : Nat) (a2 : Int32) (a3 : Int32) : Prop :=
  (wpX6_knows (fun r1 => ((r1 = true → (wpX6_knows (fun r3 => post (if r3 = true then true else false)) (sub h k1) T a3 a2)) ∧ (¬ r1 = true → post false))) (sub h k1) T a2 a3)
set_option maxHeartbeats 4000000 in
set_option maxRecDepth 100000 in
theorem metX1_bothKnow (l : Launch) (D : va_G) (cA : Nat → ClassId) (z0 : Nat) (E : Nat → Nat → Nat) (tw : Nat → Nat) (N : Nat → Prop) (ad : Nat → Nat) (h : Mem) (T : TT) (k1 : Nat) (a2 : Int32) (a3 : Int32) (post : Bool → Prop) (hk1 : k1 = 40 ∨ k1 = 50) (hw : wpX1_bothKnow post h T k1 a2 a3) : RcZ l yX1_bothKnow (ws_ yX1_bothKnow cX1_bothKnow 4 (some .boolean)) ({ frames := 7, cells := 0, slots := 0, locals := 246 }) [.ref (ad 17), .ref (ad (k1 + 5)), .int a2, .int a3] (PhX D cA z0 E T tw N ad h) post := by
  refine Met.ofW (cc := cX1_bothKnow) (maxL := 4) (ret := (some .boolean)) (by decide) rfl ?_
  intro p e s m args below meth c s₁ B hml hv
  obtain ⟨rfl, hv⟩ := hv
  have hx := B.exec
  have hb := B.bytes
  have hr := B.returns
  have hts := atoms_spec (ws := ws_ yX1_bothKnow cX1_bothKnow 4 (some .boolean)) B.pre
  have hts : ∀ w ∈ lw_all, w.before _ s = true := fun w h => hts w (List.mem_cons_of_mem _ h)
  have hown : s.vm.findClass RX1 = some m.cls := findClass_of_methodNamed B.named
  have hlocks := B.notSynchronized
  have hl := lv_entry ([.ref (ad 17), .ref (ad (k1 + 5)), .int a2, .int a3]) (n := 4) (Nat.le_of_ble_eq_true rfl)
  rw [lg_entry_eq]
  generalize (lg_sl ([.ref (ad 17), .ref (ad (k1 + 5)), .int a2, .int a3]) ++ List.replicate (4 - (lg_sl ([.ref (ad 17), .ref (ad (k1 + 5)), .int a2, .int a3])).length) Slot.unset).toArray = ls at hl ⊢
  have hl : lv_has ls 4 [(0, .ref (ad 17)), (1, .ref (ad (k1 + 5))), (2, .int a2), (3, .int a3)] := hl
  obtain ⟨hM, hT, hK, hZ⟩ := hv
  have hS : va_S NoA s.heap s.heap [] := va_S.rf
  unfold wpX1_bothKnow at hw
  refine lv_aload_n hx hb dX1_bothKnow_0 rfl (lv_at hl 1 rfl) ?_
  refine lv_aload_n hx hb dX1_bothKnow_1 rfl (lv_at hl 0 rfl) ?_
  refine X_get17 hx hb hts hown hK (hM.kept (rS hS)) 0 (v := .ref (tw 9)) (by decide) (hts _ q724) rfl dX1_bothKnow_2 ?_
  refine lv_iload_n hx hb dX1_bothKnow_5 rfl (lv_at hl 2 rfl) ?_
  refine lv_iload_n hx hb dX1_bothKnow_6 rfl (lv_at hl 3 rfl) ?_
  refine RS_callZ (As := [.ref (tw 9), .int a2, .int a3]) (rest := []) (sa := (shf ad k1)) (h := (sub h k1)) ⟨hx, hb, hml, hown, hts⟩ hS (fun _ h => h.elim) hK hZ (hT.at hS hN0) (XW.st2 hk1 (hM.kept (rS hS))) (metX6_knows l D cA z0 E tw N (ad 70) (shf ad k1) (sub h k1) T a2 a3 _ hw) (cwV 3 hts (lw_V q937 q913 q914 q129 q915) rfl rfl rfl (by decide +kernel) ⟨Nat.le_of_ble_eq_true rfl, Nat.le_of_ble_eq_true rfl⟩) rfl hl.1 rfl (Nat.le_of_ble_eq_true rfl) dX1_bothKnow_7 ⟨Nat.zero_le _, Nat.zero_le _⟩ (fun r1 H locs hw hk hS => ?_)
  refine lv_if_eq (tgt := 30) hx hb dX1_bothKnow_10 (by decide) (fun c2 => ?_) (fun c2 => ?_)
  · have c2 := b2i_f c2
    have hw := hw.2 c2
    refine lv_iconst (v := (0 : Int32)) hx hb dX1_bothKnow_30 (by decide) ?_
    exact R_zret hx hb hr hlocks hS ⟨_, rfl, hw⟩ dX1_bothKnow_31
  · have c2 := b2i_t c2
    have hw := hw.1 c2
    refine lv_aload_n hx hb dX1_bothKnow_13 rfl (lv_at hl 1 rfl) ?_
    refine lv_aload_n hx hb dX1_bothKnow_14 rfl (lv_at hl 0 rfl) ?_
    refine X_get17 hx hb hts hown hK (hM.kept (rS hS)) 0 (v := .ref (tw 9)) (by decide) (hts _ q724) rfl dX1_bothKnow_15 ?_
    refine lv_iload_n hx hb dX1_bothKnow_18 rfl (lv_at hl 3 rfl) ?_
    refine lv_iload_n hx hb dX1_bothKnow_19 rfl (lv_at hl 2 rfl) ?_
    refine RS_callZ (As := [.ref (tw 9), .int a3, .int a2]) (rest := []) (sa := (shf ad k1)) (h := (sub h k1)) ⟨hx, hb, hml, hown, hts⟩ hS (fun _ h => h.elim) hK hZ (hT.at hS hN0) (XW.st2 hk1 (hM.kept (rS hS))) (metX6_knows l D cA z0 E tw N (ad 70) (shf ad k1) (sub h k1) T a3 a2 _ hw) (cwV 3 hts (lw_V q937 q913 q914 q129 q915) rfl rfl rfl (by decide +kernel) ⟨Nat.le_of_ble_eq_true rfl, Nat.le_of_ble_eq_true rfl⟩) rfl hl.1 rfl (Nat.le_of_ble_eq_true rfl) dX1_bothKnow_20 ⟨Nat.zero_le _, Nat.zero_le _⟩ (fun r3 H locs hw hk hS => ?_)
    have hj4 : JR p l e (headSpec (ws_ yX1_bothKnow cX1_bothKnow 4 (some .boolean)) ({ frames := 7, cells := 0, slots := 0, locals := 246 })).room s m ([.ref (ad 17), .ref (ad (k1 + 5)), .int a2, .int a3] : List Value).toArray below meth c (MQ below (RQi (fun r => ∃ b : Bool, r = b2i b ∧ post b)) ([.ref (ad 17), .ref (ad (k1 + 5)), .int a2, .int a3] : List Value).toArray s 0 0 NoA) 4 31 [] [.int (if r3 = true then (1 : Int32) else (0 : Int32))] := by
      intro H locs ls hS hl
      exact R_zret hx hb hr hlocks hS ⟨_, (b2i_pick rfl rfl), hw⟩ dX1_bothKnow_31
    refine lv_if_eq (tgt := 30) hx hb dX1_bothKnow_23 (by decide) (fun c5 => ?_) (fun c5 => ?_)
    · have c5 := b2i_f c5
      refine lv_iconst (v := (0 : Int32)) hx hb dX1_bothKnow_30 (by decide) ?_
      have e6 : (if r3 = true then (1 : Int32) else (0 : Int32)) = (0 : Int32) := by rw [if_neg c5]
      rw [e6] at hj4
      exact hj4 _ _ ls hS (lv_sub hl [] rfl)
    · have c5 := b2i_t c5
      refine lv_iconst (v := (1 : Int32)) hx hb dX1_bothKnow_26 (by decide) ?_
      refine lv_goto (tgt := 31) hx hb dX1_bothKnow_27 (by decide) ?_
      have e7 : (if r3 = true then (1 : Int32) else (0 : Int32)) = (1 : Int32) := by rw [if_pos c5]
      rw [e7] at hj4
      exact hj4 _ _ ls hS (lv_sub hl [] rfl)

/-- StrangeKnives.couples(LStrangeKnives$State;)I -/
def wpBX1_couples_17 (post : Int32 → Prop) (T : TT) (k1 : Nat) (K4 : Int32 → Int32 → Prop) (K17 : Int32 → Int32 → Prop) (h : Mem) (x3 : Int32) (x2 : Int32) (x4 : Int32) : Prop :=
  (wpX1_people (fun r3 => ((r3 ≤ x4 → K4 x2 (x3 + (1 : Int32))) ∧ (¬ r3 ≤ x4 → (wpX1_bothKnow (fun r5 => K17 (if r5 = true then (x2 + (1 : Int32)) else x2) (x4 + (1 : Int32))) h T k1 x3 x4)))) h T )
def wpLX1_couples_17 (post : Int32 → Prop) (T : TT) (k1 : Nat) (K4 : Int32 → Int32 → Prop) (h : Mem) (x3 : Int32) : Nat → (Int32 × Int32) → Prop := LW (fun K s => wpBX1_couples_17 post T k1 K4 (fun x2 x4 => K (x2, x4)) h x3 s.1 s.2)
def wpBX1_couples_4 (post : Int32 → Prop) (T : TT) (k1 : Nat)  (K4 : Int32 → Int32 → Prop) (h : Mem)  (x2 : Int32) (x3 : Int32) : Prop :=
  (wpX1_people (fun r1 => ((r1 ≤ x3 → post x2) ∧ (¬ r1 ≤ x3 → (∃ n, wpLX1_couples_17 post T k1 K4 h x3 n (x2, (x3 + (1 : Int32))))))) h T )
def wpLX1_couples_4 (post : Int32 → Prop) (T : TT) (k1 : Nat)  (h : Mem)  : Nat → (Int32 × Int32) → Prop := LW (fun K s => wpBX1_couples_4 post T k1  (fun x2 x3 => K (x2, x3)) h  s.1 s.2)
def wpX1_couples (post : Int32 → Prop) (h : Mem) (T : TT) (k1 : Nat) : Prop :=
  (∃ n, wpLX1_couples_4 post T k1  h n ((0 : Int32), (0 : Int32)))
set_option maxHeartbeats 4000000 in
set_option maxRecDepth 100000 in
theorem metX1_couples (l : Launch) (D : va_G) (cA : Nat → ClassId) (z0 : Nat) (E : Nat → Nat → Nat) (tw : Nat → Nat) (N : Nat → Prop) (ad : Nat → Nat) (h : Mem) (T : TT) (k1 : Nat) (post : Int32 → Prop) (hk1 : k1 = 40 ∨ k1 = 50) (hw : wpX1_couples post h T k1) : RcI l yX1_couples (ws_ yX1_couples cX1_couples 5 (some .int)) ({ frames := 8, cells := 0, slots := 0, locals := 269 }) [.ref (ad 17), .ref (ad (k1 + 5))] (PhX D cA z0 E T tw N ad h) post := by
  refine Met.ofW (cc := cX1_couples) (maxL := 5) (ret := (some .int)) (by decide) rfl ?_
  intro p e s m args below meth c s₁ B hml hv
  obtain ⟨rfl, hv⟩ := hv
  have hx := B.exec
  have hb := B.bytes
  have hr := B.returns
  have hts := atoms_spec (ws := ws_ yX1_couples cX1_couples 5 (some .int)) B.pre
  have hts : ∀ w ∈ lw_all, w.before _ s = true := fun w h => hts w (List.mem_cons_of_mem _ h)
  have hown : s.vm.findClass RX1 = some m.cls := findClass_of_methodNamed B.named
  have hlocks := B.notSynchronized
  have hl := lv_entry ([.ref (ad 17), .ref (ad (k1 + 5))]) (n := 5) (Nat.le_of_ble_eq_true rfl)
  rw [lg_entry_eq]
  generalize (lg_sl ([.ref (ad 17), .ref (ad (k1 + 5))]) ++ List.replicate (5 - (lg_sl ([.ref (ad 17), .ref (ad (k1 + 5))])).length) Slot.unset).toArray = ls at hl ⊢
  have hl : lv_has ls 5 [(0, .ref (ad 17)), (1, .ref (ad (k1 + 5)))] := hl
  obtain ⟨hM, hT, hK, hZ⟩ := hv
  have hS : va_S NoA s.heap s.heap [] := va_S.rf
  have hL4 : ∀  (n4 : Nat) (x2 : Int32) (x3 : Int32), wpLX1_couples_4 post T k1  h  n4 (x2, x3) → JR p l e (headSpec (ws_ yX1_couples cX1_couples 5 (some .int)) ({ frames := 8, cells := 0, slots := 0, locals := 269 })).room s m ([.ref (ad 17), .ref (ad (k1 + 5))] : List Value).toArray below meth c (MQ below (RQi post) ([.ref (ad 17), .ref (ad (k1 + 5))] : List Value).toArray s 0 0 NoA) 5 4 [(0, .ref (ad 17)), (1, .ref (ad (k1 + 5))), (2, .int x2), (3, .int x3)] [] := by
    intro  n4
    induction n4 with
    | zero => intro x2 x3 hw; exact False.elim hw
    | succ n4 ih4 =>
      have hL17 : ∀ (x3 : Int32) (n17 : Nat) (x2 : Int32) (x4 : Int32), wpLX1_couples_17 post T k1 (fun x2 x3 => wpLX1_couples_4 post T k1  h  n4 (x2, x3)) h x3 n17 (x2, x4) → JR p l e (headSpec (ws_ yX1_couples cX1_couples 5 (some .int)) ({ frames := 8, cells := 0, slots := 0, locals := 269 })).room s m ([.ref (ad 17), .ref (ad (k1 + 5))] : List Value).toArray below meth c (MQ below (RQi post) ([.ref (ad 17), .ref (ad (k1 + 5))] : List Value).toArray s 0 0 NoA) 5 17 [(0, .ref (ad 17)), (1, .ref (ad (k1 + 5))), (2, .int x2), (3, .int x3), (4, .int x4)] [] := by
        intro x3 n17
        induction n17 with
        | zero => intro x2 x4 hw; exact False.elim hw
        | succ n17 ih17 =>
          intro x2 x4 hw H locs ls hS hl
          have hw : wpBX1_couples_17 post T k1 (fun x2 x3 => wpLX1_couples_4 post T k1  h  n4 (x2, x3)) (fun x2 x4 => wpLX1_couples_17 post T k1 (fun x2 x3 => wpLX1_couples_4 post T k1  h  n4 (x2, x3)) h x3 n17 (x2, x4)) h x3 x2 x4 := hw
          unfold wpBX1_couples_17 at hw
          refine lv_iload hx hb dX1_couples_17 (lv_at hl 4 rfl) ?_
          refine lv_aload_n hx hb dX1_couples_19 rfl (lv_at hl 0 rfl) ?_
          refine RX_callI (As := []) (rest := [.int x4]) ⟨hx, hb, hml, hown, hts⟩ hS (fun _ h => h.elim) hK hZ (hT.at hS hN0) (hM.kept (rS hS)) (metX1_people l D cA z0 E tw N ad h T  _ hw) (cwV 0 hts (lw_V q792 q794 qs6 q104 q795) rfl rfl rfl (by decide +kernel) ⟨Nat.le_of_ble_eq_true rfl, Nat.le_of_ble_eq_true rfl⟩) rfl hl.1 rfl (Nat.le_of_ble_eq_true rfl) dX1_couples_20 ⟨Nat.zero_le _, Nat.zero_le _⟩ (fun r3 H locs hw hk hS => ?_)
          refine lv_icmp_ge (tgt := 46) hx hb dX1_couples_23 (by decide) (fun c4 => ?_) (fun c4 => ?_)
          · have hw := hw.1 c4
            refine lv_iinc (v := (x3 + (1 : Int32))) (lv' := [(3, .int (x3 + (1 : Int32))), (0, .ref (ad 17)), (1, .ref (ad (k1 + 5))), (2, .int x2), (4, .int x4)]) hx hb dX1_couples_46 hl (k := 3) rfl rfl (by decide) rfl (fun ls hl => ?_)
            refine lv_goto (tgt := 4) hx hb dX1_couples_49 (by decide) ?_
            exact ih4 x2 (x3 + (1 : Int32)) hw _ _ ls hS (lv_sub hl [1, 2, 3, 0] rfl)
          · have hw := hw.2 c4
            refine lv_aload_n hx hb dX1_couples_26 rfl (lv_at hl 0 rfl) ?_
            refine lv_aload_n hx hb dX1_couples_27 rfl (lv_at hl 1 rfl) ?_
            refine lv_iload_n hx hb dX1_couples_28 rfl (lv_at hl 3 rfl) ?_
            refine lv_iload hx hb dX1_couples_29 (lv_at hl 4 rfl) ?_
            refine RX_callZ (As := [.ref (ad (k1 + 5)), .int x3, .int x4]) (rest := []) ⟨hx, hb, hml, hown, hts⟩ hS (fun _ h => h.elim) hK hZ (hT.at hS hN0) (hM.kept (rS hS)) (metX1_bothKnow l D cA z0 E tw N ad h T k1 x3 x4 _ hk1 hw) (cwV 3 hts (lw_V q1416 q1418 qs36 q104 q1419) rfl rfl rfl (by decide +kernel) ⟨Nat.le_of_ble_eq_true rfl, Nat.le_of_ble_eq_true rfl⟩) rfl hl.1 rfl (Nat.le_of_ble_eq_true rfl) dX1_couples_31 ⟨Nat.zero_le _, Nat.zero_le _⟩ (fun r5 H locs hw hk hS => ?_)
            have hj6 : JR p l e (headSpec (ws_ yX1_couples cX1_couples 5 (some .int)) ({ frames := 8, cells := 0, slots := 0, locals := 269 })).room s m ([.ref (ad 17), .ref (ad (k1 + 5))] : List Value).toArray below meth c (MQ below (RQi post) ([.ref (ad 17), .ref (ad (k1 + 5))] : List Value).toArray s 0 0 NoA) 5 40 [(0, .ref (ad 17)), (1, .ref (ad (k1 + 5))), (2, .int (if r5 = true then (x2 + (1 : Int32)) else x2)), (3, .int x3), (4, .int x4)] [] := by
              intro H locs ls hS hl
              refine lv_iinc (v := (x4 + (1 : Int32))) (lv' := [(4, .int (x4 + (1 : Int32))), (0, .ref (ad 17)), (1, .ref (ad (k1 + 5))), (2, .int (if r5 = true then (x2 + (1 : Int32)) else x2)), (3, .int x3)]) hx hb dX1_couples_40 hl (k := 4) rfl rfl (by decide) rfl (fun ls hl => ?_)
              refine lv_goto (tgt := 17) hx hb dX1_couples_43 (by decide) ?_
              exact ih17 (if r5 = true then (x2 + (1 : Int32)) else x2) (x4 + (1 : Int32)) hw _ _ ls hS (lv_sub hl [1, 2, 3, 4, 0] rfl)
            refine lv_if_eq (tgt := 40) hx hb dX1_couples_34 (by decide) (fun c7 => ?_) (fun c7 => ?_)
            · have c7 := b2i_f c7
              have e8 : (if r5 = true then (x2 + (1 : Int32)) else x2) = x2 := by rw [if_neg c7]
              rw [e8] at hj6
              exact hj6 _ _ ls hS (lv_sub hl [0, 1, 2, 3, 4] rfl)
            · have c7 := b2i_t c7
              refine lv_iinc (v := (x2 + (1 : Int32))) (lv' := [(2, .int (x2 + (1 : Int32))), (0, .ref (ad 17)), (1, .ref (ad (k1 + 5))), (3, .int x3), (4, .int x4)]) hx hb dX1_couples_37 hl (k := 2) rfl rfl (by decide) rfl (fun ls hl => ?_)
              have e9 : (if r5 = true then (x2 + (1 : Int32)) else x2) = (x2 + (1 : Int32)) := by rw [if_pos c7]
              rw [e9] at hj6
              exact hj6 _ _ ls hS (lv_sub hl [1, 2, 0, 3, 4] rfl)
      intro x2 x3 hw H locs ls hS hl
      have hw : wpBX1_couples_4 post T k1  (fun x2 x3 => wpLX1_couples_4 post T k1  h  n4 (x2, x3)) h  x2 x3 := hw
      unfold wpBX1_couples_4 at hw
      refine lv_iload_n hx hb dX1_couples_4 rfl (lv_at hl 3 rfl) ?_
      refine lv_aload_n hx hb dX1_couples_5 rfl (lv_at hl 0 rfl) ?_
      refine RX_callI (As := []) (rest := [.int x3]) ⟨hx, hb, hml, hown, hts⟩ hS (fun _ h => h.elim) hK hZ (hT.at hS hN0) (hM.kept (rS hS)) (metX1_people l D cA z0 E tw N ad h T  _ hw) (cwV 0 hts (lw_V q792 q794 qs6 q104 q795) rfl rfl rfl (by decide +kernel) ⟨Nat.le_of_ble_eq_true rfl, Nat.le_of_ble_eq_true rfl⟩) rfl hl.1 rfl (Nat.le_of_ble_eq_true rfl) dX1_couples_6 ⟨Nat.zero_le _, Nat.zero_le _⟩ (fun r1 H locs hw hk hS => ?_)
      refine lv_icmp_ge (tgt := 52) hx hb dX1_couples_9 (by decide) (fun c2 => ?_) (fun c2 => ?_)
      · have hw := hw.1 c2
        refine lv_iload_n hx hb dX1_couples_52 rfl (lv_at hl 2 rfl) ?_
        exact R_iret hx hb hr hlocks hS hw dX1_couples_53
      · have hw := hw.2 c2
        refine lv_iload_n hx hb dX1_couples_12 rfl (lv_at hl 3 rfl) ?_
        refine lv_iconst (v := (1 : Int32)) hx hb dX1_couples_13 (by decide) ?_
        refine lv_iadd hx hb dX1_couples_14 ?_
        refine lv_istore (lv' := [(4, .int (x3 + (1 : Int32))), (0, .ref (ad 17)), (1, .ref (ad (k1 + 5))), (2, .int x2), (3, .int x3)]) hx hb dX1_couples_15 hl (by decide) rfl (fun ls hl => ?_)
        obtain ⟨n10, hw⟩ := hw
        exact hL17 x3 n10 x2 (x3 + (1 : Int32)) hw _ _ ls hS (lv_sub hl [1, 2, 3, 4, 0] rfl)
  unfold wpX1_couples at hw
  refine lv_iconst (v := (0 : Int32)) hx hb dX1_couples_0 (by decide) ?_
  refine lv_istore_n (lv' := [(2, .int (0 : Int32)), (0, .ref (ad 17)), (1, .ref (ad (k1 + 5)))]) hx hb dX1_couples_1 rfl hl (by decide) rfl (fun ls hl => ?_)
  refine lv_iconst (v := (0 : Int32)) hx hb dX1_couples_2 (by decide) ?_
  refine lv_istore_n (lv' := [(3, .int (0 : Int32)), (2, .int (0 : Int32)), (0, .ref (ad 17)), (1, .ref (ad (k1 + 5)))]) hx hb dX1_couples_3 rfl hl (by decide) rfl (fun ls hl => ?_)
  obtain ⟨n11, hw⟩ := hw
  exact hL4 n11 (0 : Int32) (0 : Int32) hw _ _ ls hS (lv_sub hl [2, 3, 1, 0] rfl)

/-- StrangeKnives$State.may(LStrangeKnives$Town;II)I -/
def wpBX6_may_52 (post : Int32 → Prop) (T : TT) (a2 : Int32) (a3 : Int32)  (h : Mem) (x4 : Nat)  : Prop :=
  ((0 < (h 3 0) → post (5 : Int32)) ∧ (¬ 0 < (h 3 0) → (((h 4 0) ≤ ((nI (T 6 x4)) + (nI (T 7 x4))) → (vp_in a3 (Slen 1) ∧ post (if (h 1 (ix a3)) = (-1 : Int32) then (0 : Int32) else (6 : Int32)))) ∧ (¬ (h 4 0) ≤ ((nI (T 6 x4)) + (nI (T 7 x4))) → post (5 : Int32)))))
def wpX6_may (post : Int32 → Prop) (h : Mem) (T : TT) (a2 : Int32) (a3 : Int32) : Prop :=
  (∃ b1 : Nat, a3 = nI b1 ∧ b1 < T 0 1 ∧ (wpX6_why (fun r2 => ((r2 = 0 → (((h 3 0) = 0 → (((nI (T 6 b1)) ≤ (h 4 0) → wpBX6_may_52 post T a2 a3  h b1) ∧ (¬ (nI (T 6 b1)) ≤ (h 4 0) → post (4 : Int32)))) ∧ (¬ (h 3 0) = 0 → wpBX6_may_52 post T a2 a3  h b1))) ∧ (¬ r2 = 0 → post r2))) h T a2 b1))
set_option maxHeartbeats 4000000 in
set_option maxRecDepth 100000 in
theorem metX6_may (l : Launch) (D : va_G) (cA : Nat → ClassId) (z0 : Nat) (E : Nat → Nat → Nat) (tw : Nat → Nat) (N : Nat → Prop) (vo : Nat) (sa : Nat → Nat) (h : Mem) (T : TT) (a2 : Int32) (a3 : Int32) (post : Int32 → Prop) (hw : wpX6_may post h T a2 a3) : RcI l yX6_may (ws_ yX6_may cX6_may 6 (some .int)) ({ frames := 8, cells := 0, slots := 0, locals := 270 }) [.ref (sa 5), .ref (tw 9), .int a2, .int a3] (PhS D cA z0 E T tw vo N sa h) post := by
  refine Met.ofW (cc := cX6_may) (maxL := 6) (ret := (some .int)) (by decide) rfl ?_
  intro p e s m args below meth c s₁ B hml hv
  obtain ⟨rfl, hv⟩ := hv
  have hx := B.exec
  have hb := B.bytes
  have hr := B.returns
  have hts := atoms_spec (ws := ws_ yX6_may cX6_may 6 (some .int)) B.pre
  have hts : ∀ w ∈ lw_all, w.before _ s = true := fun w h => hts w (List.mem_cons_of_mem _ h)
  have hown : s.vm.findClass RX6 = some m.cls := findClass_of_methodNamed B.named
  have hlocks := B.notSynchronized
  have hl := lv_entry ([.ref (sa 5), .ref (tw 9), .int a2, .int a3]) (n := 6) (Nat.le_of_ble_eq_true rfl)
  rw [lg_entry_eq]
  generalize (lg_sl ([.ref (sa 5), .ref (tw 9), .int a2, .int a3]) ++ List.replicate (6 - (lg_sl ([.ref (sa 5), .ref (tw 9), .int a2, .int a3])).length) Slot.unset).toArray = ls at hl ⊢
  have hl : lv_has ls 6 [(0, .ref (sa 5)), (1, .ref (tw 9)), (2, .int a2), (3, .int a3)] := hl
  obtain ⟨hM, hT, hK, hZ⟩ := hv
  have hS : va_S NoA s.heap s.heap [] := va_S.rf
  have hB52 : ∀ (x4 : Nat) (hx4 : x4 < T 0 1), wpBX6_may_52 post T a2 a3  h x4 → JR p l e (headSpec (ws_ yX6_may cX6_may 6 (some .int)) ({ frames := 8, cells := 0, slots := 0, locals := 270 })).room s m ([.ref (sa 5), .ref (tw 9), .int a2, .int a3] : List Value).toArray below meth c (MQ below (RQi post) ([.ref (sa 5), .ref (tw 9), .int a2, .int a3] : List Value).toArray s 0 0 NoA) 6 52 [(0, .ref (sa 5)), (3, .int a3), (4, .ref (tw (200 + x4)))] [] := by
    intro x4 hx4 hw H locs ls hS hl
    unfold wpBX6_may_52 at hw
    refine lv_aload_n hx hb dX6_may_52 rfl (lv_at hl 0 rfl) ?_
    refine S_get5 hx hb hts hown hK (hM.kept (rS hS)) 3 (v := .int (h 3 0)) (by decide) (hts _ q586) rfl dX6_may_53 ?_
    refine lv_if_gt (tgt := 77) hx hb dX6_may_56 (by decide) (fun c5 => ?_) (fun c5 => ?_)
    · have hw := hw.1 c5
      refine lv_iconst (v := (5 : Int32)) hx hb dX6_may_77 (by decide) ?_
      exact R_iret hx hb hr hlocks hS hw dX6_may_78
    · have hw := hw.2 c5
      refine lv_aload_n hx hb dX6_may_59 rfl (lv_at hl 0 rfl) ?_
      refine S_get5 hx hb hts hown hK (hM.kept (rS hS)) 4 (v := .int (h 4 0)) (by decide) (hts _ q588) rfl dX6_may_60 ?_
      refine lv_aload hx hb dX6_may_63 (lv_at hl 2 rfl) ?_
      refine L_fldN hx hb hts hown hK (hT.at hS hN0) x4 hx4 2 (v := .int (nI (T 6 x4))) (by decide) (hZ.2.1.nF 43 rfl) rfl dX6_may_65 ?_
      refine lv_aload hx hb dX6_may_68 (lv_at hl 2 rfl) ?_
      refine L_fldN hx hb hts hown hK (hT.at hS hN0) x4 hx4 3 (v := .int (nI (T 7 x4))) (by decide) (hZ.2.1.nF 44 rfl) rfl dX6_may_70 ?_
      refine lv_iadd hx hb dX6_may_73 ?_
      refine lv_icmp_le (tgt := 79) hx hb dX6_may_74 (by decide) (fun c6 => ?_) (fun c6 => ?_)
      · have hw := hw.1 c6
        refine lv_aload_n hx hb dX6_may_79 rfl (lv_at hl 0 rfl) ?_
        refine S_get5 hx hb hts hown hK (hM.kept (rS hS)) 1 (v := .ref (sa 1)) (by decide) (hts _ q582) rfl dX6_may_80 ?_
        refine lv_iload_n hx hb dX6_may_83 rfl (lv_at hl 1 rfl) ?_
        obtain ⟨hv7, hw⟩ := hw
        refine S_iald hx hb hK (hM.kept (rS hS)) 1 rfl (j := (ix a3)) rfl hv7 dX6_may_84 ?_
        refine lv_iconst (v := (-1 : Int32)) hx hb dX6_may_85 (by decide) ?_
        have hj8 : JR p l e (headSpec (ws_ yX6_may cX6_may 6 (some .int)) ({ frames := 8, cells := 0, slots := 0, locals := 270 })).room s m ([.ref (sa 5), .ref (tw 9), .int a2, .int a3] : List Value).toArray below meth c (MQ below (RQi post) ([.ref (sa 5), .ref (tw 9), .int a2, .int a3] : List Value).toArray s 0 0 NoA) 6 95 [] [.int (if (h 1 (ix a3)) = (-1 : Int32) then (0 : Int32) else (6 : Int32))] := by
          intro H locs ls hS hl
          exact R_iret hx hb hr hlocks hS hw dX6_may_95
        refine lv_icmp_eq (tgt := 94) hx hb dX6_may_86 (by decide) (fun c9 => ?_) (fun c9 => ?_)
        · refine lv_iconst (v := (0 : Int32)) hx hb dX6_may_94 (by decide) ?_
          have e10 : (if (h 1 (ix a3)) = (-1 : Int32) then (0 : Int32) else (6 : Int32)) = (0 : Int32) := by rw [if_pos c9]
          rw [e10] at hj8
          exact hj8 _ _ ls hS (lv_sub hl [] rfl)
        · refine lv_bipush (v := (6 : Int32)) hx hb dX6_may_89 (by decide) ?_
          refine lv_goto (tgt := 95) hx hb dX6_may_91 (by decide) ?_
          have e11 : (if (h 1 (ix a3)) = (-1 : Int32) then (0 : Int32) else (6 : Int32)) = (6 : Int32) := by rw [if_neg c9]
          rw [e11] at hj8
          exact hj8 _ _ ls hS (lv_sub hl [] rfl)
      · have hw := hw.2 c6
        refine lv_iconst (v := (5 : Int32)) hx hb dX6_may_77 (by decide) ?_
        exact R_iret hx hb hr hlocks hS hw dX6_may_78
  unfold wpX6_may at hw
  refine lv_aload_n hx hb dX6_may_0 rfl (lv_at hl 1 rfl) ?_
  refine T_fldN hx hb hts hown hK (hT.at hS hN0) 4 (v := .ref (tw 2)) (by decide) (hZ.2.1.nF 42 rfl) (fun _ _ => rfl) dX6_may_1 ?_
  refine lv_iload_n hx hb dX6_may_4 rfl (lv_at hl 3 rfl) ?_
  obtain ⟨b1, eb1, hb1, hw⟩ := hw
  refine T_lgetE ⟨hx, hb, hml, hown, hts⟩ hS hK (hT.at hS hN0) q901 ⟨Nat.le_of_ble_eq_true rfl, Nat.le_of_ble_eq_true rfl⟩ b1 hb1 eb1 hl.1 (Nat.le_of_ble_eq_true rfl) dX6_may_5 ⟨Nat.zero_le _, Nat.zero_le _⟩ (fun H locs hk hS => ?_)
  refine L_cast hx hb hown hK (hT.at hS hN0) b1 hb1 (hts _ q902) dX6_may_8 ?_
  refine lv_astore (lv' := [(4, .ref (tw (200 + b1))), (0, .ref (sa 5)), (1, .ref (tw 9)), (2, .int a2), (3, .int a3)]) hx hb dX6_may_11 hl (by decide) rfl (fun ls hl => ?_)
  refine lv_aload_n hx hb dX6_may_13 rfl (lv_at hl 1 rfl) ?_
  refine lv_aload_n hx hb dX6_may_14 rfl (lv_at hl 2 rfl) ?_
  refine lv_iload_n hx hb dX6_may_15 rfl (lv_at hl 3 rfl) ?_
  refine lv_aload hx hb dX6_may_16 (lv_at hl 0 rfl) ?_
  refine RS_callI (As := [.ref (tw 9), .int a2, .ref (tw (200 + b1))]) (rest := []) (sa := sa) (h := h) ⟨hx, hb, hml, hown, hts⟩ hS (fun _ h => h.elim) hK hZ (hT.at hS hN0) (hM.kept (rS hS)) (metX6_why l D cA z0 E tw N vo sa h T a2 b1 _ hb1 hw) (cwV 3 hts (lw_V q903 q904 q905 q129 q906) rfl rfl rfl (by decide +kernel) ⟨Nat.le_of_ble_eq_true rfl, Nat.le_of_ble_eq_true rfl⟩) rfl hl.1 rfl (Nat.le_of_ble_eq_true rfl) dX6_may_18 ⟨Nat.zero_le _, Nat.zero_le _⟩ (fun r2 H locs hw hk hS => ?_)
  refine lv_istore (lv' := [(5, .int r2), (4, .ref (tw (200 + b1))), (0, .ref (sa 5)), (1, .ref (tw 9)), (2, .int a2), (3, .int a3)]) hx hb dX6_may_21 hl (by decide) rfl (fun ls hl => ?_)
  refine lv_iload hx hb dX6_may_23 (lv_at hl 0 rfl) ?_
  refine lv_if_eq (tgt := 31) hx hb dX6_may_25 (by decide) (fun c3 => ?_) (fun c3 => ?_)
  · have hw := hw.1 c3
    refine lv_aload_n hx hb dX6_may_31 rfl (lv_at hl 2 rfl) ?_
    refine S_get5 hx hb hts hown hK (hM.kept (rS hS)) 3 (v := .int (h 3 0)) (by decide) (hts _ q586) rfl dX6_may_32 ?_
    refine lv_if_ne (tgt := 52) hx hb dX6_may_35 (by decide) (fun c4 => ?_) (fun c4 => ?_)
    · have hw := hw.2 c4
      exact hB52 b1 hb1 hw _ _ ls hS (lv_sub hl [2, 5, 1] rfl)
    · have hw := hw.1 c4
      refine lv_aload_n hx hb dX6_may_38 rfl (lv_at hl 2 rfl) ?_
      refine S_get5 hx hb hts hown hK (hM.kept (rS hS)) 4 (v := .int (h 4 0)) (by decide) (hts _ q588) rfl dX6_may_39 ?_
      refine lv_aload hx hb dX6_may_42 (lv_at hl 1 rfl) ?_
      refine L_fldN hx hb hts hown hK (hT.at hS hN0) b1 hb1 2 (v := .int (nI (T 6 b1))) (by decide) (hZ.2.1.nF 43 rfl) rfl dX6_may_44 ?_
      refine lv_icmp_ge (tgt := 52) hx hb dX6_may_47 (by decide) (fun c12 => ?_) (fun c12 => ?_)
      · have hw := hw.1 c12
        exact hB52 b1 hb1 hw _ _ ls hS (lv_sub hl [2, 5, 1] rfl)
      · have hw := hw.2 c12
        refine lv_iconst (v := (4 : Int32)) hx hb dX6_may_50 (by decide) ?_
        exact R_iret hx hb hr hlocks hS hw dX6_may_51
  · have hw := hw.2 c3
    refine lv_iload hx hb dX6_may_28 (lv_at hl 0 rfl) ?_
    exact R_iret hx hb hr hlocks hS hw dX6_may_30

/-- StrangeKnives$Town.isLater(LStrangeKnives$Loaf;I)Z -/
def wpBX2_isLater_4 (post : Bool → Prop) (T : TT) (b1 : Nat) (a2 : Int32)  (K4 : Int32 → Prop) (h : Mem)  (x3 : Int32) : Prop :=
  (((nI (T 8 b1)) ≤ x3 → post true) ∧ (¬ (nI (T 8 b1)) ≤ x3 → (vp_in a2 (T 8 b1) ∧ (vp_in (nI (T 9 (6 * b1 + ix a2))) (8) ∧ (vp_in x3 (T 8 b1) ∧ (((twI T (ix (nI (T 9 (6 * b1 + ix a2))))) = (nI (T 9 (6 * b1 + ix x3))) → post false) ∧ (¬ (twI T (ix (nI (T 9 (6 * b1 + ix a2))))) = (nI (T 9 (6 * b1 + ix x3))) → K4 (x3 + (1 : Int32)))))))))
def wpLX2_isLater_4 (post : Bool → Prop) (T : TT) (b1 : Nat) (a2 : Int32)  (h : Mem)  : Nat → (Int32) → Prop := LW (fun K s => wpBX2_isLater_4 post T b1 a2  (fun x3 => K x3) h  s)
def wpX2_isLater (post : Bool → Prop) (h : Mem) (T : TT) (b1 : Nat) (a2 : Int32) : Prop :=
  (∃ n, wpLX2_isLater_4 post T b1 a2  h n (a2 + (1 : Int32)))
set_option maxHeartbeats 4000000 in
set_option maxRecDepth 100000 in
theorem metX2_isLater (l : Launch) (D : va_G) (cA : Nat → ClassId) (z0 : Nat) (E : Nat → Nat → Nat) (tw : Nat → Nat) (N : Nat → Prop) (vo : Nat) (h : Mem) (T : TT) (b1 : Nat) (a2 : Int32) (post : Bool → Prop) (hb1 : b1 < T 0 1) (hw : wpX2_isLater post h T b1 a2) : RcZ l yX2_isLater (ws_ yX2_isLater cX2_isLater 4 (some .boolean)) ({ frames := 1, cells := 0, slots := 0, locals := 30 }) [.ref (tw 9), .ref (tw (200 + b1)), .int a2] (PhT D cA z0 E T tw vo N) post := by
  refine Met.ofW (cc := cX2_isLater) (maxL := 4) (ret := (some .boolean)) (by decide) rfl ?_
  intro p e s m args below meth c s₁ B hml hv
  obtain ⟨rfl, hv⟩ := hv
  have hx := B.exec
  have hb := B.bytes
  have hr := B.returns
  have hts := atoms_spec (ws := ws_ yX2_isLater cX2_isLater 4 (some .boolean)) B.pre
  have hts : ∀ w ∈ lw_all, w.before _ s = true := fun w h => hts w (List.mem_cons_of_mem _ h)
  have hown : s.vm.findClass RX2 = some m.cls := findClass_of_methodNamed B.named
  have hlocks := B.notSynchronized
  have hl := lv_entry ([.ref (tw 9), .ref (tw (200 + b1)), .int a2]) (n := 4) (Nat.le_of_ble_eq_true rfl)
  rw [lg_entry_eq]
  generalize (lg_sl ([.ref (tw 9), .ref (tw (200 + b1)), .int a2]) ++ List.replicate (4 - (lg_sl ([.ref (tw 9), .ref (tw (200 + b1)), .int a2])).length) Slot.unset).toArray = ls at hl ⊢
  have hl : lv_has ls 4 [(0, .ref (tw 9)), (1, .ref (tw (200 + b1))), (2, .int a2)] := hl
  obtain ⟨hT, hK, hZ⟩ := hv
  have hS : va_S NoA s.heap s.heap [] := va_S.rf
  have hL4 : ∀  (n4 : Nat) (x3 : Int32), wpLX2_isLater_4 post T b1 a2  h  n4 x3 → JR p l e (headSpec (ws_ yX2_isLater cX2_isLater 4 (some .boolean)) ({ frames := 1, cells := 0, slots := 0, locals := 30 })).room s m ([.ref (tw 9), .ref (tw (200 + b1)), .int a2] : List Value).toArray below meth c (MQ below (RQi (fun r => ∃ b : Bool, r = b2i b ∧ post b)) ([.ref (tw 9), .ref (tw (200 + b1)), .int a2] : List Value).toArray s 0 0 NoA) 4 4 [(0, .ref (tw 9)), (1, .ref (tw (200 + b1))), (2, .int a2), (3, .int x3)] [] := by
    intro  n4
    induction n4 with
    | zero => intro x3 hw; exact False.elim hw
    | succ n4 ih4 =>
      intro x3 hw H locs ls hS hl
      have hw : wpBX2_isLater_4 post T b1 a2  (fun x3 => wpLX2_isLater_4 post T b1 a2  h  n4 x3) h  x3 := hw
      unfold wpBX2_isLater_4 at hw
      refine lv_iload_n hx hb dX2_isLater_4 rfl (lv_at hl 3 rfl) ?_
      refine lv_aload_n hx hb dX2_isLater_5 rfl (lv_at hl 1 rfl) ?_
      refine L_fldN hx hb hts hown hK (hT.at hS hN0) b1 hb1 4 (v := .ref (tw (300 + b1))) (by decide) (hZ.2.1.nF 45 rfl) rfl dX2_isLater_6 ?_
      refine L_alen hx hb hK (hT.at hS hN0) b1 hb1 dX2_isLater_9 ?_
      refine lv_icmp_ge (tgt := 41) hx hb dX2_isLater_10 (by decide) (fun c1 => ?_) (fun c1 => ?_)
      · have hw := hw.1 c1
        refine lv_iconst (v := (1 : Int32)) hx hb dX2_isLater_41 (by decide) ?_
        exact R_zret hx hb hr hlocks hS ⟨_, rfl, hw⟩ dX2_isLater_42
      · have hw := hw.2 c1
        refine lv_aload_n hx hb dX2_isLater_13 rfl (lv_at hl 0 rfl) ?_
        refine T_fld hx hb hts hown hK (hT.at hS hN0) 5 (v := .ref (tw 4)) (by decide) (hts _ q539) (fun _ _ => rfl) dX2_isLater_14 ?_
        refine lv_aload_n hx hb dX2_isLater_17 rfl (lv_at hl 1 rfl) ?_
        refine L_fldN hx hb hts hown hK (hT.at hS hN0) b1 hb1 4 (v := .ref (tw (300 + b1))) (by decide) (hZ.2.1.nF 45 rfl) rfl dX2_isLater_18 ?_
        refine lv_iload_n hx hb dX2_isLater_21 rfl (lv_at hl 2 rfl) ?_
        obtain ⟨hv2, hw⟩ := hw
        refine L_iald hx hb hK (hT.at hS hN0) b1 hb1 hv2 dX2_isLater_22 ?_
        obtain ⟨hv3, hw⟩ := hw
        refine T_twin hx hb hK (hT.at hS hN0) hv3 dX2_isLater_23 ?_
        refine lv_aload_n hx hb dX2_isLater_24 rfl (lv_at hl 1 rfl) ?_
        refine L_fldN hx hb hts hown hK (hT.at hS hN0) b1 hb1 4 (v := .ref (tw (300 + b1))) (by decide) (hZ.2.1.nF 45 rfl) rfl dX2_isLater_25 ?_
        refine lv_iload_n hx hb dX2_isLater_28 rfl (lv_at hl 3 rfl) ?_
        obtain ⟨hv4, hw⟩ := hw
        refine L_iald hx hb hK (hT.at hS hN0) b1 hb1 hv4 dX2_isLater_29 ?_
        refine lv_icmp_ne (tgt := 35) hx hb dX2_isLater_30 (by decide) (fun c5 => ?_) (fun c5 => ?_)
        · have hw := hw.2 c5
          refine lv_iinc (v := (x3 + (1 : Int32))) (lv' := [(3, .int (x3 + (1 : Int32))), (0, .ref (tw 9)), (1, .ref (tw (200 + b1))), (2, .int a2)]) hx hb dX2_isLater_35 hl (k := 3) rfl rfl (by decide) rfl (fun ls hl => ?_)
          refine lv_goto (tgt := 4) hx hb dX2_isLater_38 (by decide) ?_
          exact ih4 (x3 + (1 : Int32)) hw _ _ ls hS (lv_sub hl [1, 2, 3, 0] rfl)
        · have hw := hw.1 c5
          refine lv_iconst (v := (0 : Int32)) hx hb dX2_isLater_33 (by decide) ?_
          exact R_zret hx hb hr hlocks hS ⟨_, rfl, hw⟩ dX2_isLater_34
  unfold wpX2_isLater at hw
  refine lv_iload_n hx hb dX2_isLater_0 rfl (lv_at hl 2 rfl) ?_
  refine lv_iconst (v := (1 : Int32)) hx hb dX2_isLater_1 (by decide) ?_
  refine lv_iadd hx hb dX2_isLater_2 ?_
  refine lv_istore_n (lv' := [(3, .int (a2 + (1 : Int32))), (0, .ref (tw 9)), (1, .ref (tw (200 + b1))), (2, .int a2)]) hx hb dX2_isLater_3 rfl hl (by decide) rfl (fun ls hl => ?_)
  obtain ⟨n6, hw⟩ := hw
  exact hL4 n6 (a2 + (1 : Int32)) hw _ _ ls hS (lv_sub hl [1, 2, 3, 0] rfl)

/-- StrangeKnives$Town.slices(LStrangeKnives$Loaf;)I -/
def wpBX2_slices_4 (post : Int32 → Prop) (T : TT) (b1 : Nat)  (K4 : Int32 → Int32 → Prop) (h : Mem)  (x2 : Int32) (x3 : Int32) : Prop :=
  (((nI (T 8 b1)) ≤ x3 → post x2) ∧ (¬ (nI (T 8 b1)) ≤ x3 → (wpX2_isLater (fun r2 => K4 (if r2 = true then (x2 + (1 : Int32)) else x2) (x3 + (1 : Int32))) h T b1 x3)))
def wpLX2_slices_4 (post : Int32 → Prop) (T : TT) (b1 : Nat)  (h : Mem)  : Nat → (Int32 × Int32) → Prop := LW (fun K s => wpBX2_slices_4 post T b1  (fun x2 x3 => K (x2, x3)) h  s.1 s.2)
def wpX2_slices (post : Int32 → Prop) (h : Mem) (T : TT) (b1 : Nat) : Prop :=
  (∃ n, wpLX2_slices_4 post T b1  h n ((0 : Int32), (0 : Int32)))
set_option maxHeartbeats 4000000 in
set_option maxRecDepth 100000 in
theorem metX2_slices (l : Launch) (D : va_G) (cA : Nat → ClassId) (z0 : Nat) (E : Nat → Nat → Nat) (tw : Nat → Nat) (N : Nat → Prop) (vo : Nat) (h : Mem) (T : TT) (b1 : Nat) (post : Int32 → Prop) (hb1 : b1 < T 0 1) (hw : wpX2_slices post h T b1) : RcI l yX2_slices (ws_ yX2_slices cX2_slices 4 (some .int)) ({ frames := 2, cells := 0, slots := 0, locals := 53 }) [.ref (tw 9), .ref (tw (200 + b1))] (PhT D cA z0 E T tw vo N) post := by
  refine Met.ofW (cc := cX2_slices) (maxL := 4) (ret := (some .int)) (by decide) rfl ?_
  intro p e s m args below meth c s₁ B hml hv
  obtain ⟨rfl, hv⟩ := hv
  have hx := B.exec
  have hb := B.bytes
  have hr := B.returns
  have hts := atoms_spec (ws := ws_ yX2_slices cX2_slices 4 (some .int)) B.pre
  have hts : ∀ w ∈ lw_all, w.before _ s = true := fun w h => hts w (List.mem_cons_of_mem _ h)
  have hown : s.vm.findClass RX2 = some m.cls := findClass_of_methodNamed B.named
  have hlocks := B.notSynchronized
  have hl := lv_entry ([.ref (tw 9), .ref (tw (200 + b1))]) (n := 4) (Nat.le_of_ble_eq_true rfl)
  rw [lg_entry_eq]
  generalize (lg_sl ([.ref (tw 9), .ref (tw (200 + b1))]) ++ List.replicate (4 - (lg_sl ([.ref (tw 9), .ref (tw (200 + b1))])).length) Slot.unset).toArray = ls at hl ⊢
  have hl : lv_has ls 4 [(0, .ref (tw 9)), (1, .ref (tw (200 + b1)))] := hl
  obtain ⟨hT, hK, hZ⟩ := hv
  have hS : va_S NoA s.heap s.heap [] := va_S.rf
  have hL4 : ∀  (n4 : Nat) (x2 : Int32) (x3 : Int32), wpLX2_slices_4 post T b1  h  n4 (x2, x3) → JR p l e (headSpec (ws_ yX2_slices cX2_slices 4 (some .int)) ({ frames := 2, cells := 0, slots := 0, locals := 53 })).room s m ([.ref (tw 9), .ref (tw (200 + b1))] : List Value).toArray below meth c (MQ below (RQi post) ([.ref (tw 9), .ref (tw (200 + b1))] : List Value).toArray s 0 0 NoA) 4 4 [(0, .ref (tw 9)), (1, .ref (tw (200 + b1))), (2, .int x2), (3, .int x3)] [] := by
    intro  n4
    induction n4 with
    | zero => intro x2 x3 hw; exact False.elim hw
    | succ n4 ih4 =>
      intro x2 x3 hw H locs ls hS hl
      have hw : wpBX2_slices_4 post T b1  (fun x2 x3 => wpLX2_slices_4 post T b1  h  n4 (x2, x3)) h  x2 x3 := hw
      unfold wpBX2_slices_4 at hw
      refine lv_iload_n hx hb dX2_slices_4 rfl (lv_at hl 3 rfl) ?_
      refine lv_aload_n hx hb dX2_slices_5 rfl (lv_at hl 1 rfl) ?_
      refine L_fldN hx hb hts hown hK (hT.at hS hN0) b1 hb1 4 (v := .ref (tw (300 + b1))) (by decide) (hZ.2.1.nF 45 rfl) rfl dX2_slices_6 ?_
      refine L_alen hx hb hK (hT.at hS hN0) b1 hb1 dX2_slices_9 ?_
      refine lv_icmp_ge (tgt := 31) hx hb dX2_slices_10 (by decide) (fun c1 => ?_) (fun c1 => ?_)
      · have hw := hw.1 c1
        refine lv_iload_n hx hb dX2_slices_31 rfl (lv_at hl 2 rfl) ?_
        exact R_iret hx hb hr hlocks hS hw dX2_slices_32
      · have hw := hw.2 c1
        refine lv_aload_n hx hb dX2_slices_13 rfl (lv_at hl 0 rfl) ?_
        refine lv_aload_n hx hb dX2_slices_14 rfl (lv_at hl 1 rfl) ?_
        refine lv_iload_n hx hb dX2_slices_15 rfl (lv_at hl 3 rfl) ?_
        refine RT_callZ (As := [.ref (tw (200 + b1)), .int x3]) (rest := []) ⟨hx, hb, hml, hown, hts⟩ hS (fun _ h => h.elim) hK hZ (hT.at hS hN0) (metX2_isLater l D cA z0 E tw N vo h T b1 x3 _ hb1 hw) (cwV 2 hts (lw_V q1464 q1465 q1466 q105 q1467) rfl rfl rfl (by decide +kernel) ⟨Nat.le_of_ble_eq_true rfl, Nat.le_of_ble_eq_true rfl⟩) rfl hl.1 rfl (Nat.le_of_ble_eq_true rfl) dX2_slices_16 ⟨Nat.zero_le _, Nat.zero_le _⟩ (fun r2 H locs hw hk hS => ?_)
        have hj3 : JR p l e (headSpec (ws_ yX2_slices cX2_slices 4 (some .int)) ({ frames := 2, cells := 0, slots := 0, locals := 53 })).room s m ([.ref (tw 9), .ref (tw (200 + b1))] : List Value).toArray below meth c (MQ below (RQi post) ([.ref (tw 9), .ref (tw (200 + b1))] : List Value).toArray s 0 0 NoA) 4 25 [(0, .ref (tw 9)), (1, .ref (tw (200 + b1))), (2, .int (if r2 = true then (x2 + (1 : Int32)) else x2)), (3, .int x3)] [] := by
          intro H locs ls hS hl
          refine lv_iinc (v := (x3 + (1 : Int32))) (lv' := [(3, .int (x3 + (1 : Int32))), (0, .ref (tw 9)), (1, .ref (tw (200 + b1))), (2, .int (if r2 = true then (x2 + (1 : Int32)) else x2))]) hx hb dX2_slices_25 hl (k := 3) rfl rfl (by decide) rfl (fun ls hl => ?_)
          refine lv_goto (tgt := 4) hx hb dX2_slices_28 (by decide) ?_
          exact ih4 (if r2 = true then (x2 + (1 : Int32)) else x2) (x3 + (1 : Int32)) hw _ _ ls hS (lv_sub hl [1, 2, 3, 0] rfl)
        refine lv_if_eq (tgt := 25) hx hb dX2_slices_19 (by decide) (fun c4 => ?_) (fun c4 => ?_)
        · have c4 := b2i_f c4
          have e5 : (if r2 = true then (x2 + (1 : Int32)) else x2) = x2 := by rw [if_neg c4]
          rw [e5] at hj3
          exact hj3 _ _ ls hS (lv_sub hl [0, 1, 2, 3] rfl)
        · have c4 := b2i_t c4
          refine lv_iinc (v := (x2 + (1 : Int32))) (lv' := [(2, .int (x2 + (1 : Int32))), (0, .ref (tw 9)), (1, .ref (tw (200 + b1))), (3, .int x3)]) hx hb dX2_slices_22 hl (k := 2) rfl rfl (by decide) rfl (fun ls hl => ?_)
          have e6 : (if r2 = true then (x2 + (1 : Int32)) else x2) = (x2 + (1 : Int32)) := by rw [if_pos c4]
          rw [e6] at hj3
          exact hj3 _ _ ls hS (lv_sub hl [1, 2, 0, 3] rfl)
  unfold wpX2_slices at hw
  refine lv_iconst (v := (0 : Int32)) hx hb dX2_slices_0 (by decide) ?_
  refine lv_istore_n (lv' := [(2, .int (0 : Int32)), (0, .ref (tw 9)), (1, .ref (tw (200 + b1)))]) hx hb dX2_slices_1 rfl hl (by decide) rfl (fun ls hl => ?_)
  refine lv_iconst (v := (0 : Int32)) hx hb dX2_slices_2 (by decide) ?_
  refine lv_istore_n (lv' := [(3, .int (0 : Int32)), (2, .int (0 : Int32)), (0, .ref (tw 9)), (1, .ref (tw (200 + b1)))]) hx hb dX2_slices_3 rfl hl (by decide) rfl (fun ls hl => ?_)
  obtain ⟨n7, hw⟩ := hw
  exact hL4 n7 (0 : Int32) (0 : Int32) hw _ _ ls hS (lv_sub hl [2, 3, 1, 0] rfl)

/-- StrangeKnives.isBalked(LStrangeKnives$State;)Z -/
def wpBX1_isBalked_103 (post : Bool → Prop) (T : TT) (k1 : Nat) (K2 : Int32 → Prop) (K42 : Int32 → Int32 → Prop) (h : Mem) (x2 : Int32) (x3 : Nat) (x5 : Int32)  : Prop :=
  K42 (1 : Int32) (x5 + (1 : Int32))
def wpBX1_isBalked_107 (post : Bool → Prop) (T : TT) (k1 : Nat) (K2 : Int32 → Prop) (K42 : Int32 → Int32 → Prop) (h : Mem) (x2 : Int32) (x3 : Nat) (x5 : Int32)  : Prop :=
  K42 (0 : Int32) (x5 + (1 : Int32))
def wpBX1_isBalked_42 (post : Bool → Prop) (T : TT) (k1 : Nat) (K2 : Int32 → Prop) (K42 : Int32 → Int32 → Prop) (h : Mem) (x2 : Int32) (x3 : Nat) (x4 : Int32) (x5 : Int32) : Prop :=
  (((nI (T 8 x3)) ≤ x5 → ((x4 = 0 → post false) ∧ (¬ x4 = 0 → K2 (x2 + (1 : Int32))))) ∧ (¬ (nI (T 8 x3)) ≤ x5 → ((x4 = 0 → (vp_in x5 (T 8 x3) ∧ (vp_in x2 (Xlen 25) ∧ (((nI (T 9 (6 * x3 + ix x5))) = (h 25 (ix x2)) → wpBX1_isBalked_107 post T k1 K2 K42 h x2 x3 x5) ∧ (¬ (nI (T 9 (6 * x3 + ix x5))) = (h 25 (ix x2)) → (wpX6_knows (fun r10 => K42 (if r10 = true then (1 : Int32) else (0 : Int32)) (x5 + (1 : Int32))) (sub h k1) T (h 25 (ix x2)) (nI (T 9 (6 * x3 + ix x5))))))))) ∧ (¬ x4 = 0 → wpBX1_isBalked_103 post T k1 K2 K42 h x2 x3 x5))))
def wpLX1_isBalked_42 (post : Bool → Prop) (T : TT) (k1 : Nat) (K2 : Int32 → Prop) (h : Mem) (x2 : Int32) (x3 : Nat) : Nat → (Int32 × Int32) → Prop := LW (fun K s => wpBX1_isBalked_42 post T k1 K2 (fun x4 x5 => K (x4, x5)) h x2 x3 s.1 s.2)
def wpBX1_isBalked_2 (post : Bool → Prop) (T : TT) (k1 : Nat)  (K2 : Int32 → Prop) (h : Mem)  (x2 : Int32) : Prop :=
  (((h 30 0) ≤ x2 → post true) ∧ (¬ (h 30 0) ≤ x2 → (vp_in x2 (Xlen 26) ∧ (∃ b3 : Nat, (h 26 (ix x2)) = nI b3 ∧ b3 < T 0 1 ∧ (∃ n, wpLX1_isBalked_42 post T k1 K2 h x2 b3 n ((0 : Int32), (0 : Int32)))))))
def wpLX1_isBalked_2 (post : Bool → Prop) (T : TT) (k1 : Nat)  (h : Mem)  : Nat → (Int32) → Prop := LW (fun K s => wpBX1_isBalked_2 post T k1  (fun x2 => K x2) h  s)
def wpX1_isBalked (post : Bool → Prop) (h : Mem) (T : TT) (k1 : Nat) : Prop :=
  (∃ n, wpLX1_isBalked_2 post T k1  h n (0 : Int32))
set_option maxHeartbeats 4000000 in
set_option maxRecDepth 100000 in
theorem metX1_isBalked (l : Launch) (D : va_G) (cA : Nat → ClassId) (z0 : Nat) (E : Nat → Nat → Nat) (tw : Nat → Nat) (N : Nat → Prop) (ad : Nat → Nat) (h : Mem) (T : TT) (k1 : Nat) (post : Bool → Prop) (hk1 : k1 = 40 ∨ k1 = 50) (hw : wpX1_isBalked post h T k1) : RcZ l yX1_isBalked (ws_ yX1_isBalked cX1_isBalked 6 (some .boolean)) ({ frames := 7, cells := 0, slots := 0, locals := 246 }) [.ref (ad 17), .ref (ad (k1 + 5))] (PhX D cA z0 E T tw N ad h) post := by
  refine Met.ofW (cc := cX1_isBalked) (maxL := 6) (ret := (some .boolean)) (by decide) rfl ?_
  intro p e s m args below meth c s₁ B hml hv
  obtain ⟨rfl, hv⟩ := hv
  have hx := B.exec
  have hb := B.bytes
  have hr := B.returns
  have hts := atoms_spec (ws := ws_ yX1_isBalked cX1_isBalked 6 (some .boolean)) B.pre
  have hts : ∀ w ∈ lw_all, w.before _ s = true := fun w h => hts w (List.mem_cons_of_mem _ h)
  have hown : s.vm.findClass RX1 = some m.cls := findClass_of_methodNamed B.named
  have hlocks := B.notSynchronized
  have hl := lv_entry ([.ref (ad 17), .ref (ad (k1 + 5))]) (n := 6) (Nat.le_of_ble_eq_true rfl)
  rw [lg_entry_eq]
  generalize (lg_sl ([.ref (ad 17), .ref (ad (k1 + 5))]) ++ List.replicate (6 - (lg_sl ([.ref (ad 17), .ref (ad (k1 + 5))])).length) Slot.unset).toArray = ls at hl ⊢
  have hl : lv_has ls 6 [(0, .ref (ad 17)), (1, .ref (ad (k1 + 5)))] := hl
  obtain ⟨hM, hT, hK, hZ⟩ := hv
  have hS : va_S NoA s.heap s.heap [] := va_S.rf
  have hL2 : ∀  (n2 : Nat) (x2 : Int32), wpLX1_isBalked_2 post T k1  h  n2 x2 → JR p l e (headSpec (ws_ yX1_isBalked cX1_isBalked 6 (some .boolean)) ({ frames := 7, cells := 0, slots := 0, locals := 246 })).room s m ([.ref (ad 17), .ref (ad (k1 + 5))] : List Value).toArray below meth c (MQ below (RQi (fun r => ∃ b : Bool, r = b2i b ∧ post b)) ([.ref (ad 17), .ref (ad (k1 + 5))] : List Value).toArray s 0 0 NoA) 6 2 [(0, .ref (ad 17)), (1, .ref (ad (k1 + 5))), (2, .int x2)] [] := by
    intro  n2
    induction n2 with
    | zero => intro x2 hw; exact False.elim hw
    | succ n2 ih2 =>
      have hL42 : ∀ (x2 : Int32) (x3 : Nat) (hx3 : x3 < T 0 1) (n42 : Nat) (x4 : Int32) (x5 : Int32), wpLX1_isBalked_42 post T k1 (fun x2 => wpLX1_isBalked_2 post T k1  h  n2 x2) h x2 x3 n42 (x4, x5) → JR p l e (headSpec (ws_ yX1_isBalked cX1_isBalked 6 (some .boolean)) ({ frames := 7, cells := 0, slots := 0, locals := 246 })).room s m ([.ref (ad 17), .ref (ad (k1 + 5))] : List Value).toArray below meth c (MQ below (RQi (fun r => ∃ b : Bool, r = b2i b ∧ post b)) ([.ref (ad 17), .ref (ad (k1 + 5))] : List Value).toArray s 0 0 NoA) 6 42 [(0, .ref (ad 17)), (1, .ref (ad (k1 + 5))), (2, .int x2), (3, .ref (tw (200 + x3))), (4, .int x4), (5, .int x5)] [] := by
        intro x2 x3 hx3 n42
        induction n42 with
        | zero => intro x4 x5 hw; exact False.elim hw
        | succ n42 ih42 =>
          have hB103 : ∀ (x5 : Int32), wpBX1_isBalked_103 post T k1 (fun x2 => wpLX1_isBalked_2 post T k1  h  n2 x2) (fun x4 x5 => wpLX1_isBalked_42 post T k1 (fun x2 => wpLX1_isBalked_2 post T k1  h  n2 x2) h x2 x3 n42 (x4, x5)) h x2 x3 x5 → JR p l e (headSpec (ws_ yX1_isBalked cX1_isBalked 6 (some .boolean)) ({ frames := 7, cells := 0, slots := 0, locals := 246 })).room s m ([.ref (ad 17), .ref (ad (k1 + 5))] : List Value).toArray below meth c (MQ below (RQi (fun r => ∃ b : Bool, r = b2i b ∧ post b)) ([.ref (ad 17), .ref (ad (k1 + 5))] : List Value).toArray s 0 0 NoA) 6 103 [(0, .ref (ad 17)), (1, .ref (ad (k1 + 5))), (2, .int x2), (3, .ref (tw (200 + x3))), (5, .int x5)] [] := by
            intro x5 hw H locs ls hS hl
            unfold wpBX1_isBalked_103 at hw
            refine lv_iconst (v := (1 : Int32)) hx hb dX1_isBalked_103 (by decide) ?_
            refine lv_goto (tgt := 108) hx hb dX1_isBalked_104 (by decide) ?_
            refine lv_istore (lv' := [(4, .int (1 : Int32)), (0, .ref (ad 17)), (1, .ref (ad (k1 + 5))), (2, .int x2), (3, .ref (tw (200 + x3))), (5, .int x5)]) hx hb dX1_isBalked_108 hl (by decide) rfl (fun ls hl => ?_)
            refine lv_iinc (v := (x5 + (1 : Int32))) (lv' := [(5, .int (x5 + (1 : Int32))), (4, .int (1 : Int32)), (0, .ref (ad 17)), (1, .ref (ad (k1 + 5))), (2, .int x2), (3, .ref (tw (200 + x3)))]) hx hb dX1_isBalked_110 hl (k := 5) rfl rfl (by decide) rfl (fun ls hl => ?_)
            refine lv_goto (tgt := 42) hx hb dX1_isBalked_113 (by decide) ?_
            exact ih42 (1 : Int32) (x5 + (1 : Int32)) hw _ _ ls hS (lv_sub hl [2, 3, 4, 5, 1, 0] rfl)
          have hB107 : ∀ (x5 : Int32), wpBX1_isBalked_107 post T k1 (fun x2 => wpLX1_isBalked_2 post T k1  h  n2 x2) (fun x4 x5 => wpLX1_isBalked_42 post T k1 (fun x2 => wpLX1_isBalked_2 post T k1  h  n2 x2) h x2 x3 n42 (x4, x5)) h x2 x3 x5 → JR p l e (headSpec (ws_ yX1_isBalked cX1_isBalked 6 (some .boolean)) ({ frames := 7, cells := 0, slots := 0, locals := 246 })).room s m ([.ref (ad 17), .ref (ad (k1 + 5))] : List Value).toArray below meth c (MQ below (RQi (fun r => ∃ b : Bool, r = b2i b ∧ post b)) ([.ref (ad 17), .ref (ad (k1 + 5))] : List Value).toArray s 0 0 NoA) 6 107 [(0, .ref (ad 17)), (1, .ref (ad (k1 + 5))), (2, .int x2), (3, .ref (tw (200 + x3))), (5, .int x5)] [] := by
            intro x5 hw H locs ls hS hl
            unfold wpBX1_isBalked_107 at hw
            refine lv_iconst (v := (0 : Int32)) hx hb dX1_isBalked_107 (by decide) ?_
            refine lv_istore (lv' := [(4, .int (0 : Int32)), (0, .ref (ad 17)), (1, .ref (ad (k1 + 5))), (2, .int x2), (3, .ref (tw (200 + x3))), (5, .int x5)]) hx hb dX1_isBalked_108 hl (by decide) rfl (fun ls hl => ?_)
            refine lv_iinc (v := (x5 + (1 : Int32))) (lv' := [(5, .int (x5 + (1 : Int32))), (4, .int (0 : Int32)), (0, .ref (ad 17)), (1, .ref (ad (k1 + 5))), (2, .int x2), (3, .ref (tw (200 + x3)))]) hx hb dX1_isBalked_110 hl (k := 5) rfl rfl (by decide) rfl (fun ls hl => ?_)
            refine lv_goto (tgt := 42) hx hb dX1_isBalked_113 (by decide) ?_
            exact ih42 (0 : Int32) (x5 + (1 : Int32)) hw _ _ ls hS (lv_sub hl [2, 3, 4, 5, 1, 0] rfl)
          intro x4 x5 hw H locs ls hS hl
          have hw : wpBX1_isBalked_42 post T k1 (fun x2 => wpLX1_isBalked_2 post T k1  h  n2 x2) (fun x4 x5 => wpLX1_isBalked_42 post T k1 (fun x2 => wpLX1_isBalked_2 post T k1  h  n2 x2) h x2 x3 n42 (x4, x5)) h x2 x3 x4 x5 := hw
          unfold wpBX1_isBalked_42 at hw
          refine lv_iload hx hb dX1_isBalked_42 (lv_at hl 5 rfl) ?_
          refine lv_aload_n hx hb dX1_isBalked_44 rfl (lv_at hl 3 rfl) ?_
          refine L_fldN hx hb hts hown hK (hT.at hS hN0) x3 hx3 4 (v := .ref (tw (300 + x3))) (by decide) (hZ.2.1.nF 20 rfl) rfl dX1_isBalked_45 ?_
          refine L_alen hx hb hK (hT.at hS hN0) x3 hx3 dX1_isBalked_48 ?_
          refine lv_icmp_ge (tgt := 116) hx hb dX1_isBalked_49 (by decide) (fun c4 => ?_) (fun c4 => ?_)
          · have hw := hw.1 c4
            refine lv_iload hx hb dX1_isBalked_116 (lv_at hl 4 rfl) ?_
            refine lv_if_ne (tgt := 123) hx hb dX1_isBalked_118 (by decide) (fun c5 => ?_) (fun c5 => ?_)
            · have hw := hw.2 c5
              refine lv_iinc (v := (x2 + (1 : Int32))) (lv' := [(2, .int (x2 + (1 : Int32))), (0, .ref (ad 17)), (1, .ref (ad (k1 + 5))), (3, .ref (tw (200 + x3))), (4, .int x4), (5, .int x5)]) hx hb dX1_isBalked_123 hl (k := 2) rfl rfl (by decide) rfl (fun ls hl => ?_)
              refine lv_goto (tgt := 2) hx hb dX1_isBalked_126 (by decide) ?_
              exact ih2 (x2 + (1 : Int32)) hw _ _ ls hS (lv_sub hl [1, 2, 0] rfl)
            · have hw := hw.1 c5
              refine lv_iconst (v := (0 : Int32)) hx hb dX1_isBalked_121 (by decide) ?_
              exact R_zret hx hb hr hlocks hS ⟨_, rfl, hw⟩ dX1_isBalked_122
          · have hw := hw.2 c4
            refine lv_iload hx hb dX1_isBalked_52 (lv_at hl 4 rfl) ?_
            refine lv_if_ne (tgt := 103) hx hb dX1_isBalked_54 (by decide) (fun c6 => ?_) (fun c6 => ?_)
            · have hw := hw.2 c6
              exact hB103 x5 hw _ _ ls hS (lv_sub hl [0, 1, 2, 3, 5] rfl)
            · have hw := hw.1 c6
              refine lv_aload_n hx hb dX1_isBalked_57 rfl (lv_at hl 3 rfl) ?_
              refine L_fldN hx hb hts hown hK (hT.at hS hN0) x3 hx3 4 (v := .ref (tw (300 + x3))) (by decide) (hZ.2.1.nF 20 rfl) rfl dX1_isBalked_58 ?_
              refine lv_iload hx hb dX1_isBalked_61 (lv_at hl 5 rfl) ?_
              obtain ⟨hv7, hw⟩ := hw
              refine L_iald hx hb hK (hT.at hS hN0) x3 hx3 hv7 dX1_isBalked_63 ?_
              refine lv_aload_n hx hb dX1_isBalked_64 rfl (lv_at hl 0 rfl) ?_
              refine X_get17 hx hb hts hown hK (hM.kept (rS hS)) 1 (v := .ref (ad 31)) (by decide) (hts _ q725) rfl dX1_isBalked_65 ?_
              refine X_get31N hx hb hts hown hK (hM.kept (rS hS)) 5 (v := .ref (ad 25)) (by decide) (hZ.2.1.nF 26 rfl) rfl dX1_isBalked_68 ?_
              refine lv_iload_n hx hb dX1_isBalked_71 rfl (lv_at hl 2 rfl) ?_
              obtain ⟨hv8, hw⟩ := hw
              refine X_iald hx hb hK (hM.kept (rS hS)) 25 rfl (j := (ix x2)) rfl hv8 dX1_isBalked_72 ?_
              refine lv_icmp_eq (tgt := 107) hx hb dX1_isBalked_73 (by decide) (fun c9 => ?_) (fun c9 => ?_)
              · have hw := hw.1 c9
                exact hB107 x5 hw _ _ ls hS (lv_sub hl [0, 1, 2, 3, 5] rfl)
              · have hw := hw.2 c9
                refine lv_aload_n hx hb dX1_isBalked_76 rfl (lv_at hl 1 rfl) ?_
                refine lv_aload_n hx hb dX1_isBalked_77 rfl (lv_at hl 0 rfl) ?_
                refine X_get17 hx hb hts hown hK (hM.kept (rS hS)) 0 (v := .ref (tw 9)) (by decide) (hts _ q724) rfl dX1_isBalked_78 ?_
                refine lv_aload_n hx hb dX1_isBalked_81 rfl (lv_at hl 0 rfl) ?_
                refine X_get17 hx hb hts hown hK (hM.kept (rS hS)) 1 (v := .ref (ad 31)) (by decide) (hts _ q725) rfl dX1_isBalked_82 ?_
                refine X_get31N hx hb hts hown hK (hM.kept (rS hS)) 5 (v := .ref (ad 25)) (by decide) (hZ.2.1.nF 26 rfl) rfl dX1_isBalked_85 ?_
                refine lv_iload_n hx hb dX1_isBalked_88 rfl (lv_at hl 2 rfl) ?_
                refine X_iald hx hb hK (hM.kept (rS hS)) 25 rfl (j := (ix x2)) rfl hv8 dX1_isBalked_89 ?_
                refine lv_aload_n hx hb dX1_isBalked_90 rfl (lv_at hl 3 rfl) ?_
                refine L_fldN hx hb hts hown hK (hT.at hS hN0) x3 hx3 4 (v := .ref (tw (300 + x3))) (by decide) (hZ.2.1.nF 20 rfl) rfl dX1_isBalked_91 ?_
                refine lv_iload hx hb dX1_isBalked_94 (lv_at hl 5 rfl) ?_
                refine L_iald hx hb hK (hT.at hS hN0) x3 hx3 hv7 dX1_isBalked_96 ?_
                refine RS_callZ (As := [.ref (tw 9), .int (h 25 (ix x2)), .int (nI (T 9 (6 * x3 + ix x5)))]) (rest := []) (sa := (shf ad k1)) (h := (sub h k1)) ⟨hx, hb, hml, hown, hts⟩ hS (fun _ h => h.elim) hK hZ (hT.at hS hN0) (XW.st2 hk1 (hM.kept (rS hS))) (metX6_knows l D cA z0 E tw N (ad 70) (shf ad k1) (sub h k1) T (h 25 (ix x2)) (nI (T 9 (6 * x3 + ix x5))) _ hw) (cwV 3 hts (lw_V q937 q913 q914 q129 q915) rfl rfl rfl (by decide +kernel) ⟨Nat.le_of_ble_eq_true rfl, Nat.le_of_ble_eq_true rfl⟩) rfl hl.1 rfl (Nat.le_of_ble_eq_true rfl) dX1_isBalked_97 ⟨Nat.zero_le _, Nat.zero_le _⟩ (fun r10 H locs hw hk hS => ?_)
                have hj11 : JR p l e (headSpec (ws_ yX1_isBalked cX1_isBalked 6 (some .boolean)) ({ frames := 7, cells := 0, slots := 0, locals := 246 })).room s m ([.ref (ad 17), .ref (ad (k1 + 5))] : List Value).toArray below meth c (MQ below (RQi (fun r => ∃ b : Bool, r = b2i b ∧ post b)) ([.ref (ad 17), .ref (ad (k1 + 5))] : List Value).toArray s 0 0 NoA) 6 108 [(0, .ref (ad 17)), (1, .ref (ad (k1 + 5))), (2, .int x2), (3, .ref (tw (200 + x3))), (5, .int x5)] [.int (if r10 = true then (1 : Int32) else (0 : Int32))] := by
                  intro H locs ls hS hl
                  refine lv_istore (lv' := [(4, .int (if r10 = true then (1 : Int32) else (0 : Int32))), (0, .ref (ad 17)), (1, .ref (ad (k1 + 5))), (2, .int x2), (3, .ref (tw (200 + x3))), (5, .int x5)]) hx hb dX1_isBalked_108 hl (by decide) rfl (fun ls hl => ?_)
                  refine lv_iinc (v := (x5 + (1 : Int32))) (lv' := [(5, .int (x5 + (1 : Int32))), (4, .int (if r10 = true then (1 : Int32) else (0 : Int32))), (0, .ref (ad 17)), (1, .ref (ad (k1 + 5))), (2, .int x2), (3, .ref (tw (200 + x3)))]) hx hb dX1_isBalked_110 hl (k := 5) rfl rfl (by decide) rfl (fun ls hl => ?_)
                  refine lv_goto (tgt := 42) hx hb dX1_isBalked_113 (by decide) ?_
                  exact ih42 (if r10 = true then (1 : Int32) else (0 : Int32)) (x5 + (1 : Int32)) hw _ _ ls hS (lv_sub hl [2, 3, 4, 5, 1, 0] rfl)
                refine lv_if_eq (tgt := 107) hx hb dX1_isBalked_100 (by decide) (fun c12 => ?_) (fun c12 => ?_)
                · have c12 := b2i_f c12
                  refine lv_iconst (v := (0 : Int32)) hx hb dX1_isBalked_107 (by decide) ?_
                  have e13 : (if r10 = true then (1 : Int32) else (0 : Int32)) = (0 : Int32) := by rw [if_neg c12]
                  rw [e13] at hj11
                  exact hj11 _ _ ls hS (lv_sub hl [0, 1, 2, 3, 5] rfl)
                · have c12 := b2i_t c12
                  refine lv_iconst (v := (1 : Int32)) hx hb dX1_isBalked_103 (by decide) ?_
                  refine lv_goto (tgt := 108) hx hb dX1_isBalked_104 (by decide) ?_
                  have e14 : (if r10 = true then (1 : Int32) else (0 : Int32)) = (1 : Int32) := by rw [if_pos c12]
                  rw [e14] at hj11
                  exact hj11 _ _ ls hS (lv_sub hl [0, 1, 2, 3, 5] rfl)
      intro x2 hw H locs ls hS hl
      have hw : wpBX1_isBalked_2 post T k1  (fun x2 => wpLX1_isBalked_2 post T k1  h  n2 x2) h  x2 := hw
      unfold wpBX1_isBalked_2 at hw
      refine lv_iload_n hx hb dX1_isBalked_2 rfl (lv_at hl 2 rfl) ?_
      refine lv_aload_n hx hb dX1_isBalked_3 rfl (lv_at hl 0 rfl) ?_
      refine X_get17 hx hb hts hown hK (hM.kept (rS hS)) 1 (v := .ref (ad 31)) (by decide) (hts _ q725) rfl dX1_isBalked_4 ?_
      refine X_get31N hx hb hts hown hK (hM.kept (rS hS)) 10 (v := .int (h 30 0)) (by decide) (hZ.2.1.nF 8 rfl) rfl dX1_isBalked_7 ?_
      refine lv_icmp_ge (tgt := 129) hx hb dX1_isBalked_10 (by decide) (fun c1 => ?_) (fun c1 => ?_)
      · have hw := hw.1 c1
        refine lv_iconst (v := (1 : Int32)) hx hb dX1_isBalked_129 (by decide) ?_
        exact R_zret hx hb hr hlocks hS ⟨_, rfl, hw⟩ dX1_isBalked_130
      · have hw := hw.2 c1
        refine lv_aload_n hx hb dX1_isBalked_13 rfl (lv_at hl 0 rfl) ?_
        refine X_get17 hx hb hts hown hK (hM.kept (rS hS)) 0 (v := .ref (tw 9)) (by decide) (hts _ q724) rfl dX1_isBalked_14 ?_
        refine T_fldN hx hb hts hown hK (hT.at hS hN0) 4 (v := .ref (tw 2)) (by decide) (hZ.2.1.nF 2 rfl) (fun _ _ => rfl) dX1_isBalked_17 ?_
        refine lv_aload_n hx hb dX1_isBalked_20 rfl (lv_at hl 0 rfl) ?_
        refine X_get17 hx hb hts hown hK (hM.kept (rS hS)) 1 (v := .ref (ad 31)) (by decide) (hts _ q725) rfl dX1_isBalked_21 ?_
        refine X_get31N hx hb hts hown hK (hM.kept (rS hS)) 6 (v := .ref (ad 26)) (by decide) (hZ.2.1.nF 27 rfl) rfl dX1_isBalked_24 ?_
        refine lv_iload_n hx hb dX1_isBalked_27 rfl (lv_at hl 2 rfl) ?_
        obtain ⟨hv2, hw⟩ := hw
        refine X_iald hx hb hK (hM.kept (rS hS)) 26 rfl (j := (ix x2)) rfl hv2 dX1_isBalked_28 ?_
        obtain ⟨b3, eb3, hb3, hw⟩ := hw
        refine T_lgetE ⟨hx, hb, hml, hown, hts⟩ hS hK (hT.at hS hN0) q854 ⟨Nat.le_of_ble_eq_true rfl, Nat.le_of_ble_eq_true rfl⟩ b3 hb3 eb3 hl.1 (Nat.le_of_ble_eq_true rfl) dX1_isBalked_29 ⟨Nat.zero_le _, Nat.zero_le _⟩ (fun H locs hk hS => ?_)
        refine L_cast hx hb hown hK (hT.at hS hN0) b3 hb3 (hts _ q880) dX1_isBalked_32 ?_
        refine lv_astore_n (lv' := [(3, .ref (tw (200 + b3))), (0, .ref (ad 17)), (1, .ref (ad (k1 + 5))), (2, .int x2)]) hx hb dX1_isBalked_35 rfl hl (by decide) rfl (fun ls hl => ?_)
        refine lv_iconst (v := (0 : Int32)) hx hb dX1_isBalked_36 (by decide) ?_
        refine lv_istore (lv' := [(4, .int (0 : Int32)), (3, .ref (tw (200 + b3))), (0, .ref (ad 17)), (1, .ref (ad (k1 + 5))), (2, .int x2)]) hx hb dX1_isBalked_37 hl (by decide) rfl (fun ls hl => ?_)
        refine lv_iconst (v := (0 : Int32)) hx hb dX1_isBalked_39 (by decide) ?_
        refine lv_istore (lv' := [(5, .int (0 : Int32)), (4, .int (0 : Int32)), (3, .ref (tw (200 + b3))), (0, .ref (ad 17)), (1, .ref (ad (k1 + 5))), (2, .int x2)]) hx hb dX1_isBalked_40 hl (by decide) rfl (fun ls hl => ?_)
        obtain ⟨n15, hw⟩ := hw
        exact hL42 x2 b3 hb3 n15 (0 : Int32) (0 : Int32) hw _ _ ls hS (lv_sub hl [3, 4, 5, 2, 1, 0] rfl)
  unfold wpX1_isBalked at hw
  refine lv_iconst (v := (0 : Int32)) hx hb dX1_isBalked_0 (by decide) ?_
  refine lv_istore_n (lv' := [(2, .int (0 : Int32)), (0, .ref (ad 17)), (1, .ref (ad (k1 + 5)))]) hx hb dX1_isBalked_1 rfl hl (by decide) rfl (fun ls hl => ?_)
  obtain ⟨n16, hw⟩ := hw
  exact hL2 n16 (0 : Int32) hw _ _ ls hS (lv_sub hl [1, 2, 0] rfl)

/-- StrangeKnives.gains(III)I -/
def wpX1_gains (post : Int32 → Prop) (h : Mem) (T : TT) (a1 : Int32) (a2 : Int32) (a3 : Int32) : Prop :=
  ((a2 = a3 → post (0 : Int32)) ∧ (¬ a2 = a3 → (wpX6_whoCan (fun r2 => ((((r2 >>> (a1 &&& 31)) &&& (1 : Int32)) = (1 : Int32) → (∃ b4 : Nat, a2 = nI b4 ∧ b4 < T 0 1 ∧ post (nI (T 5 b4)))) ∧ (¬ ((r2 >>> (a1 &&& 31)) &&& (1 : Int32)) = (1 : Int32) → post (0 : Int32)))) (sub h 40) T a2)))
set_option maxHeartbeats 4000000 in
set_option maxRecDepth 100000 in
theorem metX1_gains (l : Launch) (D : va_G) (cA : Nat → ClassId) (z0 : Nat) (E : Nat → Nat → Nat) (tw : Nat → Nat) (N : Nat → Prop) (ad : Nat → Nat) (h : Mem) (T : TT) (a1 : Int32) (a2 : Int32) (a3 : Int32) (post : Int32 → Prop) (hw : wpX1_gains post h T a1 a2 a3) : RcI l yX1_gains (ws_ yX1_gains cX1_gains 4 (some .int)) ({ frames := 9, cells := 0, slots := 0, locals := 294 }) [.ref (ad 17), .int a1, .int a2, .int a3] (PhX D cA z0 E T tw N ad h) post := by
  refine Met.ofW (cc := cX1_gains) (maxL := 4) (ret := (some .int)) (by decide) rfl ?_
  intro p e s m args below meth c s₁ B hml hv
  obtain ⟨rfl, hv⟩ := hv
  have hx := B.exec
  have hb := B.bytes
  have hr := B.returns
  have hts := atoms_spec (ws := ws_ yX1_gains cX1_gains 4 (some .int)) B.pre
  have hts : ∀ w ∈ lw_all, w.before _ s = true := fun w h => hts w (List.mem_cons_of_mem _ h)
  have hown : s.vm.findClass RX1 = some m.cls := findClass_of_methodNamed B.named
  have hlocks := B.notSynchronized
  have hl := lv_entry ([.ref (ad 17), .int a1, .int a2, .int a3]) (n := 4) (Nat.le_of_ble_eq_true rfl)
  rw [lg_entry_eq]
  generalize (lg_sl ([.ref (ad 17), .int a1, .int a2, .int a3]) ++ List.replicate (4 - (lg_sl ([.ref (ad 17), .int a1, .int a2, .int a3])).length) Slot.unset).toArray = ls at hl ⊢
  have hl : lv_has ls 4 [(0, .ref (ad 17)), (1, .int a1), (2, .int a2), (3, .int a3)] := hl
  obtain ⟨hM, hT, hK, hZ⟩ := hv
  have hS : va_S NoA s.heap s.heap [] := va_S.rf
  unfold wpX1_gains at hw
  refine lv_iload_n hx hb dX1_gains_0 rfl (lv_at hl 2 rfl) ?_
  refine lv_iload_n hx hb dX1_gains_1 rfl (lv_at hl 3 rfl) ?_
  refine lv_icmp_eq (tgt := 45) hx hb dX1_gains_2 (by decide) (fun c1 => ?_) (fun c1 => ?_)
  · have hw := hw.1 c1
    refine lv_iconst (v := (0 : Int32)) hx hb dX1_gains_45 (by decide) ?_
    exact R_iret hx hb hr hlocks hS hw dX1_gains_46
  · have hw := hw.2 c1
    refine lv_aload_n hx hb dX1_gains_5 rfl (lv_at hl 0 rfl) ?_
    refine X_get17 hx hb hts hown hK (hM.kept (rS hS)) 3 (v := .ref (ad 45)) (by decide) (hts _ q727) rfl dX1_gains_6 ?_
    refine lv_aload_n hx hb dX1_gains_9 rfl (lv_at hl 0 rfl) ?_
    refine X_get17 hx hb hts hown hK (hM.kept (rS hS)) 0 (v := .ref (tw 9)) (by decide) (hts _ q724) rfl dX1_gains_10 ?_
    refine lv_iload_n hx hb dX1_gains_13 rfl (lv_at hl 2 rfl) ?_
    refine RS_callI (As := [.ref (tw 9), .int a2]) (rest := []) (sa := (shf ad 40)) (h := (sub h 40)) ⟨hx, hb, hml, hown, hts⟩ hS (fun _ h => h.elim) hK hZ (hT.at hS hN0) (hM.kept (rS hS)).now (metX6_whoCan l D cA z0 E tw N (ad 70) (shf ad 40) (sub h 40) T a2 _ hw) (cwV 2 hts (lw_V q897 q898 q899 q129 q900) rfl rfl rfl (by decide +kernel) ⟨Nat.le_of_ble_eq_true rfl, Nat.le_of_ble_eq_true rfl⟩) rfl hl.1 rfl (Nat.le_of_ble_eq_true rfl) dX1_gains_14 ⟨Nat.zero_le _, Nat.zero_le _⟩ (fun r2 H locs hw hk hS => ?_)
    refine lv_iload_n hx hb dX1_gains_17 rfl (lv_at hl 1 rfl) ?_
    refine lv_ishr hx hb dX1_gains_18 ?_
    refine lv_iconst (v := (1 : Int32)) hx hb dX1_gains_19 (by decide) ?_
    refine lv_iand hx hb dX1_gains_20 ?_
    refine lv_iconst (v := (1 : Int32)) hx hb dX1_gains_21 (by decide) ?_
    refine lv_icmp_ne (tgt := 45) hx hb dX1_gains_22 (by decide) (fun c3 => ?_) (fun c3 => ?_)
    · have hw := hw.2 c3
      refine lv_iconst (v := (0 : Int32)) hx hb dX1_gains_45 (by decide) ?_
      exact R_iret hx hb hr hlocks hS hw dX1_gains_46
    · have hw := hw.1 c3
      refine lv_aload_n hx hb dX1_gains_25 rfl (lv_at hl 0 rfl) ?_
      refine X_get17 hx hb hts hown hK (hM.kept (rS hS)) 0 (v := .ref (tw 9)) (by decide) (hts _ q724) rfl dX1_gains_26 ?_
      refine T_fldN hx hb hts hown hK (hT.at hS hN0) 4 (v := .ref (tw 2)) (by decide) (hZ.2.1.nF 2 rfl) (fun _ _ => rfl) dX1_gains_29 ?_
      refine lv_iload_n hx hb dX1_gains_32 rfl (lv_at hl 2 rfl) ?_
      obtain ⟨b4, eb4, hb4, hw⟩ := hw
      refine T_lgetE ⟨hx, hb, hml, hown, hts⟩ hS hK (hT.at hS hN0) q854 ⟨Nat.le_of_ble_eq_true rfl, Nat.le_of_ble_eq_true rfl⟩ b4 hb4 eb4 hl.1 (Nat.le_of_ble_eq_true rfl) dX1_gains_33 ⟨Nat.zero_le _, Nat.zero_le _⟩ (fun H locs hk hS => ?_)
      refine L_cast hx hb hown hK (hT.at hS hN0) b4 hb4 (hts _ q880) dX1_gains_36 ?_
      refine L_fldN hx hb hts hown hK (hT.at hS hN0) b4 hb4 1 (v := .int (nI (T 5 b4))) (by decide) (hZ.2.1.nF 17 rfl) rfl dX1_gains_39 ?_
      refine lv_goto (tgt := 46) hx hb dX1_gains_42 (by decide) ?_
      exact R_iret hx hb hr hlocks hS hw dX1_gains_46
