/-! the walks of the component's methods that touch its books, printed by tools/geny.py: X1_cut X1_thank X1_fair X1_hours X1_undo X1_image X1_restore -/
/-- StrangeKnives.cut(II)Z -/
def wpX1_cut (post : Bool → Mem → KM → Prop) (h : Mem) (T : TT) (px : Nat → Prop) (km : KM) (a1 : Int32) (a2 : Int32) : Prop :=
  ((∀ p1 : Nat, p1 < T 0 0 → a1 = nI p1 → ((∀ b2 : Nat, b2 < T 0 1 → a2 = nI b2 → (wpX6_may (fun r3 => ((r3 = 0 → (∃ n5 : Nat, n5 ≤ 40 ∧ h 28 0 = nI n5 ∧ (∀ h6 : Mem, h6 = up2 h 28 0 (keepX n5) → (∀ km7 : KM, km7 = (keepP n5 (sub h 40) km.1, km.2) → (vp_in a2 (Xlen 41) ∧ (∀ h9 : Mem, h9 = up2 h6 41 (ix a2) a1 → post true h9 km7)))))) ∧ (¬ r3 = 0 → (wpX1_refuses (fun r11 h10 => post false h10 km) h T (1 : Int32))))) (sub h 40) T a1 a2)) ∧ ((∀ i : Nat, i < T 0 1 → ¬ a2 = nI i) → px 0))) ∧ ((∀ i : Nat, i < T 0 0 → ¬ a1 = nI i) → px 0))
set_option maxHeartbeats 4000000 in
set_option maxRecDepth 100000 in
theorem metX1_cut (l : Launch) (hlt : l.stackTraces = false) (D : va_G) (cA : Nat → ClassId) (z0 : Nat) (E : Nat → Nat → Nat) (tw : Nat → Nat) (N : Nat → Prop) (ad : Nat → Nat) (ai : Nat → Nat) (Pm Pi : Nat → Prop) (sz : Nat) (h : Mem) (T : TT) (px : Nat → Prop) (km : KM) (a1 : Int32) (a2 : Int32) (hn0 : T 0 0 < 2 ^ 31) (hn1 : T 0 1 < 2 ^ 31) (post : Bool → Mem → KM → Prop) (hw : wpX1_cut post h T px km a1 a2) : MeYZ l D cA z0 E T tw N ad ai Pm Pi sz yX1_cut (ws_ yX1_cut cX1_cut 3 (some .boolean)) ({ frames := 13, cells := 2, slots := 12, locals := 421 }) [.ref (ad 17), .int a1, .int a2] h km post px 2 12 := by
  refine vx_ofW (cc := cX1_cut) (maxL := 3) (ret := (some .boolean)) (by decide) rfl ?_
  intro p e s m args below meth c s₁ B hml het hv
  obtain ⟨rfl, hsz, hM, hJ, hY, hN9, hP, hT, hK, hZ⟩ := hv
  have hx := B.exec
  have hb := B.bytes
  have hr := B.returns
  have hts := atoms_spec (ws := ws_ yX1_cut cX1_cut 3 (some .boolean)) B.pre
  have hts : ∀ w ∈ lw_all, w.before _ s = true := fun w h => hts w (List.mem_cons_of_mem _ h)
  have hown : s.vm.findClass RX1 = some m.cls := findClass_of_methodNamed B.named
  have hlocks := B.notSynchronized
  subst hsz
  have hA : ∀ q, XA ad q → YB ad ai Pm Pi s.heap.size q := fun _ h => Or.inl (Or.inl h)
  have hBz : ∀ q, YB ad ai Pm Pi s.heap.size q → z0 ≤ q := YB.z hZ hY hJ
  have hN : ∀ q, N q → ¬ XA ad q := fun q h h2 => hN9 q h (Or.inl h2)
  have hNA : ∀ q, N q → q < s.heap.size → ¬ YB ad ai Pm Pi s.heap.size q := fun q h h2 h3 => h3.elim (hN9 q h) (fun h4 => absurd h4 (Nat.not_le.mpr h2))
  have hS : va_S (YB ad ai Pm Pi s.heap.size) s.heap s.heap [] := va_S.rf
  have hl := lv_entry ([.ref (ad 17), .int a1, .int a2]) (n := 3) (Nat.le_of_ble_eq_true rfl)
  rw [lg_entry_eq]
  generalize (lg_sl ([.ref (ad 17), .int a1, .int a2]) ++ List.replicate (3 - (lg_sl ([.ref (ad 17), .int a1, .int a2])).length) Slot.unset).toArray = ls at hl ⊢
  have hl : lv_has ls 3 [(0, .ref (ad 17)), (1, .int a1), (2, .int a2)] := hl
  obtain ⟨h0, eh0⟩ : ∃ y : Mem, y = h := ⟨_, rfl⟩
  rw [← eh0]
  unfold wpX1_cut at hw
  refine lv_aload_n hx hb dX1_cut_0 rfl (lv_at hl 0 rfl) ?_
  refine lv_iload_n hx hb dX1_cut_1 rfl (lv_at hl 1 rfl) ?_
  refine YT_pers ⟨hx, hb, hml, hown, hts⟩ eh0.symm hlt hK hZ (hT.at hS hNA) hJ hY hP hM hS het hlocks hn0 (a := a1) hw.2 (cwV 1 hts (lw_V q1427 q1429 qs37 q104 q1430) rfl rfl rfl (by decide +kernel) ⟨Nat.le_of_ble_eq_true rfl, Nat.le_of_ble_eq_true rfl⟩) hl.1 (Nat.le_of_ble_eq_true rfl) dX1_cut_2 ⟨Nat.le_of_ble_eq_true rfl, Nat.le_of_ble_eq_true rfl⟩ (Nat.le_of_ble_eq_true rfl) (Nat.le_of_ble_eq_true rfl) (fun p1 hp1 ep1 H locs hkX hM hS => ?_)
  have hP := hP.kept hY hJ hkX
  have hw := hw.1 p1 hp1 ep1
  refine lv_pop hx hb dX1_cut_5 rfl ?_
  refine lv_aload_n hx hb dX1_cut_6 rfl (lv_at hl 0 rfl) ?_
  refine lv_iload_n hx hb dX1_cut_7 rfl (lv_at hl 2 rfl) ?_
  refine YT_loaf ⟨hx, hb, hml, hown, hts⟩ eh0.symm hlt hK hZ (hT.at hS hNA) hJ hY hP hM hS het hlocks hn1 (a := a2) hw.2 (cwV 1 hts (lw_V q1456 q1458 qs38 q104 q1459) rfl rfl rfl (by decide +kernel) ⟨Nat.le_of_ble_eq_true rfl, Nat.le_of_ble_eq_true rfl⟩) hl.1 (Nat.le_of_ble_eq_true rfl) dX1_cut_8 ⟨Nat.le_of_ble_eq_true rfl, Nat.le_of_ble_eq_true rfl⟩ (Nat.le_of_ble_eq_true rfl) (Nat.le_of_ble_eq_true rfl) (fun b2 hb2 eb2 H locs hkX hM hS => ?_)
  have hP := hP.kept hY hJ hkX
  have hw := hw.1 b2 hb2 eb2
  refine lv_pop hx hb dX1_cut_11 rfl ?_
  refine lv_aload_n hx hb dX1_cut_12 rfl (lv_at hl 0 rfl) ?_
  refine X_get17 hx hb hts hown hK hM 3 (v := .ref (ad 45)) (by decide) (hts _ q727) rfl dX1_cut_13 ?_
  refine lv_aload_n hx hb dX1_cut_16 rfl (lv_at hl 0 rfl) ?_
  refine X_get17 hx hb hts hown hK hM 0 (v := .ref (tw 9)) (by decide) (hts _ q724) rfl dX1_cut_17 ?_
  refine lv_iload_n hx hb dX1_cut_20 rfl (lv_at hl 1 rfl) ?_
  refine lv_iload_n hx hb dX1_cut_21 rfl (lv_at hl 2 rfl) ?_
  refine RS_callI (As := [.ref (tw 9), .int a1, .int a2]) (rest := []) (sa := (shf ad 40)) (h := (sub h 40)) ⟨hx, hb, hml, hown, hts⟩ hS hBz hK hZ (hT.at hS hNA) hM.now (metX6_may l D cA z0 E tw N (ad 70) (shf ad 40) (sub h 40) T a1 a2 _ hw) (cwV 3 hts (lw_V q1468 q1469 q1470 q129 q1471) rfl rfl rfl (by decide +kernel) ⟨Nat.le_of_ble_eq_true rfl, Nat.le_of_ble_eq_true rfl⟩) rfl hl.1 rfl (Nat.le_of_ble_eq_true rfl) dX1_cut_22 ⟨Nat.le_of_ble_eq_true rfl, Nat.le_of_ble_eq_true rfl⟩ (fun r3 H locs hw hk hS => ?_)
  have hM := hM.kept hk
  have hP := hP.kept hY hJ (fun q hz _ => hk q hz)
  refine lv_if_eq (tgt := 36) hx hb dX1_cut_25 (by decide) (fun c4 => ?_) (fun c4 => ?_)
  · have hw := hw.1 c4
    refine lv_aload_n hx hb dX1_cut_36 rfl (lv_at hl 0 rfl) ?_
    refine X_get17 hx hb hts hown hK hM 1 (v := .ref (ad 31)) (by decide) (hts _ q725) rfl dX1_cut_37 ?_
    obtain ⟨n5, hn5, en5, hw⟩ := hw
    refine Y_keeps ⟨hx, hb, hml, hown, hts⟩ hK hZ hJ hY hP hM hS hn5 en5 q807 ⟨Nat.le_of_ble_eq_true rfl, Nat.le_of_ble_eq_true rfl⟩ hl.1 (Nat.le_of_ble_eq_true rfl) dX1_cut_40 ⟨Nat.le_of_ble_eq_true rfl, Nat.le_of_ble_eq_true rfl⟩ (fun H locs hP hM hS => ?_)
    obtain ⟨h6, eh6⟩ : ∃ y : Mem, y = up2 h 28 0 (keepX n5) := ⟨_, rfl⟩
    rw [← eh6] at hM
    have hw := hw h6 eh6
    obtain ⟨km7, ekm7⟩ : ∃ y : KM, y = (keepP n5 (sub h 40) km.1, km.2) := ⟨_, rfl⟩
    rw [← ekm7] at hP
    have hw := hw km7 ekm7
    refine lv_aload_n hx hb dX1_cut_43 rfl (lv_at hl 0 rfl) ?_
    refine X_get17 hx hb hts hown hK hM 3 (v := .ref (ad 45)) (by decide) (hts _ q727) rfl dX1_cut_44 ?_
    refine X_get45N hx hb hts hown hK hM 1 (v := .ref (ad 41)) (by decide) (hZ.2.1.nF 9 rfl) rfl dX1_cut_47 ?_
    refine lv_iload_n hx hb dX1_cut_50 rfl (lv_at hl 2 rfl) ?_
    refine lv_iload_n hx hb dX1_cut_51 rfl (lv_at hl 1 rfl) ?_
    obtain ⟨hv8, hw⟩ := hw
    refine X_iastK hx hb hK hM hJ hA hS 41 rfl (j := (ix a2)) rfl hv8 dX1_cut_52 (fun H locs hkX hM hS => ?_)
    have hP := hP.kept hY hJ hkX
    obtain ⟨h9, eh9⟩ : ∃ y : Mem, y = up2 h6 41 (ix a2) a1 := ⟨_, rfl⟩
    rw [← eh9] at hM
    have hw := hw h9 eh9
    refine lv_iconst (v := (1 : Int32)) hx hb dX1_cut_53 (by decide) ?_
    exact YT_zret hx hb hr hlocks hP hM hS ⟨_, rfl, hw⟩ (Nat.le_of_ble_eq_true rfl) (Nat.le_of_ble_eq_true rfl) dX1_cut_54
  · have hw := hw.2 c4
    refine lv_aload_n hx hb dX1_cut_28 rfl (lv_at hl 0 rfl) ?_
    refine lv_iconst (v := (1 : Int32)) hx hb dX1_cut_29 (by decide) ?_
    refine XX_callIK (As := [.int (1 : Int32)]) (rest := []) ⟨hx, hb, hml, hown, hts⟩ hK hZ (hT.at hS hNA) hN hA hBz hM hJ hS (metX1_refuses l D cA z0 E tw N ad h T (1 : Int32) _ hw) (cwV 1 hts (lw_V q803 q805 qs7 q104 q806) rfl rfl rfl (by decide +kernel) ⟨Nat.le_of_ble_eq_true rfl, Nat.le_of_ble_eq_true rfl⟩) rfl hl.1 rfl (Nat.le_of_ble_eq_true rfl) dX1_cut_30 ⟨Nat.le_of_ble_eq_true rfl, Nat.le_of_ble_eq_true rfl⟩ (fun r11 h10 H locs hw hkX hM hS => ?_)
    have hP := hP.kept hY hJ hkX
    refine lv_pop hx hb dX1_cut_33 rfl ?_
    refine lv_iconst (v := (0 : Int32)) hx hb dX1_cut_34 (by decide) ?_
    exact YT_zret hx hb hr hlocks hP hM hS ⟨_, rfl, hw⟩ (Nat.le_of_ble_eq_true rfl) (Nat.le_of_ble_eq_true rfl) dX1_cut_35

/-- StrangeKnives.thank(II)I -/
def wpX1_thank (post : Int32 → Mem → KM → Prop) (h : Mem) (T : TT) (px : Nat → Prop) (km : KM) (a1 : Int32) (a2 : Int32) : Prop :=
  ((∀ p1 : Nat, p1 < T 0 0 → a1 = nI p1 → ((∀ p2 : Nat, p2 < T 0 0 → a2 = nI p2 → ((a1 = a2 → (wpX1_refuses (fun r12 h11 => post r12 h11 km) h T (1 : Int32))) ∧ (¬ a1 = a2 → (∃ n4 : Nat, n4 ≤ 40 ∧ h 28 0 = nI n4 ∧ (∀ h5 : Mem, h5 = up2 h 28 0 (keepX n4) → (∀ km6 : KM, km6 = (keepP n4 (sub h 40) km.1, km.2) → (wpX6_meet (fun S7 => (∀ h8 : Mem, h8 = put5 h5 40 S7 → (vp_in a2 (Xlen 42) ∧ (∀ h10 : Mem, h10 = up2 h8 42 (ix a2) ((h8 42 (ix a2)) + (1 : Int32)) → post (h10 42 (ix a2)) h10 km6)))) (sub h5 40) T a1 a2 (h5 43 0)))))))) ∧ ((∀ i : Nat, i < T 0 0 → ¬ a2 = nI i) → px 0))) ∧ ((∀ i : Nat, i < T 0 0 → ¬ a1 = nI i) → px 0))
set_option maxHeartbeats 4000000 in
set_option maxRecDepth 100000 in
theorem metX1_thank (l : Launch) (hlt : l.stackTraces = false) (D : va_G) (cA : Nat → ClassId) (z0 : Nat) (E : Nat → Nat → Nat) (tw : Nat → Nat) (N : Nat → Prop) (ad : Nat → Nat) (ai : Nat → Nat) (Pm Pi : Nat → Prop) (sz : Nat) (h : Mem) (T : TT) (px : Nat → Prop) (km : KM) (a1 : Int32) (a2 : Int32) (hn0 : T 0 0 < 2 ^ 31) (hn1 : T 0 1 < 2 ^ 31) (post : Int32 → Mem → KM → Prop) (hw : wpX1_thank post h T px km a1 a2) : MeYI l D cA z0 E T tw N ad ai Pm Pi sz yX1_thank (ws_ yX1_thank cX1_thank 3 (some .int)) ({ frames := 13, cells := 2, slots := 12, locals := 421 }) [.ref (ad 17), .int a1, .int a2] h km post px 2 12 := by
  refine vx_ofW (cc := cX1_thank) (maxL := 3) (ret := (some .int)) (by decide) rfl ?_
  intro p e s m args below meth c s₁ B hml het hv
  obtain ⟨rfl, hsz, hM, hJ, hY, hN9, hP, hT, hK, hZ⟩ := hv
  have hx := B.exec
  have hb := B.bytes
  have hr := B.returns
  have hts := atoms_spec (ws := ws_ yX1_thank cX1_thank 3 (some .int)) B.pre
  have hts : ∀ w ∈ lw_all, w.before _ s = true := fun w h => hts w (List.mem_cons_of_mem _ h)
  have hown : s.vm.findClass RX1 = some m.cls := findClass_of_methodNamed B.named
  have hlocks := B.notSynchronized
  subst hsz
  have hA : ∀ q, XA ad q → YB ad ai Pm Pi s.heap.size q := fun _ h => Or.inl (Or.inl h)
  have hBz : ∀ q, YB ad ai Pm Pi s.heap.size q → z0 ≤ q := YB.z hZ hY hJ
  have hN : ∀ q, N q → ¬ XA ad q := fun q h h2 => hN9 q h (Or.inl h2)
  have hNA : ∀ q, N q → q < s.heap.size → ¬ YB ad ai Pm Pi s.heap.size q := fun q h h2 h3 => h3.elim (hN9 q h) (fun h4 => absurd h4 (Nat.not_le.mpr h2))
  have hS : va_S (YB ad ai Pm Pi s.heap.size) s.heap s.heap [] := va_S.rf
  have hl := lv_entry ([.ref (ad 17), .int a1, .int a2]) (n := 3) (Nat.le_of_ble_eq_true rfl)
  rw [lg_entry_eq]
  generalize (lg_sl ([.ref (ad 17), .int a1, .int a2]) ++ List.replicate (3 - (lg_sl ([.ref (ad 17), .int a1, .int a2])).length) Slot.unset).toArray = ls at hl ⊢
  have hl : lv_has ls 3 [(0, .ref (ad 17)), (1, .int a1), (2, .int a2)] := hl
  obtain ⟨h0, eh0⟩ : ∃ y : Mem, y = h := ⟨_, rfl⟩
  rw [← eh0]
  unfold wpX1_thank at hw
  refine lv_aload_n hx hb dX1_thank_0 rfl (lv_at hl 0 rfl) ?_
  refine lv_iload_n hx hb dX1_thank_1 rfl (lv_at hl 1 rfl) ?_
  refine YT_pers ⟨hx, hb, hml, hown, hts⟩ eh0.symm hlt hK hZ (hT.at hS hNA) hJ hY hP hM hS het hlocks hn0 (a := a1) hw.2 (cwV 1 hts (lw_V q1427 q1429 qs37 q104 q1430) rfl rfl rfl (by decide +kernel) ⟨Nat.le_of_ble_eq_true rfl, Nat.le_of_ble_eq_true rfl⟩) hl.1 (Nat.le_of_ble_eq_true rfl) dX1_thank_2 ⟨Nat.le_of_ble_eq_true rfl, Nat.le_of_ble_eq_true rfl⟩ (Nat.le_of_ble_eq_true rfl) (Nat.le_of_ble_eq_true rfl) (fun p1 hp1 ep1 H locs hkX hM hS => ?_)
  have hP := hP.kept hY hJ hkX
  have hw := hw.1 p1 hp1 ep1
  refine lv_pop hx hb dX1_thank_5 rfl ?_
  refine lv_aload_n hx hb dX1_thank_6 rfl (lv_at hl 0 rfl) ?_
  refine lv_iload_n hx hb dX1_thank_7 rfl (lv_at hl 2 rfl) ?_
  refine YT_pers ⟨hx, hb, hml, hown, hts⟩ eh0.symm hlt hK hZ (hT.at hS hNA) hJ hY hP hM hS het hlocks hn0 (a := a2) hw.2 (cwV 1 hts (lw_V q1427 q1429 qs37 q104 q1430) rfl rfl rfl (by decide +kernel) ⟨Nat.le_of_ble_eq_true rfl, Nat.le_of_ble_eq_true rfl⟩) hl.1 (Nat.le_of_ble_eq_true rfl) dX1_thank_8 ⟨Nat.le_of_ble_eq_true rfl, Nat.le_of_ble_eq_true rfl⟩ (Nat.le_of_ble_eq_true rfl) (Nat.le_of_ble_eq_true rfl) (fun p2 hp2 ep2 H locs hkX hM hS => ?_)
  have hP := hP.kept hY hJ hkX
  have hw := hw.1 p2 hp2 ep2
  refine lv_pop hx hb dX1_thank_11 rfl ?_
  refine lv_iload_n hx hb dX1_thank_12 rfl (lv_at hl 1 rfl) ?_
  refine lv_iload_n hx hb dX1_thank_13 rfl (lv_at hl 2 rfl) ?_
  refine lv_icmp_ne (tgt := 23) hx hb dX1_thank_14 (by decide) (fun c3 => ?_) (fun c3 => ?_)
  · have hw := hw.2 c3
    refine lv_aload_n hx hb dX1_thank_23 rfl (lv_at hl 0 rfl) ?_
    refine X_get17 hx hb hts hown hK hM 1 (v := .ref (ad 31)) (by decide) (hts _ q725) rfl dX1_thank_24 ?_
    obtain ⟨n4, hn4, en4, hw⟩ := hw
    refine Y_keeps ⟨hx, hb, hml, hown, hts⟩ hK hZ hJ hY hP hM hS hn4 en4 q807 ⟨Nat.le_of_ble_eq_true rfl, Nat.le_of_ble_eq_true rfl⟩ hl.1 (Nat.le_of_ble_eq_true rfl) dX1_thank_27 ⟨Nat.le_of_ble_eq_true rfl, Nat.le_of_ble_eq_true rfl⟩ (fun H locs hP hM hS => ?_)
    obtain ⟨h5, eh5⟩ : ∃ y : Mem, y = up2 h 28 0 (keepX n4) := ⟨_, rfl⟩
    rw [← eh5] at hM
    have hw := hw h5 eh5
    obtain ⟨km6, ekm6⟩ : ∃ y : KM, y = (keepP n4 (sub h 40) km.1, km.2) := ⟨_, rfl⟩
    rw [← ekm6] at hP
    have hw := hw km6 ekm6
    refine lv_aload_n hx hb dX1_thank_30 rfl (lv_at hl 0 rfl) ?_
    refine X_get17 hx hb hts hown hK hM 3 (v := .ref (ad 45)) (by decide) (hts _ q727) rfl dX1_thank_31 ?_
    refine lv_aload_n hx hb dX1_thank_34 rfl (lv_at hl 0 rfl) ?_
    refine X_get17 hx hb hts hown hK hM 0 (v := .ref (tw 9)) (by decide) (hts _ q724) rfl dX1_thank_35 ?_
    refine lv_iload_n hx hb dX1_thank_38 rfl (lv_at hl 1 rfl) ?_
    refine lv_iload_n hx hb dX1_thank_39 rfl (lv_at hl 2 rfl) ?_
    refine lv_aload_n hx hb dX1_thank_40 rfl (lv_at hl 0 rfl) ?_
    refine X_get17 hx hb hts hown hK hM 3 (v := .ref (ad 45)) (by decide) (hts _ q727) rfl dX1_thank_41 ?_
    refine X_get45N hx hb hts hown hK hM 3 (v := .int (h5 43 0)) (by decide) (hZ.2.1.nF 12 rfl) rfl dX1_thank_44 ?_
    refine XS_callVK (As := [.ref (tw 9), .int a1, .int a2, .int (h5 43 0)]) (rest := []) ⟨hx, hb, hml, hown, hts⟩ hK hZ (hT.at hS hNA) hN hA hBz hM hJ hS 40 (by decide) (metX6_meet l D cA z0 E tw N (ad 70) (shf ad 40) (sub h5 40) T a1 a2 (h5 43 0) _ hw) (cwV 4 hts (lw_V q1583 q716 q717 q129 q718) rfl rfl rfl (by decide +kernel) ⟨Nat.le_of_ble_eq_true rfl, Nat.le_of_ble_eq_true rfl⟩) rfl hl.1 rfl (Nat.le_of_ble_eq_true rfl) dX1_thank_47 ⟨Nat.le_of_ble_eq_true rfl, Nat.le_of_ble_eq_true rfl⟩ (fun S7 H locs hw hkX hM hS => ?_)
    have hP := hP.kept hY hJ hkX
    obtain ⟨h8, eh8⟩ : ∃ y : Mem, y = put5 h5 40 S7 := ⟨_, rfl⟩
    rw [← eh8] at hM
    have hw := hw h8 eh8
    refine lv_aload_n hx hb dX1_thank_50 rfl (lv_at hl 0 rfl) ?_
    refine X_get17 hx hb hts hown hK hM 3 (v := .ref (ad 45)) (by decide) (hts _ q727) rfl dX1_thank_51 ?_
    refine X_get45N hx hb hts hown hK hM 2 (v := .ref (ad 42)) (by decide) (hZ.2.1.nF 15 rfl) rfl dX1_thank_54 ?_
    refine lv_iload_n hx hb dX1_thank_57 rfl (lv_at hl 2 rfl) ?_
    refine lv_dup2_11 hx hb dX1_thank_58 rfl rfl ?_
    obtain ⟨hv9, hw⟩ := hw
    refine X_iald hx hb hK hM 42 rfl (j := (ix a2)) rfl hv9 dX1_thank_59 ?_
    refine lv_iconst (v := (1 : Int32)) hx hb dX1_thank_60 (by decide) ?_
    refine lv_iadd hx hb dX1_thank_61 ?_
    refine X_iastK hx hb hK hM hJ hA hS 42 rfl (j := (ix a2)) rfl hv9 dX1_thank_62 (fun H locs hkX hM hS => ?_)
    have hP := hP.kept hY hJ hkX
    obtain ⟨h10, eh10⟩ : ∃ y : Mem, y = up2 h8 42 (ix a2) ((h8 42 (ix a2)) + (1 : Int32)) := ⟨_, rfl⟩
    rw [← eh10] at hM
    have hw := hw h10 eh10
    refine lv_aload_n hx hb dX1_thank_63 rfl (lv_at hl 0 rfl) ?_
    refine X_get17 hx hb hts hown hK hM 3 (v := .ref (ad 45)) (by decide) (hts _ q727) rfl dX1_thank_64 ?_
    refine X_get45N hx hb hts hown hK hM 2 (v := .ref (ad 42)) (by decide) (hZ.2.1.nF 15 rfl) rfl dX1_thank_67 ?_
    refine lv_iload_n hx hb dX1_thank_70 rfl (lv_at hl 2 rfl) ?_
    refine X_iald hx hb hK hM 42 rfl (j := (ix a2)) rfl hv9 dX1_thank_71 ?_
    exact YT_iret hx hb hr hlocks hP hM hS hw (Nat.le_of_ble_eq_true rfl) (Nat.le_of_ble_eq_true rfl) dX1_thank_72
  · have hw := hw.1 c3
    refine lv_aload_n hx hb dX1_thank_17 rfl (lv_at hl 0 rfl) ?_
    refine lv_iconst (v := (1 : Int32)) hx hb dX1_thank_18 (by decide) ?_
    refine XX_callIK (As := [.int (1 : Int32)]) (rest := []) ⟨hx, hb, hml, hown, hts⟩ hK hZ (hT.at hS hNA) hN hA hBz hM hJ hS (metX1_refuses l D cA z0 E tw N ad h T (1 : Int32) _ hw) (cwV 1 hts (lw_V q803 q805 qs7 q104 q806) rfl rfl rfl (by decide +kernel) ⟨Nat.le_of_ble_eq_true rfl, Nat.le_of_ble_eq_true rfl⟩) rfl hl.1 rfl (Nat.le_of_ble_eq_true rfl) dX1_thank_19 ⟨Nat.le_of_ble_eq_true rfl, Nat.le_of_ble_eq_true rfl⟩ (fun r12 h11 H locs hw hkX hM hS => ?_)
    have hP := hP.kept hY hJ hkX
    exact YT_iret hx hb hr hlocks hP hM hS hw (Nat.le_of_ble_eq_true rfl) (Nat.le_of_ble_eq_true rfl) dX1_thank_22

/-- StrangeKnives.fair(I)I -/
def wpBX1_fair_22 (post : Int32 → Mem → KM → Prop) (T : TT) (px : Nat → Prop) (km : KM) (a1 : Int32)  (h : Mem)   : Prop :=
  (wpX1_refuses (fun r3 h2 => post r3 h2 km) h T (1 : Int32))
def wpX1_fair (post : Int32 → Mem → KM → Prop) (h : Mem) (T : TT) (px : Nat → Prop) (km : KM) (a1 : Int32) : Prop :=
  ((a1 < 0 → wpBX1_fair_22 post T px km a1  h ) ∧ (¬ a1 < 0 → (wpX1_people (fun r4 => ((((1 : Int32) <<< (r4 &&& 31)) ≤ a1 → wpBX1_fair_22 post T px km a1  h ) ∧ (¬ ((1 : Int32) <<< (r4 &&& 31)) ≤ a1 → (((2 : Int32) ≤ (bitc a1) → (∃ n8 : Nat, n8 ≤ 40 ∧ h 28 0 = nI n8 ∧ (∀ h9 : Mem, h9 = up2 h 28 0 (keepX n8) → (∀ km10 : KM, km10 = (keepP n8 (sub h 40) km.1, km.2) → (wpX6_fair (fun S11 => (∀ h12 : Mem, h12 = put5 h9 40 S11 → post (bitc a1) h12 km10)) (sub h9 40) T a1))))) ∧ (¬ (2 : Int32) ≤ (bitc a1) → wpBX1_fair_22 post T px km a1  h ))))) h T )))
set_option maxHeartbeats 4000000 in
set_option maxRecDepth 100000 in
theorem metX1_fair (l : Launch) (hlt : l.stackTraces = false) (D : va_G) (cA : Nat → ClassId) (z0 : Nat) (E : Nat → Nat → Nat) (tw : Nat → Nat) (N : Nat → Prop) (ad : Nat → Nat) (ai : Nat → Nat) (Pm Pi : Nat → Prop) (sz : Nat) (h : Mem) (T : TT) (px : Nat → Prop) (km : KM) (a1 : Int32) (hn0 : T 0 0 < 2 ^ 31) (hn1 : T 0 1 < 2 ^ 31) (post : Int32 → Mem → KM → Prop) (hw : wpX1_fair post h T px km a1) : MeYI l D cA z0 E T tw N ad ai Pm Pi sz yX1_fair (ws_ yX1_fair cX1_fair 2 (some .int)) ({ frames := 6, cells := 0, slots := 0, locals := 420 }) [.ref (ad 17), .int a1] h km post px 0 0 := by
  refine vx_ofW (cc := cX1_fair) (maxL := 2) (ret := (some .int)) (by decide) rfl ?_
  intro p e s m args below meth c s₁ B hml het hv
  obtain ⟨rfl, hsz, hM, hJ, hY, hN9, hP, hT, hK, hZ⟩ := hv
  have hx := B.exec
  have hb := B.bytes
  have hr := B.returns
  have hts := atoms_spec (ws := ws_ yX1_fair cX1_fair 2 (some .int)) B.pre
  have hts : ∀ w ∈ lw_all, w.before _ s = true := fun w h => hts w (List.mem_cons_of_mem _ h)
  have hown : s.vm.findClass RX1 = some m.cls := findClass_of_methodNamed B.named
  have hlocks := B.notSynchronized
  subst hsz
  have hA : ∀ q, XA ad q → YB ad ai Pm Pi s.heap.size q := fun _ h => Or.inl (Or.inl h)
  have hBz : ∀ q, YB ad ai Pm Pi s.heap.size q → z0 ≤ q := YB.z hZ hY hJ
  have hN : ∀ q, N q → ¬ XA ad q := fun q h h2 => hN9 q h (Or.inl h2)
  have hNA : ∀ q, N q → q < s.heap.size → ¬ YB ad ai Pm Pi s.heap.size q := fun q h h2 h3 => h3.elim (hN9 q h) (fun h4 => absurd h4 (Nat.not_le.mpr h2))
  have hS : va_S (YB ad ai Pm Pi s.heap.size) s.heap s.heap [] := va_S.rf
  have hl := lv_entry ([.ref (ad 17), .int a1]) (n := 2) (Nat.le_of_ble_eq_true rfl)
  rw [lg_entry_eq]
  generalize (lg_sl ([.ref (ad 17), .int a1]) ++ List.replicate (2 - (lg_sl ([.ref (ad 17), .int a1])).length) Slot.unset).toArray = ls at hl ⊢
  have hl : lv_has ls 2 [(0, .ref (ad 17)), (1, .int a1)] := hl
  obtain ⟨h0, eh0⟩ : ∃ y : Mem, y = h := ⟨_, rfl⟩
  rw [← eh0]
  have hB22 : wpBX1_fair_22 post T px km a1  h  → JY p l e (headSpec (ws_ yX1_fair cX1_fair 2 (some .int)) ({ frames := 6, cells := 0, slots := 0, locals := 420 })).room s m ([.ref (ad 17), .int a1] : List Value).toArray below meth c (vx_MQ below (YTi D cA tw ad ai Pm Pi s.heap.size post) (YTx D cA tw ad ai Pm Pi s.heap.size h0 km px) ([.ref (ad 17), .int a1] : List Value).toArray s 0 0 (YB ad ai Pm Pi s.heap.size)) D cA tw ad ai Pm Pi km 0 0 2 22 h [(0, .ref (ad 17))] [] := by
    intro  hw H locs ls hP hM hS hl
    unfold wpBX1_fair_22 at hw
    refine lv_aload_n hx hb dX1_fair_22 rfl (lv_at hl 0 rfl) ?_
    refine lv_iconst (v := (1 : Int32)) hx hb dX1_fair_23 (by decide) ?_
    refine XX_callIK (As := [.int (1 : Int32)]) (rest := []) ⟨hx, hb, hml, hown, hts⟩ hK hZ (hT.at hS hNA) hN hA hBz hM hJ hS (metX1_refuses l D cA z0 E tw N ad h T (1 : Int32) _ hw) (cwV 1 hts (lw_V q803 q805 qs7 q104 q806) rfl rfl rfl (by decide +kernel) ⟨Nat.le_of_ble_eq_true rfl, Nat.le_of_ble_eq_true rfl⟩) rfl hl.1 rfl (Nat.le_of_ble_eq_true rfl) dX1_fair_24 ⟨Nat.le_of_ble_eq_true rfl, Nat.le_of_ble_eq_true rfl⟩ (fun r3 h2 H locs hw hkX hM hS => ?_)
    have hP := hP.kept hY hJ hkX
    exact YT_iret hx hb hr hlocks hP hM hS hw (Nat.le_of_ble_eq_true rfl) (Nat.le_of_ble_eq_true rfl) dX1_fair_27
  unfold wpX1_fair at hw
  refine lv_iload_n hx hb dX1_fair_0 rfl (lv_at hl 1 rfl) ?_
  refine lv_if_lt (tgt := 22) hx hb dX1_fair_1 (by decide) (fun c1 => ?_) (fun c1 => ?_)
  · have hw := hw.1 c1
    exact hB22  hw _ _ ls hP hM hS (lv_sub hl [0] rfl)
  · have hw := hw.2 c1
    refine lv_iload_n hx hb dX1_fair_4 rfl (lv_at hl 1 rfl) ?_
    refine lv_iconst (v := (1 : Int32)) hx hb dX1_fair_5 (by decide) ?_
    refine lv_aload_n hx hb dX1_fair_6 rfl (lv_at hl 0 rfl) ?_
    refine RX_callI (As := []) (rest := [.int (1 : Int32), .int a1]) ⟨hx, hb, hml, hown, hts⟩ hS hBz hK hZ (hT.at hS hNA) hM (metX1_people l D cA z0 E tw N ad h T  _ hw) (cwV 0 hts (lw_V q792 q794 qs6 q104 q795) rfl rfl rfl (by decide +kernel) ⟨Nat.le_of_ble_eq_true rfl, Nat.le_of_ble_eq_true rfl⟩) rfl hl.1 rfl (Nat.le_of_ble_eq_true rfl) dX1_fair_7 ⟨Nat.le_of_ble_eq_true rfl, Nat.le_of_ble_eq_true rfl⟩ (fun r4 H locs hw hk hS => ?_)
    have hM := hM.kept hk
    have hP := hP.kept hY hJ (fun q hz _ => hk q hz)
    refine lv_ishl hx hb dX1_fair_10 ?_
    refine lv_icmp_ge (tgt := 22) hx hb dX1_fair_11 (by decide) (fun c5 => ?_) (fun c5 => ?_)
    · have hw := hw.1 c5
      exact hB22  hw _ _ ls hP hM hS (lv_sub hl [0] rfl)
    · have hw := hw.2 c5
      refine lv_iload_n hx hb dX1_fair_14 rfl (lv_at hl 1 rfl) ?_
      refine RN_callI (As := [.int a1]) (rest := []) ⟨hx, hb, hml, hown, hts⟩ hS (metJ16_bitCount l) (va_cwS 1 hts (lw_S q797 q798 q124 q799) rfl rfl rfl (by decide +kernel) ⟨Nat.le_of_ble_eq_true rfl, Nat.le_of_ble_eq_true rfl⟩) rfl hl.1 rfl (Nat.le_of_ble_eq_true rfl) dX1_fair_15 ⟨Nat.le_of_ble_eq_true rfl, Nat.le_of_ble_eq_true rfl⟩ (fun r6 H locs er6 hk hS => ?_)
      subst er6
      have hM := hM.kept hk
      have hP := hP.kept hY hJ (fun q hz _ => hk q hz)
      refine lv_iconst (v := (2 : Int32)) hx hb dX1_fair_18 (by decide) ?_
      refine lv_icmp_ge (tgt := 28) hx hb dX1_fair_19 (by decide) (fun c7 => ?_) (fun c7 => ?_)
      · have hw := hw.1 c7
        refine lv_aload_n hx hb dX1_fair_28 rfl (lv_at hl 0 rfl) ?_
        refine X_get17 hx hb hts hown hK hM 1 (v := .ref (ad 31)) (by decide) (hts _ q725) rfl dX1_fair_29 ?_
        obtain ⟨n8, hn8, en8, hw⟩ := hw
        refine Y_keeps ⟨hx, hb, hml, hown, hts⟩ hK hZ hJ hY hP hM hS hn8 en8 q807 ⟨Nat.le_of_ble_eq_true rfl, Nat.le_of_ble_eq_true rfl⟩ hl.1 (Nat.le_of_ble_eq_true rfl) dX1_fair_32 ⟨Nat.le_of_ble_eq_true rfl, Nat.le_of_ble_eq_true rfl⟩ (fun H locs hP hM hS => ?_)
        obtain ⟨h9, eh9⟩ : ∃ y : Mem, y = up2 h 28 0 (keepX n8) := ⟨_, rfl⟩
        rw [← eh9] at hM
        have hw := hw h9 eh9
        obtain ⟨km10, ekm10⟩ : ∃ y : KM, y = (keepP n8 (sub h 40) km.1, km.2) := ⟨_, rfl⟩
        rw [← ekm10] at hP
        have hw := hw km10 ekm10
        refine lv_aload_n hx hb dX1_fair_35 rfl (lv_at hl 0 rfl) ?_
        refine X_get17 hx hb hts hown hK hM 3 (v := .ref (ad 45)) (by decide) (hts _ q727) rfl dX1_fair_36 ?_
        refine lv_aload_n hx hb dX1_fair_39 rfl (lv_at hl 0 rfl) ?_
        refine X_get17 hx hb hts hown hK hM 0 (v := .ref (tw 9)) (by decide) (hts _ q724) rfl dX1_fair_40 ?_
        refine lv_iload_n hx hb dX1_fair_43 rfl (lv_at hl 1 rfl) ?_
        refine XS_callVK (As := [.ref (tw 9), .int a1]) (rest := []) ⟨hx, hb, hml, hown, hts⟩ hK hZ (hT.at hS hNA) hN hA hBz hM hJ hS 40 (by decide) (metX6_fair l D cA z0 E tw N (ad 70) (shf ad 40) (sub h9 40) T a1 _ hw) (cwV 2 hts (lw_V q839 q840 q841 q129 q842) rfl rfl rfl (by decide +kernel) ⟨Nat.le_of_ble_eq_true rfl, Nat.le_of_ble_eq_true rfl⟩) rfl hl.1 rfl (Nat.le_of_ble_eq_true rfl) dX1_fair_44 ⟨Nat.le_of_ble_eq_true rfl, Nat.le_of_ble_eq_true rfl⟩ (fun S11 H locs hw hkX hM hS => ?_)
        have hP := hP.kept hY hJ hkX
        obtain ⟨h12, eh12⟩ : ∃ y : Mem, y = put5 h9 40 S11 := ⟨_, rfl⟩
        rw [← eh12] at hM
        have hw := hw h12 eh12
        refine lv_iload_n hx hb dX1_fair_47 rfl (lv_at hl 1 rfl) ?_
        refine RN_callI (As := [.int a1]) (rest := []) ⟨hx, hb, hml, hown, hts⟩ hS (metJ16_bitCount l) (va_cwS 1 hts (lw_S q797 q798 q124 q799) rfl rfl rfl (by decide +kernel) ⟨Nat.le_of_ble_eq_true rfl, Nat.le_of_ble_eq_true rfl⟩) rfl hl.1 rfl (Nat.le_of_ble_eq_true rfl) dX1_fair_48 ⟨Nat.le_of_ble_eq_true rfl, Nat.le_of_ble_eq_true rfl⟩ (fun r13 H locs er13 hk hS => ?_)
        subst er13
        have hM := hM.kept hk
        have hP := hP.kept hY hJ (fun q hz _ => hk q hz)
        exact YT_iret hx hb hr hlocks hP hM hS hw (Nat.le_of_ble_eq_true rfl) (Nat.le_of_ble_eq_true rfl) dX1_fair_51
      · have hw := hw.2 c7
        exact hB22  hw _ _ ls hP hM hS (lv_sub hl [0] rfl)

/-- StrangeKnives.hours(I)I -/
def wpBX1_hours_36 (post : Int32 → Mem → KM → Prop) (T : TT) (px : Nat → Prop) (km : KM) (a1 : Int32)  (h : Mem)   : Prop :=
  (wpX1_refuses (fun r4 h3 => post r4 h3 km) h T (1 : Int32))
def wpX1_hours (post : Int32 → Mem → KM → Prop) (h : Mem) (T : TT) (px : Nat → Prop) (km : KM) (a1 : Int32) : Prop :=
  (wpX1_within (fun r1 => ((r1 = true → ((((h 43 0) + (((h 44 0) + a1) / (24 : Int32))) ≤ (999 : Int32) → (∃ n6 : Nat, n6 ≤ 40 ∧ h 28 0 = nI n6 ∧ (∀ h7 : Mem, h7 = up2 h 28 0 (keepX n6) → (∀ km8 : KM, km8 = (keepP n6 (sub h 40) km.1, km.2) → (∀ h9 : Mem, h9 = up2 h7 43 0 ((h7 43 0) + (((h7 44 0) + a1) / (24 : Int32))) → (∀ h10 : Mem, h10 = up2 h9 44 0 (((h9 44 0) + a1) - ((h9 44 0) + a1) / (24 : Int32) * (24 : Int32)) → post (h10 44 0) h10 km8)))))) ∧ (¬ ((h 43 0) + (((h 44 0) + a1) / (24 : Int32))) ≤ (999 : Int32) → wpBX1_hours_36 post T px km a1  h ))) ∧ (¬ r1 = true → wpBX1_hours_36 post T px km a1  h ))) h a1 (1 : Int32) (99 : Int32))
set_option maxHeartbeats 4000000 in
set_option maxRecDepth 100000 in
theorem metX1_hours (l : Launch) (hlt : l.stackTraces = false) (D : va_G) (cA : Nat → ClassId) (z0 : Nat) (E : Nat → Nat → Nat) (tw : Nat → Nat) (N : Nat → Prop) (ad : Nat → Nat) (ai : Nat → Nat) (Pm Pi : Nat → Prop) (sz : Nat) (h : Mem) (T : TT) (px : Nat → Prop) (km : KM) (a1 : Int32) (hn0 : T 0 0 < 2 ^ 31) (hn1 : T 0 1 < 2 ^ 31) (post : Int32 → Mem → KM → Prop) (hw : wpX1_hours post h T px km a1) : MeYI l D cA z0 E T tw N ad ai Pm Pi sz yX1_hours (ws_ yX1_hours cX1_hours 2 (some .int)) ({ frames := 6, cells := 0, slots := 0, locals := 420 }) [.ref (ad 17), .int a1] h km post px 0 0 := by
  refine vx_ofW (cc := cX1_hours) (maxL := 2) (ret := (some .int)) (by decide) rfl ?_
  intro p e s m args below meth c s₁ B hml het hv
  obtain ⟨rfl, hsz, hM, hJ, hY, hN9, hP, hT, hK, hZ⟩ := hv
  have hx := B.exec
  have hb := B.bytes
  have hr := B.returns
  have hts := atoms_spec (ws := ws_ yX1_hours cX1_hours 2 (some .int)) B.pre
  have hts : ∀ w ∈ lw_all, w.before _ s = true := fun w h => hts w (List.mem_cons_of_mem _ h)
  have hown : s.vm.findClass RX1 = some m.cls := findClass_of_methodNamed B.named
  have hlocks := B.notSynchronized
  subst hsz
  have hA : ∀ q, XA ad q → YB ad ai Pm Pi s.heap.size q := fun _ h => Or.inl (Or.inl h)
  have hBz : ∀ q, YB ad ai Pm Pi s.heap.size q → z0 ≤ q := YB.z hZ hY hJ
  have hN : ∀ q, N q → ¬ XA ad q := fun q h h2 => hN9 q h (Or.inl h2)
  have hNA : ∀ q, N q → q < s.heap.size → ¬ YB ad ai Pm Pi s.heap.size q := fun q h h2 h3 => h3.elim (hN9 q h) (fun h4 => absurd h4 (Nat.not_le.mpr h2))
  have hS : va_S (YB ad ai Pm Pi s.heap.size) s.heap s.heap [] := va_S.rf
  have hl := lv_entry ([.ref (ad 17), .int a1]) (n := 2) (Nat.le_of_ble_eq_true rfl)
  rw [lg_entry_eq]
  generalize (lg_sl ([.ref (ad 17), .int a1]) ++ List.replicate (2 - (lg_sl ([.ref (ad 17), .int a1])).length) Slot.unset).toArray = ls at hl ⊢
  have hl : lv_has ls 2 [(0, .ref (ad 17)), (1, .int a1)] := hl
  obtain ⟨h0, eh0⟩ : ∃ y : Mem, y = h := ⟨_, rfl⟩
  rw [← eh0]
  have hB36 : wpBX1_hours_36 post T px km a1  h  → JY p l e (headSpec (ws_ yX1_hours cX1_hours 2 (some .int)) ({ frames := 6, cells := 0, slots := 0, locals := 420 })).room s m ([.ref (ad 17), .int a1] : List Value).toArray below meth c (vx_MQ below (YTi D cA tw ad ai Pm Pi s.heap.size post) (YTx D cA tw ad ai Pm Pi s.heap.size h0 km px) ([.ref (ad 17), .int a1] : List Value).toArray s 0 0 (YB ad ai Pm Pi s.heap.size)) D cA tw ad ai Pm Pi km 0 0 2 36 h [(0, .ref (ad 17))] [] := by
    intro  hw H locs ls hP hM hS hl
    unfold wpBX1_hours_36 at hw
    refine lv_aload_n hx hb dX1_hours_36 rfl (lv_at hl 0 rfl) ?_
    refine lv_iconst (v := (1 : Int32)) hx hb dX1_hours_37 (by decide) ?_
    refine XX_callIK (As := [.int (1 : Int32)]) (rest := []) ⟨hx, hb, hml, hown, hts⟩ hK hZ (hT.at hS hNA) hN hA hBz hM hJ hS (metX1_refuses l D cA z0 E tw N ad h T (1 : Int32) _ hw) (cwV 1 hts (lw_V q803 q805 qs7 q104 q806) rfl rfl rfl (by decide +kernel) ⟨Nat.le_of_ble_eq_true rfl, Nat.le_of_ble_eq_true rfl⟩) rfl hl.1 rfl (Nat.le_of_ble_eq_true rfl) dX1_hours_38 ⟨Nat.le_of_ble_eq_true rfl, Nat.le_of_ble_eq_true rfl⟩ (fun r4 h3 H locs hw hkX hM hS => ?_)
    have hP := hP.kept hY hJ hkX
    exact YT_iret hx hb hr hlocks hP hM hS hw (Nat.le_of_ble_eq_true rfl) (Nat.le_of_ble_eq_true rfl) dX1_hours_41
  unfold wpX1_hours at hw
  refine lv_iload_n hx hb dX1_hours_0 rfl (lv_at hl 1 rfl) ?_
  refine lv_iconst (v := (1 : Int32)) hx hb dX1_hours_1 (by decide) ?_
  refine lv_bipush (v := (99 : Int32)) hx hb dX1_hours_2 (by decide) ?_
  refine RN_callZ (As := [.int a1, .int (1 : Int32), .int (99 : Int32)]) (rest := []) ⟨hx, hb, hml, hown, hts⟩ hS (metX1_within l h a1 (1 : Int32) (99 : Int32) _ hw) (va_cwS 3 hts (lw_S q847 q848 q104 q849) rfl rfl rfl (by decide +kernel) ⟨Nat.le_of_ble_eq_true rfl, Nat.le_of_ble_eq_true rfl⟩) rfl hl.1 rfl (Nat.le_of_ble_eq_true rfl) dX1_hours_4 ⟨Nat.le_of_ble_eq_true rfl, Nat.le_of_ble_eq_true rfl⟩ (fun r1 H locs hw hk hS => ?_)
  have hM := hM.kept hk
  have hP := hP.kept hY hJ (fun q hz _ => hk q hz)
  refine lv_if_eq (tgt := 36) hx hb dX1_hours_7 (by decide) (fun c2 => ?_) (fun c2 => ?_)
  · have c2 := b2i_f c2
    have hw := hw.2 c2
    exact hB36  hw _ _ ls hP hM hS (lv_sub hl [0] rfl)
  · have c2 := b2i_t c2
    have hw := hw.1 c2
    refine lv_aload_n hx hb dX1_hours_10 rfl (lv_at hl 0 rfl) ?_
    refine X_get17 hx hb hts hown hK hM 3 (v := .ref (ad 45)) (by decide) (hts _ q727) rfl dX1_hours_11 ?_
    refine X_get45N hx hb hts hown hK hM 3 (v := .int (h 43 0)) (by decide) (hZ.2.1.nF 12 rfl) rfl dX1_hours_14 ?_
    refine lv_aload_n hx hb dX1_hours_17 rfl (lv_at hl 0 rfl) ?_
    refine X_get17 hx hb hts hown hK hM 3 (v := .ref (ad 45)) (by decide) (hts _ q727) rfl dX1_hours_18 ?_
    refine X_get45N hx hb hts hown hK hM 4 (v := .int (h 44 0)) (by decide) (hZ.2.1.nF 13 rfl) rfl dX1_hours_21 ?_
    refine lv_iload_n hx hb dX1_hours_24 rfl (lv_at hl 1 rfl) ?_
    refine lv_iadd hx hb dX1_hours_25 ?_
    refine lv_bipush (v := (24 : Int32)) hx hb dX1_hours_26 (by decide) ?_
    refine lv_idiv hx hb dX1_hours_28 (by decide) ?_
    refine lv_iadd hx hb dX1_hours_29 ?_
    refine lv_sipush (v := (999 : Int32)) hx hb dX1_hours_30 (by decide) ?_
    refine lv_icmp_le (tgt := 42) hx hb dX1_hours_33 (by decide) (fun c5 => ?_) (fun c5 => ?_)
    · have hw := hw.1 c5
      refine lv_aload_n hx hb dX1_hours_42 rfl (lv_at hl 0 rfl) ?_
      refine X_get17 hx hb hts hown hK hM 1 (v := .ref (ad 31)) (by decide) (hts _ q725) rfl dX1_hours_43 ?_
      obtain ⟨n6, hn6, en6, hw⟩ := hw
      refine Y_keeps ⟨hx, hb, hml, hown, hts⟩ hK hZ hJ hY hP hM hS hn6 en6 q807 ⟨Nat.le_of_ble_eq_true rfl, Nat.le_of_ble_eq_true rfl⟩ hl.1 (Nat.le_of_ble_eq_true rfl) dX1_hours_46 ⟨Nat.le_of_ble_eq_true rfl, Nat.le_of_ble_eq_true rfl⟩ (fun H locs hP hM hS => ?_)
      obtain ⟨h7, eh7⟩ : ∃ y : Mem, y = up2 h 28 0 (keepX n6) := ⟨_, rfl⟩
      rw [← eh7] at hM
      have hw := hw h7 eh7
      obtain ⟨km8, ekm8⟩ : ∃ y : KM, y = (keepP n6 (sub h 40) km.1, km.2) := ⟨_, rfl⟩
      rw [← ekm8] at hP
      have hw := hw km8 ekm8
      refine lv_aload_n hx hb dX1_hours_49 rfl (lv_at hl 0 rfl) ?_
      refine X_get17 hx hb hts hown hK hM 3 (v := .ref (ad 45)) (by decide) (hts _ q727) rfl dX1_hours_50 ?_
      refine lv_dup hx hb dX1_hours_53 rfl ?_
      refine X_get45N hx hb hts hown hK hM 3 (v := .int (h7 43 0)) (by decide) (hZ.2.1.nF 12 rfl) rfl dX1_hours_54 ?_
      refine lv_aload_n hx hb dX1_hours_57 rfl (lv_at hl 0 rfl) ?_
      refine X_get17 hx hb hts hown hK hM 3 (v := .ref (ad 45)) (by decide) (hts _ q727) rfl dX1_hours_58 ?_
      refine X_get45N hx hb hts hown hK hM 4 (v := .int (h7 44 0)) (by decide) (hZ.2.1.nF 13 rfl) rfl dX1_hours_61 ?_
      refine lv_iload_n hx hb dX1_hours_64 rfl (lv_at hl 1 rfl) ?_
      refine lv_iadd hx hb dX1_hours_65 ?_
      refine lv_bipush (v := (24 : Int32)) hx hb dX1_hours_66 (by decide) ?_
      refine lv_idiv hx hb dX1_hours_68 (by decide) ?_
      refine lv_iadd hx hb dX1_hours_69 ?_
      refine X_put43NK hx hb hts hown hK hM hJ hA hS (hZ.2.1.nF 12 rfl) .int (by decide +kernel) rfl rfl dX1_hours_70 (fun H locs hkX hM hS => ?_)
      have hP := hP.kept hY hJ hkX
      obtain ⟨h9, eh9⟩ : ∃ y : Mem, y = up2 h7 43 0 ((h7 43 0) + (((h7 44 0) + a1) / (24 : Int32))) := ⟨_, rfl⟩
      rw [← eh9] at hM
      have hw := hw h9 eh9
      refine lv_aload_n hx hb dX1_hours_73 rfl (lv_at hl 0 rfl) ?_
      refine X_get17 hx hb hts hown hK hM 3 (v := .ref (ad 45)) (by decide) (hts _ q727) rfl dX1_hours_74 ?_
      refine lv_aload_n hx hb dX1_hours_77 rfl (lv_at hl 0 rfl) ?_
      refine X_get17 hx hb hts hown hK hM 3 (v := .ref (ad 45)) (by decide) (hts _ q727) rfl dX1_hours_78 ?_
      refine X_get45N hx hb hts hown hK hM 4 (v := .int (h9 44 0)) (by decide) (hZ.2.1.nF 13 rfl) rfl dX1_hours_81 ?_
      refine lv_iload_n hx hb dX1_hours_84 rfl (lv_at hl 1 rfl) ?_
      refine lv_iadd hx hb dX1_hours_85 ?_
      refine lv_bipush (v := (24 : Int32)) hx hb dX1_hours_86 (by decide) ?_
      refine lv_irem hx hb dX1_hours_88 (by decide) ?_
      refine X_put44NK hx hb hts hown hK hM hJ hA hS (hZ.2.1.nF 13 rfl) .int (by decide +kernel) rfl rfl dX1_hours_89 (fun H locs hkX hM hS => ?_)
      have hP := hP.kept hY hJ hkX
      obtain ⟨h10, eh10⟩ : ∃ y : Mem, y = up2 h9 44 0 (((h9 44 0) + a1) - ((h9 44 0) + a1) / (24 : Int32) * (24 : Int32)) := ⟨_, rfl⟩
      rw [← eh10] at hM
      have hw := hw h10 eh10
      refine lv_aload_n hx hb dX1_hours_92 rfl (lv_at hl 0 rfl) ?_
      refine X_get17 hx hb hts hown hK hM 3 (v := .ref (ad 45)) (by decide) (hts _ q727) rfl dX1_hours_93 ?_
      refine X_get45N hx hb hts hown hK hM 4 (v := .int (h10 44 0)) (by decide) (hZ.2.1.nF 13 rfl) rfl dX1_hours_96 ?_
      exact YT_iret hx hb hr hlocks hP hM hS hw (Nat.le_of_ble_eq_true rfl) (Nat.le_of_ble_eq_true rfl) dX1_hours_99
    · have hw := hw.2 c5
      exact hB36  hw _ _ ls hP hM hS (lv_sub hl [0] rfl)

/-- StrangeKnives.undo()I -/
def wpX1_undo (post : Int32 → Mem → KM → Prop) (h : Mem) (T : TT) (px : Nat → Prop) (km : KM) : Prop :=
  (((h 28 0) = 0 → post (-1 : Int32) h km) ∧ (¬ (h 28 0) = 0 → (∀ h2 : Mem, h2 = up2 h 28 0 ((h 28 0) - (1 : Int32)) → (∃ n3 : Nat, n3 < 40 ∧ (h2 28 0) = nI n3 ∧ (∀ h4 : Mem, h4 = put5 h2 40 (likeM (sub h2 40) (km.1 n3)) → post (h4 28 0) h4 km)))))
set_option maxHeartbeats 4000000 in
set_option maxRecDepth 100000 in
theorem metX1_undo (l : Launch) (hlt : l.stackTraces = false) (D : va_G) (cA : Nat → ClassId) (z0 : Nat) (E : Nat → Nat → Nat) (tw : Nat → Nat) (N : Nat → Prop) (ad : Nat → Nat) (ai : Nat → Nat) (Pm Pi : Nat → Prop) (sz : Nat) (h : Mem) (T : TT) (px : Nat → Prop) (km : KM) (hn0 : T 0 0 < 2 ^ 31) (hn1 : T 0 1 < 2 ^ 31) (post : Int32 → Mem → KM → Prop) (hw : wpX1_undo post h T px km) : MeYI l D cA z0 E T tw N ad ai Pm Pi sz yX1_undo (ws_ yX1_undo cX1_undo 1 (some .int)) ({ frames := 5, cells := 0, slots := 0, locals := 201 }) [.ref (ad 17)] h km post px 0 0 := by
  refine vx_ofW (cc := cX1_undo) (maxL := 1) (ret := (some .int)) (by decide) rfl ?_
  intro p e s m args below meth c s₁ B hml het hv
  obtain ⟨rfl, hsz, hM, hJ, hY, hN9, hP, hT, hK, hZ⟩ := hv
  have hx := B.exec
  have hb := B.bytes
  have hr := B.returns
  have hts := atoms_spec (ws := ws_ yX1_undo cX1_undo 1 (some .int)) B.pre
  have hts : ∀ w ∈ lw_all, w.before _ s = true := fun w h => hts w (List.mem_cons_of_mem _ h)
  have hown : s.vm.findClass RX1 = some m.cls := findClass_of_methodNamed B.named
  have hlocks := B.notSynchronized
  subst hsz
  have hA : ∀ q, XA ad q → YB ad ai Pm Pi s.heap.size q := fun _ h => Or.inl (Or.inl h)
  have hBz : ∀ q, YB ad ai Pm Pi s.heap.size q → z0 ≤ q := YB.z hZ hY hJ
  have hN : ∀ q, N q → ¬ XA ad q := fun q h h2 => hN9 q h (Or.inl h2)
  have hNA : ∀ q, N q → q < s.heap.size → ¬ YB ad ai Pm Pi s.heap.size q := fun q h h2 h3 => h3.elim (hN9 q h) (fun h4 => absurd h4 (Nat.not_le.mpr h2))
  have hS : va_S (YB ad ai Pm Pi s.heap.size) s.heap s.heap [] := va_S.rf
  have hl := lv_entry ([.ref (ad 17)]) (n := 1) (Nat.le_of_ble_eq_true rfl)
  rw [lg_entry_eq]
  generalize (lg_sl ([.ref (ad 17)]) ++ List.replicate (1 - (lg_sl ([.ref (ad 17)])).length) Slot.unset).toArray = ls at hl ⊢
  have hl : lv_has ls 1 [(0, .ref (ad 17))] := hl
  obtain ⟨h0, eh0⟩ : ∃ y : Mem, y = h := ⟨_, rfl⟩
  rw [← eh0]
  unfold wpX1_undo at hw
  refine lv_aload_n hx hb dX1_undo_0 rfl (lv_at hl 0 rfl) ?_
  refine X_get17 hx hb hts hown hK hM 1 (v := .ref (ad 31)) (by decide) (hts _ q725) rfl dX1_undo_1 ?_
  refine X_get31N hx hb hts hown hK hM 8 (v := .int (h 28 0)) (by decide) (hZ.2.1.nF 6 rfl) rfl dX1_undo_4 ?_
  refine lv_if_ne (tgt := 12) hx hb dX1_undo_7 (by decide) (fun c1 => ?_) (fun c1 => ?_)
  · have hw := hw.2 c1
    refine lv_aload_n hx hb dX1_undo_12 rfl (lv_at hl 0 rfl) ?_
    refine X_get17 hx hb hts hown hK hM 1 (v := .ref (ad 31)) (by decide) (hts _ q725) rfl dX1_undo_13 ?_
    refine lv_dup hx hb dX1_undo_16 rfl ?_
    refine X_get31N hx hb hts hown hK hM 8 (v := .int (h 28 0)) (by decide) (hZ.2.1.nF 6 rfl) rfl dX1_undo_17 ?_
    refine lv_iconst (v := (1 : Int32)) hx hb dX1_undo_20 (by decide) ?_
    refine lv_isub hx hb dX1_undo_21 ?_
    refine X_put28NK hx hb hts hown hK hM hJ hA hS (hZ.2.1.nF 6 rfl) .int (by decide +kernel) rfl rfl dX1_undo_22 (fun H locs hkX hM hS => ?_)
    have hP := hP.kept hY hJ hkX
    obtain ⟨h2, eh2⟩ : ∃ y : Mem, y = up2 h 28 0 ((h 28 0) - (1 : Int32)) := ⟨_, rfl⟩
    rw [← eh2] at hM
    have hw := hw h2 eh2
    refine lv_aload_n hx hb dX1_undo_25 rfl (lv_at hl 0 rfl) ?_
    refine X_get17 hx hb hts hown hK hM 3 (v := .ref (ad 45)) (by decide) (hts _ q727) rfl dX1_undo_26 ?_
    refine lv_aload_n hx hb dX1_undo_29 rfl (lv_at hl 0 rfl) ?_
    refine X_get17 hx hb hts hown hK hM 1 (v := .ref (ad 31)) (by decide) (hts _ q725) rfl dX1_undo_30 ?_
    refine X_get31N hx hb hts hown hK hM 1 (v := .ref (ad 32)) (by decide) (hZ.2.1.nF 22 rfl) rfl dX1_undo_33 ?_
    refine lv_aload_n hx hb dX1_undo_36 rfl (lv_at hl 0 rfl) ?_
    refine X_get17 hx hb hts hown hK hM 1 (v := .ref (ad 31)) (by decide) (hts _ q725) rfl dX1_undo_37 ?_
    refine X_get31N hx hb hts hown hK hM 8 (v := .int (h2 28 0)) (by decide) (hZ.2.1.nF 6 rfl) rfl dX1_undo_40 ?_
    obtain ⟨n3, hn3, en3, hw⟩ := hw
    refine Y_back ⟨hx, hb, hml, hown, hts⟩ hK hZ hJ hY hP hM hS n3 hn3 en3 q854 (hts _ q704) q855 ⟨Nat.le_of_ble_eq_true rfl, Nat.le_of_ble_eq_true rfl⟩ hl.1 (Nat.le_of_ble_eq_true rfl) (Nat.le_of_ble_eq_true rfl) dX1_undo_43 dX1_undo_46 dX1_undo_49 ⟨Nat.le_of_ble_eq_true rfl, Nat.le_of_ble_eq_true rfl⟩ (fun H locs hP hM hS => ?_)
    obtain ⟨h4, eh4⟩ : ∃ y : Mem, y = put5 h2 40 (likeM (sub h2 40) (km.1 n3)) := ⟨_, rfl⟩
    rw [← eh4] at hM
    have hw := hw h4 eh4
    refine lv_aload_n hx hb dX1_undo_52 rfl (lv_at hl 0 rfl) ?_
    refine X_get17 hx hb hts hown hK hM 1 (v := .ref (ad 31)) (by decide) (hts _ q725) rfl dX1_undo_53 ?_
    refine X_get31N hx hb hts hown hK hM 8 (v := .int (h4 28 0)) (by decide) (hZ.2.1.nF 6 rfl) rfl dX1_undo_56 ?_
    exact YT_iret hx hb hr hlocks hP hM hS hw (Nat.le_of_ble_eq_true rfl) (Nat.le_of_ble_eq_true rfl) dX1_undo_59
  · have hw := hw.1 c1
    refine lv_iconst (v := (-1 : Int32)) hx hb dX1_undo_10 (by decide) ?_
    exact YT_iret hx hb hr hlocks hP hM hS hw (Nat.le_of_ble_eq_true rfl) (Nat.le_of_ble_eq_true rfl) dX1_undo_11

/-- StrangeKnives.image()V -/
def wpX1_image (post : Mem → KM → Prop) (h : Mem) (T : TT) (px : Nat → Prop) (km : KM) : Prop :=
  (∃ n1 : Nat, n1 ≤ 40 ∧ h 28 0 = nI n1 ∧ (∀ km2 : KM, km2 = (km.1, bkLike km.2.1 h, plLike n1 km.2.2 km.1) → (∀ h3 : Mem, h3 = up2 h 5 0 (1 : Int32) → post h3 km2)))
set_option maxHeartbeats 4000000 in
set_option maxRecDepth 100000 in
theorem metX1_image (l : Launch) (hlt : l.stackTraces = false) (D : va_G) (cA : Nat → ClassId) (z0 : Nat) (E : Nat → Nat → Nat) (tw : Nat → Nat) (N : Nat → Prop) (ad : Nat → Nat) (ai : Nat → Nat) (Pm Pi : Nat → Prop) (sz : Nat) (h : Mem) (T : TT) (px : Nat → Prop) (km : KM) (hn0 : T 0 0 < 2 ^ 31) (hn1 : T 0 1 < 2 ^ 31) (post : Mem → KM → Prop) (hw : wpX1_image post h T px km) : MeYV l D cA z0 E T tw N ad ai Pm Pi sz yX1_image (ws_ yX1_image cX1_image 1 none) ({ frames := 6, cells := 0, slots := 0, locals := 422 }) [.ref (ad 17)] h km post px 0 0 := by
  refine vx_ofW (cc := cX1_image) (maxL := 1) (ret := none) (by decide) rfl ?_
  intro p e s m args below meth c s₁ B hml het hv
  obtain ⟨rfl, hsz, hM, hJ, hY, hN9, hP, hT, hK, hZ⟩ := hv
  have hx := B.exec
  have hb := B.bytes
  have hr := B.returns
  have hts := atoms_spec (ws := ws_ yX1_image cX1_image 1 none) B.pre
  have hts : ∀ w ∈ lw_all, w.before _ s = true := fun w h => hts w (List.mem_cons_of_mem _ h)
  have hown : s.vm.findClass RX1 = some m.cls := findClass_of_methodNamed B.named
  have hlocks := B.notSynchronized
  subst hsz
  have hA : ∀ q, XA ad q → YB ad ai Pm Pi s.heap.size q := fun _ h => Or.inl (Or.inl h)
  have hBz : ∀ q, YB ad ai Pm Pi s.heap.size q → z0 ≤ q := YB.z hZ hY hJ
  have hN : ∀ q, N q → ¬ XA ad q := fun q h h2 => hN9 q h (Or.inl h2)
  have hNA : ∀ q, N q → q < s.heap.size → ¬ YB ad ai Pm Pi s.heap.size q := fun q h h2 h3 => h3.elim (hN9 q h) (fun h4 => absurd h4 (Nat.not_le.mpr h2))
  have hS : va_S (YB ad ai Pm Pi s.heap.size) s.heap s.heap [] := va_S.rf
  have hl := lv_entry ([.ref (ad 17)]) (n := 1) (Nat.le_of_ble_eq_true rfl)
  rw [lg_entry_eq]
  generalize (lg_sl ([.ref (ad 17)]) ++ List.replicate (1 - (lg_sl ([.ref (ad 17)])).length) Slot.unset).toArray = ls at hl ⊢
  have hl : lv_has ls 1 [(0, .ref (ad 17))] := hl
  obtain ⟨h0, eh0⟩ : ∃ y : Mem, y = h := ⟨_, rfl⟩
  rw [← eh0]
  unfold wpX1_image at hw
  refine lv_aload_n hx hb dX1_image_0 rfl (lv_at hl 0 rfl) ?_
  refine X_get17 hx hb hts hown hK hM 2 (v := .ref (ad 60)) (by decide) (hts _ q726) rfl dX1_image_1 ?_
  refine lv_aload_n hx hb dX1_image_4 rfl (lv_at hl 0 rfl) ?_
  refine X_get17 hx hb hts hown hK hM 1 (v := .ref (ad 31)) (by decide) (hts _ q725) rfl dX1_image_5 ?_
  obtain ⟨n1, hn1, en1, hw⟩ := hw
  refine Y_img ⟨hx, hb, hml, hown, hts⟩ hK hJ hY hP hM hS hn1 en1 q971 ⟨Nat.le_of_ble_eq_true rfl, Nat.le_of_ble_eq_true rfl⟩ hl.1 (Nat.le_of_ble_eq_true rfl) dX1_image_8 ⟨Nat.le_of_ble_eq_true rfl, Nat.le_of_ble_eq_true rfl⟩ (fun H locs hP hM hS => ?_)
  obtain ⟨km2, ekm2⟩ : ∃ y : KM, y = (km.1, bkLike km.2.1 h, plLike n1 km.2.2 km.1) := ⟨_, rfl⟩
  rw [← ekm2] at hP
  have hw := hw km2 ekm2
  refine lv_aload_n hx hb dX1_image_11 rfl (lv_at hl 0 rfl) ?_
  refine lv_iconst (v := (1 : Int32)) hx hb dX1_image_12 (by decide) ?_
  refine X_put5K hx hb hts hown hK hM hJ hA hS (hts _ q729) .boolean (by decide +kernel) rfl rfl dX1_image_13 (fun H locs hkX hM hS => ?_)
  have hP := hP.kept hY hJ hkX
  obtain ⟨h3, eh3⟩ : ∃ y : Mem, y = up2 h 5 0 (1 : Int32) := ⟨_, rfl⟩
  rw [← eh3] at hM
  have hw := hw h3 eh3
  exact YT_vret hx hb hr hlocks hP hM hS hw (Nat.le_of_ble_eq_true rfl) (Nat.le_of_ble_eq_true rfl) dX1_image_16

/-- StrangeKnives.restore()Z -/
def wpX1_restore (post : Bool → Mem → KM → Prop) (h : Mem) (T : TT) (px : Nat → Prop) (km : KM) : Prop :=
  (((h 5 0) = 0 → post false h km) ∧ (¬ (h 5 0) = 0 → (∃ n2 : Nat, n2 ≤ 40 ∧ km.2.1 28 0 = nI n2 ∧ (∀ h3 : Mem, h3 = bkLike h km.2.1 → (∀ km4 : KM, km4 = (plLike n2 km.1 km.2.2, km.2) → post true h3 km4)))))
set_option maxHeartbeats 4000000 in
set_option maxRecDepth 100000 in
theorem metX1_restore (l : Launch) (hlt : l.stackTraces = false) (D : va_G) (cA : Nat → ClassId) (z0 : Nat) (E : Nat → Nat → Nat) (tw : Nat → Nat) (N : Nat → Prop) (ad : Nat → Nat) (ai : Nat → Nat) (Pm Pi : Nat → Prop) (sz : Nat) (h : Mem) (T : TT) (px : Nat → Prop) (km : KM) (hn0 : T 0 0 < 2 ^ 31) (hn1 : T 0 1 < 2 ^ 31) (post : Bool → Mem → KM → Prop) (hw : wpX1_restore post h T px km) : MeYZ l D cA z0 E T tw N ad ai Pm Pi sz yX1_restore (ws_ yX1_restore cX1_restore 1 (some .boolean)) ({ frames := 6, cells := 0, slots := 0, locals := 422 }) [.ref (ad 17)] h km post px 0 0 := by
  refine vx_ofW (cc := cX1_restore) (maxL := 1) (ret := (some .boolean)) (by decide) rfl ?_
  intro p e s m args below meth c s₁ B hml het hv
  obtain ⟨rfl, hsz, hM, hJ, hY, hN9, hP, hT, hK, hZ⟩ := hv
  have hx := B.exec
  have hb := B.bytes
  have hr := B.returns
  have hts := atoms_spec (ws := ws_ yX1_restore cX1_restore 1 (some .boolean)) B.pre
  have hts : ∀ w ∈ lw_all, w.before _ s = true := fun w h => hts w (List.mem_cons_of_mem _ h)
  have hown : s.vm.findClass RX1 = some m.cls := findClass_of_methodNamed B.named
  have hlocks := B.notSynchronized
  subst hsz
  have hA : ∀ q, XA ad q → YB ad ai Pm Pi s.heap.size q := fun _ h => Or.inl (Or.inl h)
  have hBz : ∀ q, YB ad ai Pm Pi s.heap.size q → z0 ≤ q := YB.z hZ hY hJ
  have hN : ∀ q, N q → ¬ XA ad q := fun q h h2 => hN9 q h (Or.inl h2)
  have hNA : ∀ q, N q → q < s.heap.size → ¬ YB ad ai Pm Pi s.heap.size q := fun q h h2 h3 => h3.elim (hN9 q h) (fun h4 => absurd h4 (Nat.not_le.mpr h2))
  have hS : va_S (YB ad ai Pm Pi s.heap.size) s.heap s.heap [] := va_S.rf
  have hl := lv_entry ([.ref (ad 17)]) (n := 1) (Nat.le_of_ble_eq_true rfl)
  rw [lg_entry_eq]
  generalize (lg_sl ([.ref (ad 17)]) ++ List.replicate (1 - (lg_sl ([.ref (ad 17)])).length) Slot.unset).toArray = ls at hl ⊢
  have hl : lv_has ls 1 [(0, .ref (ad 17))] := hl
  obtain ⟨h0, eh0⟩ : ∃ y : Mem, y = h := ⟨_, rfl⟩
  rw [← eh0]
  unfold wpX1_restore at hw
  refine lv_aload_n hx hb dX1_restore_0 rfl (lv_at hl 0 rfl) ?_
  refine X_get17 hx hb hts hown hK hM 5 (v := .int (h 5 0)) (by decide) (hts _ q729) rfl dX1_restore_1 ?_
  refine lv_if_ne (tgt := 9) hx hb dX1_restore_4 (by decide) (fun c1 => ?_) (fun c1 => ?_)
  · have hw := hw.2 c1
    refine lv_aload_n hx hb dX1_restore_9 rfl (lv_at hl 0 rfl) ?_
    refine X_get17 hx hb hts hown hK hM 1 (v := .ref (ad 31)) (by decide) (hts _ q725) rfl dX1_restore_10 ?_
    refine lv_aload_n hx hb dX1_restore_13 rfl (lv_at hl 0 rfl) ?_
    refine X_get17 hx hb hts hown hK hM 2 (v := .ref (ad 60)) (by decide) (hts _ q726) rfl dX1_restore_14 ?_
    obtain ⟨n2, hn2, en2, hw⟩ := hw
    refine Y_res ⟨hx, hb, hml, hown, hts⟩ hK hJ hY hP hM hS hn2 en2 q971 ⟨Nat.le_of_ble_eq_true rfl, Nat.le_of_ble_eq_true rfl⟩ hl.1 (Nat.le_of_ble_eq_true rfl) dX1_restore_17 ⟨Nat.le_of_ble_eq_true rfl, Nat.le_of_ble_eq_true rfl⟩ (fun H locs hP hM hS => ?_)
    obtain ⟨h3, eh3⟩ : ∃ y : Mem, y = bkLike h km.2.1 := ⟨_, rfl⟩
    rw [← eh3] at hM
    have hw := hw h3 eh3
    obtain ⟨km4, ekm4⟩ : ∃ y : KM, y = (plLike n2 km.1 km.2.2, km.2) := ⟨_, rfl⟩
    rw [← ekm4] at hP
    have hw := hw km4 ekm4
    refine lv_iconst (v := (1 : Int32)) hx hb dX1_restore_20 (by decide) ?_
    exact YT_zret hx hb hr hlocks hP hM hS ⟨_, rfl, hw⟩ (Nat.le_of_ble_eq_true rfl) (Nat.le_of_ble_eq_true rfl) dX1_restore_21
  · have hw := hw.1 c1
    refine lv_iconst (v := (0 : Int32)) hx hb dX1_restore_7 (by decide) ?_
    exact YT_zret hx hb hr hlocks hP hM hS ⟨_, rfl, hw⟩ (Nat.le_of_ble_eq_true rfl) (Nat.le_of_ble_eq_true rfl) dX1_restore_8
