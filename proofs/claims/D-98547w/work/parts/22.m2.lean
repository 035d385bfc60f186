/-! the walks of the twin, printed by tools/gen.py: slice pack keep cut meet refuse thank bitsOf fairOf fair hours unpack undo canCut from until isInTime rowOn noon carried familiar areStrangers ring cutters cuttable safe isHelped help -/
/-- slice(III)I -/
def wpBX7_slice_41 (post : Int32 → Mem → Prop) (a1 : Int32) (a2 : Int32) (a3 : Int32)  (h : Mem)   : Prop :=
  (wpX7_fail (fun r5 h6 => post r5 h6) h (1 : Int32))
def wpX7_slice (post : Int32 → Mem → Prop) (h : Mem) (a1 : Int32) (a2 : Int32) (a3 : Int32) : Prop :=
  (∀ h1 : Mem, h1 = up2 h 2 0 (0 : Int32) → (wpX7_isPerson (fun r2 => ((r2 = true → (wpX7_isLoaf (fun r7 => ((r7 = true → (vp_in a2 (mlen 11) ∧ (wpX7_isIn (fun r11 => ((r11 = true → (wpX7_tellSlices (fun h15 => ((a3 = (-1 : Int32) → post (h15 41 0) h15) ∧ (¬ a3 = (-1 : Int32) → (vp_in a3 (mlen 39) ∧ post (h15 39 (ix a3)) h15)))) h1 a1 a2)) ∧ (¬ r11 = true → wpBX7_slice_41 post a1 a2 a3  h1 ))) h1 (a3).toInt64 (-1 : Int64) (((h1 11 (ix a2)) - (1 : Int32))).toInt64))) ∧ (¬ r7 = true → wpBX7_slice_41 post a1 a2 a3  h1 ))) h1 a2)) ∧ (¬ r2 = true → wpBX7_slice_41 post a1 a2 a3  h1 ))) h1 a1))
set_option maxHeartbeats 4000000 in
set_option maxRecDepth 100000 in
theorem metX7_slice (l : Launch) (D : va_G) (cA : Nat → ClassId) (z0 : Nat) (E : Nat → Nat → Nat) (ad : Nat → Nat) (h : Mem) (a1 : Int32) (a2 : Int32) (a3 : Int32) (post : Int32 → Mem → Prop) (hw : wpX7_slice post h a1 a2 a3) : MeI l D cA z0 E ad yX7_slice (ws_ yX7_slice cX7_slice 4 (some .int)) ({ frames := 5, cells := 0, slots := 0, locals := 125 }) [.ref (ad 69), .int a1, .int a2, .int a3] h post := by
  refine Met.ofW (cc := cX7_slice) (maxL := 4) (ret := (some .int)) (by decide) rfl ?_
  intro p e s m args below meth c s₁ B hml hv
  obtain ⟨rfl, hM, hK, hJ, hZ⟩ := hv
  have hx := B.exec
  have hb := B.bytes
  have hr := B.returns
  have hts := atoms_spec (ws := ws_ yX7_slice cX7_slice 4 (some .int)) B.pre
  have hts : ∀ w ∈ lw_all, w.before _ s = true := fun w h => hts w (List.mem_cons_of_mem _ h)
  have hown : s.vm.findClass RX7 = some m.cls := findClass_of_methodNamed B.named
  have hlocks := B.notSynchronized
  have hS : va_S (MA ad) s.heap s.heap [] := va_S.rf
  have hl := lv_entry ([.ref (ad 69), .int a1, .int a2, .int a3]) (n := 4) (Nat.le_of_ble_eq_true rfl)
  rw [lg_entry_eq]
  generalize (lg_sl ([.ref (ad 69), .int a1, .int a2, .int a3]) ++ List.replicate (4 - (lg_sl ([.ref (ad 69), .int a1, .int a2, .int a3])).length) Slot.unset).toArray = ls at hl ⊢
  have hl : lv_has ls 4 [(0, .ref (ad 69)), (1, .int a1), (2, .int a2), (3, .int a3)] := hl
  have hB41 : ∀ (h : Mem), wpBX7_slice_41 post a1 a2 a3  h  → JM p l e (headSpec (ws_ yX7_slice cX7_slice 4 (some .int)) ({ frames := 5, cells := 0, slots := 0, locals := 125 })).room s m ([.ref (ad 69), .int a1, .int a2, .int a3] : List Value).toArray below meth c (MQ below (MQi D cA E ad post) ([.ref (ad 69), .int a1, .int a2, .int a3] : List Value).toArray s 0 0 (MA ad)) D cA E ad 4 41 h [(0, .ref (ad 69))] [] := by
    intro h hw H locs ls hM hS hl
    unfold wpBX7_slice_41 at hw
    refine lv_aload_n hx hb dX7_slice_41 rfl (lv_at hl 0 rfl) ?_
    refine lv_iconst (v := (1 : Int32)) hx hb dX7_slice_42 (by decide) ?_
    refine M_callI (As := [.int (1 : Int32)]) (rest := []) ⟨hx, hb, hml, hown, hts⟩ hK hZ hM hJ hS (metX7_fail l D cA z0 E ad h (1 : Int32) _ hw) (cwV 1 hts (lw_V q1903 q1905 qs44 q130 q1906) rfl rfl rfl (by decide +kernel) ⟨Nat.le_of_ble_eq_true rfl, Nat.le_of_ble_eq_true rfl⟩) rfl hl.1 rfl (Nat.le_of_ble_eq_true rfl) dX7_slice_43 ⟨Nat.zero_le _, Nat.zero_le _⟩ (fun r5 h6 H locs hw hM hS => ?_)
    exact M_iret hx hb hr hlocks hM hS hw dX7_slice_46
  unfold wpX7_slice at hw
  refine lv_aload_n hx hb dX7_slice_0 rfl (lv_at hl 0 rfl) ?_
  refine lv_iconst (v := (0 : Int32)) hx hb dX7_slice_1 (by decide) ?_
  refine M_put hx hb hts hown hK hM hJ hS 2 rfl rfl (hts _ q1685) rfl .int (by decide +kernel) rfl rfl dX7_slice_2 (fun H locs hM hS => ?_)
  obtain ⟨h1, eh1⟩ : ∃ y : Mem, y = up2 h 2 0 (0 : Int32) := ⟨_, rfl⟩
  rw [← eh1] at hM
  have hw := hw h1 eh1
  refine lv_aload_n hx hb dX7_slice_5 rfl (lv_at hl 0 rfl) ?_
  refine lv_iload_n hx hb dX7_slice_6 rfl (lv_at hl 1 rfl) ?_
  refine M_callZp (As := [.int a1]) (rest := []) ⟨hx, hb, hml, hown, hts⟩ hK hZ hM hJ hS (metX7_isPerson l D cA z0 E ad h1 a1 _ hw) (cwV 1 hts (lw_V q2055 q2057 qs71 q130 q2058) rfl rfl rfl (by decide +kernel) ⟨Nat.le_of_ble_eq_true rfl, Nat.le_of_ble_eq_true rfl⟩) rfl hl.1 rfl (Nat.le_of_ble_eq_true rfl) dX7_slice_7 ⟨Nat.zero_le _, Nat.zero_le _⟩ (fun r2 H locs hw hM hS => ?_)
  refine lv_if_eq (tgt := 41) hx hb dX7_slice_10 (by decide) (fun c4 => ?_) (fun c4 => ?_)
  · have c4 := b2i_f c4
    have hw := hw.2 c4
    exact hB41 h1 hw _ _ ls hM hS (lv_sub hl [0] rfl)
  · have c4 := b2i_t c4
    have hw := hw.1 c4
    refine lv_aload_n hx hb dX7_slice_13 rfl (lv_at hl 0 rfl) ?_
    refine lv_iload_n hx hb dX7_slice_14 rfl (lv_at hl 2 rfl) ?_
    refine M_callZp (As := [.int a2]) (rest := []) ⟨hx, hb, hml, hown, hts⟩ hK hZ hM hJ hS (metX7_isLoaf l D cA z0 E ad h1 a2 _ hw) (cwV 1 hts (lw_V q2066 q2068 qs72 q130 q2069) rfl rfl rfl (by decide +kernel) ⟨Nat.le_of_ble_eq_true rfl, Nat.le_of_ble_eq_true rfl⟩) rfl hl.1 rfl (Nat.le_of_ble_eq_true rfl) dX7_slice_15 ⟨Nat.zero_le _, Nat.zero_le _⟩ (fun r7 H locs hw hM hS => ?_)
    refine lv_if_eq (tgt := 41) hx hb dX7_slice_18 (by decide) (fun c9 => ?_) (fun c9 => ?_)
    · have c9 := b2i_f c9
      have hw := hw.2 c9
      exact hB41 h1 hw _ _ ls hM hS (lv_sub hl [0] rfl)
    · have c9 := b2i_t c9
      have hw := hw.1 c9
      refine lv_iload_n hx hb dX7_slice_21 rfl (lv_at hl 3 rfl) ?_
      refine lv_i2l (v := (a3).toInt64) hx hb dX7_slice_22 rfl ?_
      refine lv_ldc2 hx hb hown (hts _ q2114) dX7_slice_23 ?_
      refine lv_aload_n hx hb dX7_slice_26 rfl (lv_at hl 0 rfl) ?_
      refine M_get hx hb hts hown hK hM 11 (v := .ref (ad 11)) (by decide) (hts _ q1694) rfl dX7_slice_27 ?_
      refine lv_iload_n hx hb dX7_slice_30 rfl (lv_at hl 2 rfl) ?_
      obtain ⟨hb10, hw⟩ := hw
      refine M_iald hx hb hK hM 11 rfl (j := (ix a2)) rfl hb10 dX7_slice_31 ?_
      refine lv_iconst (v := (1 : Int32)) hx hb dX7_slice_32 (by decide) ?_
      refine lv_isub hx hb dX7_slice_33 ?_
      refine lv_i2l (v := (((h1 11 (ix a2)) - (1 : Int32))).toInt64) hx hb dX7_slice_34 rfl ?_
      refine M_callZSp (As := [.long (a3).toInt64, .long (-1 : Int64), .long (((h1 11 (ix a2)) - (1 : Int32))).toInt64]) (rest := []) ⟨hx, hb, hml, hown, hts⟩ hK hZ hM hJ hS (metX7_isIn l D cA z0 E ad h1 (a3).toInt64 (-1 : Int64) (((h1 11 (ix a2)) - (1 : Int32))).toInt64 _ hw) (va_cwS 3 hts (lw_S q2059 q2060 q130 q2061) rfl rfl rfl (by decide +kernel) ⟨Nat.le_of_ble_eq_true rfl, Nat.le_of_ble_eq_true rfl⟩) rfl hl.1 rfl (Nat.le_of_ble_eq_true rfl) dX7_slice_35 ⟨Nat.zero_le _, Nat.zero_le _⟩ (fun r11 H locs hw hM hS => ?_)
      refine lv_if_ne (tgt := 47) hx hb dX7_slice_38 (by decide) (fun c13 => ?_) (fun c13 => ?_)
      · have c13 := b2i_t c13
        have hw := hw.1 c13
        refine lv_aload_n hx hb dX7_slice_47 rfl (lv_at hl 0 rfl) ?_
        refine lv_iload_n hx hb dX7_slice_48 rfl (lv_at hl 1 rfl) ?_
        refine lv_iload_n hx hb dX7_slice_49 rfl (lv_at hl 2 rfl) ?_
        refine M_callV (As := [.int a1, .int a2]) (rest := []) ⟨hx, hb, hml, hown, hts⟩ hK hZ hM hJ hS (metX7_tellSlices l D cA z0 E ad h1 a1 a2 _ hw) (cwV 2 hts (lw_V q2115 q2117 qs80 q130 q2118) rfl rfl rfl (by decide +kernel) ⟨Nat.le_of_ble_eq_true rfl, Nat.le_of_ble_eq_true rfl⟩) rfl hl.1 rfl (Nat.le_of_ble_eq_true rfl) dX7_slice_50 ⟨Nat.zero_le _, Nat.zero_le _⟩ (fun h15 H locs hw hM hS => ?_)
        refine lv_iload_n hx hb dX7_slice_53 rfl (lv_at hl 3 rfl) ?_
        refine lv_iconst (v := (-1 : Int32)) hx hb dX7_slice_54 (by decide) ?_
        refine lv_icmp_ne (tgt := 65) hx hb dX7_slice_55 (by decide) (fun c16 => ?_) (fun c16 => ?_)
        · have hw := hw.2 c16
          refine lv_aload_n hx hb dX7_slice_65 rfl (lv_at hl 0 rfl) ?_
          refine M_get hx hb hts hown hK hM 39 (v := .ref (ad 39)) (by decide) (hts _ q1722) rfl dX7_slice_66 ?_
          refine lv_iload_n hx hb dX7_slice_69 rfl (lv_at hl 3 rfl) ?_
          obtain ⟨hb17, hw⟩ := hw
          refine M_iald hx hb hK hM 39 rfl (j := (ix a3)) rfl hb17 dX7_slice_70 ?_
          exact M_iret hx hb hr hlocks hM hS hw dX7_slice_71
        · have hw := hw.1 c16
          refine lv_aload_n hx hb dX7_slice_58 rfl (lv_at hl 0 rfl) ?_
          refine M_get hx hb hts hown hK hM 41 (v := .int (h15 41 0)) (by decide) (hts _ q1724) rfl dX7_slice_59 ?_
          refine lv_goto (tgt := 71) hx hb dX7_slice_62 (by decide) ?_
          exact M_iret hx hb hr hlocks hM hS hw dX7_slice_71
      · have c13 := b2i_f c13
        have hw := hw.2 c13
        exact hB41 h1 hw _ _ ls hM hS (lv_sub hl [0] rfl)

/-- pack(II)V -/
def wpBX7_pack_84 (post : Mem → Prop) (k1 : Nat) (a2 : Int32)  (K84 : Mem → Int32 → Prop) (x3 : Int32) (h : Mem) (x4 : Int32) : Prop :=
  (((8 : Int32) ≤ x4 → post h) ∧ (¬ (8 : Int32) ≤ x4 → (vp_in x4 (mlen 28) ∧ (vp_in ((x3 + (6 : Int32)) + x4) (mlen k1) ∧ (∀ h10 : Mem, h10 = up2 h k1 (ix ((x3 + (6 : Int32)) + x4)) (h 28 (ix x4)) → K84 h10 (x4 + (1 : Int32)))))))
def wpLX7_pack_84 (post : Mem → Prop) (k1 : Nat) (a2 : Int32)  (x3 : Int32) : Nat → (Mem × Int32) → Prop := LW (fun K s => wpBX7_pack_84 post k1 a2  (fun h x4 => K (h, x4)) x3 s.1 s.2)
def wpBX7_pack_55 (post : Mem → Prop) (k1 : Nat) (a2 : Int32)  (K55 : Mem → Int32 → Prop) (x3 : Int32) (h : Mem) (x4 : Int32) : Prop :=
  (((6 : Int32) ≤ x4 → (∃ n, wpLX7_pack_84 post k1 a2  x3 n (h, (0 : Int32)))) ∧ (¬ (6 : Int32) ≤ x4 → (vp_in x4 (mlen 27) ∧ (vp_in (x3 + x4) (mlen k1) ∧ (∀ h14 : Mem, h14 = up2 h k1 (ix (x3 + x4)) (h 27 (ix x4)) → K55 h14 (x4 + (1 : Int32)))))))
def wpLX7_pack_55 (post : Mem → Prop) (k1 : Nat) (a2 : Int32)  (x3 : Int32) : Nat → (Mem × Int32) → Prop := LW (fun K s => wpBX7_pack_55 post k1 a2  (fun h x4 => K (h, x4)) x3 s.1 s.2)
def wpBX7_pack_23 (post : Mem → Prop) (k1 : Nat) (a2 : Int32)  (K23 : Mem → Int32 → Prop) (x3 : Int32) (h : Mem) (x4 : Int32) : Prop :=
  (((64 : Int32) ≤ x4 → (∃ n, wpLX7_pack_55 post k1 a2  (x3 + (64 : Int32)) n (h, (0 : Int32)))) ∧ (¬ (64 : Int32) ≤ x4 → (vp_in x4 (mlen 13) ∧ (vp_in (x3 + x4) (mlen k1) ∧ (∀ h18 : Mem, h18 = up2 h k1 (ix (x3 + x4)) (h 13 (ix x4)) → K23 h18 (x4 + (1 : Int32)))))))
def wpLX7_pack_23 (post : Mem → Prop) (k1 : Nat) (a2 : Int32)  (x3 : Int32) : Nat → (Mem × Int32) → Prop := LW (fun K s => wpBX7_pack_23 post k1 a2  (fun h x4 => K (h, x4)) x3 s.1 s.2)
def wpX7_pack (post : Mem → Prop) (h : Mem) (k1 : Nat) (a2 : Int32) : Prop :=
  (vp_in a2 (mlen k1) ∧ (∀ h2 : Mem, h2 = up2 h k1 (ix a2) (h 30 0) → (vp_in (a2 + (1 : Int32)) (mlen k1) ∧ (∀ h4 : Mem, h4 = up2 h2 k1 (ix (a2 + (1 : Int32))) (h2 31 0) → (∃ n, wpLX7_pack_23 post k1 a2  (a2 + (2 : Int32)) n (h4, (0 : Int32)))))))
set_option maxHeartbeats 4000000 in
set_option maxRecDepth 100000 in
theorem metX7_pack (l : Launch) (D : va_G) (cA : Nat → ClassId) (z0 : Nat) (E : Nat → Nat → Nat) (ad : Nat → Nat) (h : Mem) (k1 : Nat) (a2 : Int32) (post : Mem → Prop) (hk1 : marr k1 = true) (hw : wpX7_pack post h k1 a2) : MeV l D cA z0 E ad yX7_pack (ws_ yX7_pack cX7_pack 5 none) ({ frames := 1, cells := 0, slots := 0, locals := 30 }) [.ref (ad 69), .ref (ad k1), .int a2] h post := by
  refine Met.ofW (cc := cX7_pack) (maxL := 5) (ret := none) (by decide) rfl ?_
  intro p e s m args below meth c s₁ B hml hv
  obtain ⟨rfl, hM, hK, hJ, hZ⟩ := hv
  have hx := B.exec
  have hb := B.bytes
  have hr := B.returns
  have hts := atoms_spec (ws := ws_ yX7_pack cX7_pack 5 none) B.pre
  have hts : ∀ w ∈ lw_all, w.before _ s = true := fun w h => hts w (List.mem_cons_of_mem _ h)
  have hown : s.vm.findClass RX7 = some m.cls := findClass_of_methodNamed B.named
  have hlocks := B.notSynchronized
  have hS : va_S (MA ad) s.heap s.heap [] := va_S.rf
  have hl := lv_entry ([.ref (ad 69), .ref (ad k1), .int a2]) (n := 5) (Nat.le_of_ble_eq_true rfl)
  rw [lg_entry_eq]
  generalize (lg_sl ([.ref (ad 69), .ref (ad k1), .int a2]) ++ List.replicate (5 - (lg_sl ([.ref (ad 69), .ref (ad k1), .int a2])).length) Slot.unset).toArray = ls at hl ⊢
  have hl : lv_has ls 5 [(0, .ref (ad 69)), (1, .ref (ad k1)), (2, .int a2)] := hl
  have hL84 : ∀ (x3 : Int32) (n84 : Nat) (h : Mem) (x4 : Int32), wpLX7_pack_84 post k1 a2  x3 n84 (h, x4) → JM p l e (headSpec (ws_ yX7_pack cX7_pack 5 none) ({ frames := 1, cells := 0, slots := 0, locals := 30 })).room s m ([.ref (ad 69), .ref (ad k1), .int a2] : List Value).toArray below meth c (MQ below (MQv D cA E ad post) ([.ref (ad 69), .ref (ad k1), .int a2] : List Value).toArray s 0 0 (MA ad)) D cA E ad 5 84 h [(0, .ref (ad 69)), (1, .ref (ad k1)), (3, .int x3), (4, .int x4)] [] := by
    intro x3 n84
    induction n84 with
    | zero => intro h x4 hw; exact False.elim hw
    | succ n84 ih84 =>
      intro h x4 hw H locs ls hM hS hl
      have hw : wpBX7_pack_84 post k1 a2  (fun h x4 => wpLX7_pack_84 post k1 a2  x3 n84 (h, x4)) x3 h x4 := hw
      unfold wpBX7_pack_84 at hw
      refine lv_iload hx hb dX7_pack_84 (lv_at hl 3 rfl) ?_
      refine lv_bipush (v := (8 : Int32)) hx hb dX7_pack_86 (by decide) ?_
      refine lv_icmp_ge (tgt := 113) hx hb dX7_pack_88 (by decide) (fun c7 => ?_) (fun c7 => ?_)
      · have hw := hw.1 c7
        exact M_vret hx hb hr hlocks hM hS hw dX7_pack_113
      · have hw := hw.2 c7
        refine lv_aload_n hx hb dX7_pack_91 rfl (lv_at hl 1 rfl) ?_
        refine lv_iload_n hx hb dX7_pack_92 rfl (lv_at hl 2 rfl) ?_
        refine lv_bipush (v := (6 : Int32)) hx hb dX7_pack_93 (by decide) ?_
        refine lv_iadd hx hb dX7_pack_95 ?_
        refine lv_iload hx hb dX7_pack_96 (lv_at hl 3 rfl) ?_
        refine lv_iadd hx hb dX7_pack_98 ?_
        refine lv_aload_n hx hb dX7_pack_99 rfl (lv_at hl 0 rfl) ?_
        refine M_get hx hb hts hown hK hM 28 (v := .ref (ad 28)) (by decide) (hts _ q1711) rfl dX7_pack_100 ?_
        refine lv_iload hx hb dX7_pack_103 (lv_at hl 3 rfl) ?_
        obtain ⟨hb8, hw⟩ := hw
        refine M_iald hx hb hK hM 28 rfl (j := (ix x4)) rfl hb8 dX7_pack_105 ?_
        obtain ⟨hb9, hw⟩ := hw
        refine M_iast hx hb hK hM hJ hS k1 hk1 (j := (ix ((x3 + (6 : Int32)) + x4))) rfl hb9 dX7_pack_106 (fun H locs hM hS => ?_)
        obtain ⟨h10, eh10⟩ : ∃ y : Mem, y = up2 h k1 (ix ((x3 + (6 : Int32)) + x4)) (h 28 (ix x4)) := ⟨_, rfl⟩
        rw [← eh10] at hM
        have hw := hw h10 eh10
        refine lv_iinc (v := (x4 + (1 : Int32))) (lv' := [(4, .int (x4 + (1 : Int32))), (0, .ref (ad 69)), (1, .ref (ad k1)), (3, .int x3)]) hx hb dX7_pack_107 hl (k := 3) rfl rfl (by decide) rfl (fun ls hl => ?_)
        refine lv_goto (tgt := 84) hx hb dX7_pack_110 (by decide) ?_
        exact ih84 h10 (x4 + (1 : Int32)) hw _ _ ls hM hS (lv_sub hl [1, 2, 3, 0] rfl)
  have hL55 : ∀ (x3 : Int32) (n55 : Nat) (h : Mem) (x4 : Int32), wpLX7_pack_55 post k1 a2  x3 n55 (h, x4) → JM p l e (headSpec (ws_ yX7_pack cX7_pack 5 none) ({ frames := 1, cells := 0, slots := 0, locals := 30 })).room s m ([.ref (ad 69), .ref (ad k1), .int a2] : List Value).toArray below meth c (MQ below (MQv D cA E ad post) ([.ref (ad 69), .ref (ad k1), .int a2] : List Value).toArray s 0 0 (MA ad)) D cA E ad 5 55 h [(0, .ref (ad 69)), (1, .ref (ad k1)), (3, .int x3), (4, .int x4)] [] := by
    intro x3 n55
    induction n55 with
    | zero => intro h x4 hw; exact False.elim hw
    | succ n55 ih55 =>
      intro h x4 hw H locs ls hM hS hl
      have hw : wpBX7_pack_55 post k1 a2  (fun h x4 => wpLX7_pack_55 post k1 a2  x3 n55 (h, x4)) x3 h x4 := hw
      unfold wpBX7_pack_55 at hw
      refine lv_iload hx hb dX7_pack_55 (lv_at hl 3 rfl) ?_
      refine lv_bipush (v := (6 : Int32)) hx hb dX7_pack_57 (by decide) ?_
      refine lv_icmp_ge (tgt := 81) hx hb dX7_pack_59 (by decide) (fun c6 => ?_) (fun c6 => ?_)
      · have hw := hw.1 c6
        refine lv_iconst (v := (0 : Int32)) hx hb dX7_pack_81 (by decide) ?_
        refine lv_istore (lv' := [(4, .int (0 : Int32)), (0, .ref (ad 69)), (1, .ref (ad k1)), (3, .int x3)]) hx hb dX7_pack_82 hl (by decide) rfl (fun ls hl => ?_)
        obtain ⟨n11, hw⟩ := hw
        exact hL84 x3 n11 h (0 : Int32) hw _ _ ls hM hS (lv_sub hl [1, 2, 3, 0] rfl)
      · have hw := hw.2 c6
        refine lv_aload_n hx hb dX7_pack_62 rfl (lv_at hl 1 rfl) ?_
        refine lv_iload_n hx hb dX7_pack_63 rfl (lv_at hl 2 rfl) ?_
        refine lv_iload hx hb dX7_pack_64 (lv_at hl 3 rfl) ?_
        refine lv_iadd hx hb dX7_pack_66 ?_
        refine lv_aload_n hx hb dX7_pack_67 rfl (lv_at hl 0 rfl) ?_
        refine M_get hx hb hts hown hK hM 27 (v := .ref (ad 27)) (by decide) (hts _ q1710) rfl dX7_pack_68 ?_
        refine lv_iload hx hb dX7_pack_71 (lv_at hl 3 rfl) ?_
        obtain ⟨hb12, hw⟩ := hw
        refine M_iald hx hb hK hM 27 rfl (j := (ix x4)) rfl hb12 dX7_pack_73 ?_
        obtain ⟨hb13, hw⟩ := hw
        refine M_iast hx hb hK hM hJ hS k1 hk1 (j := (ix (x3 + x4))) rfl hb13 dX7_pack_74 (fun H locs hM hS => ?_)
        obtain ⟨h14, eh14⟩ : ∃ y : Mem, y = up2 h k1 (ix (x3 + x4)) (h 27 (ix x4)) := ⟨_, rfl⟩
        rw [← eh14] at hM
        have hw := hw h14 eh14
        refine lv_iinc (v := (x4 + (1 : Int32))) (lv' := [(4, .int (x4 + (1 : Int32))), (0, .ref (ad 69)), (1, .ref (ad k1)), (3, .int x3)]) hx hb dX7_pack_75 hl (k := 3) rfl rfl (by decide) rfl (fun ls hl => ?_)
        refine lv_goto (tgt := 55) hx hb dX7_pack_78 (by decide) ?_
        exact ih55 h14 (x4 + (1 : Int32)) hw _ _ ls hM hS (lv_sub hl [1, 2, 3, 0] rfl)
  have hL23 : ∀ (x3 : Int32) (n23 : Nat) (h : Mem) (x4 : Int32), wpLX7_pack_23 post k1 a2  x3 n23 (h, x4) → JM p l e (headSpec (ws_ yX7_pack cX7_pack 5 none) ({ frames := 1, cells := 0, slots := 0, locals := 30 })).room s m ([.ref (ad 69), .ref (ad k1), .int a2] : List Value).toArray below meth c (MQ below (MQv D cA E ad post) ([.ref (ad 69), .ref (ad k1), .int a2] : List Value).toArray s 0 0 (MA ad)) D cA E ad 5 23 h [(0, .ref (ad 69)), (1, .ref (ad k1)), (3, .int x3), (4, .int x4)] [] := by
    intro x3 n23
    induction n23 with
    | zero => intro h x4 hw; exact False.elim hw
    | succ n23 ih23 =>
      intro h x4 hw H locs ls hM hS hl
      have hw : wpBX7_pack_23 post k1 a2  (fun h x4 => wpLX7_pack_23 post k1 a2  x3 n23 (h, x4)) x3 h x4 := hw
      unfold wpBX7_pack_23 at hw
      refine lv_iload hx hb dX7_pack_23 (lv_at hl 3 rfl) ?_
      refine lv_bipush (v := (64 : Int32)) hx hb dX7_pack_25 (by decide) ?_
      refine lv_icmp_ge (tgt := 49) hx hb dX7_pack_27 (by decide) (fun c5 => ?_) (fun c5 => ?_)
      · have hw := hw.1 c5
        refine lv_iinc (v := (x3 + (64 : Int32))) (lv' := [(3, .int (x3 + (64 : Int32))), (0, .ref (ad 69)), (1, .ref (ad k1)), (4, .int x4)]) hx hb dX7_pack_49 hl (k := 2) rfl rfl (by decide) rfl (fun ls hl => ?_)
        refine lv_iconst (v := (0 : Int32)) hx hb dX7_pack_52 (by decide) ?_
        refine lv_istore (lv' := [(4, .int (0 : Int32)), (3, .int (x3 + (64 : Int32))), (0, .ref (ad 69)), (1, .ref (ad k1))]) hx hb dX7_pack_53 hl (by decide) rfl (fun ls hl => ?_)
        obtain ⟨n15, hw⟩ := hw
        exact hL55 (x3 + (64 : Int32)) n15 h (0 : Int32) hw _ _ ls hM hS (lv_sub hl [2, 3, 1, 0] rfl)
      · have hw := hw.2 c5
        refine lv_aload_n hx hb dX7_pack_30 rfl (lv_at hl 1 rfl) ?_
        refine lv_iload_n hx hb dX7_pack_31 rfl (lv_at hl 2 rfl) ?_
        refine lv_iload hx hb dX7_pack_32 (lv_at hl 3 rfl) ?_
        refine lv_iadd hx hb dX7_pack_34 ?_
        refine lv_aload_n hx hb dX7_pack_35 rfl (lv_at hl 0 rfl) ?_
        refine M_get hx hb hts hown hK hM 13 (v := .ref (ad 13)) (by decide) (hts _ q1696) rfl dX7_pack_36 ?_
        refine lv_iload hx hb dX7_pack_39 (lv_at hl 3 rfl) ?_
        obtain ⟨hb16, hw⟩ := hw
        refine M_iald hx hb hK hM 13 rfl (j := (ix x4)) rfl hb16 dX7_pack_41 ?_
        obtain ⟨hb17, hw⟩ := hw
        refine M_iast hx hb hK hM hJ hS k1 hk1 (j := (ix (x3 + x4))) rfl hb17 dX7_pack_42 (fun H locs hM hS => ?_)
        obtain ⟨h18, eh18⟩ : ∃ y : Mem, y = up2 h k1 (ix (x3 + x4)) (h 13 (ix x4)) := ⟨_, rfl⟩
        rw [← eh18] at hM
        have hw := hw h18 eh18
        refine lv_iinc (v := (x4 + (1 : Int32))) (lv' := [(4, .int (x4 + (1 : Int32))), (0, .ref (ad 69)), (1, .ref (ad k1)), (3, .int x3)]) hx hb dX7_pack_43 hl (k := 3) rfl rfl (by decide) rfl (fun ls hl => ?_)
        refine lv_goto (tgt := 23) hx hb dX7_pack_46 (by decide) ?_
        exact ih23 h18 (x4 + (1 : Int32)) hw _ _ ls hM hS (lv_sub hl [1, 2, 3, 0] rfl)
  unfold wpX7_pack at hw
  refine lv_aload_n hx hb dX7_pack_0 rfl (lv_at hl 1 rfl) ?_
  refine lv_iload_n hx hb dX7_pack_1 rfl (lv_at hl 2 rfl) ?_
  refine lv_aload_n hx hb dX7_pack_2 rfl (lv_at hl 0 rfl) ?_
  refine M_get hx hb hts hown hK hM 30 (v := .int (h 30 0)) (by decide) (hts _ q1713) rfl dX7_pack_3 ?_
  obtain ⟨hb1, hw⟩ := hw
  refine M_iast hx hb hK hM hJ hS k1 hk1 (j := (ix a2)) rfl hb1 dX7_pack_6 (fun H locs hM hS => ?_)
  obtain ⟨h2, eh2⟩ : ∃ y : Mem, y = up2 h k1 (ix a2) (h 30 0) := ⟨_, rfl⟩
  rw [← eh2] at hM
  have hw := hw h2 eh2
  refine lv_aload_n hx hb dX7_pack_7 rfl (lv_at hl 1 rfl) ?_
  refine lv_iload_n hx hb dX7_pack_8 rfl (lv_at hl 2 rfl) ?_
  refine lv_iconst (v := (1 : Int32)) hx hb dX7_pack_9 (by decide) ?_
  refine lv_iadd hx hb dX7_pack_10 ?_
  refine lv_aload_n hx hb dX7_pack_11 rfl (lv_at hl 0 rfl) ?_
  refine M_get hx hb hts hown hK hM 31 (v := .int (h2 31 0)) (by decide) (hts _ q1714) rfl dX7_pack_12 ?_
  obtain ⟨hb3, hw⟩ := hw
  refine M_iast hx hb hK hM hJ hS k1 hk1 (j := (ix (a2 + (1 : Int32)))) rfl hb3 dX7_pack_15 (fun H locs hM hS => ?_)
  obtain ⟨h4, eh4⟩ : ∃ y : Mem, y = up2 h2 k1 (ix (a2 + (1 : Int32))) (h2 31 0) := ⟨_, rfl⟩
  rw [← eh4] at hM
  have hw := hw h4 eh4
  refine lv_iload_n hx hb dX7_pack_16 rfl (lv_at hl 2 rfl) ?_
  refine lv_iconst (v := (2 : Int32)) hx hb dX7_pack_17 (by decide) ?_
  refine lv_iadd hx hb dX7_pack_18 ?_
  refine lv_istore_n (lv' := [(3, .int (a2 + (2 : Int32))), (0, .ref (ad 69)), (1, .ref (ad k1)), (2, .int a2)]) hx hb dX7_pack_19 rfl hl (by decide) rfl (fun ls hl => ?_)
  refine lv_iconst (v := (0 : Int32)) hx hb dX7_pack_20 (by decide) ?_
  refine lv_istore (lv' := [(4, .int (0 : Int32)), (3, .int (a2 + (2 : Int32))), (0, .ref (ad 69)), (1, .ref (ad k1)), (2, .int a2)]) hx hb dX7_pack_21 hl (by decide) rfl (fun ls hl => ?_)
  obtain ⟨n19, hw⟩ := hw
  exact hL23 (a2 + (2 : Int32)) n19 h4 (0 : Int32) hw _ _ ls hM hS (lv_sub hl [2, 3, 1, 0] rfl)

/-- keep()V -/
def wpBX7_keep_52 (post : Mem → Prop)   (h : Mem)   : Prop :=
  (wpX7_pack (fun h3 => (∀ h4 : Mem, h4 = up2 h3 32 0 ((h3 32 0) + (1 : Int32)) → post h4)) h 29 ((80 : Int32) * (h 32 0)))
def wpBX7_keep_12 (post : Mem → Prop)   (K12 : Mem → Int32 → Prop)  (h : Mem) (x1 : Int32) : Prop :=
  (((nI (mlen 29)) ≤ x1 → (∀ h6 : Mem, h6 = up2 h 32 0 ((h 32 0) - (1 : Int32)) → wpBX7_keep_52 post   h6 )) ∧ (¬ (nI (mlen 29)) ≤ x1 → (vp_in x1 (mlen 29) ∧ (vp_in (x1 - (80 : Int32)) (mlen 29) ∧ (∀ h9 : Mem, h9 = up2 h 29 (ix (x1 - (80 : Int32))) (h 29 (ix x1)) → K12 h9 (x1 + (1 : Int32)))))))
def wpLX7_keep_12 (post : Mem → Prop)    : Nat → (Mem × Int32) → Prop := LW (fun K s => wpBX7_keep_12 post   (fun h x1 => K (h, x1))  s.1 s.2)
def wpX7_keep (post : Mem → Prop) (h : Mem)  : Prop :=
  (((h 32 0) = (40 : Int32) → (∃ n, wpLX7_keep_12 post    n (h, (80 : Int32)))) ∧ (¬ (h 32 0) = (40 : Int32) → wpBX7_keep_52 post   h ))
set_option maxHeartbeats 4000000 in
set_option maxRecDepth 100000 in
theorem metX7_keep (l : Launch) (D : va_G) (cA : Nat → ClassId) (z0 : Nat) (E : Nat → Nat → Nat) (ad : Nat → Nat) (h : Mem)  (post : Mem → Prop) (hw : wpX7_keep post h ) : MeV l D cA z0 E ad yX7_keep (ws_ yX7_keep cX7_keep 2 none) ({ frames := 2, cells := 0, slots := 0, locals := 54 }) [.ref (ad 69)] h post := by
  refine Met.ofW (cc := cX7_keep) (maxL := 2) (ret := none) (by decide) rfl ?_
  intro p e s m args below meth c s₁ B hml hv
  obtain ⟨rfl, hM, hK, hJ, hZ⟩ := hv
  have hx := B.exec
  have hb := B.bytes
  have hr := B.returns
  have hts := atoms_spec (ws := ws_ yX7_keep cX7_keep 2 none) B.pre
  have hts : ∀ w ∈ lw_all, w.before _ s = true := fun w h => hts w (List.mem_cons_of_mem _ h)
  have hown : s.vm.findClass RX7 = some m.cls := findClass_of_methodNamed B.named
  have hlocks := B.notSynchronized
  have hS : va_S (MA ad) s.heap s.heap [] := va_S.rf
  have hl := lv_entry ([.ref (ad 69)]) (n := 2) (Nat.le_of_ble_eq_true rfl)
  rw [lg_entry_eq]
  generalize (lg_sl ([.ref (ad 69)]) ++ List.replicate (2 - (lg_sl ([.ref (ad 69)])).length) Slot.unset).toArray = ls at hl ⊢
  have hl : lv_has ls 2 [(0, .ref (ad 69))] := hl
  have hB52 : ∀ (h : Mem), wpBX7_keep_52 post   h  → JM p l e (headSpec (ws_ yX7_keep cX7_keep 2 none) ({ frames := 2, cells := 0, slots := 0, locals := 54 })).room s m ([.ref (ad 69)] : List Value).toArray below meth c (MQ below (MQv D cA E ad post) ([.ref (ad 69)] : List Value).toArray s 0 0 (MA ad)) D cA E ad 2 52 h [(0, .ref (ad 69))] [] := by
    intro h hw H locs ls hM hS hl
    unfold wpBX7_keep_52 at hw
    refine lv_aload_n hx hb dX7_keep_52 rfl (lv_at hl 0 rfl) ?_
    refine lv_aload_n hx hb dX7_keep_53 rfl (lv_at hl 0 rfl) ?_
    refine M_get hx hb hts hown hK hM 29 (v := .ref (ad 29)) (by decide) (hts _ q1712) rfl dX7_keep_54 ?_
    refine lv_bipush (v := (80 : Int32)) hx hb dX7_keep_57 (by decide) ?_
    refine lv_aload_n hx hb dX7_keep_59 rfl (lv_at hl 0 rfl) ?_
    refine M_get hx hb hts hown hK hM 32 (v := .int (h 32 0)) (by decide) (hts _ q1715) rfl dX7_keep_60 ?_
    refine lv_imul hx hb dX7_keep_63 ?_
    refine M_callV (As := [.ref (ad 29), .int ((80 : Int32) * (h 32 0))]) (rest := []) ⟨hx, hb, hml, hown, hts⟩ hK hZ hM hJ hS (metX7_pack l D cA z0 E ad h 29 ((80 : Int32) * (h 32 0)) _ (by first | exact rfl | rfl) hw) (cwV 2 hts (lw_V q2138 q2140 qs84 q130 q2141) rfl rfl rfl (by decide +kernel) ⟨Nat.le_of_ble_eq_true rfl, Nat.le_of_ble_eq_true rfl⟩) rfl hl.1 rfl (Nat.le_of_ble_eq_true rfl) dX7_keep_64 ⟨Nat.zero_le _, Nat.zero_le _⟩ (fun h3 H locs hw hM hS => ?_)
    refine lv_aload_n hx hb dX7_keep_67 rfl (lv_at hl 0 rfl) ?_
    refine lv_dup hx hb dX7_keep_68 rfl ?_
    refine M_get hx hb hts hown hK hM 32 (v := .int (h3 32 0)) (by decide) (hts _ q1715) rfl dX7_keep_69 ?_
    refine lv_iconst (v := (1 : Int32)) hx hb dX7_keep_72 (by decide) ?_
    refine lv_iadd hx hb dX7_keep_73 ?_
    refine M_put hx hb hts hown hK hM hJ hS 32 rfl rfl (hts _ q1715) rfl .int (by decide +kernel) rfl rfl dX7_keep_74 (fun H locs hM hS => ?_)
    obtain ⟨h4, eh4⟩ : ∃ y : Mem, y = up2 h3 32 0 ((h3 32 0) + (1 : Int32)) := ⟨_, rfl⟩
    rw [← eh4] at hM
    have hw := hw h4 eh4
    exact M_vret hx hb hr hlocks hM hS hw dX7_keep_77
  have hL12 : ∀  (n12 : Nat) (h : Mem) (x1 : Int32), wpLX7_keep_12 post    n12 (h, x1) → JM p l e (headSpec (ws_ yX7_keep cX7_keep 2 none) ({ frames := 2, cells := 0, slots := 0, locals := 54 })).room s m ([.ref (ad 69)] : List Value).toArray below meth c (MQ below (MQv D cA E ad post) ([.ref (ad 69)] : List Value).toArray s 0 0 (MA ad)) D cA E ad 2 12 h [(0, .ref (ad 69)), (1, .int x1)] [] := by
    intro  n12
    induction n12 with
    | zero => intro h x1 hw; exact False.elim hw
    | succ n12 ih12 =>
      intro h x1 hw H locs ls hM hS hl
      have hw : wpBX7_keep_12 post   (fun h x1 => wpLX7_keep_12 post    n12 (h, x1))  h x1 := hw
      unfold wpBX7_keep_12 at hw
      refine lv_iload_n hx hb dX7_keep_12 rfl (lv_at hl 1 rfl) ?_
      refine lv_aload_n hx hb dX7_keep_13 rfl (lv_at hl 0 rfl) ?_
      refine M_get hx hb hts hown hK hM 29 (v := .ref (ad 29)) (by decide) (hts _ q1712) rfl dX7_keep_14 ?_
      refine M_alen hx hb hK hM 29 rfl dX7_keep_17 ?_
      refine lv_icmp_ge (tgt := 42) hx hb dX7_keep_18 (by decide) (fun c5 => ?_) (fun c5 => ?_)
      · have hw := hw.1 c5
        refine lv_aload_n hx hb dX7_keep_42 rfl (lv_at hl 0 rfl) ?_
        refine lv_dup hx hb dX7_keep_43 rfl ?_
        refine M_get hx hb hts hown hK hM 32 (v := .int (h 32 0)) (by decide) (hts _ q1715) rfl dX7_keep_44 ?_
        refine lv_iconst (v := (1 : Int32)) hx hb dX7_keep_47 (by decide) ?_
        refine lv_isub hx hb dX7_keep_48 ?_
        refine M_put hx hb hts hown hK hM hJ hS 32 rfl rfl (hts _ q1715) rfl .int (by decide +kernel) rfl rfl dX7_keep_49 (fun H locs hM hS => ?_)
        obtain ⟨h6, eh6⟩ : ∃ y : Mem, y = up2 h 32 0 ((h 32 0) - (1 : Int32)) := ⟨_, rfl⟩
        rw [← eh6] at hM
        have hw := hw h6 eh6
        exact hB52 h6 hw _ _ ls hM hS (lv_sub hl [0] rfl)
      · have hw := hw.2 c5
        refine lv_aload_n hx hb dX7_keep_21 rfl (lv_at hl 0 rfl) ?_
        refine M_get hx hb hts hown hK hM 29 (v := .ref (ad 29)) (by decide) (hts _ q1712) rfl dX7_keep_22 ?_
        refine lv_iload_n hx hb dX7_keep_25 rfl (lv_at hl 1 rfl) ?_
        refine lv_bipush (v := (80 : Int32)) hx hb dX7_keep_26 (by decide) ?_
        refine lv_isub hx hb dX7_keep_28 ?_
        refine lv_aload_n hx hb dX7_keep_29 rfl (lv_at hl 0 rfl) ?_
        refine M_get hx hb hts hown hK hM 29 (v := .ref (ad 29)) (by decide) (hts _ q1712) rfl dX7_keep_30 ?_
        refine lv_iload_n hx hb dX7_keep_33 rfl (lv_at hl 1 rfl) ?_
        obtain ⟨hb7, hw⟩ := hw
        refine M_iald hx hb hK hM 29 rfl (j := (ix x1)) rfl hb7 dX7_keep_34 ?_
        obtain ⟨hb8, hw⟩ := hw
        refine M_iast hx hb hK hM hJ hS 29 rfl (j := (ix (x1 - (80 : Int32)))) rfl hb8 dX7_keep_35 (fun H locs hM hS => ?_)
        obtain ⟨h9, eh9⟩ : ∃ y : Mem, y = up2 h 29 (ix (x1 - (80 : Int32))) (h 29 (ix x1)) := ⟨_, rfl⟩
        rw [← eh9] at hM
        have hw := hw h9 eh9
        refine lv_iinc (v := (x1 + (1 : Int32))) (lv' := [(1, .int (x1 + (1 : Int32))), (0, .ref (ad 69))]) hx hb dX7_keep_36 hl (k := 1) rfl rfl (by decide) rfl (fun ls hl => ?_)
        refine lv_goto (tgt := 12) hx hb dX7_keep_39 (by decide) ?_
        exact ih12 h9 (x1 + (1 : Int32)) hw _ _ ls hM hS (lv_sub hl [1, 0] rfl)
  unfold wpX7_keep at hw
  refine lv_aload_n hx hb dX7_keep_0 rfl (lv_at hl 0 rfl) ?_
  refine M_get hx hb hts hown hK hM 32 (v := .int (h 32 0)) (by decide) (hts _ q1715) rfl dX7_keep_1 ?_
  refine lv_bipush (v := (40 : Int32)) hx hb dX7_keep_4 (by decide) ?_
  refine lv_icmp_ne (tgt := 52) hx hb dX7_keep_6 (by decide) (fun c1 => ?_) (fun c1 => ?_)
  · have hw := hw.2 c1
    exact hB52 h hw _ _ ls hM hS (lv_sub hl [0] rfl)
  · have hw := hw.1 c1
    refine lv_bipush (v := (80 : Int32)) hx hb dX7_keep_9 (by decide) ?_
    refine lv_istore_n (lv' := [(1, .int (80 : Int32)), (0, .ref (ad 69))]) hx hb dX7_keep_11 rfl hl (by decide) rfl (fun ls hl => ?_)
    obtain ⟨n10, hw⟩ := hw
    exact hL12 n10 h (80 : Int32) hw _ _ ls hM hS (lv_sub hl [1, 0] rfl)

/-- cut(II)Z -/
def wpBX7_cut_21 (post : Bool → Mem → Prop) (a1 : Int32) (a2 : Int32)  (h : Mem)   : Prop :=
  (wpX7_failing (fun r5 h6 => post r5 h6) h (1 : Int32))
def wpX7_cut (post : Bool → Mem → Prop) (h : Mem) (a1 : Int32) (a2 : Int32) : Prop :=
  (∀ h1 : Mem, h1 = up2 h 2 0 (0 : Int32) → (wpX7_isPerson (fun r2 => ((r2 = true → (wpX7_isLoaf (fun r7 => ((r7 = true → (wpX7_mayNow (fun r10 => ((r10 = 0 → (wpX7_keep (fun h14 => (vp_in a2 (mlen 27) ∧ (∀ h16 : Mem, h16 = up2 h14 27 (ix a2) a1 → post true h16))) h1 )) ∧ (¬ r10 = 0 → (∀ h17 : Mem, h17 = up2 h1 15 1 ((h1 15 1) + (1 : Int32)) → post false h17)))) h1 a1 a2)) ∧ (¬ r7 = true → wpBX7_cut_21 post a1 a2  h1 ))) h1 a2)) ∧ (¬ r2 = true → wpBX7_cut_21 post a1 a2  h1 ))) h1 a1))
set_option maxHeartbeats 4000000 in
set_option maxRecDepth 100000 in
theorem metX7_cut (l : Launch) (D : va_G) (cA : Nat → ClassId) (z0 : Nat) (E : Nat → Nat → Nat) (ad : Nat → Nat) (h : Mem) (a1 : Int32) (a2 : Int32) (post : Bool → Mem → Prop) (hw : wpX7_cut post h a1 a2) : MeZ l D cA z0 E ad yX7_cut (ws_ yX7_cut cX7_cut 3 (some .boolean)) ({ frames := 6, cells := 0, slots := 0, locals := 145 }) [.ref (ad 69), .int a1, .int a2] h post := by
  refine Met.ofW (cc := cX7_cut) (maxL := 3) (ret := (some .boolean)) (by decide) rfl ?_
  intro p e s m args below meth c s₁ B hml hv
  obtain ⟨rfl, hM, hK, hJ, hZ⟩ := hv
  have hx := B.exec
  have hb := B.bytes
  have hr := B.returns
  have hts := atoms_spec (ws := ws_ yX7_cut cX7_cut 3 (some .boolean)) B.pre
  have hts : ∀ w ∈ lw_all, w.before _ s = true := fun w h => hts w (List.mem_cons_of_mem _ h)
  have hown : s.vm.findClass RX7 = some m.cls := findClass_of_methodNamed B.named
  have hlocks := B.notSynchronized
  have hS : va_S (MA ad) s.heap s.heap [] := va_S.rf
  have hl := lv_entry ([.ref (ad 69), .int a1, .int a2]) (n := 3) (Nat.le_of_ble_eq_true rfl)
  rw [lg_entry_eq]
  generalize (lg_sl ([.ref (ad 69), .int a1, .int a2]) ++ List.replicate (3 - (lg_sl ([.ref (ad 69), .int a1, .int a2])).length) Slot.unset).toArray = ls at hl ⊢
  have hl : lv_has ls 3 [(0, .ref (ad 69)), (1, .int a1), (2, .int a2)] := hl
  have hB21 : ∀ (h : Mem), wpBX7_cut_21 post a1 a2  h  → JM p l e (headSpec (ws_ yX7_cut cX7_cut 3 (some .boolean)) ({ frames := 6, cells := 0, slots := 0, locals := 145 })).room s m ([.ref (ad 69), .int a1, .int a2] : List Value).toArray below meth c (MQ below (MQz D cA E ad post) ([.ref (ad 69), .int a1, .int a2] : List Value).toArray s 0 0 (MA ad)) D cA E ad 3 21 h [(0, .ref (ad 69))] [] := by
    intro h hw H locs ls hM hS hl
    unfold wpBX7_cut_21 at hw
    refine lv_aload_n hx hb dX7_cut_21 rfl (lv_at hl 0 rfl) ?_
    refine lv_iconst (v := (1 : Int32)) hx hb dX7_cut_22 (by decide) ?_
    refine M_callZ (As := [.int (1 : Int32)]) (rest := []) ⟨hx, hb, hml, hown, hts⟩ hK hZ hM hJ hS (metX7_failing l D cA z0 E ad h (1 : Int32) _ hw) (cwV 1 hts (lw_V q2102 q2104 qs79 q130 q2105) rfl rfl rfl (by decide +kernel) ⟨Nat.le_of_ble_eq_true rfl, Nat.le_of_ble_eq_true rfl⟩) rfl hl.1 rfl (Nat.le_of_ble_eq_true rfl) dX7_cut_23 ⟨Nat.zero_le _, Nat.zero_le _⟩ (fun r5 h6 H locs hw hM hS => ?_)
    exact M_zret hx hb hr hlocks hM hS ⟨_, rfl, hw⟩ dX7_cut_26
  unfold wpX7_cut at hw
  refine lv_aload_n hx hb dX7_cut_0 rfl (lv_at hl 0 rfl) ?_
  refine lv_iconst (v := (0 : Int32)) hx hb dX7_cut_1 (by decide) ?_
  refine M_put hx hb hts hown hK hM hJ hS 2 rfl rfl (hts _ q1685) rfl .int (by decide +kernel) rfl rfl dX7_cut_2 (fun H locs hM hS => ?_)
  obtain ⟨h1, eh1⟩ : ∃ y : Mem, y = up2 h 2 0 (0 : Int32) := ⟨_, rfl⟩
  rw [← eh1] at hM
  have hw := hw h1 eh1
  refine lv_aload_n hx hb dX7_cut_5 rfl (lv_at hl 0 rfl) ?_
  refine lv_iload_n hx hb dX7_cut_6 rfl (lv_at hl 1 rfl) ?_
  refine M_callZp (As := [.int a1]) (rest := []) ⟨hx, hb, hml, hown, hts⟩ hK hZ hM hJ hS (metX7_isPerson l D cA z0 E ad h1 a1 _ hw) (cwV 1 hts (lw_V q2055 q2057 qs71 q130 q2058) rfl rfl rfl (by decide +kernel) ⟨Nat.le_of_ble_eq_true rfl, Nat.le_of_ble_eq_true rfl⟩) rfl hl.1 rfl (Nat.le_of_ble_eq_true rfl) dX7_cut_7 ⟨Nat.zero_le _, Nat.zero_le _⟩ (fun r2 H locs hw hM hS => ?_)
  refine lv_if_eq (tgt := 21) hx hb dX7_cut_10 (by decide) (fun c4 => ?_) (fun c4 => ?_)
  · have c4 := b2i_f c4
    have hw := hw.2 c4
    exact hB21 h1 hw _ _ ls hM hS (lv_sub hl [0] rfl)
  · have c4 := b2i_t c4
    have hw := hw.1 c4
    refine lv_aload_n hx hb dX7_cut_13 rfl (lv_at hl 0 rfl) ?_
    refine lv_iload_n hx hb dX7_cut_14 rfl (lv_at hl 2 rfl) ?_
    refine M_callZp (As := [.int a2]) (rest := []) ⟨hx, hb, hml, hown, hts⟩ hK hZ hM hJ hS (metX7_isLoaf l D cA z0 E ad h1 a2 _ hw) (cwV 1 hts (lw_V q2066 q2068 qs72 q130 q2069) rfl rfl rfl (by decide +kernel) ⟨Nat.le_of_ble_eq_true rfl, Nat.le_of_ble_eq_true rfl⟩) rfl hl.1 rfl (Nat.le_of_ble_eq_true rfl) dX7_cut_15 ⟨Nat.zero_le _, Nat.zero_le _⟩ (fun r7 H locs hw hM hS => ?_)
    refine lv_if_ne (tgt := 27) hx hb dX7_cut_18 (by decide) (fun c9 => ?_) (fun c9 => ?_)
    · have c9 := b2i_t c9
      have hw := hw.1 c9
      refine lv_aload_n hx hb dX7_cut_27 rfl (lv_at hl 0 rfl) ?_
      refine lv_iload_n hx hb dX7_cut_28 rfl (lv_at hl 1 rfl) ?_
      refine lv_iload_n hx hb dX7_cut_29 rfl (lv_at hl 2 rfl) ?_
      refine M_callIp (As := [.int a1, .int a2]) (rest := []) ⟨hx, hb, hml, hown, hts⟩ hK hZ hM hJ hS (metX7_mayNow l D cA z0 E ad h1 a1 a2 _ hw) (cwV 2 hts (lw_V q2082 q2084 qs76 q130 q2085) rfl rfl rfl (by decide +kernel) ⟨Nat.le_of_ble_eq_true rfl, Nat.le_of_ble_eq_true rfl⟩) rfl hl.1 rfl (Nat.le_of_ble_eq_true rfl) dX7_cut_30 ⟨Nat.zero_le _, Nat.zero_le _⟩ (fun r10 H locs hw hM hS => ?_)
      refine lv_if_eq (tgt := 48) hx hb dX7_cut_33 (by decide) (fun c12 => ?_) (fun c12 => ?_)
      · have hw := hw.1 c12
        refine lv_aload_n hx hb dX7_cut_48 rfl (lv_at hl 0 rfl) ?_
        refine M_callV (As := []) (rest := []) ⟨hx, hb, hml, hown, hts⟩ hK hZ hM hJ hS (metX7_keep l D cA z0 E ad h1  _ hw) (cwV 0 hts (lw_V q2134 q2136 qs83 q130 q2137) rfl rfl rfl (by decide +kernel) ⟨Nat.le_of_ble_eq_true rfl, Nat.le_of_ble_eq_true rfl⟩) rfl hl.1 rfl (Nat.le_of_ble_eq_true rfl) dX7_cut_49 ⟨Nat.zero_le _, Nat.zero_le _⟩ (fun h14 H locs hw hM hS => ?_)
        refine lv_aload_n hx hb dX7_cut_52 rfl (lv_at hl 0 rfl) ?_
        refine M_get hx hb hts hown hK hM 27 (v := .ref (ad 27)) (by decide) (hts _ q1710) rfl dX7_cut_53 ?_
        refine lv_iload_n hx hb dX7_cut_56 rfl (lv_at hl 2 rfl) ?_
        refine lv_iload_n hx hb dX7_cut_57 rfl (lv_at hl 1 rfl) ?_
        obtain ⟨hb15, hw⟩ := hw
        refine M_iast hx hb hK hM hJ hS 27 rfl (j := (ix a2)) rfl hb15 dX7_cut_58 (fun H locs hM hS => ?_)
        obtain ⟨h16, eh16⟩ : ∃ y : Mem, y = up2 h14 27 (ix a2) a1 := ⟨_, rfl⟩
        rw [← eh16] at hM
        have hw := hw h16 eh16
        refine lv_iconst (v := (1 : Int32)) hx hb dX7_cut_59 (by decide) ?_
        exact M_zret hx hb hr hlocks hM hS ⟨_, rfl, hw⟩ dX7_cut_60
      · have hw := hw.2 c12
        refine lv_aload_n hx hb dX7_cut_36 rfl (lv_at hl 0 rfl) ?_
        refine M_get hx hb hts hown hK hM 15 (v := .ref (ad 15)) (by decide) (hts _ q1698) rfl dX7_cut_37 ?_
        refine lv_iconst (v := (1 : Int32)) hx hb dX7_cut_40 (by decide) ?_
        refine lv_dup2_11 hx hb dX7_cut_41 rfl rfl ?_
        refine M_iald hx hb hK hM 15 rfl (j := 1) rfl (by unfold vp_in; decide) dX7_cut_42 ?_
        refine lv_iconst (v := (1 : Int32)) hx hb dX7_cut_43 (by decide) ?_
        refine lv_iadd hx hb dX7_cut_44 ?_
        refine M_iast hx hb hK hM hJ hS 15 rfl (j := 1) rfl (by unfold vp_in; decide) dX7_cut_45 (fun H locs hM hS => ?_)
        obtain ⟨h17, eh17⟩ : ∃ y : Mem, y = up2 h1 15 1 ((h1 15 1) + (1 : Int32)) := ⟨_, rfl⟩
        rw [← eh17] at hM
        have hw := hw h17 eh17
        refine lv_iconst (v := (0 : Int32)) hx hb dX7_cut_46 (by decide) ?_
        exact M_zret hx hb hr hlocks hM hS ⟨_, rfl, hw⟩ dX7_cut_47
    · have c9 := b2i_f c9
      have hw := hw.2 c9
      exact hB21 h1 hw _ _ ls hM hS (lv_sub hl [0] rfl)

/-- meet(III)V -/
def wpX7_meet (post : Mem → Prop) (h : Mem) (a1 : Int32) (a2 : Int32) (a3 : Int32) : Prop :=
  (wpX7_couple (fun r1 => (vp_in r1 (mlen 13) ∧ (∀ h4 : Mem, h4 = up2 h 13 (ix r1) a3 → (wpX7_couple (fun r5 => (vp_in r5 (mlen 13) ∧ (∀ h8 : Mem, h8 = up2 h4 13 (ix r5) a3 → post h8))) h4 a2 a1)))) h a1 a2)
set_option maxHeartbeats 4000000 in
set_option maxRecDepth 100000 in
theorem metX7_meet (l : Launch) (D : va_G) (cA : Nat → ClassId) (z0 : Nat) (E : Nat → Nat → Nat) (ad : Nat → Nat) (h : Mem) (a1 : Int32) (a2 : Int32) (a3 : Int32) (post : Mem → Prop) (hw : wpX7_meet post h a1 a2 a3) : MeV l D cA z0 E ad yX7_meet (ws_ yX7_meet cX7_meet 4 none) ({ frames := 2, cells := 0, slots := 0, locals := 51 }) [.ref (ad 69), .int a1, .int a2, .int a3] h post := by
  refine Met.ofW (cc := cX7_meet) (maxL := 4) (ret := none) (by decide) rfl ?_
  intro p e s m args below meth c s₁ B hml hv
  obtain ⟨rfl, hM, hK, hJ, hZ⟩ := hv
  have hx := B.exec
  have hb := B.bytes
  have hr := B.returns
  have hts := atoms_spec (ws := ws_ yX7_meet cX7_meet 4 none) B.pre
  have hts : ∀ w ∈ lw_all, w.before _ s = true := fun w h => hts w (List.mem_cons_of_mem _ h)
  have hown : s.vm.findClass RX7 = some m.cls := findClass_of_methodNamed B.named
  have hlocks := B.notSynchronized
  have hS : va_S (MA ad) s.heap s.heap [] := va_S.rf
  have hl := lv_entry ([.ref (ad 69), .int a1, .int a2, .int a3]) (n := 4) (Nat.le_of_ble_eq_true rfl)
  rw [lg_entry_eq]
  generalize (lg_sl ([.ref (ad 69), .int a1, .int a2, .int a3]) ++ List.replicate (4 - (lg_sl ([.ref (ad 69), .int a1, .int a2, .int a3])).length) Slot.unset).toArray = ls at hl ⊢
  have hl : lv_has ls 4 [(0, .ref (ad 69)), (1, .int a1), (2, .int a2), (3, .int a3)] := hl
  unfold wpX7_meet at hw
  refine lv_aload_n hx hb dX7_meet_0 rfl (lv_at hl 0 rfl) ?_
  refine M_get hx hb hts hown hK hM 13 (v := .ref (ad 13)) (by decide) (hts _ q1696) rfl dX7_meet_1 ?_
  refine lv_iload_n hx hb dX7_meet_4 rfl (lv_at hl 1 rfl) ?_
  refine lv_iload_n hx hb dX7_meet_5 rfl (lv_at hl 2 rfl) ?_
  refine M_callISp (As := [.int a1, .int a2]) (rest := [.ref (ad 13)]) ⟨hx, hb, hml, hown, hts⟩ hK hZ hM hJ hS (metX7_couple l D cA z0 E ad h a1 a2 _ hw) (va_cwS 2 hts (lw_S q2016 q2017 q130 q2018) rfl rfl rfl (by decide +kernel) ⟨Nat.le_of_ble_eq_true rfl, Nat.le_of_ble_eq_true rfl⟩) rfl hl.1 rfl (Nat.le_of_ble_eq_true rfl) dX7_meet_6 ⟨Nat.zero_le _, Nat.zero_le _⟩ (fun r1 H locs hw hM hS => ?_)
  refine lv_iload_n hx hb dX7_meet_9 rfl (lv_at hl 3 rfl) ?_
  obtain ⟨hb3, hw⟩ := hw
  refine M_iast hx hb hK hM hJ hS 13 rfl (j := (ix r1)) rfl hb3 dX7_meet_10 (fun H locs hM hS => ?_)
  obtain ⟨h4, eh4⟩ : ∃ y : Mem, y = up2 h 13 (ix r1) a3 := ⟨_, rfl⟩
  rw [← eh4] at hM
  have hw := hw h4 eh4
  refine lv_aload_n hx hb dX7_meet_11 rfl (lv_at hl 0 rfl) ?_
  refine M_get hx hb hts hown hK hM 13 (v := .ref (ad 13)) (by decide) (hts _ q1696) rfl dX7_meet_12 ?_
  refine lv_iload_n hx hb dX7_meet_15 rfl (lv_at hl 2 rfl) ?_
  refine lv_iload_n hx hb dX7_meet_16 rfl (lv_at hl 1 rfl) ?_
  refine M_callISp (As := [.int a2, .int a1]) (rest := [.ref (ad 13)]) ⟨hx, hb, hml, hown, hts⟩ hK hZ hM hJ hS (metX7_couple l D cA z0 E ad h4 a2 a1 _ hw) (va_cwS 2 hts (lw_S q2016 q2017 q130 q2018) rfl rfl rfl (by decide +kernel) ⟨Nat.le_of_ble_eq_true rfl, Nat.le_of_ble_eq_true rfl⟩) rfl hl.1 rfl (Nat.le_of_ble_eq_true rfl) dX7_meet_17 ⟨Nat.zero_le _, Nat.zero_le _⟩ (fun r5 H locs hw hM hS => ?_)
  refine lv_iload_n hx hb dX7_meet_20 rfl (lv_at hl 3 rfl) ?_
  obtain ⟨hb7, hw⟩ := hw
  refine M_iast hx hb hK hM hJ hS 13 rfl (j := (ix r5)) rfl hb7 dX7_meet_21 (fun H locs hM hS => ?_)
  obtain ⟨h8, eh8⟩ : ∃ y : Mem, y = up2 h4 13 (ix r5) a3 := ⟨_, rfl⟩
  rw [← eh8] at hM
  have hw := hw h8 eh8
  exact M_vret hx hb hr hlocks hM hS hw dX7_meet_22

/-- refuse(I)I -/
def wpX7_refuse (post : Int32 → Mem → Prop) (h : Mem) (a1 : Int32) : Prop :=
  (vp_in a1 (mlen 15) ∧ (∀ h2 : Mem, h2 = up2 h 15 (ix a1) ((h 15 (ix a1)) + (1 : Int32)) → post (-1 : Int32) h2))
set_option maxHeartbeats 4000000 in
set_option maxRecDepth 100000 in
theorem metX7_refuse (l : Launch) (D : va_G) (cA : Nat → ClassId) (z0 : Nat) (E : Nat → Nat → Nat) (ad : Nat → Nat) (h : Mem) (a1 : Int32) (post : Int32 → Mem → Prop) (hw : wpX7_refuse post h a1) : MeI l D cA z0 E ad yX7_refuse (ws_ yX7_refuse cX7_refuse 2 (some .int)) ({ frames := 1, cells := 0, slots := 0, locals := 30 }) [.ref (ad 69), .int a1] h post := by
  refine Met.ofW (cc := cX7_refuse) (maxL := 2) (ret := (some .int)) (by decide) rfl ?_
  intro p e s m args below meth c s₁ B hml hv
  obtain ⟨rfl, hM, hK, hJ, hZ⟩ := hv
  have hx := B.exec
  have hb := B.bytes
  have hr := B.returns
  have hts := atoms_spec (ws := ws_ yX7_refuse cX7_refuse 2 (some .int)) B.pre
  have hts : ∀ w ∈ lw_all, w.before _ s = true := fun w h => hts w (List.mem_cons_of_mem _ h)
  have hown : s.vm.findClass RX7 = some m.cls := findClass_of_methodNamed B.named
  have hlocks := B.notSynchronized
  have hS : va_S (MA ad) s.heap s.heap [] := va_S.rf
  have hl := lv_entry ([.ref (ad 69), .int a1]) (n := 2) (Nat.le_of_ble_eq_true rfl)
  rw [lg_entry_eq]
  generalize (lg_sl ([.ref (ad 69), .int a1]) ++ List.replicate (2 - (lg_sl ([.ref (ad 69), .int a1])).length) Slot.unset).toArray = ls at hl ⊢
  have hl : lv_has ls 2 [(0, .ref (ad 69)), (1, .int a1)] := hl
  unfold wpX7_refuse at hw
  refine lv_aload_n hx hb dX7_refuse_0 rfl (lv_at hl 0 rfl) ?_
  refine M_get hx hb hts hown hK hM 15 (v := .ref (ad 15)) (by decide) (hts _ q1698) rfl dX7_refuse_1 ?_
  refine lv_iload_n hx hb dX7_refuse_4 rfl (lv_at hl 1 rfl) ?_
  refine lv_dup2_11 hx hb dX7_refuse_5 rfl rfl ?_
  obtain ⟨hb1, hw⟩ := hw
  refine M_iald hx hb hK hM 15 rfl (j := (ix a1)) rfl hb1 dX7_refuse_6 ?_
  refine lv_iconst (v := (1 : Int32)) hx hb dX7_refuse_7 (by decide) ?_
  refine lv_iadd hx hb dX7_refuse_8 ?_
  refine M_iast hx hb hK hM hJ hS 15 rfl (j := (ix a1)) rfl hb1 dX7_refuse_9 (fun H locs hM hS => ?_)
  obtain ⟨h2, eh2⟩ : ∃ y : Mem, y = up2 h 15 (ix a1) ((h 15 (ix a1)) + (1 : Int32)) := ⟨_, rfl⟩
  rw [← eh2] at hM
  have hw := hw h2 eh2
  refine lv_iconst (v := (-1 : Int32)) hx hb dX7_refuse_10 (by decide) ?_
  exact M_iret hx hb hr hlocks hM hS hw dX7_refuse_11

/-- thank(II)I -/
def wpBX7_thank_21 (post : Int32 → Mem → Prop) (a1 : Int32) (a2 : Int32)  (h : Mem)   : Prop :=
  (wpX7_fail (fun r5 h6 => post r5 h6) h (1 : Int32))
def wpX7_thank (post : Int32 → Mem → Prop) (h : Mem) (a1 : Int32) (a2 : Int32) : Prop :=
  (∀ h1 : Mem, h1 = up2 h 2 0 (0 : Int32) → (wpX7_isPerson (fun r2 => ((r2 = true → (wpX7_isPerson (fun r7 => ((r7 = true → ((a1 = a2 → (wpX7_refuse (fun r17 h18 => post r17 h18) h1 (1 : Int32))) ∧ (¬ a1 = a2 → (wpX7_keep (fun h12 => (wpX7_meet (fun h14 => (vp_in a2 (mlen 28) ∧ (∀ h16 : Mem, h16 = up2 h14 28 (ix a2) ((h14 28 (ix a2)) + (1 : Int32)) → post (h16 28 (ix a2)) h16))) h12 a1 a2 (h12 30 0))) h1 )))) ∧ (¬ r7 = true → wpBX7_thank_21 post a1 a2  h1 ))) h1 a2)) ∧ (¬ r2 = true → wpBX7_thank_21 post a1 a2  h1 ))) h1 a1))
set_option maxHeartbeats 4000000 in
set_option maxRecDepth 100000 in
theorem metX7_thank (l : Launch) (D : va_G) (cA : Nat → ClassId) (z0 : Nat) (E : Nat → Nat → Nat) (ad : Nat → Nat) (h : Mem) (a1 : Int32) (a2 : Int32) (post : Int32 → Mem → Prop) (hw : wpX7_thank post h a1 a2) : MeI l D cA z0 E ad yX7_thank (ws_ yX7_thank cX7_thank 3 (some .int)) ({ frames := 3, cells := 0, slots := 0, locals := 76 }) [.ref (ad 69), .int a1, .int a2] h post := by
  refine Met.ofW (cc := cX7_thank) (maxL := 3) (ret := (some .int)) (by decide) rfl ?_
  intro p e s m args below meth c s₁ B hml hv
  obtain ⟨rfl, hM, hK, hJ, hZ⟩ := hv
  have hx := B.exec
  have hb := B.bytes
  have hr := B.returns
  have hts := atoms_spec (ws := ws_ yX7_thank cX7_thank 3 (some .int)) B.pre
  have hts : ∀ w ∈ lw_all, w.before _ s = true := fun w h => hts w (List.mem_cons_of_mem _ h)
  have hown : s.vm.findClass RX7 = some m.cls := findClass_of_methodNamed B.named
  have hlocks := B.notSynchronized
  have hS : va_S (MA ad) s.heap s.heap [] := va_S.rf
  have hl := lv_entry ([.ref (ad 69), .int a1, .int a2]) (n := 3) (Nat.le_of_ble_eq_true rfl)
  rw [lg_entry_eq]
  generalize (lg_sl ([.ref (ad 69), .int a1, .int a2]) ++ List.replicate (3 - (lg_sl ([.ref (ad 69), .int a1, .int a2])).length) Slot.unset).toArray = ls at hl ⊢
  have hl : lv_has ls 3 [(0, .ref (ad 69)), (1, .int a1), (2, .int a2)] := hl
  have hB21 : ∀ (h : Mem), wpBX7_thank_21 post a1 a2  h  → JM p l e (headSpec (ws_ yX7_thank cX7_thank 3 (some .int)) ({ frames := 3, cells := 0, slots := 0, locals := 76 })).room s m ([.ref (ad 69), .int a1, .int a2] : List Value).toArray below meth c (MQ below (MQi D cA E ad post) ([.ref (ad 69), .int a1, .int a2] : List Value).toArray s 0 0 (MA ad)) D cA E ad 3 21 h [(0, .ref (ad 69))] [] := by
    intro h hw H locs ls hM hS hl
    unfold wpBX7_thank_21 at hw
    refine lv_aload_n hx hb dX7_thank_21 rfl (lv_at hl 0 rfl) ?_
    refine lv_iconst (v := (1 : Int32)) hx hb dX7_thank_22 (by decide) ?_
    refine M_callI (As := [.int (1 : Int32)]) (rest := []) ⟨hx, hb, hml, hown, hts⟩ hK hZ hM hJ hS (metX7_fail l D cA z0 E ad h (1 : Int32) _ hw) (cwV 1 hts (lw_V q1903 q1905 qs44 q130 q1906) rfl rfl rfl (by decide +kernel) ⟨Nat.le_of_ble_eq_true rfl, Nat.le_of_ble_eq_true rfl⟩) rfl hl.1 rfl (Nat.le_of_ble_eq_true rfl) dX7_thank_23 ⟨Nat.zero_le _, Nat.zero_le _⟩ (fun r5 h6 H locs hw hM hS => ?_)
    exact M_iret hx hb hr hlocks hM hS hw dX7_thank_26
  unfold wpX7_thank at hw
  refine lv_aload_n hx hb dX7_thank_0 rfl (lv_at hl 0 rfl) ?_
  refine lv_iconst (v := (0 : Int32)) hx hb dX7_thank_1 (by decide) ?_
  refine M_put hx hb hts hown hK hM hJ hS 2 rfl rfl (hts _ q1685) rfl .int (by decide +kernel) rfl rfl dX7_thank_2 (fun H locs hM hS => ?_)
  obtain ⟨h1, eh1⟩ : ∃ y : Mem, y = up2 h 2 0 (0 : Int32) := ⟨_, rfl⟩
  rw [← eh1] at hM
  have hw := hw h1 eh1
  refine lv_aload_n hx hb dX7_thank_5 rfl (lv_at hl 0 rfl) ?_
  refine lv_iload_n hx hb dX7_thank_6 rfl (lv_at hl 1 rfl) ?_
  refine M_callZp (As := [.int a1]) (rest := []) ⟨hx, hb, hml, hown, hts⟩ hK hZ hM hJ hS (metX7_isPerson l D cA z0 E ad h1 a1 _ hw) (cwV 1 hts (lw_V q2055 q2057 qs71 q130 q2058) rfl rfl rfl (by decide +kernel) ⟨Nat.le_of_ble_eq_true rfl, Nat.le_of_ble_eq_true rfl⟩) rfl hl.1 rfl (Nat.le_of_ble_eq_true rfl) dX7_thank_7 ⟨Nat.zero_le _, Nat.zero_le _⟩ (fun r2 H locs hw hM hS => ?_)
  refine lv_if_eq (tgt := 21) hx hb dX7_thank_10 (by decide) (fun c4 => ?_) (fun c4 => ?_)
  · have c4 := b2i_f c4
    have hw := hw.2 c4
    exact hB21 h1 hw _ _ ls hM hS (lv_sub hl [0] rfl)
  · have c4 := b2i_t c4
    have hw := hw.1 c4
    refine lv_aload_n hx hb dX7_thank_13 rfl (lv_at hl 0 rfl) ?_
    refine lv_iload_n hx hb dX7_thank_14 rfl (lv_at hl 2 rfl) ?_
    refine M_callZp (As := [.int a2]) (rest := []) ⟨hx, hb, hml, hown, hts⟩ hK hZ hM hJ hS (metX7_isPerson l D cA z0 E ad h1 a2 _ hw) (cwV 1 hts (lw_V q2055 q2057 qs71 q130 q2058) rfl rfl rfl (by decide +kernel) ⟨Nat.le_of_ble_eq_true rfl, Nat.le_of_ble_eq_true rfl⟩) rfl hl.1 rfl (Nat.le_of_ble_eq_true rfl) dX7_thank_15 ⟨Nat.zero_le _, Nat.zero_le _⟩ (fun r7 H locs hw hM hS => ?_)
    refine lv_if_ne (tgt := 27) hx hb dX7_thank_18 (by decide) (fun c9 => ?_) (fun c9 => ?_)
    · have c9 := b2i_t c9
      have hw := hw.1 c9
      refine lv_iload_n hx hb dX7_thank_27 rfl (lv_at hl 1 rfl) ?_
      refine lv_iload_n hx hb dX7_thank_28 rfl (lv_at hl 2 rfl) ?_
      refine lv_icmp_ne (tgt := 38) hx hb dX7_thank_29 (by decide) (fun c10 => ?_) (fun c10 => ?_)
      · have hw := hw.2 c10
        refine lv_aload_n hx hb dX7_thank_38 rfl (lv_at hl 0 rfl) ?_
        refine M_callV (As := []) (rest := []) ⟨hx, hb, hml, hown, hts⟩ hK hZ hM hJ hS (metX7_keep l D cA z0 E ad h1  _ hw) (cwV 0 hts (lw_V q2134 q2136 qs83 q130 q2137) rfl rfl rfl (by decide +kernel) ⟨Nat.le_of_ble_eq_true rfl, Nat.le_of_ble_eq_true rfl⟩) rfl hl.1 rfl (Nat.le_of_ble_eq_true rfl) dX7_thank_39 ⟨Nat.zero_le _, Nat.zero_le _⟩ (fun h12 H locs hw hM hS => ?_)
        refine lv_aload_n hx hb dX7_thank_42 rfl (lv_at hl 0 rfl) ?_
        refine lv_iload_n hx hb dX7_thank_43 rfl (lv_at hl 1 rfl) ?_
        refine lv_iload_n hx hb dX7_thank_44 rfl (lv_at hl 2 rfl) ?_
        refine lv_aload_n hx hb dX7_thank_45 rfl (lv_at hl 0 rfl) ?_
        refine M_get hx hb hts hown hK hM 30 (v := .int (h12 30 0)) (by decide) (hts _ q1713) rfl dX7_thank_46 ?_
        refine M_callV (As := [.int a1, .int a2, .int (h12 30 0)]) (rest := []) ⟨hx, hb, hml, hown, hts⟩ hK hZ hM hJ hS (metX7_meet l D cA z0 E ad h12 a1 a2 (h12 30 0) _ hw) (cwV 3 hts (lw_V q2150 q2152 qs86 q130 q2153) rfl rfl rfl (by decide +kernel) ⟨Nat.le_of_ble_eq_true rfl, Nat.le_of_ble_eq_true rfl⟩) rfl hl.1 rfl (Nat.le_of_ble_eq_true rfl) dX7_thank_49 ⟨Nat.zero_le _, Nat.zero_le _⟩ (fun h14 H locs hw hM hS => ?_)
        refine lv_aload_n hx hb dX7_thank_52 rfl (lv_at hl 0 rfl) ?_
        refine M_get hx hb hts hown hK hM 28 (v := .ref (ad 28)) (by decide) (hts _ q1711) rfl dX7_thank_53 ?_
        refine lv_iload_n hx hb dX7_thank_56 rfl (lv_at hl 2 rfl) ?_
        refine lv_dup2_11 hx hb dX7_thank_57 rfl rfl ?_
        obtain ⟨hb15, hw⟩ := hw
        refine M_iald hx hb hK hM 28 rfl (j := (ix a2)) rfl hb15 dX7_thank_58 ?_
        refine lv_iconst (v := (1 : Int32)) hx hb dX7_thank_59 (by decide) ?_
        refine lv_iadd hx hb dX7_thank_60 ?_
        refine M_iast hx hb hK hM hJ hS 28 rfl (j := (ix a2)) rfl hb15 dX7_thank_61 (fun H locs hM hS => ?_)
        obtain ⟨h16, eh16⟩ : ∃ y : Mem, y = up2 h14 28 (ix a2) ((h14 28 (ix a2)) + (1 : Int32)) := ⟨_, rfl⟩
        rw [← eh16] at hM
        have hw := hw h16 eh16
        refine lv_aload_n hx hb dX7_thank_62 rfl (lv_at hl 0 rfl) ?_
        refine M_get hx hb hts hown hK hM 28 (v := .ref (ad 28)) (by decide) (hts _ q1711) rfl dX7_thank_63 ?_
        refine lv_iload_n hx hb dX7_thank_66 rfl (lv_at hl 2 rfl) ?_
        refine M_iald hx hb hK hM 28 rfl (j := (ix a2)) rfl hb15 dX7_thank_67 ?_
        exact M_iret hx hb hr hlocks hM hS hw dX7_thank_68
      · have hw := hw.1 c10
        refine lv_aload_n hx hb dX7_thank_32 rfl (lv_at hl 0 rfl) ?_
        refine lv_iconst (v := (1 : Int32)) hx hb dX7_thank_33 (by decide) ?_
        refine M_callI (As := [.int (1 : Int32)]) (rest := []) ⟨hx, hb, hml, hown, hts⟩ hK hZ hM hJ hS (metX7_refuse l D cA z0 E ad h1 (1 : Int32) _ hw) (cwV 1 hts (lw_V q2146 q2148 qs85 q130 q2149) rfl rfl rfl (by decide +kernel) ⟨Nat.le_of_ble_eq_true rfl, Nat.le_of_ble_eq_true rfl⟩) rfl hl.1 rfl (Nat.le_of_ble_eq_true rfl) dX7_thank_34 ⟨Nat.zero_le _, Nat.zero_le _⟩ (fun r17 h18 H locs hw hM hS => ?_)
        exact M_iret hx hb hr hlocks hM hS hw dX7_thank_37
    · have c9 := b2i_f c9
      have hw := hw.2 c9
      exact hB21 h1 hw _ _ ls hM hS (lv_sub hl [0] rfl)

/-- bitsOf(I)I -/
def wpBX7_bitsOf_4 (post : Int32 → Prop) (a0 : Int32)  (K4 : Int32 → Int32 → Prop) (h : Mem)  (x1 : Int32) (x2 : Int32) : Prop :=
  ((x2 = 0 → post x1) ∧ (¬ x2 = 0 → K4 (x1 + (1 : Int32)) (x2 &&& (x2 - (1 : Int32)))))
def wpLX7_bitsOf_4 (post : Int32 → Prop) (a0 : Int32)  (h : Mem)  : Nat → (Int32 × Int32) → Prop := LW (fun K s => wpBX7_bitsOf_4 post a0  (fun x1 x2 => K (x1, x2)) h  s.1 s.2)
def wpX7_bitsOf (post : Int32 → Prop) (h : Mem) (a0 : Int32) : Prop :=
  (∃ n, wpLX7_bitsOf_4 post a0  h n ((0 : Int32), a0))
set_option maxHeartbeats 4000000 in
set_option maxRecDepth 100000 in
theorem metX7_bitsOf (l : Launch) (D : va_G) (cA : Nat → ClassId) (z0 : Nat) (E : Nat → Nat → Nat) (ad : Nat → Nat) (h : Mem) (a0 : Int32) (post : Int32 → Prop) (hw : wpX7_bitsOf post h a0) : MeI l D cA z0 E ad yX7_bitsOf (ws_ yX7_bitsOf cX7_bitsOf 3 (some .int)) ({ frames := 1, cells := 0, slots := 0, locals := 30 }) [.int a0] h (fun r h' => h' = h ∧ post r) := by
  refine Met.ofW (cc := cX7_bitsOf) (maxL := 3) (ret := (some .int)) (by decide) rfl ?_
  intro p e s m args below meth c s₁ B hml hv
  obtain ⟨rfl, hM, hK, hJ, hZ⟩ := hv
  have hx := B.exec
  have hb := B.bytes
  have hr := B.returns
  have hts := atoms_spec (ws := ws_ yX7_bitsOf cX7_bitsOf 3 (some .int)) B.pre
  have hts : ∀ w ∈ lw_all, w.before _ s = true := fun w h => hts w (List.mem_cons_of_mem _ h)
  have hown : s.vm.findClass RX7 = some m.cls := findClass_of_methodNamed B.named
  have hlocks := B.notSynchronized
  have hS : va_S (MA ad) s.heap s.heap [] := va_S.rf
  have hl := lv_entry ([.int a0]) (n := 3) (Nat.le_of_ble_eq_true rfl)
  rw [lg_entry_eq]
  generalize (lg_sl ([.int a0]) ++ List.replicate (3 - (lg_sl ([.int a0])).length) Slot.unset).toArray = ls at hl ⊢
  have hl : lv_has ls 3 [(0, .int a0)] := hl
  have hL4 : ∀  (n4 : Nat) (x1 : Int32) (x2 : Int32), wpLX7_bitsOf_4 post a0  h  n4 (x1, x2) → JM p l e (headSpec (ws_ yX7_bitsOf cX7_bitsOf 3 (some .int)) ({ frames := 1, cells := 0, slots := 0, locals := 30 })).room s m ([.int a0] : List Value).toArray below meth c (MQ below (MQi D cA E ad (fun r h' => h' = h ∧ post r)) ([.int a0] : List Value).toArray s 0 0 (MA ad)) D cA E ad 3 4 h [(1, .int x1), (2, .int x2)] [] := by
    intro  n4
    induction n4 with
    | zero => intro x1 x2 hw; exact False.elim hw
    | succ n4 ih4 =>
      intro x1 x2 hw H locs ls hM hS hl
      have hw : wpBX7_bitsOf_4 post a0  (fun x1 x2 => wpLX7_bitsOf_4 post a0  h  n4 (x1, x2)) h  x1 x2 := hw
      unfold wpBX7_bitsOf_4 at hw
      refine lv_iload_n hx hb dX7_bitsOf_4 rfl (lv_at hl 1 rfl) ?_
      refine lv_if_eq (tgt := 20) hx hb dX7_bitsOf_5 (by decide) (fun c1 => ?_) (fun c1 => ?_)
      · have hw := hw.1 c1
        refine lv_iload_n hx hb dX7_bitsOf_20 rfl (lv_at hl 0 rfl) ?_
        exact M_iret hx hb hr hlocks hM hS ⟨rfl, hw⟩ dX7_bitsOf_21
      · have hw := hw.2 c1
        refine lv_iinc (v := (x1 + (1 : Int32))) (lv' := [(1, .int (x1 + (1 : Int32))), (2, .int x2)]) hx hb dX7_bitsOf_8 hl (k := 0) rfl rfl (by decide) rfl (fun ls hl => ?_)
        refine lv_iload_n hx hb dX7_bitsOf_11 rfl (lv_at hl 1 rfl) ?_
        refine lv_iload_n hx hb dX7_bitsOf_12 rfl (lv_at hl 1 rfl) ?_
        refine lv_iconst (v := (1 : Int32)) hx hb dX7_bitsOf_13 (by decide) ?_
        refine lv_isub hx hb dX7_bitsOf_14 ?_
        refine lv_iand hx hb dX7_bitsOf_15 ?_
        refine lv_istore_n (lv' := [(2, .int (x2 &&& (x2 - (1 : Int32)))), (1, .int (x1 + (1 : Int32)))]) hx hb dX7_bitsOf_16 rfl hl (by decide) rfl (fun ls hl => ?_)
        refine lv_goto (tgt := 4) hx hb dX7_bitsOf_17 (by decide) ?_
        exact ih4 (x1 + (1 : Int32)) (x2 &&& (x2 - (1 : Int32))) hw _ _ ls hM hS (lv_sub hl [1, 0] rfl)
  unfold wpX7_bitsOf at hw
  refine lv_iconst (v := (0 : Int32)) hx hb dX7_bitsOf_0 (by decide) ?_
  refine lv_istore_n (lv' := [(1, .int (0 : Int32)), (0, .int a0)]) hx hb dX7_bitsOf_1 rfl hl (by decide) rfl (fun ls hl => ?_)
  refine lv_iload_n hx hb dX7_bitsOf_2 rfl (lv_at hl 1 rfl) ?_
  refine lv_istore_n (lv' := [(2, .int a0), (1, .int (0 : Int32)), (0, .int a0)]) hx hb dX7_bitsOf_3 rfl hl (by decide) rfl (fun ls hl => ?_)
  obtain ⟨n2, hw⟩ := hw
  exact hL4 n2 (0 : Int32) a0 hw _ _ ls hM hS (lv_sub hl [1, 0] rfl)

/-- fairOf(I)V -/
def wpBX7_fairOf_16 (post : Mem → Prop) (a1 : Int32) (K2 : Mem → Int32 → Prop) (K16 : Mem → Int32 → Prop) (x2 : Int32) (h : Mem) (x3 : Int32) : Prop :=
  (((h 3 0) ≤ x3 → K2 h (x2 + (1 : Int32))) ∧ (¬ (h 3 0) ≤ x3 → (wpX7_isOf (fun r3 => ((r3 = true → (wpX7_isOf (fun r6 => ((r6 = true → (wpX7_meet (fun h10 => K16 h10 (x3 + (1 : Int32))) h x2 x3 (h 30 0))) ∧ (¬ r6 = true → K16 h (x3 + (1 : Int32))))) h a1 x3)) ∧ (¬ r3 = true → K16 h (x3 + (1 : Int32))))) h a1 x2)))
def wpLX7_fairOf_16 (post : Mem → Prop) (a1 : Int32) (K2 : Mem → Int32 → Prop) (x2 : Int32) : Nat → (Mem × Int32) → Prop := LW (fun K s => wpBX7_fairOf_16 post a1 K2 (fun h x3 => K (h, x3)) x2 s.1 s.2)
def wpBX7_fairOf_2 (post : Mem → Prop) (a1 : Int32)  (K2 : Mem → Int32 → Prop)  (h : Mem) (x2 : Int32) : Prop :=
  (((h 3 0) ≤ x2 → post h) ∧ (¬ (h 3 0) ≤ x2 → (∃ n, wpLX7_fairOf_16 post a1 K2 x2 n (h, (x2 + (1 : Int32))))))
def wpLX7_fairOf_2 (post : Mem → Prop) (a1 : Int32)   : Nat → (Mem × Int32) → Prop := LW (fun K s => wpBX7_fairOf_2 post a1  (fun h x2 => K (h, x2))  s.1 s.2)
def wpX7_fairOf (post : Mem → Prop) (h : Mem) (a1 : Int32) : Prop :=
  (∃ n, wpLX7_fairOf_2 post a1   n (h, (0 : Int32)))
set_option maxHeartbeats 4000000 in
set_option maxRecDepth 100000 in
theorem metX7_fairOf (l : Launch) (D : va_G) (cA : Nat → ClassId) (z0 : Nat) (E : Nat → Nat → Nat) (ad : Nat → Nat) (h : Mem) (a1 : Int32) (post : Mem → Prop) (hw : wpX7_fairOf post h a1) : MeV l D cA z0 E ad yX7_fairOf (ws_ yX7_fairOf cX7_fairOf 4 none) ({ frames := 3, cells := 0, slots := 0, locals := 74 }) [.ref (ad 69), .int a1] h post := by
  refine Met.ofW (cc := cX7_fairOf) (maxL := 4) (ret := none) (by decide) rfl ?_
  intro p e s m args below meth c s₁ B hml hv
  obtain ⟨rfl, hM, hK, hJ, hZ⟩ := hv
  have hx := B.exec
  have hb := B.bytes
  have hr := B.returns
  have hts := atoms_spec (ws := ws_ yX7_fairOf cX7_fairOf 4 none) B.pre
  have hts : ∀ w ∈ lw_all, w.before _ s = true := fun w h => hts w (List.mem_cons_of_mem _ h)
  have hown : s.vm.findClass RX7 = some m.cls := findClass_of_methodNamed B.named
  have hlocks := B.notSynchronized
  have hS : va_S (MA ad) s.heap s.heap [] := va_S.rf
  have hl := lv_entry ([.ref (ad 69), .int a1]) (n := 4) (Nat.le_of_ble_eq_true rfl)
  rw [lg_entry_eq]
  generalize (lg_sl ([.ref (ad 69), .int a1]) ++ List.replicate (4 - (lg_sl ([.ref (ad 69), .int a1])).length) Slot.unset).toArray = ls at hl ⊢
  have hl : lv_has ls 4 [(0, .ref (ad 69)), (1, .int a1)] := hl
  have hL2 : ∀  (n2 : Nat) (h : Mem) (x2 : Int32), wpLX7_fairOf_2 post a1   n2 (h, x2) → JM p l e (headSpec (ws_ yX7_fairOf cX7_fairOf 4 none) ({ frames := 3, cells := 0, slots := 0, locals := 74 })).room s m ([.ref (ad 69), .int a1] : List Value).toArray below meth c (MQ below (MQv D cA E ad post) ([.ref (ad 69), .int a1] : List Value).toArray s 0 0 (MA ad)) D cA E ad 4 2 h [(0, .ref (ad 69)), (1, .int a1), (2, .int x2)] [] := by
    intro  n2
    induction n2 with
    | zero => intro h x2 hw; exact False.elim hw
    | succ n2 ih2 =>
      have hL16 : ∀ (x2 : Int32) (n16 : Nat) (h : Mem) (x3 : Int32), wpLX7_fairOf_16 post a1 (fun h x2 => wpLX7_fairOf_2 post a1   n2 (h, x2)) x2 n16 (h, x3) → JM p l e (headSpec (ws_ yX7_fairOf cX7_fairOf 4 none) ({ frames := 3, cells := 0, slots := 0, locals := 74 })).room s m ([.ref (ad 69), .int a1] : List Value).toArray below meth c (MQ below (MQv D cA E ad post) ([.ref (ad 69), .int a1] : List Value).toArray s 0 0 (MA ad)) D cA E ad 4 16 h [(0, .ref (ad 69)), (1, .int a1), (2, .int x2), (3, .int x3)] [] := by
        intro x2 n16
        induction n16 with
        | zero => intro h x3 hw; exact False.elim hw
        | succ n16 ih16 =>
          intro h x3 hw H locs ls hM hS hl
          have hw : wpBX7_fairOf_16 post a1 (fun h x2 => wpLX7_fairOf_2 post a1   n2 (h, x2)) (fun h x3 => wpLX7_fairOf_16 post a1 (fun h x2 => wpLX7_fairOf_2 post a1   n2 (h, x2)) x2 n16 (h, x3)) x2 h x3 := hw
          unfold wpBX7_fairOf_16 at hw
          refine lv_iload_n hx hb dX7_fairOf_16 rfl (lv_at hl 3 rfl) ?_
          refine lv_aload_n hx hb dX7_fairOf_17 rfl (lv_at hl 0 rfl) ?_
          refine M_get hx hb hts hown hK hM 3 (v := .ref (ad 3)) (by decide) (hts _ q1686) rfl dX7_fairOf_18 ?_
          refine lv_iconst (v := (0 : Int32)) hx hb dX7_fairOf_21 (by decide) ?_
          refine M_iald hx hb hK hM 3 rfl (j := 0) rfl (by unfold vp_in; decide) dX7_fairOf_22 ?_
          refine lv_icmp_ge (tgt := 58) hx hb dX7_fairOf_23 (by decide) (fun c2 => ?_) (fun c2 => ?_)
          · have hw := hw.1 c2
            refine lv_iinc (v := (x2 + (1 : Int32))) (lv' := [(2, .int (x2 + (1 : Int32))), (0, .ref (ad 69)), (1, .int a1), (3, .int x3)]) hx hb dX7_fairOf_58 hl (k := 2) rfl rfl (by decide) rfl (fun ls hl => ?_)
            refine lv_goto (tgt := 2) hx hb dX7_fairOf_61 (by decide) ?_
            exact ih2 h (x2 + (1 : Int32)) hw _ _ ls hM hS (lv_sub hl [1, 2, 0] rfl)
          · have hw := hw.2 c2
            refine lv_iload_n hx hb dX7_fairOf_26 rfl (lv_at hl 1 rfl) ?_
            refine lv_iload_n hx hb dX7_fairOf_27 rfl (lv_at hl 2 rfl) ?_
            refine M_callZSp (As := [.int a1, .int x2]) (rest := []) ⟨hx, hb, hml, hown, hts⟩ hK hZ hM hJ hS (metX7_isOf l D cA z0 E ad h a1 x2 _ hw) (va_cwS 2 hts (lw_S q2008 q2009 q130 q2010) rfl rfl rfl (by decide +kernel) ⟨Nat.le_of_ble_eq_true rfl, Nat.le_of_ble_eq_true rfl⟩) rfl hl.1 rfl (Nat.le_of_ble_eq_true rfl) dX7_fairOf_28 ⟨Nat.zero_le _, Nat.zero_le _⟩ (fun r3 H locs hw hM hS => ?_)
            refine lv_if_eq (tgt := 52) hx hb dX7_fairOf_31 (by decide) (fun c5 => ?_) (fun c5 => ?_)
            · have c5 := b2i_f c5
              have hw := hw.2 c5
              refine lv_iinc (v := (x3 + (1 : Int32))) (lv' := [(3, .int (x3 + (1 : Int32))), (0, .ref (ad 69)), (1, .int a1), (2, .int x2)]) hx hb dX7_fairOf_52 hl (k := 3) rfl rfl (by decide) rfl (fun ls hl => ?_)
              refine lv_goto (tgt := 16) hx hb dX7_fairOf_55 (by decide) ?_
              exact ih16 h (x3 + (1 : Int32)) hw _ _ ls hM hS (lv_sub hl [1, 2, 3, 0] rfl)
            · have c5 := b2i_t c5
              have hw := hw.1 c5
              refine lv_iload_n hx hb dX7_fairOf_34 rfl (lv_at hl 1 rfl) ?_
              refine lv_iload_n hx hb dX7_fairOf_35 rfl (lv_at hl 3 rfl) ?_
              refine M_callZSp (As := [.int a1, .int x3]) (rest := []) ⟨hx, hb, hml, hown, hts⟩ hK hZ hM hJ hS (metX7_isOf l D cA z0 E ad h a1 x3 _ hw) (va_cwS 2 hts (lw_S q2008 q2009 q130 q2010) rfl rfl rfl (by decide +kernel) ⟨Nat.le_of_ble_eq_true rfl, Nat.le_of_ble_eq_true rfl⟩) rfl hl.1 rfl (Nat.le_of_ble_eq_true rfl) dX7_fairOf_36 ⟨Nat.zero_le _, Nat.zero_le _⟩ (fun r6 H locs hw hM hS => ?_)
              refine lv_if_eq (tgt := 52) hx hb dX7_fairOf_39 (by decide) (fun c8 => ?_) (fun c8 => ?_)
              · have c8 := b2i_f c8
                have hw := hw.2 c8
                refine lv_iinc (v := (x3 + (1 : Int32))) (lv' := [(3, .int (x3 + (1 : Int32))), (0, .ref (ad 69)), (1, .int a1), (2, .int x2)]) hx hb dX7_fairOf_52 hl (k := 3) rfl rfl (by decide) rfl (fun ls hl => ?_)
                refine lv_goto (tgt := 16) hx hb dX7_fairOf_55 (by decide) ?_
                exact ih16 h (x3 + (1 : Int32)) hw _ _ ls hM hS (lv_sub hl [1, 2, 3, 0] rfl)
              · have c8 := b2i_t c8
                have hw := hw.1 c8
                refine lv_aload_n hx hb dX7_fairOf_42 rfl (lv_at hl 0 rfl) ?_
                refine lv_iload_n hx hb dX7_fairOf_43 rfl (lv_at hl 2 rfl) ?_
                refine lv_iload_n hx hb dX7_fairOf_44 rfl (lv_at hl 3 rfl) ?_
                refine lv_aload_n hx hb dX7_fairOf_45 rfl (lv_at hl 0 rfl) ?_
                refine M_get hx hb hts hown hK hM 30 (v := .int (h 30 0)) (by decide) (hts _ q1713) rfl dX7_fairOf_46 ?_
                refine M_callV (As := [.int x2, .int x3, .int (h 30 0)]) (rest := []) ⟨hx, hb, hml, hown, hts⟩ hK hZ hM hJ hS (metX7_meet l D cA z0 E ad h x2 x3 (h 30 0) _ hw) (cwV 3 hts (lw_V q2150 q2152 qs86 q130 q2153) rfl rfl rfl (by decide +kernel) ⟨Nat.le_of_ble_eq_true rfl, Nat.le_of_ble_eq_true rfl⟩) rfl hl.1 rfl (Nat.le_of_ble_eq_true rfl) dX7_fairOf_49 ⟨Nat.zero_le _, Nat.zero_le _⟩ (fun h10 H locs hw hM hS => ?_)
                refine lv_iinc (v := (x3 + (1 : Int32))) (lv' := [(3, .int (x3 + (1 : Int32))), (0, .ref (ad 69)), (1, .int a1), (2, .int x2)]) hx hb dX7_fairOf_52 hl (k := 3) rfl rfl (by decide) rfl (fun ls hl => ?_)
                refine lv_goto (tgt := 16) hx hb dX7_fairOf_55 (by decide) ?_
                exact ih16 h10 (x3 + (1 : Int32)) hw _ _ ls hM hS (lv_sub hl [1, 2, 3, 0] rfl)
      intro h x2 hw H locs ls hM hS hl
      have hw : wpBX7_fairOf_2 post a1  (fun h x2 => wpLX7_fairOf_2 post a1   n2 (h, x2))  h x2 := hw
      unfold wpBX7_fairOf_2 at hw
      refine lv_iload_n hx hb dX7_fairOf_2 rfl (lv_at hl 2 rfl) ?_
      refine lv_aload_n hx hb dX7_fairOf_3 rfl (lv_at hl 0 rfl) ?_
      refine M_get hx hb hts hown hK hM 3 (v := .ref (ad 3)) (by decide) (hts _ q1686) rfl dX7_fairOf_4 ?_
      refine lv_iconst (v := (0 : Int32)) hx hb dX7_fairOf_7 (by decide) ?_
      refine M_iald hx hb hK hM 3 rfl (j := 0) rfl (by unfold vp_in; decide) dX7_fairOf_8 ?_
      refine lv_icmp_ge (tgt := 64) hx hb dX7_fairOf_9 (by decide) (fun c1 => ?_) (fun c1 => ?_)
      · have hw := hw.1 c1
        exact M_vret hx hb hr hlocks hM hS hw dX7_fairOf_64
      · have hw := hw.2 c1
        refine lv_iload_n hx hb dX7_fairOf_12 rfl (lv_at hl 2 rfl) ?_
        refine lv_iconst (v := (1 : Int32)) hx hb dX7_fairOf_13 (by decide) ?_
        refine lv_iadd hx hb dX7_fairOf_14 ?_
        refine lv_istore_n (lv' := [(3, .int (x2 + (1 : Int32))), (0, .ref (ad 69)), (1, .int a1), (2, .int x2)]) hx hb dX7_fairOf_15 rfl hl (by decide) rfl (fun ls hl => ?_)
        obtain ⟨n11, hw⟩ := hw
        exact hL16 x2 n11 h (x2 + (1 : Int32)) hw _ _ ls hM hS (lv_sub hl [1, 2, 3, 0] rfl)
  unfold wpX7_fairOf at hw
  refine lv_iconst (v := (0 : Int32)) hx hb dX7_fairOf_0 (by decide) ?_
  refine lv_istore_n (lv' := [(2, .int (0 : Int32)), (0, .ref (ad 69)), (1, .int a1)]) hx hb dX7_fairOf_1 rfl hl (by decide) rfl (fun ls hl => ?_)
  obtain ⟨n12, hw⟩ := hw
  exact hL2 n12 h (0 : Int32) hw _ _ ls hM hS (lv_sub hl [1, 2, 0] rfl)

/-- fair(I)I -/
def wpBX7_fair_33 (post : Int32 → Mem → Prop) (a1 : Int32)  (h : Mem)   : Prop :=
  (wpX7_refuse (fun r5 h6 => post r5 h6) h (1 : Int32))
def wpX7_fair (post : Int32 → Mem → Prop) (h : Mem) (a1 : Int32) : Prop :=
  (∀ h1 : Mem, h1 = up2 h 2 0 (0 : Int32) → (wpX7_isIn (fun r2 => ((r2 = true → (wpX7_bitsOf (fun r7 => (((2 : Int32) ≤ r7 → (wpX7_keep (fun h11 => (wpX7_fairOf (fun h13 => (wpX7_bitsOf (fun r14 => post r14 h13) h13 a1)) h11 a1)) h1 )) ∧ (¬ (2 : Int32) ≤ r7 → wpBX7_fair_33 post a1  h1 ))) h1 a1)) ∧ (¬ r2 = true → wpBX7_fair_33 post a1  h1 ))) h1 (a1).toInt64 (0 : Int64) ((((1 : Int32) <<< ((h1 3 0) &&& 31)) - (1 : Int32))).toInt64))
set_option maxHeartbeats 4000000 in
set_option maxRecDepth 100000 in
theorem metX7_fair (l : Launch) (D : va_G) (cA : Nat → ClassId) (z0 : Nat) (E : Nat → Nat → Nat) (ad : Nat → Nat) (h : Mem) (a1 : Int32) (post : Int32 → Mem → Prop) (hw : wpX7_fair post h a1) : MeI l D cA z0 E ad yX7_fair (ws_ yX7_fair cX7_fair 2 (some .int)) ({ frames := 4, cells := 0, slots := 0, locals := 97 }) [.ref (ad 69), .int a1] h post := by
  refine Met.ofW (cc := cX7_fair) (maxL := 2) (ret := (some .int)) (by decide) rfl ?_
  intro p e s m args below meth c s₁ B hml hv
  obtain ⟨rfl, hM, hK, hJ, hZ⟩ := hv
  have hx := B.exec
  have hb := B.bytes
  have hr := B.returns
  have hts := atoms_spec (ws := ws_ yX7_fair cX7_fair 2 (some .int)) B.pre
  have hts : ∀ w ∈ lw_all, w.before _ s = true := fun w h => hts w (List.mem_cons_of_mem _ h)
  have hown : s.vm.findClass RX7 = some m.cls := findClass_of_methodNamed B.named
  have hlocks := B.notSynchronized
  have hS : va_S (MA ad) s.heap s.heap [] := va_S.rf
  have hl := lv_entry ([.ref (ad 69), .int a1]) (n := 2) (Nat.le_of_ble_eq_true rfl)
  rw [lg_entry_eq]
  generalize (lg_sl ([.ref (ad 69), .int a1]) ++ List.replicate (2 - (lg_sl ([.ref (ad 69), .int a1])).length) Slot.unset).toArray = ls at hl ⊢
  have hl : lv_has ls 2 [(0, .ref (ad 69)), (1, .int a1)] := hl
  have hB33 : ∀ (h : Mem), wpBX7_fair_33 post a1  h  → JM p l e (headSpec (ws_ yX7_fair cX7_fair 2 (some .int)) ({ frames := 4, cells := 0, slots := 0, locals := 97 })).room s m ([.ref (ad 69), .int a1] : List Value).toArray below meth c (MQ below (MQi D cA E ad post) ([.ref (ad 69), .int a1] : List Value).toArray s 0 0 (MA ad)) D cA E ad 2 33 h [(0, .ref (ad 69))] [] := by
    intro h hw H locs ls hM hS hl
    unfold wpBX7_fair_33 at hw
    refine lv_aload_n hx hb dX7_fair_33 rfl (lv_at hl 0 rfl) ?_
    refine lv_iconst (v := (1 : Int32)) hx hb dX7_fair_34 (by decide) ?_
    refine M_callI (As := [.int (1 : Int32)]) (rest := []) ⟨hx, hb, hml, hown, hts⟩ hK hZ hM hJ hS (metX7_refuse l D cA z0 E ad h (1 : Int32) _ hw) (cwV 1 hts (lw_V q2146 q2148 qs85 q130 q2149) rfl rfl rfl (by decide +kernel) ⟨Nat.le_of_ble_eq_true rfl, Nat.le_of_ble_eq_true rfl⟩) rfl hl.1 rfl (Nat.le_of_ble_eq_true rfl) dX7_fair_35 ⟨Nat.zero_le _, Nat.zero_le _⟩ (fun r5 h6 H locs hw hM hS => ?_)
    exact M_iret hx hb hr hlocks hM hS hw dX7_fair_38
  unfold wpX7_fair at hw
  refine lv_aload_n hx hb dX7_fair_0 rfl (lv_at hl 0 rfl) ?_
  refine lv_iconst (v := (0 : Int32)) hx hb dX7_fair_1 (by decide) ?_
  refine M_put hx hb hts hown hK hM hJ hS 2 rfl rfl (hts _ q1685) rfl .int (by decide +kernel) rfl rfl dX7_fair_2 (fun H locs hM hS => ?_)
  obtain ⟨h1, eh1⟩ : ∃ y : Mem, y = up2 h 2 0 (0 : Int32) := ⟨_, rfl⟩
  rw [← eh1] at hM
  have hw := hw h1 eh1
  refine lv_iload_n hx hb dX7_fair_5 rfl (lv_at hl 1 rfl) ?_
  refine lv_i2l (v := (a1).toInt64) hx hb dX7_fair_6 rfl ?_
  refine lv_lconst (v := (0 : Int64)) hx hb dX7_fair_7 (by decide) ?_
  refine lv_iconst (v := (1 : Int32)) hx hb dX7_fair_8 (by decide) ?_
  refine lv_aload_n hx hb dX7_fair_9 rfl (lv_at hl 0 rfl) ?_
  refine M_get hx hb hts hown hK hM 3 (v := .ref (ad 3)) (by decide) (hts _ q1686) rfl dX7_fair_10 ?_
  refine lv_iconst (v := (0 : Int32)) hx hb dX7_fair_13 (by decide) ?_
  refine M_iald hx hb hK hM 3 rfl (j := 0) rfl (by unfold vp_in; decide) dX7_fair_14 ?_
  refine lv_ishl hx hb dX7_fair_15 ?_
  refine lv_iconst (v := (1 : Int32)) hx hb dX7_fair_16 (by decide) ?_
  refine lv_isub hx hb dX7_fair_17 ?_
  refine lv_i2l (v := ((((1 : Int32) <<< ((h1 3 0) &&& 31)) - (1 : Int32))).toInt64) hx hb dX7_fair_18 rfl ?_
  refine M_callZSp (As := [.long (a1).toInt64, .long (0 : Int64), .long ((((1 : Int32) <<< ((h1 3 0) &&& 31)) - (1 : Int32))).toInt64]) (rest := []) ⟨hx, hb, hml, hown, hts⟩ hK hZ hM hJ hS (metX7_isIn l D cA z0 E ad h1 (a1).toInt64 (0 : Int64) ((((1 : Int32) <<< ((h1 3 0) &&& 31)) - (1 : Int32))).toInt64 _ hw) (va_cwS 3 hts (lw_S q2059 q2060 q130 q2061) rfl rfl rfl (by decide +kernel) ⟨Nat.le_of_ble_eq_true rfl, Nat.le_of_ble_eq_true rfl⟩) rfl hl.1 rfl (Nat.le_of_ble_eq_true rfl) dX7_fair_19 ⟨Nat.zero_le _, Nat.zero_le _⟩ (fun r2 H locs hw hM hS => ?_)
  refine lv_if_eq (tgt := 33) hx hb dX7_fair_22 (by decide) (fun c4 => ?_) (fun c4 => ?_)
  · have c4 := b2i_f c4
    have hw := hw.2 c4
    exact hB33 h1 hw _ _ ls hM hS (lv_sub hl [0] rfl)
  · have c4 := b2i_t c4
    have hw := hw.1 c4
    refine lv_iload_n hx hb dX7_fair_25 rfl (lv_at hl 1 rfl) ?_
    refine M_callISp (As := [.int a1]) (rest := []) ⟨hx, hb, hml, hown, hts⟩ hK hZ hM hJ hS (metX7_bitsOf l D cA z0 E ad h1 a1 _ hw) (va_cwS 1 hts (lw_S q2158 q2159 q130 q2160) rfl rfl rfl (by decide +kernel) ⟨Nat.le_of_ble_eq_true rfl, Nat.le_of_ble_eq_true rfl⟩) rfl hl.1 rfl (Nat.le_of_ble_eq_true rfl) dX7_fair_26 ⟨Nat.zero_le _, Nat.zero_le _⟩ (fun r7 H locs hw hM hS => ?_)
    refine lv_iconst (v := (2 : Int32)) hx hb dX7_fair_29 (by decide) ?_
    refine lv_icmp_ge (tgt := 39) hx hb dX7_fair_30 (by decide) (fun c9 => ?_) (fun c9 => ?_)
    · have hw := hw.1 c9
      refine lv_aload_n hx hb dX7_fair_39 rfl (lv_at hl 0 rfl) ?_
      refine M_callV (As := []) (rest := []) ⟨hx, hb, hml, hown, hts⟩ hK hZ hM hJ hS (metX7_keep l D cA z0 E ad h1  _ hw) (cwV 0 hts (lw_V q2134 q2136 qs83 q130 q2137) rfl rfl rfl (by decide +kernel) ⟨Nat.le_of_ble_eq_true rfl, Nat.le_of_ble_eq_true rfl⟩) rfl hl.1 rfl (Nat.le_of_ble_eq_true rfl) dX7_fair_40 ⟨Nat.zero_le _, Nat.zero_le _⟩ (fun h11 H locs hw hM hS => ?_)
      refine lv_aload_n hx hb dX7_fair_43 rfl (lv_at hl 0 rfl) ?_
      refine lv_iload_n hx hb dX7_fair_44 rfl (lv_at hl 1 rfl) ?_
      refine M_callV (As := [.int a1]) (rest := []) ⟨hx, hb, hml, hown, hts⟩ hK hZ hM hJ hS (metX7_fairOf l D cA z0 E ad h11 a1 _ hw) (cwV 1 hts (lw_V q2161 q2163 qs87 q130 q2164) rfl rfl rfl (by decide +kernel) ⟨Nat.le_of_ble_eq_true rfl, Nat.le_of_ble_eq_true rfl⟩) rfl hl.1 rfl (Nat.le_of_ble_eq_true rfl) dX7_fair_45 ⟨Nat.zero_le _, Nat.zero_le _⟩ (fun h13 H locs hw hM hS => ?_)
      refine lv_iload_n hx hb dX7_fair_48 rfl (lv_at hl 1 rfl) ?_
      refine M_callISp (As := [.int a1]) (rest := []) ⟨hx, hb, hml, hown, hts⟩ hK hZ hM hJ hS (metX7_bitsOf l D cA z0 E ad h13 a1 _ hw) (va_cwS 1 hts (lw_S q2158 q2159 q130 q2160) rfl rfl rfl (by decide +kernel) ⟨Nat.le_of_ble_eq_true rfl, Nat.le_of_ble_eq_true rfl⟩) rfl hl.1 rfl (Nat.le_of_ble_eq_true rfl) dX7_fair_49 ⟨Nat.zero_le _, Nat.zero_le _⟩ (fun r14 H locs hw hM hS => ?_)
      exact M_iret hx hb hr hlocks hM hS hw dX7_fair_52
    · have hw := hw.2 c9
      exact hB33 h1 hw _ _ ls hM hS (lv_sub hl [0] rfl)

/-- hours(I)I -/
def wpBX7_hours_37 (post : Int32 → Mem → Prop) (a1 : Int32)  (h : Mem)   : Prop :=
  (wpX7_refuse (fun r5 h6 => post r5 h6) h (1 : Int32))
def wpX7_hours (post : Int32 → Mem → Prop) (h : Mem) (a1 : Int32) : Prop :=
  (∀ h1 : Mem, h1 = up2 h 2 0 (0 : Int32) → (wpX7_isIn (fun r2 => ((r2 = true → ((((h1 30 0) + (((h1 31 0) + a1) / (24 : Int32))) ≤ (999 : Int32) → (wpX7_keep (fun h9 => (∀ h10 : Mem, h10 = up2 h9 30 0 ((h9 30 0) + (((h9 31 0) + a1) / (24 : Int32))) → (∀ h11 : Mem, h11 = up2 h10 31 0 (((h10 31 0) + a1) - ((h10 31 0) + a1) / (24 : Int32) * (24 : Int32)) → post (h11 31 0) h11))) h1 )) ∧ (¬ ((h1 30 0) + (((h1 31 0) + a1) / (24 : Int32))) ≤ (999 : Int32) → wpBX7_hours_37 post a1  h1 ))) ∧ (¬ r2 = true → wpBX7_hours_37 post a1  h1 ))) h1 (a1).toInt64 (1 : Int64) (99 : Int64)))
set_option maxHeartbeats 4000000 in
set_option maxRecDepth 100000 in
theorem metX7_hours (l : Launch) (D : va_G) (cA : Nat → ClassId) (z0 : Nat) (E : Nat → Nat → Nat) (ad : Nat → Nat) (h : Mem) (a1 : Int32) (post : Int32 → Mem → Prop) (hw : wpX7_hours post h a1) : MeI l D cA z0 E ad yX7_hours (ws_ yX7_hours cX7_hours 2 (some .int)) ({ frames := 3, cells := 0, slots := 0, locals := 75 }) [.ref (ad 69), .int a1] h post := by
  refine Met.ofW (cc := cX7_hours) (maxL := 2) (ret := (some .int)) (by decide) rfl ?_
  intro p e s m args below meth c s₁ B hml hv
  obtain ⟨rfl, hM, hK, hJ, hZ⟩ := hv
  have hx := B.exec
  have hb := B.bytes
  have hr := B.returns
  have hts := atoms_spec (ws := ws_ yX7_hours cX7_hours 2 (some .int)) B.pre
  have hts : ∀ w ∈ lw_all, w.before _ s = true := fun w h => hts w (List.mem_cons_of_mem _ h)
  have hown : s.vm.findClass RX7 = some m.cls := findClass_of_methodNamed B.named
  have hlocks := B.notSynchronized
  have hS : va_S (MA ad) s.heap s.heap [] := va_S.rf
  have hl := lv_entry ([.ref (ad 69), .int a1]) (n := 2) (Nat.le_of_ble_eq_true rfl)
  rw [lg_entry_eq]
  generalize (lg_sl ([.ref (ad 69), .int a1]) ++ List.replicate (2 - (lg_sl ([.ref (ad 69), .int a1])).length) Slot.unset).toArray = ls at hl ⊢
  have hl : lv_has ls 2 [(0, .ref (ad 69)), (1, .int a1)] := hl
  have hB37 : ∀ (h : Mem), wpBX7_hours_37 post a1  h  → JM p l e (headSpec (ws_ yX7_hours cX7_hours 2 (some .int)) ({ frames := 3, cells := 0, slots := 0, locals := 75 })).room s m ([.ref (ad 69), .int a1] : List Value).toArray below meth c (MQ below (MQi D cA E ad post) ([.ref (ad 69), .int a1] : List Value).toArray s 0 0 (MA ad)) D cA E ad 2 37 h [(0, .ref (ad 69))] [] := by
    intro h hw H locs ls hM hS hl
    unfold wpBX7_hours_37 at hw
    refine lv_aload_n hx hb dX7_hours_37 rfl (lv_at hl 0 rfl) ?_
    refine lv_iconst (v := (1 : Int32)) hx hb dX7_hours_38 (by decide) ?_
    refine M_callI (As := [.int (1 : Int32)]) (rest := []) ⟨hx, hb, hml, hown, hts⟩ hK hZ hM hJ hS (metX7_refuse l D cA z0 E ad h (1 : Int32) _ hw) (cwV 1 hts (lw_V q2146 q2148 qs85 q130 q2149) rfl rfl rfl (by decide +kernel) ⟨Nat.le_of_ble_eq_true rfl, Nat.le_of_ble_eq_true rfl⟩) rfl hl.1 rfl (Nat.le_of_ble_eq_true rfl) dX7_hours_39 ⟨Nat.zero_le _, Nat.zero_le _⟩ (fun r5 h6 H locs hw hM hS => ?_)
    exact M_iret hx hb hr hlocks hM hS hw dX7_hours_42
  unfold wpX7_hours at hw
  refine lv_aload_n hx hb dX7_hours_0 rfl (lv_at hl 0 rfl) ?_
  refine lv_iconst (v := (0 : Int32)) hx hb dX7_hours_1 (by decide) ?_
  refine M_put hx hb hts hown hK hM hJ hS 2 rfl rfl (hts _ q1685) rfl .int (by decide +kernel) rfl rfl dX7_hours_2 (fun H locs hM hS => ?_)
  obtain ⟨h1, eh1⟩ : ∃ y : Mem, y = up2 h 2 0 (0 : Int32) := ⟨_, rfl⟩
  rw [← eh1] at hM
  have hw := hw h1 eh1
  refine lv_iload_n hx hb dX7_hours_5 rfl (lv_at hl 1 rfl) ?_
  refine lv_i2l (v := (a1).toInt64) hx hb dX7_hours_6 rfl ?_
  refine lv_lconst (v := (1 : Int64)) hx hb dX7_hours_7 (by decide) ?_
  refine lv_ldc2 hx hb hown (hts _ q2169) dX7_hours_8 ?_
  refine M_callZSp (As := [.long (a1).toInt64, .long (1 : Int64), .long (99 : Int64)]) (rest := []) ⟨hx, hb, hml, hown, hts⟩ hK hZ hM hJ hS (metX7_isIn l D cA z0 E ad h1 (a1).toInt64 (1 : Int64) (99 : Int64) _ hw) (va_cwS 3 hts (lw_S q2059 q2060 q130 q2061) rfl rfl rfl (by decide +kernel) ⟨Nat.le_of_ble_eq_true rfl, Nat.le_of_ble_eq_true rfl⟩) rfl hl.1 rfl (Nat.le_of_ble_eq_true rfl) dX7_hours_11 ⟨Nat.zero_le _, Nat.zero_le _⟩ (fun r2 H locs hw hM hS => ?_)
  refine lv_if_eq (tgt := 37) hx hb dX7_hours_14 (by decide) (fun c4 => ?_) (fun c4 => ?_)
  · have c4 := b2i_f c4
    have hw := hw.2 c4
    exact hB37 h1 hw _ _ ls hM hS (lv_sub hl [0] rfl)
  · have c4 := b2i_t c4
    have hw := hw.1 c4
    refine lv_aload_n hx hb dX7_hours_17 rfl (lv_at hl 0 rfl) ?_
    refine M_get hx hb hts hown hK hM 30 (v := .int (h1 30 0)) (by decide) (hts _ q1713) rfl dX7_hours_18 ?_
    refine lv_aload_n hx hb dX7_hours_21 rfl (lv_at hl 0 rfl) ?_
    refine M_get hx hb hts hown hK hM 31 (v := .int (h1 31 0)) (by decide) (hts _ q1714) rfl dX7_hours_22 ?_
    refine lv_iload_n hx hb dX7_hours_25 rfl (lv_at hl 1 rfl) ?_
    refine lv_iadd hx hb dX7_hours_26 ?_
    refine lv_bipush (v := (24 : Int32)) hx hb dX7_hours_27 (by decide) ?_
    refine lv_idiv hx hb dX7_hours_29 (by decide) ?_
    refine lv_iadd hx hb dX7_hours_30 ?_
    refine lv_sipush (v := (999 : Int32)) hx hb dX7_hours_31 (by decide) ?_
    refine lv_icmp_le (tgt := 43) hx hb dX7_hours_34 (by decide) (fun c7 => ?_) (fun c7 => ?_)
    · have hw := hw.1 c7
      refine lv_aload_n hx hb dX7_hours_43 rfl (lv_at hl 0 rfl) ?_
      refine M_callV (As := []) (rest := []) ⟨hx, hb, hml, hown, hts⟩ hK hZ hM hJ hS (metX7_keep l D cA z0 E ad h1  _ hw) (cwV 0 hts (lw_V q2134 q2136 qs83 q130 q2137) rfl rfl rfl (by decide +kernel) ⟨Nat.le_of_ble_eq_true rfl, Nat.le_of_ble_eq_true rfl⟩) rfl hl.1 rfl (Nat.le_of_ble_eq_true rfl) dX7_hours_44 ⟨Nat.zero_le _, Nat.zero_le _⟩ (fun h9 H locs hw hM hS => ?_)
      refine lv_aload_n hx hb dX7_hours_47 rfl (lv_at hl 0 rfl) ?_
      refine lv_dup hx hb dX7_hours_48 rfl ?_
      refine M_get hx hb hts hown hK hM 30 (v := .int (h9 30 0)) (by decide) (hts _ q1713) rfl dX7_hours_49 ?_
      refine lv_aload_n hx hb dX7_hours_52 rfl (lv_at hl 0 rfl) ?_
      refine M_get hx hb hts hown hK hM 31 (v := .int (h9 31 0)) (by decide) (hts _ q1714) rfl dX7_hours_53 ?_
      refine lv_iload_n hx hb dX7_hours_56 rfl (lv_at hl 1 rfl) ?_
      refine lv_iadd hx hb dX7_hours_57 ?_
      refine lv_bipush (v := (24 : Int32)) hx hb dX7_hours_58 (by decide) ?_
      refine lv_idiv hx hb dX7_hours_60 (by decide) ?_
      refine lv_iadd hx hb dX7_hours_61 ?_
      refine M_put hx hb hts hown hK hM hJ hS 30 rfl rfl (hts _ q1713) rfl .int (by decide +kernel) rfl rfl dX7_hours_62 (fun H locs hM hS => ?_)
      obtain ⟨h10, eh10⟩ : ∃ y : Mem, y = up2 h9 30 0 ((h9 30 0) + (((h9 31 0) + a1) / (24 : Int32))) := ⟨_, rfl⟩
      rw [← eh10] at hM
      have hw := hw h10 eh10
      refine lv_aload_n hx hb dX7_hours_65 rfl (lv_at hl 0 rfl) ?_
      refine lv_aload_n hx hb dX7_hours_66 rfl (lv_at hl 0 rfl) ?_
      refine M_get hx hb hts hown hK hM 31 (v := .int (h10 31 0)) (by decide) (hts _ q1714) rfl dX7_hours_67 ?_
      refine lv_iload_n hx hb dX7_hours_70 rfl (lv_at hl 1 rfl) ?_
      refine lv_iadd hx hb dX7_hours_71 ?_
      refine lv_bipush (v := (24 : Int32)) hx hb dX7_hours_72 (by decide) ?_
      refine lv_irem hx hb dX7_hours_74 (by decide) ?_
      refine M_put hx hb hts hown hK hM hJ hS 31 rfl rfl (hts _ q1714) rfl .int (by decide +kernel) rfl rfl dX7_hours_75 (fun H locs hM hS => ?_)
      obtain ⟨h11, eh11⟩ : ∃ y : Mem, y = up2 h10 31 0 (((h10 31 0) + a1) - ((h10 31 0) + a1) / (24 : Int32) * (24 : Int32)) := ⟨_, rfl⟩
      rw [← eh11] at hM
      have hw := hw h11 eh11
      refine lv_aload_n hx hb dX7_hours_78 rfl (lv_at hl 0 rfl) ?_
      refine M_get hx hb hts hown hK hM 31 (v := .int (h11 31 0)) (by decide) (hts _ q1714) rfl dX7_hours_79 ?_
      exact M_iret hx hb hr hlocks hM hS hw dX7_hours_82
    · have hw := hw.2 c7
      exact hB37 h1 hw _ _ ls hM hS (lv_sub hl [0] rfl)

/-- unpack(II)V -/
def wpBX7_unpack_84 (post : Mem → Prop) (k1 : Nat) (a2 : Int32)  (K84 : Mem → Int32 → Prop) (x3 : Int32) (h : Mem) (x4 : Int32) : Prop :=
  (((8 : Int32) ≤ x4 → post h) ∧ (¬ (8 : Int32) ≤ x4 → (vp_in ((x3 + (6 : Int32)) + x4) (mlen k1) ∧ (vp_in x4 (mlen 28) ∧ (∀ h10 : Mem, h10 = up2 h 28 (ix x4) (h k1 (ix ((x3 + (6 : Int32)) + x4))) → K84 h10 (x4 + (1 : Int32)))))))
def wpLX7_unpack_84 (post : Mem → Prop) (k1 : Nat) (a2 : Int32)  (x3 : Int32) : Nat → (Mem × Int32) → Prop := LW (fun K s => wpBX7_unpack_84 post k1 a2  (fun h x4 => K (h, x4)) x3 s.1 s.2)
def wpBX7_unpack_55 (post : Mem → Prop) (k1 : Nat) (a2 : Int32)  (K55 : Mem → Int32 → Prop) (x3 : Int32) (h : Mem) (x4 : Int32) : Prop :=
  (((6 : Int32) ≤ x4 → (∃ n, wpLX7_unpack_84 post k1 a2  x3 n (h, (0 : Int32)))) ∧ (¬ (6 : Int32) ≤ x4 → (vp_in (x3 + x4) (mlen k1) ∧ (vp_in x4 (mlen 27) ∧ (∀ h14 : Mem, h14 = up2 h 27 (ix x4) (h k1 (ix (x3 + x4))) → K55 h14 (x4 + (1 : Int32)))))))
def wpLX7_unpack_55 (post : Mem → Prop) (k1 : Nat) (a2 : Int32)  (x3 : Int32) : Nat → (Mem × Int32) → Prop := LW (fun K s => wpBX7_unpack_55 post k1 a2  (fun h x4 => K (h, x4)) x3 s.1 s.2)
def wpBX7_unpack_23 (post : Mem → Prop) (k1 : Nat) (a2 : Int32)  (K23 : Mem → Int32 → Prop) (x3 : Int32) (h : Mem) (x4 : Int32) : Prop :=
  (((64 : Int32) ≤ x4 → (∃ n, wpLX7_unpack_55 post k1 a2  (x3 + (64 : Int32)) n (h, (0 : Int32)))) ∧ (¬ (64 : Int32) ≤ x4 → (vp_in (x3 + x4) (mlen k1) ∧ (vp_in x4 (mlen 13) ∧ (∀ h18 : Mem, h18 = up2 h 13 (ix x4) (h k1 (ix (x3 + x4))) → K23 h18 (x4 + (1 : Int32)))))))
def wpLX7_unpack_23 (post : Mem → Prop) (k1 : Nat) (a2 : Int32)  (x3 : Int32) : Nat → (Mem × Int32) → Prop := LW (fun K s => wpBX7_unpack_23 post k1 a2  (fun h x4 => K (h, x4)) x3 s.1 s.2)
def wpX7_unpack (post : Mem → Prop) (h : Mem) (k1 : Nat) (a2 : Int32) : Prop :=
  (vp_in a2 (mlen k1) ∧ (∀ h2 : Mem, h2 = up2 h 30 0 (h k1 (ix a2)) → (vp_in (a2 + (1 : Int32)) (mlen k1) ∧ (∀ h4 : Mem, h4 = up2 h2 31 0 (h2 k1 (ix (a2 + (1 : Int32)))) → (∃ n, wpLX7_unpack_23 post k1 a2  (a2 + (2 : Int32)) n (h4, (0 : Int32)))))))
set_option maxHeartbeats 4000000 in
set_option maxRecDepth 100000 in
theorem metX7_unpack (l : Launch) (D : va_G) (cA : Nat → ClassId) (z0 : Nat) (E : Nat → Nat → Nat) (ad : Nat → Nat) (h : Mem) (k1 : Nat) (a2 : Int32) (post : Mem → Prop) (hk1 : marr k1 = true) (hw : wpX7_unpack post h k1 a2) : MeV l D cA z0 E ad yX7_unpack (ws_ yX7_unpack cX7_unpack 5 none) ({ frames := 1, cells := 0, slots := 0, locals := 30 }) [.ref (ad 69), .ref (ad k1), .int a2] h post := by
  refine Met.ofW (cc := cX7_unpack) (maxL := 5) (ret := none) (by decide) rfl ?_
  intro p e s m args below meth c s₁ B hml hv
  obtain ⟨rfl, hM, hK, hJ, hZ⟩ := hv
  have hx := B.exec
  have hb := B.bytes
  have hr := B.returns
  have hts := atoms_spec (ws := ws_ yX7_unpack cX7_unpack 5 none) B.pre
  have hts : ∀ w ∈ lw_all, w.before _ s = true := fun w h => hts w (List.mem_cons_of_mem _ h)
  have hown : s.vm.findClass RX7 = some m.cls := findClass_of_methodNamed B.named
  have hlocks := B.notSynchronized
  have hS : va_S (MA ad) s.heap s.heap [] := va_S.rf
  have hl := lv_entry ([.ref (ad 69), .ref (ad k1), .int a2]) (n := 5) (Nat.le_of_ble_eq_true rfl)
  rw [lg_entry_eq]
  generalize (lg_sl ([.ref (ad 69), .ref (ad k1), .int a2]) ++ List.replicate (5 - (lg_sl ([.ref (ad 69), .ref (ad k1), .int a2])).length) Slot.unset).toArray = ls at hl ⊢
  have hl : lv_has ls 5 [(0, .ref (ad 69)), (1, .ref (ad k1)), (2, .int a2)] := hl
  have hL84 : ∀ (x3 : Int32) (n84 : Nat) (h : Mem) (x4 : Int32), wpLX7_unpack_84 post k1 a2  x3 n84 (h, x4) → JM p l e (headSpec (ws_ yX7_unpack cX7_unpack 5 none) ({ frames := 1, cells := 0, slots := 0, locals := 30 })).room s m ([.ref (ad 69), .ref (ad k1), .int a2] : List Value).toArray below meth c (MQ below (MQv D cA E ad post) ([.ref (ad 69), .ref (ad k1), .int a2] : List Value).toArray s 0 0 (MA ad)) D cA E ad 5 84 h [(0, .ref (ad 69)), (1, .ref (ad k1)), (3, .int x3), (4, .int x4)] [] := by
    intro x3 n84
    induction n84 with
    | zero => intro h x4 hw; exact False.elim hw
    | succ n84 ih84 =>
      intro h x4 hw H locs ls hM hS hl
      have hw : wpBX7_unpack_84 post k1 a2  (fun h x4 => wpLX7_unpack_84 post k1 a2  x3 n84 (h, x4)) x3 h x4 := hw
      unfold wpBX7_unpack_84 at hw
      refine lv_iload hx hb dX7_unpack_84 (lv_at hl 3 rfl) ?_
      refine lv_bipush (v := (8 : Int32)) hx hb dX7_unpack_86 (by decide) ?_
      refine lv_icmp_ge (tgt := 113) hx hb dX7_unpack_88 (by decide) (fun c7 => ?_) (fun c7 => ?_)
      · have hw := hw.1 c7
        exact M_vret hx hb hr hlocks hM hS hw dX7_unpack_113
      · have hw := hw.2 c7
        refine lv_aload_n hx hb dX7_unpack_91 rfl (lv_at hl 0 rfl) ?_
        refine M_get hx hb hts hown hK hM 28 (v := .ref (ad 28)) (by decide) (hts _ q1711) rfl dX7_unpack_92 ?_
        refine lv_iload hx hb dX7_unpack_95 (lv_at hl 3 rfl) ?_
        refine lv_aload_n hx hb dX7_unpack_97 rfl (lv_at hl 1 rfl) ?_
        refine lv_iload_n hx hb dX7_unpack_98 rfl (lv_at hl 2 rfl) ?_
        refine lv_bipush (v := (6 : Int32)) hx hb dX7_unpack_99 (by decide) ?_
        refine lv_iadd hx hb dX7_unpack_101 ?_
        refine lv_iload hx hb dX7_unpack_102 (lv_at hl 3 rfl) ?_
        refine lv_iadd hx hb dX7_unpack_104 ?_
        obtain ⟨hb8, hw⟩ := hw
        refine M_iald hx hb hK hM k1 hk1 (j := (ix ((x3 + (6 : Int32)) + x4))) rfl hb8 dX7_unpack_105 ?_
        obtain ⟨hb9, hw⟩ := hw
        refine M_iast hx hb hK hM hJ hS 28 rfl (j := (ix x4)) rfl hb9 dX7_unpack_106 (fun H locs hM hS => ?_)
        obtain ⟨h10, eh10⟩ : ∃ y : Mem, y = up2 h 28 (ix x4) (h k1 (ix ((x3 + (6 : Int32)) + x4))) := ⟨_, rfl⟩
        rw [← eh10] at hM
        have hw := hw h10 eh10
        refine lv_iinc (v := (x4 + (1 : Int32))) (lv' := [(4, .int (x4 + (1 : Int32))), (0, .ref (ad 69)), (1, .ref (ad k1)), (3, .int x3)]) hx hb dX7_unpack_107 hl (k := 3) rfl rfl (by decide) rfl (fun ls hl => ?_)
        refine lv_goto (tgt := 84) hx hb dX7_unpack_110 (by decide) ?_
        exact ih84 h10 (x4 + (1 : Int32)) hw _ _ ls hM hS (lv_sub hl [1, 2, 3, 0] rfl)
  have hL55 : ∀ (x3 : Int32) (n55 : Nat) (h : Mem) (x4 : Int32), wpLX7_unpack_55 post k1 a2  x3 n55 (h, x4) → JM p l e (headSpec (ws_ yX7_unpack cX7_unpack 5 none) ({ frames := 1, cells := 0, slots := 0, locals := 30 })).room s m ([.ref (ad 69), .ref (ad k1), .int a2] : List Value).toArray below meth c (MQ below (MQv D cA E ad post) ([.ref (ad 69), .ref (ad k1), .int a2] : List Value).toArray s 0 0 (MA ad)) D cA E ad 5 55 h [(0, .ref (ad 69)), (1, .ref (ad k1)), (3, .int x3), (4, .int x4)] [] := by
    intro x3 n55
    induction n55 with
    | zero => intro h x4 hw; exact False.elim hw
    | succ n55 ih55 =>
      intro h x4 hw H locs ls hM hS hl
      have hw : wpBX7_unpack_55 post k1 a2  (fun h x4 => wpLX7_unpack_55 post k1 a2  x3 n55 (h, x4)) x3 h x4 := hw
      unfold wpBX7_unpack_55 at hw
      refine lv_iload hx hb dX7_unpack_55 (lv_at hl 3 rfl) ?_
      refine lv_bipush (v := (6 : Int32)) hx hb dX7_unpack_57 (by decide) ?_
      refine lv_icmp_ge (tgt := 81) hx hb dX7_unpack_59 (by decide) (fun c6 => ?_) (fun c6 => ?_)
      · have hw := hw.1 c6
        refine lv_iconst (v := (0 : Int32)) hx hb dX7_unpack_81 (by decide) ?_
        refine lv_istore (lv' := [(4, .int (0 : Int32)), (0, .ref (ad 69)), (1, .ref (ad k1)), (3, .int x3)]) hx hb dX7_unpack_82 hl (by decide) rfl (fun ls hl => ?_)
        obtain ⟨n11, hw⟩ := hw
        exact hL84 x3 n11 h (0 : Int32) hw _ _ ls hM hS (lv_sub hl [1, 2, 3, 0] rfl)
      · have hw := hw.2 c6
        refine lv_aload_n hx hb dX7_unpack_62 rfl (lv_at hl 0 rfl) ?_
        refine M_get hx hb hts hown hK hM 27 (v := .ref (ad 27)) (by decide) (hts _ q1710) rfl dX7_unpack_63 ?_
        refine lv_iload hx hb dX7_unpack_66 (lv_at hl 3 rfl) ?_
        refine lv_aload_n hx hb dX7_unpack_68 rfl (lv_at hl 1 rfl) ?_
        refine lv_iload_n hx hb dX7_unpack_69 rfl (lv_at hl 2 rfl) ?_
        refine lv_iload hx hb dX7_unpack_70 (lv_at hl 3 rfl) ?_
        refine lv_iadd hx hb dX7_unpack_72 ?_
        obtain ⟨hb12, hw⟩ := hw
        refine M_iald hx hb hK hM k1 hk1 (j := (ix (x3 + x4))) rfl hb12 dX7_unpack_73 ?_
        obtain ⟨hb13, hw⟩ := hw
        refine M_iast hx hb hK hM hJ hS 27 rfl (j := (ix x4)) rfl hb13 dX7_unpack_74 (fun H locs hM hS => ?_)
        obtain ⟨h14, eh14⟩ : ∃ y : Mem, y = up2 h 27 (ix x4) (h k1 (ix (x3 + x4))) := ⟨_, rfl⟩
        rw [← eh14] at hM
        have hw := hw h14 eh14
        refine lv_iinc (v := (x4 + (1 : Int32))) (lv' := [(4, .int (x4 + (1 : Int32))), (0, .ref (ad 69)), (1, .ref (ad k1)), (3, .int x3)]) hx hb dX7_unpack_75 hl (k := 3) rfl rfl (by decide) rfl (fun ls hl => ?_)
        refine lv_goto (tgt := 55) hx hb dX7_unpack_78 (by decide) ?_
        exact ih55 h14 (x4 + (1 : Int32)) hw _ _ ls hM hS (lv_sub hl [1, 2, 3, 0] rfl)
  have hL23 : ∀ (x3 : Int32) (n23 : Nat) (h : Mem) (x4 : Int32), wpLX7_unpack_23 post k1 a2  x3 n23 (h, x4) → JM p l e (headSpec (ws_ yX7_unpack cX7_unpack 5 none) ({ frames := 1, cells := 0, slots := 0, locals := 30 })).room s m ([.ref (ad 69), .ref (ad k1), .int a2] : List Value).toArray below meth c (MQ below (MQv D cA E ad post) ([.ref (ad 69), .ref (ad k1), .int a2] : List Value).toArray s 0 0 (MA ad)) D cA E ad 5 23 h [(0, .ref (ad 69)), (1, .ref (ad k1)), (3, .int x3), (4, .int x4)] [] := by
    intro x3 n23
    induction n23 with
    | zero => intro h x4 hw; exact False.elim hw
    | succ n23 ih23 =>
      intro h x4 hw H locs ls hM hS hl
      have hw : wpBX7_unpack_23 post k1 a2  (fun h x4 => wpLX7_unpack_23 post k1 a2  x3 n23 (h, x4)) x3 h x4 := hw
      unfold wpBX7_unpack_23 at hw
      refine lv_iload hx hb dX7_unpack_23 (lv_at hl 3 rfl) ?_
      refine lv_bipush (v := (64 : Int32)) hx hb dX7_unpack_25 (by decide) ?_
      refine lv_icmp_ge (tgt := 49) hx hb dX7_unpack_27 (by decide) (fun c5 => ?_) (fun c5 => ?_)
      · have hw := hw.1 c5
        refine lv_iinc (v := (x3 + (64 : Int32))) (lv' := [(3, .int (x3 + (64 : Int32))), (0, .ref (ad 69)), (1, .ref (ad k1)), (4, .int x4)]) hx hb dX7_unpack_49 hl (k := 2) rfl rfl (by decide) rfl (fun ls hl => ?_)
        refine lv_iconst (v := (0 : Int32)) hx hb dX7_unpack_52 (by decide) ?_
        refine lv_istore (lv' := [(4, .int (0 : Int32)), (3, .int (x3 + (64 : Int32))), (0, .ref (ad 69)), (1, .ref (ad k1))]) hx hb dX7_unpack_53 hl (by decide) rfl (fun ls hl => ?_)
        obtain ⟨n15, hw⟩ := hw
        exact hL55 (x3 + (64 : Int32)) n15 h (0 : Int32) hw _ _ ls hM hS (lv_sub hl [2, 3, 1, 0] rfl)
      · have hw := hw.2 c5
        refine lv_aload_n hx hb dX7_unpack_30 rfl (lv_at hl 0 rfl) ?_
        refine M_get hx hb hts hown hK hM 13 (v := .ref (ad 13)) (by decide) (hts _ q1696) rfl dX7_unpack_31 ?_
        refine lv_iload hx hb dX7_unpack_34 (lv_at hl 3 rfl) ?_
        refine lv_aload_n hx hb dX7_unpack_36 rfl (lv_at hl 1 rfl) ?_
        refine lv_iload_n hx hb dX7_unpack_37 rfl (lv_at hl 2 rfl) ?_
        refine lv_iload hx hb dX7_unpack_38 (lv_at hl 3 rfl) ?_
        refine lv_iadd hx hb dX7_unpack_40 ?_
        obtain ⟨hb16, hw⟩ := hw
        refine M_iald hx hb hK hM k1 hk1 (j := (ix (x3 + x4))) rfl hb16 dX7_unpack_41 ?_
        obtain ⟨hb17, hw⟩ := hw
        refine M_iast hx hb hK hM hJ hS 13 rfl (j := (ix x4)) rfl hb17 dX7_unpack_42 (fun H locs hM hS => ?_)
        obtain ⟨h18, eh18⟩ : ∃ y : Mem, y = up2 h 13 (ix x4) (h k1 (ix (x3 + x4))) := ⟨_, rfl⟩
        rw [← eh18] at hM
        have hw := hw h18 eh18
        refine lv_iinc (v := (x4 + (1 : Int32))) (lv' := [(4, .int (x4 + (1 : Int32))), (0, .ref (ad 69)), (1, .ref (ad k1)), (3, .int x3)]) hx hb dX7_unpack_43 hl (k := 3) rfl rfl (by decide) rfl (fun ls hl => ?_)
        refine lv_goto (tgt := 23) hx hb dX7_unpack_46 (by decide) ?_
        exact ih23 h18 (x4 + (1 : Int32)) hw _ _ ls hM hS (lv_sub hl [1, 2, 3, 0] rfl)
  unfold wpX7_unpack at hw
  refine lv_aload_n hx hb dX7_unpack_0 rfl (lv_at hl 0 rfl) ?_
  refine lv_aload_n hx hb dX7_unpack_1 rfl (lv_at hl 1 rfl) ?_
  refine lv_iload_n hx hb dX7_unpack_2 rfl (lv_at hl 2 rfl) ?_
  obtain ⟨hb1, hw⟩ := hw
  refine M_iald hx hb hK hM k1 hk1 (j := (ix a2)) rfl hb1 dX7_unpack_3 ?_
  refine M_put hx hb hts hown hK hM hJ hS 30 rfl rfl (hts _ q1713) rfl .int (by decide +kernel) rfl rfl dX7_unpack_4 (fun H locs hM hS => ?_)
  obtain ⟨h2, eh2⟩ : ∃ y : Mem, y = up2 h 30 0 (h k1 (ix a2)) := ⟨_, rfl⟩
  rw [← eh2] at hM
  have hw := hw h2 eh2
  refine lv_aload_n hx hb dX7_unpack_7 rfl (lv_at hl 0 rfl) ?_
  refine lv_aload_n hx hb dX7_unpack_8 rfl (lv_at hl 1 rfl) ?_
  refine lv_iload_n hx hb dX7_unpack_9 rfl (lv_at hl 2 rfl) ?_
  refine lv_iconst (v := (1 : Int32)) hx hb dX7_unpack_10 (by decide) ?_
  refine lv_iadd hx hb dX7_unpack_11 ?_
  obtain ⟨hb3, hw⟩ := hw
  refine M_iald hx hb hK hM k1 hk1 (j := (ix (a2 + (1 : Int32)))) rfl hb3 dX7_unpack_12 ?_
  refine M_put hx hb hts hown hK hM hJ hS 31 rfl rfl (hts _ q1714) rfl .int (by decide +kernel) rfl rfl dX7_unpack_13 (fun H locs hM hS => ?_)
  obtain ⟨h4, eh4⟩ : ∃ y : Mem, y = up2 h2 31 0 (h2 k1 (ix (a2 + (1 : Int32)))) := ⟨_, rfl⟩
  rw [← eh4] at hM
  have hw := hw h4 eh4
  refine lv_iload_n hx hb dX7_unpack_16 rfl (lv_at hl 2 rfl) ?_
  refine lv_iconst (v := (2 : Int32)) hx hb dX7_unpack_17 (by decide) ?_
  refine lv_iadd hx hb dX7_unpack_18 ?_
  refine lv_istore_n (lv' := [(3, .int (a2 + (2 : Int32))), (0, .ref (ad 69)), (1, .ref (ad k1)), (2, .int a2)]) hx hb dX7_unpack_19 rfl hl (by decide) rfl (fun ls hl => ?_)
  refine lv_iconst (v := (0 : Int32)) hx hb dX7_unpack_20 (by decide) ?_
  refine lv_istore (lv' := [(4, .int (0 : Int32)), (3, .int (a2 + (2 : Int32))), (0, .ref (ad 69)), (1, .ref (ad k1)), (2, .int a2)]) hx hb dX7_unpack_21 hl (by decide) rfl (fun ls hl => ?_)
  obtain ⟨n19, hw⟩ := hw
  exact hL23 (a2 + (2 : Int32)) n19 h4 (0 : Int32) hw _ _ ls hM hS (lv_sub hl [2, 3, 1, 0] rfl)

/-- undo()I -/
def wpX7_undo (post : Int32 → Mem → Prop) (h : Mem)  : Prop :=
  (∀ h1 : Mem, h1 = up2 h 2 0 (0 : Int32) → (((h1 32 0) = 0 → post (-1 : Int32) h1) ∧ (¬ (h1 32 0) = 0 → (∀ h3 : Mem, h3 = up2 h1 32 0 ((h1 32 0) - (1 : Int32)) → (wpX7_unpack (fun h5 => post (h5 32 0) h5) h3 29 ((80 : Int32) * (h3 32 0)))))))
set_option maxHeartbeats 4000000 in
set_option maxRecDepth 100000 in
theorem metX7_undo (l : Launch) (D : va_G) (cA : Nat → ClassId) (z0 : Nat) (E : Nat → Nat → Nat) (ad : Nat → Nat) (h : Mem)  (post : Int32 → Mem → Prop) (hw : wpX7_undo post h ) : MeI l D cA z0 E ad yX7_undo (ws_ yX7_undo cX7_undo 1 (some .int)) ({ frames := 2, cells := 0, slots := 0, locals := 54 }) [.ref (ad 69)] h post := by
  refine Met.ofW (cc := cX7_undo) (maxL := 1) (ret := (some .int)) (by decide) rfl ?_
  intro p e s m args below meth c s₁ B hml hv
  obtain ⟨rfl, hM, hK, hJ, hZ⟩ := hv
  have hx := B.exec
  have hb := B.bytes
  have hr := B.returns
  have hts := atoms_spec (ws := ws_ yX7_undo cX7_undo 1 (some .int)) B.pre
  have hts : ∀ w ∈ lw_all, w.before _ s = true := fun w h => hts w (List.mem_cons_of_mem _ h)
  have hown : s.vm.findClass RX7 = some m.cls := findClass_of_methodNamed B.named
  have hlocks := B.notSynchronized
  have hS : va_S (MA ad) s.heap s.heap [] := va_S.rf
  have hl := lv_entry ([.ref (ad 69)]) (n := 1) (Nat.le_of_ble_eq_true rfl)
  rw [lg_entry_eq]
  generalize (lg_sl ([.ref (ad 69)]) ++ List.replicate (1 - (lg_sl ([.ref (ad 69)])).length) Slot.unset).toArray = ls at hl ⊢
  have hl : lv_has ls 1 [(0, .ref (ad 69))] := hl
  unfold wpX7_undo at hw
  refine lv_aload_n hx hb dX7_undo_0 rfl (lv_at hl 0 rfl) ?_
  refine lv_iconst (v := (0 : Int32)) hx hb dX7_undo_1 (by decide) ?_
  refine M_put hx hb hts hown hK hM hJ hS 2 rfl rfl (hts _ q1685) rfl .int (by decide +kernel) rfl rfl dX7_undo_2 (fun H locs hM hS => ?_)
  obtain ⟨h1, eh1⟩ : ∃ y : Mem, y = up2 h 2 0 (0 : Int32) := ⟨_, rfl⟩
  rw [← eh1] at hM
  have hw := hw h1 eh1
  refine lv_aload_n hx hb dX7_undo_5 rfl (lv_at hl 0 rfl) ?_
  refine M_get hx hb hts hown hK hM 32 (v := .int (h1 32 0)) (by decide) (hts _ q1715) rfl dX7_undo_6 ?_
  refine lv_if_ne (tgt := 14) hx hb dX7_undo_9 (by decide) (fun c2 => ?_) (fun c2 => ?_)
  · have hw := hw.2 c2
    refine lv_aload_n hx hb dX7_undo_14 rfl (lv_at hl 0 rfl) ?_
    refine lv_dup hx hb dX7_undo_15 rfl ?_
    refine M_get hx hb hts hown hK hM 32 (v := .int (h1 32 0)) (by decide) (hts _ q1715) rfl dX7_undo_16 ?_
    refine lv_iconst (v := (1 : Int32)) hx hb dX7_undo_19 (by decide) ?_
    refine lv_isub hx hb dX7_undo_20 ?_
    refine M_put hx hb hts hown hK hM hJ hS 32 rfl rfl (hts _ q1715) rfl .int (by decide +kernel) rfl rfl dX7_undo_21 (fun H locs hM hS => ?_)
    obtain ⟨h3, eh3⟩ : ∃ y : Mem, y = up2 h1 32 0 ((h1 32 0) - (1 : Int32)) := ⟨_, rfl⟩
    rw [← eh3] at hM
    have hw := hw h3 eh3
    refine lv_aload_n hx hb dX7_undo_24 rfl (lv_at hl 0 rfl) ?_
    refine lv_aload_n hx hb dX7_undo_25 rfl (lv_at hl 0 rfl) ?_
    refine M_get hx hb hts hown hK hM 29 (v := .ref (ad 29)) (by decide) (hts _ q1712) rfl dX7_undo_26 ?_
    refine lv_bipush (v := (80 : Int32)) hx hb dX7_undo_29 (by decide) ?_
    refine lv_aload_n hx hb dX7_undo_31 rfl (lv_at hl 0 rfl) ?_
    refine M_get hx hb hts hown hK hM 32 (v := .int (h3 32 0)) (by decide) (hts _ q1715) rfl dX7_undo_32 ?_
    refine lv_imul hx hb dX7_undo_35 ?_
    refine M_callV (As := [.ref (ad 29), .int ((80 : Int32) * (h3 32 0))]) (rest := []) ⟨hx, hb, hml, hown, hts⟩ hK hZ hM hJ hS (metX7_unpack l D cA z0 E ad h3 29 ((80 : Int32) * (h3 32 0)) _ (by first | exact rfl | rfl) hw) (cwV 2 hts (lw_V q2174 q2176 qs88 q130 q2177) rfl rfl rfl (by decide +kernel) ⟨Nat.le_of_ble_eq_true rfl, Nat.le_of_ble_eq_true rfl⟩) rfl hl.1 rfl (Nat.le_of_ble_eq_true rfl) dX7_undo_36 ⟨Nat.zero_le _, Nat.zero_le _⟩ (fun h5 H locs hw hM hS => ?_)
    refine lv_aload_n hx hb dX7_undo_39 rfl (lv_at hl 0 rfl) ?_
    refine M_get hx hb hts hown hK hM 32 (v := .int (h5 32 0)) (by decide) (hts _ q1715) rfl dX7_undo_40 ?_
    exact M_iret hx hb hr hlocks hM hS hw dX7_undo_43
  · have hw := hw.1 c2
    refine lv_iconst (v := (-1 : Int32)) hx hb dX7_undo_12 (by decide) ?_
    exact M_iret hx hb hr hlocks hM hS hw dX7_undo_13

/-- canCut(II)Z -/
def wpX7_canCut (post : Bool → Prop) (h : Mem) (a1 : Int32) (a2 : Int32) : Prop :=
  (wpX7_mayNow (fun r1 => post (if r1 = 0 then true else (if r1 ≤ (3 : Int32) then false else true))) h a1 a2)
set_option maxHeartbeats 4000000 in
set_option maxRecDepth 100000 in
theorem metX7_canCut (l : Launch) (D : va_G) (cA : Nat → ClassId) (z0 : Nat) (E : Nat → Nat → Nat) (ad : Nat → Nat) (h : Mem) (a1 : Int32) (a2 : Int32) (post : Bool → Prop) (hw : wpX7_canCut post h a1 a2) : MeZ l D cA z0 E ad yX7_canCut (ws_ yX7_canCut cX7_canCut 4 (some .boolean)) ({ frames := 6, cells := 0, slots := 0, locals := 145 }) [.ref (ad 69), .int a1, .int a2] h (fun r h' => h' = h ∧ post r) := by
  refine Met.ofW (cc := cX7_canCut) (maxL := 4) (ret := (some .boolean)) (by decide) rfl ?_
  intro p e s m args below meth c s₁ B hml hv
  obtain ⟨rfl, hM, hK, hJ, hZ⟩ := hv
  have hx := B.exec
  have hb := B.bytes
  have hr := B.returns
  have hts := atoms_spec (ws := ws_ yX7_canCut cX7_canCut 4 (some .boolean)) B.pre
  have hts : ∀ w ∈ lw_all, w.before _ s = true := fun w h => hts w (List.mem_cons_of_mem _ h)
  have hown : s.vm.findClass RX7 = some m.cls := findClass_of_methodNamed B.named
  have hlocks := B.notSynchronized
  have hS : va_S (MA ad) s.heap s.heap [] := va_S.rf
  have hl := lv_entry ([.ref (ad 69), .int a1, .int a2]) (n := 4) (Nat.le_of_ble_eq_true rfl)
  rw [lg_entry_eq]
  generalize (lg_sl ([.ref (ad 69), .int a1, .int a2]) ++ List.replicate (4 - (lg_sl ([.ref (ad 69), .int a1, .int a2])).length) Slot.unset).toArray = ls at hl ⊢
  have hl : lv_has ls 4 [(0, .ref (ad 69)), (1, .int a1), (2, .int a2)] := hl
  unfold wpX7_canCut at hw
  refine lv_aload_n hx hb dX7_canCut_0 rfl (lv_at hl 0 rfl) ?_
  refine lv_iload_n hx hb dX7_canCut_1 rfl (lv_at hl 1 rfl) ?_
  refine lv_iload_n hx hb dX7_canCut_2 rfl (lv_at hl 2 rfl) ?_
  refine M_callIp (As := [.int a1, .int a2]) (rest := []) ⟨hx, hb, hml, hown, hts⟩ hK hZ hM hJ hS (metX7_mayNow l D cA z0 E ad h a1 a2 _ hw) (cwV 2 hts (lw_V q2082 q2084 qs76 q130 q2085) rfl rfl rfl (by decide +kernel) ⟨Nat.le_of_ble_eq_true rfl, Nat.le_of_ble_eq_true rfl⟩) rfl hl.1 rfl (Nat.le_of_ble_eq_true rfl) dX7_canCut_3 ⟨Nat.zero_le _, Nat.zero_le _⟩ (fun r1 H locs hw hM hS => ?_)
  refine lv_istore_n (lv' := [(3, .int r1), (0, .ref (ad 69)), (1, .int a1), (2, .int a2)]) hx hb dX7_canCut_6 rfl hl (by decide) rfl (fun ls hl => ?_)
  refine lv_iload_n hx hb dX7_canCut_7 rfl (lv_at hl 0 rfl) ?_
  have hj3 : JM p l e (headSpec (ws_ yX7_canCut cX7_canCut 4 (some .boolean)) ({ frames := 6, cells := 0, slots := 0, locals := 145 })).room s m ([.ref (ad 69), .int a1, .int a2] : List Value).toArray below meth c (MQ below (MQz D cA E ad (fun r h' => h' = h ∧ post r)) ([.ref (ad 69), .int a1, .int a2] : List Value).toArray s 0 0 (MA ad)) D cA E ad 4 21 h [] [.int (if r1 = 0 then (1 : Int32) else (if r1 ≤ (3 : Int32) then (0 : Int32) else (1 : Int32)))] := by
    intro H locs ls hM hS hl
    exact M_zret hx hb hr hlocks hM hS ⟨_, (b2i_pick rfl (b2i_pick rfl rfl)), ⟨rfl, hw⟩⟩ dX7_canCut_21
  refine lv_if_eq (tgt := 16) hx hb dX7_canCut_8 (by decide) (fun c4 => ?_) (fun c4 => ?_)
  · refine lv_iconst (v := (1 : Int32)) hx hb dX7_canCut_16 (by decide) ?_
    refine lv_goto (tgt := 21) hx hb dX7_canCut_17 (by decide) ?_
    have e5 : (if r1 = 0 then (1 : Int32) else (if r1 ≤ (3 : Int32) then (0 : Int32) else (1 : Int32))) = (1 : Int32) := by rw [if_pos c4]
    rw [e5] at hj3
    exact hj3 _ _ ls hM hS (lv_sub hl [] rfl)
  · refine lv_iload_n hx hb dX7_canCut_11 rfl (lv_at hl 0 rfl) ?_
    refine lv_iconst (v := (3 : Int32)) hx hb dX7_canCut_12 (by decide) ?_
    refine lv_icmp_le (tgt := 20) hx hb dX7_canCut_13 (by decide) (fun c6 => ?_) (fun c6 => ?_)
    · refine lv_iconst (v := (0 : Int32)) hx hb dX7_canCut_20 (by decide) ?_
      have e7 : (if r1 = 0 then (1 : Int32) else (if r1 ≤ (3 : Int32) then (0 : Int32) else (1 : Int32))) = (0 : Int32) := by rw [if_neg c4, if_pos c6]
      rw [e7] at hj3
      exact hj3 _ _ ls hM hS (lv_sub hl [] rfl)
    · refine lv_iconst (v := (1 : Int32)) hx hb dX7_canCut_16 (by decide) ?_
      refine lv_goto (tgt := 21) hx hb dX7_canCut_17 (by decide) ?_
      have e8 : (if r1 = 0 then (1 : Int32) else (if r1 ≤ (3 : Int32) then (0 : Int32) else (1 : Int32))) = (1 : Int32) := by rw [if_neg c4, if_neg c6]
      rw [e8] at hj3
      exact hj3 _ _ ls hM hS (lv_sub hl [] rfl)

/-- from(II)I -/
def wpX7_from (post : Int32 → Prop) (h : Mem) (a1 : Int32) (a2 : Int32) : Prop :=
  (vp_in a2 (mlen 9) ∧ (vp_in a1 (mlen 5) ∧ (vp_in a2 (mlen 7) ∧ post ((mxI (h 31 0) (h 9 (ix a2))) + (abI ((h 5 (ix a1)) - (h 7 (ix a2))))))))
set_option maxHeartbeats 4000000 in
set_option maxRecDepth 100000 in
theorem metX7_from (l : Launch) (D : va_G) (cA : Nat → ClassId) (z0 : Nat) (E : Nat → Nat → Nat) (ad : Nat → Nat) (h : Mem) (a1 : Int32) (a2 : Int32) (post : Int32 → Prop) (hw : wpX7_from post h a1 a2) : MeI l D cA z0 E ad yX7_from (ws_ yX7_from cX7_from 3 (some .int)) ({ frames := 2, cells := 0, slots := 0, locals := 30 }) [.ref (ad 69), .int a1, .int a2] h (fun r h' => h' = h ∧ post r) := by
  refine Met.ofW (cc := cX7_from) (maxL := 3) (ret := (some .int)) (by decide) rfl ?_
  intro p e s m args below meth c s₁ B hml hv
  obtain ⟨rfl, hM, hK, hJ, hZ⟩ := hv
  have hx := B.exec
  have hb := B.bytes
  have hr := B.returns
  have hts := atoms_spec (ws := ws_ yX7_from cX7_from 3 (some .int)) B.pre
  have hts : ∀ w ∈ lw_all, w.before _ s = true := fun w h => hts w (List.mem_cons_of_mem _ h)
  have hown : s.vm.findClass RX7 = some m.cls := findClass_of_methodNamed B.named
  have hlocks := B.notSynchronized
  have hS : va_S (MA ad) s.heap s.heap [] := va_S.rf
  have hl := lv_entry ([.ref (ad 69), .int a1, .int a2]) (n := 3) (Nat.le_of_ble_eq_true rfl)
  rw [lg_entry_eq]
  generalize (lg_sl ([.ref (ad 69), .int a1, .int a2]) ++ List.replicate (3 - (lg_sl ([.ref (ad 69), .int a1, .int a2])).length) Slot.unset).toArray = ls at hl ⊢
  have hl : lv_has ls 3 [(0, .ref (ad 69)), (1, .int a1), (2, .int a2)] := hl
  unfold wpX7_from at hw
  refine lv_aload_n hx hb dX7_from_0 rfl (lv_at hl 0 rfl) ?_
  refine M_get hx hb hts hown hK hM 31 (v := .int (h 31 0)) (by decide) (hts _ q1714) rfl dX7_from_1 ?_
  refine lv_aload_n hx hb dX7_from_4 rfl (lv_at hl 0 rfl) ?_
  refine M_get hx hb hts hown hK hM 9 (v := .ref (ad 9)) (by decide) (hts _ q1692) rfl dX7_from_5 ?_
  refine lv_iload_n hx hb dX7_from_8 rfl (lv_at hl 2 rfl) ?_
  obtain ⟨hb1, hw⟩ := hw
  refine M_iald hx hb hK hM 9 rfl (j := (ix a2)) rfl hb1 dX7_from_9 ?_
  refine J_mxI hx hb hml hl.1 hown (hts _ q2019) (hts _ q273) (hts _ q118) (hts _ q274) (Nat.le_of_ble_eq_true rfl) (Nat.le_of_ble_eq_true rfl) (Nat.zero_le _) (Nat.zero_le _) dX7_from_10 ?_
  refine lv_aload_n hx hb dX7_from_13 rfl (lv_at hl 0 rfl) ?_
  refine M_get hx hb hts hown hK hM 5 (v := .ref (ad 5)) (by decide) (hts _ q1688) rfl dX7_from_14 ?_
  refine lv_iload_n hx hb dX7_from_17 rfl (lv_at hl 1 rfl) ?_
  obtain ⟨hb2, hw⟩ := hw
  refine M_iald hx hb hK hM 5 rfl (j := (ix a1)) rfl hb2 dX7_from_18 ?_
  refine lv_aload_n hx hb dX7_from_19 rfl (lv_at hl 0 rfl) ?_
  refine M_get hx hb hts hown hK hM 7 (v := .ref (ad 7)) (by decide) (hts _ q1690) rfl dX7_from_20 ?_
  refine lv_iload_n hx hb dX7_from_23 rfl (lv_at hl 2 rfl) ?_
  obtain ⟨hb3, hw⟩ := hw
  refine M_iald hx hb hK hM 7 rfl (j := (ix a2)) rfl hb3 dX7_from_24 ?_
  refine lv_isub hx hb dX7_from_25 ?_
  refine J_abI hx hb hml hl.1 hown (hts _ q2202) (hts _ q889) (hts _ q118) (hts _ q890) (Nat.le_of_ble_eq_true rfl) (Nat.le_of_ble_eq_true rfl) (Nat.zero_le _) (Nat.zero_le _) dX7_from_26 ?_
  refine lv_iadd hx hb dX7_from_29 ?_
  exact M_iret hx hb hr hlocks hM hS ⟨rfl, hw⟩ dX7_from_30

/-- until(I)I -/
def wpX7_until (post : Int32 → Prop) (h : Mem) (a1 : Int32) : Prop :=
  (vp_in a1 (mlen 9) ∧ (vp_in a1 (mlen 10) ∧ post (mnI (h 3 4) ((h 9 (ix a1)) + (h 10 (ix a1))))))
set_option maxHeartbeats 4000000 in
set_option maxRecDepth 100000 in
theorem metX7_until (l : Launch) (D : va_G) (cA : Nat → ClassId) (z0 : Nat) (E : Nat → Nat → Nat) (ad : Nat → Nat) (h : Mem) (a1 : Int32) (post : Int32 → Prop) (hw : wpX7_until post h a1) : MeI l D cA z0 E ad yX7_until (ws_ yX7_until cX7_until 2 (some .int)) ({ frames := 2, cells := 0, slots := 0, locals := 30 }) [.ref (ad 69), .int a1] h (fun r h' => h' = h ∧ post r) := by
  refine Met.ofW (cc := cX7_until) (maxL := 2) (ret := (some .int)) (by decide) rfl ?_
  intro p e s m args below meth c s₁ B hml hv
  obtain ⟨rfl, hM, hK, hJ, hZ⟩ := hv
  have hx := B.exec
  have hb := B.bytes
  have hr := B.returns
  have hts := atoms_spec (ws := ws_ yX7_until cX7_until 2 (some .int)) B.pre
  have hts : ∀ w ∈ lw_all, w.before _ s = true := fun w h => hts w (List.mem_cons_of_mem _ h)
  have hown : s.vm.findClass RX7 = some m.cls := findClass_of_methodNamed B.named
  have hlocks := B.notSynchronized
  have hS : va_S (MA ad) s.heap s.heap [] := va_S.rf
  have hl := lv_entry ([.ref (ad 69), .int a1]) (n := 2) (Nat.le_of_ble_eq_true rfl)
  rw [lg_entry_eq]
  generalize (lg_sl ([.ref (ad 69), .int a1]) ++ List.replicate (2 - (lg_sl ([.ref (ad 69), .int a1])).length) Slot.unset).toArray = ls at hl ⊢
  have hl : lv_has ls 2 [(0, .ref (ad 69)), (1, .int a1)] := hl
  unfold wpX7_until at hw
  refine lv_aload_n hx hb dX7_until_0 rfl (lv_at hl 0 rfl) ?_
  refine M_get hx hb hts hown hK hM 3 (v := .ref (ad 3)) (by decide) (hts _ q1686) rfl dX7_until_1 ?_
  refine lv_iconst (v := (4 : Int32)) hx hb dX7_until_4 (by decide) ?_
  refine M_iald hx hb hK hM 3 rfl (j := 4) rfl (by unfold vp_in; decide) dX7_until_5 ?_
  refine lv_aload_n hx hb dX7_until_6 rfl (lv_at hl 0 rfl) ?_
  refine M_get hx hb hts hown hK hM 9 (v := .ref (ad 9)) (by decide) (hts _ q1692) rfl dX7_until_7 ?_
  refine lv_iload_n hx hb dX7_until_10 rfl (lv_at hl 1 rfl) ?_
  obtain ⟨hb1, hw⟩ := hw
  refine M_iald hx hb hK hM 9 rfl (j := (ix a1)) rfl hb1 dX7_until_11 ?_
  refine lv_aload_n hx hb dX7_until_12 rfl (lv_at hl 0 rfl) ?_
  refine M_get hx hb hts hown hK hM 10 (v := .ref (ad 10)) (by decide) (hts _ q1693) rfl dX7_until_13 ?_
  refine lv_iload_n hx hb dX7_until_16 rfl (lv_at hl 1 rfl) ?_
  obtain ⟨hb2, hw⟩ := hw
  refine M_iald hx hb hK hM 10 rfl (j := (ix a1)) rfl hb2 dX7_until_17 ?_
  refine lv_iadd hx hb dX7_until_18 ?_
  refine J_mnI hx hb hml hl.1 hown (hts _ q1923) (hts _ q291) (hts _ q118) (hts _ q292) (Nat.le_of_ble_eq_true rfl) (Nat.le_of_ble_eq_true rfl) (Nat.zero_le _) (Nat.zero_le _) dX7_until_19 ?_
  exact M_iret hx hb hr hlocks hM hS ⟨rfl, hw⟩ dX7_until_22

/-- isInTime(II)Z -/
def wpBX7_isInTime_150 (post : Bool → Prop) (a1 : Int32) (a2 : Int32)  (h : Mem) (x3 : Int32)  : Prop :=
  post (if x3 = 0 then true else false)
def wpBX7_isInTime_119 (post : Bool → Prop) (a1 : Int32) (a2 : Int32) (K38 : Int32 → Int32 → Prop) (K55 : Int32 → Int32 → Prop) (h : Mem) (x3 : Int32) (x4 : Int32) (x6 : Int32)  : Prop :=
  K55 x6 (x6 + (1 : Int32))
def wpBX7_isInTime_55 (post : Bool → Prop) (a1 : Int32) (a2 : Int32) (K38 : Int32 → Int32 → Prop) (K55 : Int32 → Int32 → Prop) (h : Mem) (x3 : Int32) (x4 : Int32) (x5 : Int32) (x6 : Int32) : Prop :=
  ((a2 ≤ x6 → K38 (if x5 = (-1 : Int32) then x3 else (x3 &&& (((1 : Int32) <<< (x5 &&& 31)) ^^^ (-1 : Int32)))) (x4 + (1 : Int32))) ∧ (¬ a2 ≤ x6 → (wpX7_isOf (fun r13 => ((r13 = true → (wpX7_until (fun r16 => ((x4 ≤ r16 → (wpX7_from (fun r19 => ((x4 < r19 → K55 x5 (x6 + (1 : Int32))) ∧ (¬ x4 < r19 → ((x5 = (-1 : Int32) → wpBX7_isInTime_119 post a1 a2 K38 K55 h x3 x4 x6) ∧ (¬ x5 = (-1 : Int32) → (wpX7_until (fun r23 => (wpX7_until (fun r25 => K55 (if r25 ≤ r23 then x5 else x6) (x6 + (1 : Int32))) h x5)) h x6)))))) h a1 x6)) ∧ (¬ x4 ≤ r16 → post false))) h x6)) ∧ (¬ r13 = true → K55 x5 (x6 + (1 : Int32))))) h x3 x6)))
def wpLX7_isInTime_55 (post : Bool → Prop) (a1 : Int32) (a2 : Int32) (K38 : Int32 → Int32 → Prop) (h : Mem) (x3 : Int32) (x4 : Int32) : Nat → (Int32 × Int32) → Prop := LW (fun K s => wpBX7_isInTime_55 post a1 a2 K38 (fun x5 x6 => K (x5, x6)) h x3 x4 s.1 s.2)
def wpBX7_isInTime_38 (post : Bool → Prop) (a1 : Int32) (a2 : Int32)  (K38 : Int32 → Int32 → Prop) (h : Mem)  (x3 : Int32) (x4 : Int32) : Prop :=
  (((24 : Int32) ≤ x4 → wpBX7_isInTime_150 post a1 a2  h x3) ∧ (¬ (24 : Int32) ≤ x4 → ((x3 = 0 → wpBX7_isInTime_150 post a1 a2  h x3) ∧ (¬ x3 = 0 → (∃ n, wpLX7_isInTime_55 post a1 a2 K38 h x3 x4 n ((-1 : Int32), (0 : Int32)))))))
def wpLX7_isInTime_38 (post : Bool → Prop) (a1 : Int32) (a2 : Int32)  (h : Mem)  : Nat → (Int32 × Int32) → Prop := LW (fun K s => wpBX7_isInTime_38 post a1 a2  (fun x3 x4 => K (x3, x4)) h  s.1 s.2)
def wpBX7_isInTime_5 (post : Bool → Prop) (a1 : Int32) (a2 : Int32)  (K5 : Int32 → Int32 → Prop) (h : Mem)  (x3 : Int32) (x4 : Int32) : Prop :=
  ((a2 ≤ x4 → (∃ n, wpLX7_isInTime_38 post a1 a2  h n (x3, (0 : Int32)))) ∧ (¬ a2 ≤ x4 → (vp_in x4 (mlen 42) ∧ K5 (if (h 42 (ix x4)) = a1 then (x3 ||| ((1 : Int32) <<< (x4 &&& 31))) else x3) (x4 + (1 : Int32)))))
def wpLX7_isInTime_5 (post : Bool → Prop) (a1 : Int32) (a2 : Int32)  (h : Mem)  : Nat → (Int32 × Int32) → Prop := LW (fun K s => wpBX7_isInTime_5 post a1 a2  (fun x3 x4 => K (x3, x4)) h  s.1 s.2)
def wpX7_isInTime (post : Bool → Prop) (h : Mem) (a1 : Int32) (a2 : Int32) : Prop :=
  (∃ n, wpLX7_isInTime_5 post a1 a2  h n ((0 : Int32), (0 : Int32)))
set_option maxHeartbeats 4000000 in
set_option maxRecDepth 100000 in
theorem metX7_isInTime (l : Launch) (D : va_G) (cA : Nat → ClassId) (z0 : Nat) (E : Nat → Nat → Nat) (ad : Nat → Nat) (h : Mem) (a1 : Int32) (a2 : Int32) (post : Bool → Prop) (hw : wpX7_isInTime post h a1 a2) : MeZ l D cA z0 E ad yX7_isInTime (ws_ yX7_isInTime cX7_isInTime 7 (some .boolean)) ({ frames := 3, cells := 0, slots := 0, locals := 52 }) [.ref (ad 69), .int a1, .int a2] h (fun r h' => h' = h ∧ post r) := by
  refine Met.ofW (cc := cX7_isInTime) (maxL := 7) (ret := (some .boolean)) (by decide) rfl ?_
  intro p e s m args below meth c s₁ B hml hv
  obtain ⟨rfl, hM, hK, hJ, hZ⟩ := hv
  have hx := B.exec
  have hb := B.bytes
  have hr := B.returns
  have hts := atoms_spec (ws := ws_ yX7_isInTime cX7_isInTime 7 (some .boolean)) B.pre
  have hts : ∀ w ∈ lw_all, w.before _ s = true := fun w h => hts w (List.mem_cons_of_mem _ h)
  have hown : s.vm.findClass RX7 = some m.cls := findClass_of_methodNamed B.named
  have hlocks := B.notSynchronized
  have hS : va_S (MA ad) s.heap s.heap [] := va_S.rf
  have hl := lv_entry ([.ref (ad 69), .int a1, .int a2]) (n := 7) (Nat.le_of_ble_eq_true rfl)
  rw [lg_entry_eq]
  generalize (lg_sl ([.ref (ad 69), .int a1, .int a2]) ++ List.replicate (7 - (lg_sl ([.ref (ad 69), .int a1, .int a2])).length) Slot.unset).toArray = ls at hl ⊢
  have hl : lv_has ls 7 [(0, .ref (ad 69)), (1, .int a1), (2, .int a2)] := hl
  have hB150 : ∀ (x3 : Int32), wpBX7_isInTime_150 post a1 a2  h x3 → JM p l e (headSpec (ws_ yX7_isInTime cX7_isInTime 7 (some .boolean)) ({ frames := 3, cells := 0, slots := 0, locals := 52 })).room s m ([.ref (ad 69), .int a1, .int a2] : List Value).toArray below meth c (MQ below (MQz D cA E ad (fun r h' => h' = h ∧ post r)) ([.ref (ad 69), .int a1, .int a2] : List Value).toArray s 0 0 (MA ad)) D cA E ad 7 150 h [(3, .int x3)] [] := by
    intro x3 hw H locs ls hM hS hl
    unfold wpBX7_isInTime_150 at hw
    refine lv_iload_n hx hb dX7_isInTime_150 rfl (lv_at hl 0 rfl) ?_
    have hj3 : JM p l e (headSpec (ws_ yX7_isInTime cX7_isInTime 7 (some .boolean)) ({ frames := 3, cells := 0, slots := 0, locals := 52 })).room s m ([.ref (ad 69), .int a1, .int a2] : List Value).toArray below meth c (MQ below (MQz D cA E ad (fun r h' => h' = h ∧ post r)) ([.ref (ad 69), .int a1, .int a2] : List Value).toArray s 0 0 (MA ad)) D cA E ad 7 159 h [] [.int (if x3 = 0 then (1 : Int32) else (0 : Int32))] := by
      intro H locs ls hM hS hl
      exact M_zret hx hb hr hlocks hM hS ⟨_, (b2i_pick rfl rfl), ⟨rfl, hw⟩⟩ dX7_isInTime_159
    refine lv_if_ne (tgt := 158) hx hb dX7_isInTime_151 (by decide) (fun c4 => ?_) (fun c4 => ?_)
    · refine lv_iconst (v := (0 : Int32)) hx hb dX7_isInTime_158 (by decide) ?_
      have e5 : (if x3 = 0 then (1 : Int32) else (0 : Int32)) = (0 : Int32) := by rw [if_neg c4]
      rw [e5] at hj3
      exact hj3 _ _ ls hM hS (lv_sub hl [] rfl)
    · refine lv_iconst (v := (1 : Int32)) hx hb dX7_isInTime_154 (by decide) ?_
      refine lv_goto (tgt := 159) hx hb dX7_isInTime_155 (by decide) ?_
      have e6 : (if x3 = 0 then (1 : Int32) else (0 : Int32)) = (1 : Int32) := by rw [if_pos c4]
      rw [e6] at hj3
      exact hj3 _ _ ls hM hS (lv_sub hl [] rfl)
  have hL38 : ∀  (n38 : Nat) (x3 : Int32) (x4 : Int32), wpLX7_isInTime_38 post a1 a2  h  n38 (x3, x4) → JM p l e (headSpec (ws_ yX7_isInTime cX7_isInTime 7 (some .boolean)) ({ frames := 3, cells := 0, slots := 0, locals := 52 })).room s m ([.ref (ad 69), .int a1, .int a2] : List Value).toArray below meth c (MQ below (MQz D cA E ad (fun r h' => h' = h ∧ post r)) ([.ref (ad 69), .int a1, .int a2] : List Value).toArray s 0 0 (MA ad)) D cA E ad 7 38 h [(0, .ref (ad 69)), (1, .int a1), (2, .int a2), (3, .int x3), (4, .int x4)] [] := by
    intro  n38
    induction n38 with
    | zero => intro x3 x4 hw; exact False.elim hw
    | succ n38 ih38 =>
      have hL55 : ∀ (x3 : Int32) (x4 : Int32) (n55 : Nat) (x5 : Int32) (x6 : Int32), wpLX7_isInTime_55 post a1 a2 (fun x3 x4 => wpLX7_isInTime_38 post a1 a2  h  n38 (x3, x4)) h x3 x4 n55 (x5, x6) → JM p l e (headSpec (ws_ yX7_isInTime cX7_isInTime 7 (some .boolean)) ({ frames := 3, cells := 0, slots := 0, locals := 52 })).room s m ([.ref (ad 69), .int a1, .int a2] : List Value).toArray below meth c (MQ below (MQz D cA E ad (fun r h' => h' = h ∧ post r)) ([.ref (ad 69), .int a1, .int a2] : List Value).toArray s 0 0 (MA ad)) D cA E ad 7 55 h [(0, .ref (ad 69)), (1, .int a1), (2, .int a2), (3, .int x3), (4, .int x4), (5, .int x5), (6, .int x6)] [] := by
        intro x3 x4 n55
        induction n55 with
        | zero => intro x5 x6 hw; exact False.elim hw
        | succ n55 ih55 =>
          have hB119 : ∀ (x6 : Int32), wpBX7_isInTime_119 post a1 a2 (fun x3 x4 => wpLX7_isInTime_38 post a1 a2  h  n38 (x3, x4)) (fun x5 x6 => wpLX7_isInTime_55 post a1 a2 (fun x3 x4 => wpLX7_isInTime_38 post a1 a2  h  n38 (x3, x4)) h x3 x4 n55 (x5, x6)) h x3 x4 x6 → JM p l e (headSpec (ws_ yX7_isInTime cX7_isInTime 7 (some .boolean)) ({ frames := 3, cells := 0, slots := 0, locals := 52 })).room s m ([.ref (ad 69), .int a1, .int a2] : List Value).toArray below meth c (MQ below (MQz D cA E ad (fun r h' => h' = h ∧ post r)) ([.ref (ad 69), .int a1, .int a2] : List Value).toArray s 0 0 (MA ad)) D cA E ad 7 119 h [(0, .ref (ad 69)), (1, .int a1), (2, .int a2), (3, .int x3), (4, .int x4), (6, .int x6)] [] := by
            intro x6 hw H locs ls hM hS hl
            unfold wpBX7_isInTime_119 at hw
            refine lv_iload hx hb dX7_isInTime_119 (lv_at hl 5 rfl) ?_
            refine lv_istore (lv' := [(5, .int x6), (0, .ref (ad 69)), (1, .int a1), (2, .int a2), (3, .int x3), (4, .int x4), (6, .int x6)]) hx hb dX7_isInTime_121 hl (by decide) rfl (fun ls hl => ?_)
            refine lv_iinc (v := (x6 + (1 : Int32))) (lv' := [(6, .int (x6 + (1 : Int32))), (5, .int x6), (0, .ref (ad 69)), (1, .int a1), (2, .int a2), (3, .int x3), (4, .int x4)]) hx hb dX7_isInTime_123 hl (k := 6) rfl rfl (by decide) rfl (fun ls hl => ?_)
            refine lv_goto (tgt := 55) hx hb dX7_isInTime_126 (by decide) ?_
            exact ih55 x6 (x6 + (1 : Int32)) hw _ _ ls hM hS (lv_sub hl [2, 3, 4, 5, 6, 1, 0] rfl)
          intro x5 x6 hw H locs ls hM hS hl
          have hw : wpBX7_isInTime_55 post a1 a2 (fun x3 x4 => wpLX7_isInTime_38 post a1 a2  h  n38 (x3, x4)) (fun x5 x6 => wpLX7_isInTime_55 post a1 a2 (fun x3 x4 => wpLX7_isInTime_38 post a1 a2  h  n38 (x3, x4)) h x3 x4 n55 (x5, x6)) h x3 x4 x5 x6 := hw
          unfold wpBX7_isInTime_55 at hw
          refine lv_iload hx hb dX7_isInTime_55 (lv_at hl 6 rfl) ?_
          refine lv_iload_n hx hb dX7_isInTime_57 rfl (lv_at hl 2 rfl) ?_
          refine lv_icmp_ge (tgt := 129) hx hb dX7_isInTime_58 (by decide) (fun c8 => ?_) (fun c8 => ?_)
          · have hw := hw.1 c8
            refine lv_iload hx hb dX7_isInTime_129 (lv_at hl 5 rfl) ?_
            refine lv_iconst (v := (-1 : Int32)) hx hb dX7_isInTime_131 (by decide) ?_
            have hj9 : JM p l e (headSpec (ws_ yX7_isInTime cX7_isInTime 7 (some .boolean)) ({ frames := 3, cells := 0, slots := 0, locals := 52 })).room s m ([.ref (ad 69), .int a1, .int a2] : List Value).toArray below meth c (MQ below (MQz D cA E ad (fun r h' => h' = h ∧ post r)) ([.ref (ad 69), .int a1, .int a2] : List Value).toArray s 0 0 (MA ad)) D cA E ad 7 144 h [(0, .ref (ad 69)), (1, .int a1), (2, .int a2), (3, .int (if x5 = (-1 : Int32) then x3 else (x3 &&& (((1 : Int32) <<< (x5 &&& 31)) ^^^ (-1 : Int32))))), (4, .int x4)] [] := by
              intro H locs ls hM hS hl
              refine lv_iinc (v := (x4 + (1 : Int32))) (lv' := [(4, .int (x4 + (1 : Int32))), (0, .ref (ad 69)), (1, .int a1), (2, .int a2), (3, .int (if x5 = (-1 : Int32) then x3 else (x3 &&& (((1 : Int32) <<< (x5 &&& 31)) ^^^ (-1 : Int32)))))]) hx hb dX7_isInTime_144 hl (k := 4) rfl rfl (by decide) rfl (fun ls hl => ?_)
              refine lv_goto (tgt := 38) hx hb dX7_isInTime_147 (by decide) ?_
              exact ih38 (if x5 = (-1 : Int32) then x3 else (x3 &&& (((1 : Int32) <<< (x5 &&& 31)) ^^^ (-1 : Int32)))) (x4 + (1 : Int32)) hw _ _ ls hM hS (lv_sub hl [1, 2, 3, 4, 0] rfl)
            refine lv_icmp_eq (tgt := 144) hx hb dX7_isInTime_132 (by decide) (fun c10 => ?_) (fun c10 => ?_)
            · have e11 : (if x5 = (-1 : Int32) then x3 else (x3 &&& (((1 : Int32) <<< (x5 &&& 31)) ^^^ (-1 : Int32)))) = x3 := by rw [if_pos c10]
              rw [e11] at hj9
              exact hj9 _ _ ls hM hS (lv_sub hl [0, 1, 2, 3, 4] rfl)
            · refine lv_iload_n hx hb dX7_isInTime_135 rfl (lv_at hl 3 rfl) ?_
              refine lv_iconst (v := (1 : Int32)) hx hb dX7_isInTime_136 (by decide) ?_
              refine lv_iload hx hb dX7_isInTime_137 (lv_at hl 5 rfl) ?_
              refine lv_ishl hx hb dX7_isInTime_139 ?_
              refine lv_iconst (v := (-1 : Int32)) hx hb dX7_isInTime_140 (by decide) ?_
              refine lv_ixor hx hb dX7_isInTime_141 ?_
              refine lv_iand hx hb dX7_isInTime_142 ?_
              refine lv_istore_n (lv' := [(3, .int (x3 &&& (((1 : Int32) <<< (x5 &&& 31)) ^^^ (-1 : Int32)))), (0, .ref (ad 69)), (1, .int a1), (2, .int a2), (4, .int x4), (5, .int x5), (6, .int x6)]) hx hb dX7_isInTime_143 rfl hl (by decide) rfl (fun ls hl => ?_)
              have e12 : (if x5 = (-1 : Int32) then x3 else (x3 &&& (((1 : Int32) <<< (x5 &&& 31)) ^^^ (-1 : Int32)))) = (x3 &&& (((1 : Int32) <<< (x5 &&& 31)) ^^^ (-1 : Int32))) := by rw [if_neg c10]
              rw [e12] at hj9
              exact hj9 _ _ ls hM hS (lv_sub hl [1, 2, 3, 0, 4] rfl)
          · have hw := hw.2 c8
            refine lv_iload_n hx hb dX7_isInTime_61 rfl (lv_at hl 3 rfl) ?_
            refine lv_iload hx hb dX7_isInTime_62 (lv_at hl 6 rfl) ?_
            refine M_callZSp (As := [.int x3, .int x6]) (rest := []) ⟨hx, hb, hml, hown, hts⟩ hK hZ hM hJ hS (metX7_isOf l D cA z0 E ad h x3 x6 _ hw) (va_cwS 2 hts (lw_S q2008 q2009 q130 q2010) rfl rfl rfl (by decide +kernel) ⟨Nat.le_of_ble_eq_true rfl, Nat.le_of_ble_eq_true rfl⟩) rfl hl.1 rfl (Nat.le_of_ble_eq_true rfl) dX7_isInTime_64 ⟨Nat.zero_le _, Nat.zero_le _⟩ (fun r13 H locs hw hM hS => ?_)
            refine lv_if_ne (tgt := 73) hx hb dX7_isInTime_67 (by decide) (fun c15 => ?_) (fun c15 => ?_)
            · have c15 := b2i_t c15
              have hw := hw.1 c15
              refine lv_aload_n hx hb dX7_isInTime_73 rfl (lv_at hl 0 rfl) ?_
              refine lv_iload hx hb dX7_isInTime_74 (lv_at hl 6 rfl) ?_
              refine M_callIp (As := [.int x6]) (rest := []) ⟨hx, hb, hml, hown, hts⟩ hK hZ hM hJ hS (metX7_until l D cA z0 E ad h x6 _ hw) (cwV 1 hts (lw_V q2194 q2196 qs92 q130 q2197) rfl rfl rfl (by decide +kernel) ⟨Nat.le_of_ble_eq_true rfl, Nat.le_of_ble_eq_true rfl⟩) rfl hl.1 rfl (Nat.le_of_ble_eq_true rfl) dX7_isInTime_76 ⟨Nat.zero_le _, Nat.zero_le _⟩ (fun r16 H locs hw hM hS => ?_)
              refine lv_iload hx hb dX7_isInTime_79 (lv_at hl 4 rfl) ?_
              refine lv_icmp_ge (tgt := 86) hx hb dX7_isInTime_81 (by decide) (fun c18 => ?_) (fun c18 => ?_)
              · have hw := hw.1 c18
                refine lv_aload_n hx hb dX7_isInTime_86 rfl (lv_at hl 0 rfl) ?_
                refine lv_iload_n hx hb dX7_isInTime_87 rfl (lv_at hl 1 rfl) ?_
                refine lv_iload hx hb dX7_isInTime_88 (lv_at hl 6 rfl) ?_
                refine M_callIp (As := [.int a1, .int x6]) (rest := []) ⟨hx, hb, hml, hown, hts⟩ hK hZ hM hJ hS (metX7_from l D cA z0 E ad h a1 x6 _ hw) (cwV 2 hts (lw_V q2198 q2200 qs93 q130 q2201) rfl rfl rfl (by decide +kernel) ⟨Nat.le_of_ble_eq_true rfl, Nat.le_of_ble_eq_true rfl⟩) rfl hl.1 rfl (Nat.le_of_ble_eq_true rfl) dX7_isInTime_90 ⟨Nat.zero_le _, Nat.zero_le _⟩ (fun r19 H locs hw hM hS => ?_)
                refine lv_iload hx hb dX7_isInTime_93 (lv_at hl 4 rfl) ?_
                refine lv_icmp_gt (tgt := 123) hx hb dX7_isInTime_95 (by decide) (fun c21 => ?_) (fun c21 => ?_)
                · have hw := hw.1 c21
                  refine lv_iinc (v := (x6 + (1 : Int32))) (lv' := [(6, .int (x6 + (1 : Int32))), (0, .ref (ad 69)), (1, .int a1), (2, .int a2), (3, .int x3), (4, .int x4), (5, .int x5)]) hx hb dX7_isInTime_123 hl (k := 6) rfl rfl (by decide) rfl (fun ls hl => ?_)
                  refine lv_goto (tgt := 55) hx hb dX7_isInTime_126 (by decide) ?_
                  exact ih55 x5 (x6 + (1 : Int32)) hw _ _ ls hM hS (lv_sub hl [1, 2, 3, 4, 5, 6, 0] rfl)
                · have hw := hw.2 c21
                  refine lv_iload hx hb dX7_isInTime_98 (lv_at hl 5 rfl) ?_
                  refine lv_iconst (v := (-1 : Int32)) hx hb dX7_isInTime_100 (by decide) ?_
                  refine lv_icmp_eq (tgt := 119) hx hb dX7_isInTime_101 (by decide) (fun c22 => ?_) (fun c22 => ?_)
                  · have hw := hw.1 c22
                    exact hB119 x6 hw _ _ ls hM hS (lv_sub hl [0, 1, 2, 3, 4, 6] rfl)
                  · have hw := hw.2 c22
                    refine lv_aload_n hx hb dX7_isInTime_104 rfl (lv_at hl 0 rfl) ?_
                    refine lv_iload hx hb dX7_isInTime_105 (lv_at hl 6 rfl) ?_
                    refine M_callIp (As := [.int x6]) (rest := []) ⟨hx, hb, hml, hown, hts⟩ hK hZ hM hJ hS (metX7_until l D cA z0 E ad h x6 _ hw) (cwV 1 hts (lw_V q2194 q2196 qs92 q130 q2197) rfl rfl rfl (by decide +kernel) ⟨Nat.le_of_ble_eq_true rfl, Nat.le_of_ble_eq_true rfl⟩) rfl hl.1 rfl (Nat.le_of_ble_eq_true rfl) dX7_isInTime_107 ⟨Nat.zero_le _, Nat.zero_le _⟩ (fun r23 H locs hw hM hS => ?_)
                    refine lv_aload_n hx hb dX7_isInTime_110 rfl (lv_at hl 0 rfl) ?_
                    refine lv_iload hx hb dX7_isInTime_111 (lv_at hl 5 rfl) ?_
                    refine M_callIp (As := [.int x5]) (rest := [.int r23]) ⟨hx, hb, hml, hown, hts⟩ hK hZ hM hJ hS (metX7_until l D cA z0 E ad h x5 _ hw) (cwV 1 hts (lw_V q2194 q2196 qs92 q130 q2197) rfl rfl rfl (by decide +kernel) ⟨Nat.le_of_ble_eq_true rfl, Nat.le_of_ble_eq_true rfl⟩) rfl hl.1 rfl (Nat.le_of_ble_eq_true rfl) dX7_isInTime_113 ⟨Nat.zero_le _, Nat.zero_le _⟩ (fun r25 H locs hw hM hS => ?_)
                    have hj27 : JM p l e (headSpec (ws_ yX7_isInTime cX7_isInTime 7 (some .boolean)) ({ frames := 3, cells := 0, slots := 0, locals := 52 })).room s m ([.ref (ad 69), .int a1, .int a2] : List Value).toArray below meth c (MQ below (MQz D cA E ad (fun r h' => h' = h ∧ post r)) ([.ref (ad 69), .int a1, .int a2] : List Value).toArray s 0 0 (MA ad)) D cA E ad 7 123 h [(0, .ref (ad 69)), (1, .int a1), (2, .int a2), (3, .int x3), (4, .int x4), (5, .int (if r25 ≤ r23 then x5 else x6)), (6, .int x6)] [] := by
                      intro H locs ls hM hS hl
                      refine lv_iinc (v := (x6 + (1 : Int32))) (lv' := [(6, .int (x6 + (1 : Int32))), (0, .ref (ad 69)), (1, .int a1), (2, .int a2), (3, .int x3), (4, .int x4), (5, .int (if r25 ≤ r23 then x5 else x6))]) hx hb dX7_isInTime_123 hl (k := 6) rfl rfl (by decide) rfl (fun ls hl => ?_)
                      refine lv_goto (tgt := 55) hx hb dX7_isInTime_126 (by decide) ?_
                      exact ih55 (if r25 ≤ r23 then x5 else x6) (x6 + (1 : Int32)) hw _ _ ls hM hS (lv_sub hl [1, 2, 3, 4, 5, 6, 0] rfl)
                    refine lv_icmp_ge (tgt := 123) hx hb dX7_isInTime_116 (by decide) (fun c28 => ?_) (fun c28 => ?_)
                    · have e29 : (if r25 ≤ r23 then x5 else x6) = x5 := by rw [if_pos c28]
                      rw [e29] at hj27
                      exact hj27 _ _ ls hM hS (lv_sub hl [0, 1, 2, 3, 4, 5, 6] rfl)
                    · refine lv_iload hx hb dX7_isInTime_119 (lv_at hl 6 rfl) ?_
                      refine lv_istore (lv' := [(5, .int x6), (0, .ref (ad 69)), (1, .int a1), (2, .int a2), (3, .int x3), (4, .int x4), (6, .int x6)]) hx hb dX7_isInTime_121 hl (by decide) rfl (fun ls hl => ?_)
                      have e30 : (if r25 ≤ r23 then x5 else x6) = x6 := by rw [if_neg c28]
                      rw [e30] at hj27
                      exact hj27 _ _ ls hM hS (lv_sub hl [1, 2, 3, 4, 5, 0, 6] rfl)
              · have hw := hw.2 c18
                refine lv_iconst (v := (0 : Int32)) hx hb dX7_isInTime_84 (by decide) ?_
                exact M_zret hx hb hr hlocks hM hS ⟨_, rfl, ⟨rfl, hw⟩⟩ dX7_isInTime_85
            · have c15 := b2i_f c15
              have hw := hw.2 c15
              refine lv_goto (tgt := 123) hx hb dX7_isInTime_70 (by decide) ?_
              refine lv_iinc (v := (x6 + (1 : Int32))) (lv' := [(6, .int (x6 + (1 : Int32))), (0, .ref (ad 69)), (1, .int a1), (2, .int a2), (3, .int x3), (4, .int x4), (5, .int x5)]) hx hb dX7_isInTime_123 hl (k := 6) rfl rfl (by decide) rfl (fun ls hl => ?_)
              refine lv_goto (tgt := 55) hx hb dX7_isInTime_126 (by decide) ?_
              exact ih55 x5 (x6 + (1 : Int32)) hw _ _ ls hM hS (lv_sub hl [1, 2, 3, 4, 5, 6, 0] rfl)
      intro x3 x4 hw H locs ls hM hS hl
      have hw : wpBX7_isInTime_38 post a1 a2  (fun x3 x4 => wpLX7_isInTime_38 post a1 a2  h  n38 (x3, x4)) h  x3 x4 := hw
      unfold wpBX7_isInTime_38 at hw
      refine lv_iload hx hb dX7_isInTime_38 (lv_at hl 4 rfl) ?_
      refine lv_bipush (v := (24 : Int32)) hx hb dX7_isInTime_40 (by decide) ?_
      refine lv_icmp_ge (tgt := 150) hx hb dX7_isInTime_42 (by decide) (fun c2 => ?_) (fun c2 => ?_)
      · have hw := hw.1 c2
        exact hB150 x3 hw _ _ ls hM hS (lv_sub hl [3] rfl)
      · have hw := hw.2 c2
        refine lv_iload_n hx hb dX7_isInTime_45 rfl (lv_at hl 3 rfl) ?_
        refine lv_if_eq (tgt := 150) hx hb dX7_isInTime_46 (by decide) (fun c7 => ?_) (fun c7 => ?_)
        · have hw := hw.1 c7
          exact hB150 x3 hw _ _ ls hM hS (lv_sub hl [3] rfl)
        · have hw := hw.2 c7
          refine lv_iconst (v := (-1 : Int32)) hx hb dX7_isInTime_49 (by decide) ?_
          refine lv_istore (lv' := [(5, .int (-1 : Int32)), (0, .ref (ad 69)), (1, .int a1), (2, .int a2), (3, .int x3), (4, .int x4)]) hx hb dX7_isInTime_50 hl (by decide) rfl (fun ls hl => ?_)
          refine lv_iconst (v := (0 : Int32)) hx hb dX7_isInTime_52 (by decide) ?_
          refine lv_istore (lv' := [(6, .int (0 : Int32)), (5, .int (-1 : Int32)), (0, .ref (ad 69)), (1, .int a1), (2, .int a2), (3, .int x3), (4, .int x4)]) hx hb dX7_isInTime_53 hl (by decide) rfl (fun ls hl => ?_)
          obtain ⟨n31, hw⟩ := hw
          exact hL55 x3 x4 n31 (-1 : Int32) (0 : Int32) hw _ _ ls hM hS (lv_sub hl [2, 3, 4, 5, 6, 1, 0] rfl)
  have hL5 : ∀  (n5 : Nat) (x3 : Int32) (x4 : Int32), wpLX7_isInTime_5 post a1 a2  h  n5 (x3, x4) → JM p l e (headSpec (ws_ yX7_isInTime cX7_isInTime 7 (some .boolean)) ({ frames := 3, cells := 0, slots := 0, locals := 52 })).room s m ([.ref (ad 69), .int a1, .int a2] : List Value).toArray below meth c (MQ below (MQz D cA E ad (fun r h' => h' = h ∧ post r)) ([.ref (ad 69), .int a1, .int a2] : List Value).toArray s 0 0 (MA ad)) D cA E ad 7 5 h [(0, .ref (ad 69)), (1, .int a1), (2, .int a2), (3, .int x3), (4, .int x4)] [] := by
    intro  n5
    induction n5 with
    | zero => intro x3 x4 hw; exact False.elim hw
    | succ n5 ih5 =>
      intro x3 x4 hw H locs ls hM hS hl
      have hw : wpBX7_isInTime_5 post a1 a2  (fun x3 x4 => wpLX7_isInTime_5 post a1 a2  h  n5 (x3, x4)) h  x3 x4 := hw
      unfold wpBX7_isInTime_5 at hw
      refine lv_iload hx hb dX7_isInTime_5 (lv_at hl 4 rfl) ?_
      refine lv_iload_n hx hb dX7_isInTime_7 rfl (lv_at hl 2 rfl) ?_
      refine lv_icmp_ge (tgt := 35) hx hb dX7_isInTime_8 (by decide) (fun c1 => ?_) (fun c1 => ?_)
      · have hw := hw.1 c1
        refine lv_iconst (v := (0 : Int32)) hx hb dX7_isInTime_35 (by decide) ?_
        refine lv_istore (lv' := [(4, .int (0 : Int32)), (0, .ref (ad 69)), (1, .int a1), (2, .int a2), (3, .int x3)]) hx hb dX7_isInTime_36 hl (by decide) rfl (fun ls hl => ?_)
        obtain ⟨n32, hw⟩ := hw
        exact hL38 n32 x3 (0 : Int32) hw _ _ ls hM hS (lv_sub hl [1, 2, 3, 4, 0] rfl)
      · have hw := hw.2 c1
        refine lv_aload_n hx hb dX7_isInTime_11 rfl (lv_at hl 0 rfl) ?_
        refine M_get hx hb hts hown hK hM 42 (v := .ref (ad 42)) (by decide) (hts _ q1725) rfl dX7_isInTime_12 ?_
        refine lv_iload hx hb dX7_isInTime_15 (lv_at hl 4 rfl) ?_
        obtain ⟨hb33, hw⟩ := hw
        refine M_iald hx hb hK hM 42 rfl (j := (ix x4)) rfl hb33 dX7_isInTime_17 ?_
        refine lv_iload_n hx hb dX7_isInTime_18 rfl (lv_at hl 1 rfl) ?_
        have hj34 : JM p l e (headSpec (ws_ yX7_isInTime cX7_isInTime 7 (some .boolean)) ({ frames := 3, cells := 0, slots := 0, locals := 52 })).room s m ([.ref (ad 69), .int a1, .int a2] : List Value).toArray below meth c (MQ below (MQz D cA E ad (fun r h' => h' = h ∧ post r)) ([.ref (ad 69), .int a1, .int a2] : List Value).toArray s 0 0 (MA ad)) D cA E ad 7 29 h [(0, .ref (ad 69)), (1, .int a1), (2, .int a2), (3, .int (if (h 42 (ix x4)) = a1 then (x3 ||| ((1 : Int32) <<< (x4 &&& 31))) else x3)), (4, .int x4)] [] := by
          intro H locs ls hM hS hl
          refine lv_iinc (v := (x4 + (1 : Int32))) (lv' := [(4, .int (x4 + (1 : Int32))), (0, .ref (ad 69)), (1, .int a1), (2, .int a2), (3, .int (if (h 42 (ix x4)) = a1 then (x3 ||| ((1 : Int32) <<< (x4 &&& 31))) else x3))]) hx hb dX7_isInTime_29 hl (k := 4) rfl rfl (by decide) rfl (fun ls hl => ?_)
          refine lv_goto (tgt := 5) hx hb dX7_isInTime_32 (by decide) ?_
          exact ih5 (if (h 42 (ix x4)) = a1 then (x3 ||| ((1 : Int32) <<< (x4 &&& 31))) else x3) (x4 + (1 : Int32)) hw _ _ ls hM hS (lv_sub hl [1, 2, 3, 4, 0] rfl)
        refine lv_icmp_ne (tgt := 29) hx hb dX7_isInTime_19 (by decide) (fun c35 => ?_) (fun c35 => ?_)
        · have e36 : (if (h 42 (ix x4)) = a1 then (x3 ||| ((1 : Int32) <<< (x4 &&& 31))) else x3) = x3 := by rw [if_neg c35]
          rw [e36] at hj34
          exact hj34 _ _ ls hM hS (lv_sub hl [0, 1, 2, 3, 4] rfl)
        · refine lv_iload_n hx hb dX7_isInTime_22 rfl (lv_at hl 3 rfl) ?_
          refine lv_iconst (v := (1 : Int32)) hx hb dX7_isInTime_23 (by decide) ?_
          refine lv_iload hx hb dX7_isInTime_24 (lv_at hl 4 rfl) ?_
          refine lv_ishl hx hb dX7_isInTime_26 ?_
          refine lv_ior hx hb dX7_isInTime_27 ?_
          refine lv_istore_n (lv' := [(3, .int (x3 ||| ((1 : Int32) <<< (x4 &&& 31)))), (0, .ref (ad 69)), (1, .int a1), (2, .int a2), (4, .int x4)]) hx hb dX7_isInTime_28 rfl hl (by decide) rfl (fun ls hl => ?_)
          have e37 : (if (h 42 (ix x4)) = a1 then (x3 ||| ((1 : Int32) <<< (x4 &&& 31))) else x3) = (x3 ||| ((1 : Int32) <<< (x4 &&& 31))) := by rw [if_pos c35]
          rw [e37] at hj34
          exact hj34 _ _ ls hM hS (lv_sub hl [1, 2, 3, 0, 4] rfl)
  unfold wpX7_isInTime at hw
  refine lv_iconst (v := (0 : Int32)) hx hb dX7_isInTime_0 (by decide) ?_
  refine lv_istore_n (lv' := [(3, .int (0 : Int32)), (0, .ref (ad 69)), (1, .int a1), (2, .int a2)]) hx hb dX7_isInTime_1 rfl hl (by decide) rfl (fun ls hl => ?_)
  refine lv_iconst (v := (0 : Int32)) hx hb dX7_isInTime_2 (by decide) ?_
  refine lv_istore (lv' := [(4, .int (0 : Int32)), (3, .int (0 : Int32)), (0, .ref (ad 69)), (1, .int a1), (2, .int a2)]) hx hb dX7_isInTime_3 hl (by decide) rfl (fun ls hl => ?_)
  obtain ⟨n38, hw⟩ := hw
  exact hL5 n38 (0 : Int32) (0 : Int32) hw _ _ ls hM hS (lv_sub hl [2, 3, 4, 1, 0] rfl)

/-- rowOn(II)V -/
def wpBX7_rowOn_91 (wE : (Mem → Prop) → Mem → Int32 → Int32 → Prop) (post : Mem → Prop) (a1 : Int32) (a2 : Int32)  (K91 : Mem → Int32 → Prop)  (h : Mem) (x3 : Int32) : Prop :=
  (((h 3 0) ≤ x3 → post h) ∧ (¬ (h 3 0) ≤ x3 → (((h 30 0) = 0 → (wpX7_canCut (fun r9 => ((r9 = true → (vp_in a1 (mlen 42) ∧ (∀ h13 : Mem, h13 = up2 h 42 (ix a1) x3 → (wpX7_isInTime (fun r14 => ((r14 = true → (vp_in x3 (mlen 5) ∧ (vp_in a1 (mlen 7) ∧ (wE (fun h20 => K91 h20 (x3 + (1 : Int32))) h13 (a1 + (1 : Int32)) (a2 + (abI ((h13 5 (ix x3)) - (h13 7 (ix a1))))))))) ∧ (¬ r14 = true → K91 h13 (x3 + (1 : Int32))))) h13 x3 (a1 + (1 : Int32)))))) ∧ (¬ r9 = true → K91 h (x3 + (1 : Int32))))) h x3 a1)) ∧ (¬ (h 30 0) = 0 → post h))))
def wpLX7_rowOn_91 (wE : (Mem → Prop) → Mem → Int32 → Int32 → Prop) (post : Mem → Prop) (a1 : Int32) (a2 : Int32)   : Nat → (Mem × Int32) → Prop := LW (fun K s => wpBX7_rowOn_91 wE post a1 a2  (fun h x3 => K (h, x3))  s.1 s.2)
def wpBX7_rowOn_38 (wE : (Mem → Prop) → Mem → Int32 → Int32 → Prop) (post : Mem → Prop) (a1 : Int32) (a2 : Int32)  (K38 : Mem → Int32 → Prop)  (h : Mem) (x3 : Int32) : Prop :=
  (((6 : Int32) ≤ x3 → post h) ∧ (¬ (6 : Int32) ≤ x3 → (vp_in x3 (mlen 42) ∧ (vp_in x3 (mlen 43) ∧ (∀ h29 : Mem, h29 = up2 h 43 (ix x3) (h 42 (ix x3)) → K38 h29 (x3 + (1 : Int32)))))))
def wpLX7_rowOn_38 (wE : (Mem → Prop) → Mem → Int32 → Int32 → Prop) (post : Mem → Prop) (a1 : Int32) (a2 : Int32)   : Nat → (Mem × Int32) → Prop := LW (fun K s => wpBX7_rowOn_38 wE post a1 a2  (fun h x3 => K (h, x3))  s.1 s.2)
def wpBX7_rowOn_16 (wE : (Mem → Prop) → Mem → Int32 → Int32 → Prop) (post : Mem → Prop) (a1 : Int32) (a2 : Int32)  (h : Mem)   : Prop :=
  ((a1 = (h 3 1) → (∀ h24 : Mem, h24 = up2 h 46 0 (1 : Int32) → (∀ h25 : Mem, h25 = up2 h24 44 0 a2 → (∃ n, wpLX7_rowOn_38 wE post a1 a2   n (h25, (0 : Int32)))))) ∧ (¬ a1 = (h 3 1) → (vp_in a1 (mlen 42) ∧ (∀ h4 : Mem, h4 = up2 h 42 (ix a1) (-1 : Int32) → (vp_in a1 (mlen 27) ∧ (((h4 27 (ix a1)) = (-1 : Int32) → (∃ n, wpLX7_rowOn_91 wE post a1 a2   n (h4, (0 : Int32)))) ∧ (¬ (h4 27 (ix a1)) = (-1 : Int32) → (wE (fun h23 => post h23) h4 (a1 + (1 : Int32)) a2))))))))
def wpRX7_rowOn (wE : (Mem → Prop) → Mem → Int32 → Int32 → Prop) (post : Mem → Prop) (h : Mem) (a1 : Int32) (a2 : Int32) : Prop :=
  (((h 46 0) = 0 → wpBX7_rowOn_16 wE post a1 a2  h ) ∧ (¬ (h 46 0) = 0 → ((a2 < (h 44 0) → wpBX7_rowOn_16 wE post a1 a2  h ) ∧ (¬ a2 < (h 44 0) → post h))))
def wpX7_rowOn : Nat → (Mem → Prop) → Mem → Int32 → Int32 → Prop
  | 0 => fun _ _ _ _ => False
  | d + 1 => wpRX7_rowOn (wpX7_rowOn d)
set_option maxHeartbeats 4000000 in
set_option maxRecDepth 100000 in
theorem metRX7_rowOn (l : Launch) (D : va_G) (cA : Nat → ClassId) (z0 : Nat) (E : Nat → Nat → Nat) (ad : Nat → Nat) (wE : (Mem → Prop) → Mem → Int32 → Int32 → Prop) (fE lE : Nat) (hE : ∀ (post : Mem → Prop) (h : Mem) (a1 : Int32) (a2 : Int32), wE post h a1 a2 → MeV l D cA z0 E ad yX7_rowOn (ws_ yX7_rowOn cX7_rowOn 4 none) ({ frames := fE, cells := 0, slots := 0, locals := lE }) [.ref (ad 69), .int a1, .int a2] h post) (h : Mem) (a1 : Int32) (a2 : Int32) (post : Mem → Prop) (hw : wpRX7_rowOn wE post h a1 a2) : MeV l D cA z0 E ad yX7_rowOn (ws_ yX7_rowOn cX7_rowOn 4 none) ({ frames := fE + 8, cells := 0, slots := 0, locals := lE + 168 }) [.ref (ad 69), .int a1, .int a2] h post := by
  refine Met.ofW (cc := cX7_rowOn) (maxL := 4) (ret := none) (by decide) rfl ?_
  intro p e s m args below meth c s₁ B hml hv
  obtain ⟨rfl, hM, hK, hJ, hZ⟩ := hv
  have hx := B.exec
  have hb := B.bytes
  have hr := B.returns
  have hts := atoms_spec (ws := ws_ yX7_rowOn cX7_rowOn 4 none) B.pre
  have hts : ∀ w ∈ lw_all, w.before _ s = true := fun w h => hts w (List.mem_cons_of_mem _ h)
  have hown : s.vm.findClass RX7 = some m.cls := findClass_of_methodNamed B.named
  have hlocks := B.notSynchronized
  have hS : va_S (MA ad) s.heap s.heap [] := va_S.rf
  have hl := lv_entry ([.ref (ad 69), .int a1, .int a2]) (n := 4) (Nat.le_of_ble_eq_true rfl)
  rw [lg_entry_eq]
  generalize (lg_sl ([.ref (ad 69), .int a1, .int a2]) ++ List.replicate (4 - (lg_sl ([.ref (ad 69), .int a1, .int a2])).length) Slot.unset).toArray = ls at hl ⊢
  have hl : lv_has ls 4 [(0, .ref (ad 69)), (1, .int a1), (2, .int a2)] := hl
  have hL91 : ∀  (n91 : Nat) (h : Mem) (x3 : Int32), wpLX7_rowOn_91 wE post a1 a2   n91 (h, x3) → JM p l e (headSpec (ws_ yX7_rowOn cX7_rowOn 4 none) ({ frames := fE + 8, cells := 0, slots := 0, locals := lE + 168 })).room s m ([.ref (ad 69), .int a1, .int a2] : List Value).toArray below meth c (MQ below (MQv D cA E ad post) ([.ref (ad 69), .int a1, .int a2] : List Value).toArray s 0 0 (MA ad)) D cA E ad 4 91 h [(0, .ref (ad 69)), (1, .int a1), (2, .int a2), (3, .int x3)] [] := by
    intro  n91
    induction n91 with
    | zero => intro h x3 hw; exact False.elim hw
    | succ n91 ih91 =>
      intro h x3 hw H locs ls hM hS hl
      have hw : wpBX7_rowOn_91 wE post a1 a2  (fun h x3 => wpLX7_rowOn_91 wE post a1 a2   n91 (h, x3))  h x3 := hw
      unfold wpBX7_rowOn_91 at hw
      refine lv_iload_n hx hb dX7_rowOn_91 rfl (lv_at hl 3 rfl) ?_
      refine lv_aload_n hx hb dX7_rowOn_92 rfl (lv_at hl 0 rfl) ?_
      refine M_get hx hb hts hown hK hM 3 (v := .ref (ad 3)) (by decide) (hts _ q1686) rfl dX7_rowOn_93 ?_
      refine lv_iconst (v := (0 : Int32)) hx hb dX7_rowOn_96 (by decide) ?_
      refine M_iald hx hb hK hM 3 rfl (j := 0) rfl (by unfold vp_in; decide) dX7_rowOn_97 ?_
      refine lv_icmp_ge (tgt := 169) hx hb dX7_rowOn_98 (by decide) (fun c7 => ?_) (fun c7 => ?_)
      · have hw := hw.1 c7
        exact M_vret hx hb hr hlocks hM hS hw dX7_rowOn_169
      · have hw := hw.2 c7
        refine lv_aload_n hx hb dX7_rowOn_101 rfl (lv_at hl 0 rfl) ?_
        refine M_get hx hb hts hown hK hM 30 (v := .int (h 30 0)) (by decide) (hts _ q1713) rfl dX7_rowOn_102 ?_
        refine lv_if_ne (tgt := 169) hx hb dX7_rowOn_105 (by decide) (fun c8 => ?_) (fun c8 => ?_)
        · have hw := hw.2 c8
          exact M_vret hx hb hr hlocks hM hS hw dX7_rowOn_169
        · have hw := hw.1 c8
          refine lv_aload_n hx hb dX7_rowOn_108 rfl (lv_at hl 0 rfl) ?_
          refine lv_iload_n hx hb dX7_rowOn_109 rfl (lv_at hl 3 rfl) ?_
          refine lv_iload_n hx hb dX7_rowOn_110 rfl (lv_at hl 1 rfl) ?_
          refine M_callZp (As := [.int x3, .int a1]) (rest := []) ⟨hx, hb, hml, hown, hts⟩ hK hZ hM hJ hS (metX7_canCut l D cA z0 E ad h x3 a1 _ hw) (cwV 2 hts (lw_V q2186 q2188 qs90 q130 q2189) rfl rfl rfl (by decide +kernel) ⟨(show (6) + 1 ≤ fE + 8 by omega), (show 8 + (4 + 11) + (145) ≤ lE + 168 by omega)⟩) rfl hl.1 rfl (Nat.le_of_ble_eq_true rfl) dX7_rowOn_111 ⟨Nat.zero_le _, Nat.zero_le _⟩ (fun r9 H locs hw hM hS => ?_)
          refine lv_if_ne (tgt := 120) hx hb dX7_rowOn_114 (by decide) (fun c11 => ?_) (fun c11 => ?_)
          · have c11 := b2i_t c11
            have hw := hw.1 c11
            refine lv_aload_n hx hb dX7_rowOn_120 rfl (lv_at hl 0 rfl) ?_
            refine M_get hx hb hts hown hK hM 42 (v := .ref (ad 42)) (by decide) (hts _ q1725) rfl dX7_rowOn_121 ?_
            refine lv_iload_n hx hb dX7_rowOn_124 rfl (lv_at hl 1 rfl) ?_
            refine lv_iload_n hx hb dX7_rowOn_125 rfl (lv_at hl 3 rfl) ?_
            obtain ⟨hb12, hw⟩ := hw
            refine M_iast hx hb hK hM hJ hS 42 rfl (j := (ix a1)) rfl hb12 dX7_rowOn_126 (fun H locs hM hS => ?_)
            obtain ⟨h13, eh13⟩ : ∃ y : Mem, y = up2 h 42 (ix a1) x3 := ⟨_, rfl⟩
            rw [← eh13] at hM
            have hw := hw h13 eh13
            refine lv_aload_n hx hb dX7_rowOn_127 rfl (lv_at hl 0 rfl) ?_
            refine lv_iload_n hx hb dX7_rowOn_128 rfl (lv_at hl 3 rfl) ?_
            refine lv_iload_n hx hb dX7_rowOn_129 rfl (lv_at hl 1 rfl) ?_
            refine lv_iconst (v := (1 : Int32)) hx hb dX7_rowOn_130 (by decide) ?_
            refine lv_iadd hx hb dX7_rowOn_131 ?_
            refine M_callZp (As := [.int x3, .int (a1 + (1 : Int32))]) (rest := []) ⟨hx, hb, hml, hown, hts⟩ hK hZ hM hJ hS (metX7_isInTime l D cA z0 E ad h13 x3 (a1 + (1 : Int32)) _ hw) (cwV 2 hts (lw_V q2190 q2192 qs91 q130 q2193) rfl rfl rfl (by decide +kernel) ⟨(show (3) + 1 ≤ fE + 8 by omega), (show 8 + (7 + 11) + (52) ≤ lE + 168 by omega)⟩) rfl hl.1 rfl (Nat.le_of_ble_eq_true rfl) dX7_rowOn_132 ⟨Nat.zero_le _, Nat.zero_le _⟩ (fun r14 H locs hw hM hS => ?_)
            refine lv_if_eq (tgt := 163) hx hb dX7_rowOn_135 (by decide) (fun c16 => ?_) (fun c16 => ?_)
            · have c16 := b2i_f c16
              have hw := hw.2 c16
              refine lv_iinc (v := (x3 + (1 : Int32))) (lv' := [(3, .int (x3 + (1 : Int32))), (0, .ref (ad 69)), (1, .int a1), (2, .int a2)]) hx hb dX7_rowOn_163 hl (k := 3) rfl rfl (by decide) rfl (fun ls hl => ?_)
              refine lv_goto (tgt := 91) hx hb dX7_rowOn_166 (by decide) ?_
              exact ih91 h13 (x3 + (1 : Int32)) hw _ _ ls hM hS (lv_sub hl [1, 2, 3, 0] rfl)
            · have c16 := b2i_t c16
              have hw := hw.1 c16
              refine lv_aload_n hx hb dX7_rowOn_138 rfl (lv_at hl 0 rfl) ?_
              refine lv_iload_n hx hb dX7_rowOn_139 rfl (lv_at hl 1 rfl) ?_
              refine lv_iconst (v := (1 : Int32)) hx hb dX7_rowOn_140 (by decide) ?_
              refine lv_iadd hx hb dX7_rowOn_141 ?_
              refine lv_iload_n hx hb dX7_rowOn_142 rfl (lv_at hl 2 rfl) ?_
              refine lv_aload_n hx hb dX7_rowOn_143 rfl (lv_at hl 0 rfl) ?_
              refine M_get hx hb hts hown hK hM 5 (v := .ref (ad 5)) (by decide) (hts _ q1688) rfl dX7_rowOn_144 ?_
              refine lv_iload_n hx hb dX7_rowOn_147 rfl (lv_at hl 3 rfl) ?_
              obtain ⟨hb17, hw⟩ := hw
              refine M_iald hx hb hK hM 5 rfl (j := (ix x3)) rfl hb17 dX7_rowOn_148 ?_
              refine lv_aload_n hx hb dX7_rowOn_149 rfl (lv_at hl 0 rfl) ?_
              refine M_get hx hb hts hown hK hM 7 (v := .ref (ad 7)) (by decide) (hts _ q1690) rfl dX7_rowOn_150 ?_
              refine lv_iload_n hx hb dX7_rowOn_153 rfl (lv_at hl 1 rfl) ?_
              obtain ⟨hb18, hw⟩ := hw
              refine M_iald hx hb hK hM 7 rfl (j := (ix a1)) rfl hb18 dX7_rowOn_154 ?_
              refine lv_isub hx hb dX7_rowOn_155 ?_
              refine J_abI hx hb hml hl.1 hown (hts _ q2202) (hts _ q889) (hts _ q118) (hts _ q890) (show 1 ≤ fE + 8 by omega) (Nat.le_of_ble_eq_true rfl) (Nat.zero_le _) (Nat.zero_le _) dX7_rowOn_156 ?_
              refine lv_iadd hx hb dX7_rowOn_159 ?_
              refine M_callV (As := [.int (a1 + (1 : Int32)), .int (a2 + (abI ((h13 5 (ix x3)) - (h13 7 (ix a1)))))]) (rest := []) ⟨hx, hb, hml, hown, hts⟩ hK hZ hM hJ hS (hE _ h13 (a1 + (1 : Int32)) (a2 + (abI ((h13 5 (ix x3)) - (h13 7 (ix a1))))) hw) (cwV 2 hts (lw_V q2182 q2184 qs89 q130 q2185) rfl rfl rfl (by decide +kernel) ⟨(show (fE + 0) + 1 ≤ fE + 8 by omega), (show 8 + (4 + 11) + (lE + 0) ≤ lE + 168 by omega)⟩) rfl hl.1 rfl (Nat.le_of_ble_eq_true rfl) dX7_rowOn_160 ⟨Nat.zero_le _, Nat.zero_le _⟩ (fun h20 H locs hw hM hS => ?_)
              refine lv_iinc (v := (x3 + (1 : Int32))) (lv' := [(3, .int (x3 + (1 : Int32))), (0, .ref (ad 69)), (1, .int a1), (2, .int a2)]) hx hb dX7_rowOn_163 hl (k := 3) rfl rfl (by decide) rfl (fun ls hl => ?_)
              refine lv_goto (tgt := 91) hx hb dX7_rowOn_166 (by decide) ?_
              exact ih91 h20 (x3 + (1 : Int32)) hw _ _ ls hM hS (lv_sub hl [1, 2, 3, 0] rfl)
          · have c11 := b2i_f c11
            have hw := hw.2 c11
            refine lv_goto (tgt := 163) hx hb dX7_rowOn_117 (by decide) ?_
            refine lv_iinc (v := (x3 + (1 : Int32))) (lv' := [(3, .int (x3 + (1 : Int32))), (0, .ref (ad 69)), (1, .int a1), (2, .int a2)]) hx hb dX7_rowOn_163 hl (k := 3) rfl rfl (by decide) rfl (fun ls hl => ?_)
            refine lv_goto (tgt := 91) hx hb dX7_rowOn_166 (by decide) ?_
            exact ih91 h (x3 + (1 : Int32)) hw _ _ ls hM hS (lv_sub hl [1, 2, 3, 0] rfl)
  have hL38 : ∀  (n38 : Nat) (h : Mem) (x3 : Int32), wpLX7_rowOn_38 wE post a1 a2   n38 (h, x3) → JM p l e (headSpec (ws_ yX7_rowOn cX7_rowOn 4 none) ({ frames := fE + 8, cells := 0, slots := 0, locals := lE + 168 })).room s m ([.ref (ad 69), .int a1, .int a2] : List Value).toArray below meth c (MQ below (MQv D cA E ad post) ([.ref (ad 69), .int a1, .int a2] : List Value).toArray s 0 0 (MA ad)) D cA E ad 4 38 h [(0, .ref (ad 69)), (3, .int x3)] [] := by
    intro  n38
    induction n38 with
    | zero => intro h x3 hw; exact False.elim hw
    | succ n38 ih38 =>
      intro h x3 hw H locs ls hM hS hl
      have hw : wpBX7_rowOn_38 wE post a1 a2  (fun h x3 => wpLX7_rowOn_38 wE post a1 a2   n38 (h, x3))  h x3 := hw
      unfold wpBX7_rowOn_38 at hw
      refine lv_iload_n hx hb dX7_rowOn_38 rfl (lv_at hl 1 rfl) ?_
      refine lv_bipush (v := (6 : Int32)) hx hb dX7_rowOn_39 (by decide) ?_
      refine lv_icmp_ge (tgt := 62) hx hb dX7_rowOn_41 (by decide) (fun c26 => ?_) (fun c26 => ?_)
      · have hw := hw.1 c26
        exact M_vret hx hb hr hlocks hM hS hw dX7_rowOn_62
      · have hw := hw.2 c26
        refine lv_aload_n hx hb dX7_rowOn_44 rfl (lv_at hl 0 rfl) ?_
        refine M_get hx hb hts hown hK hM 43 (v := .ref (ad 43)) (by decide) (hts _ q1726) rfl dX7_rowOn_45 ?_
        refine lv_iload_n hx hb dX7_rowOn_48 rfl (lv_at hl 1 rfl) ?_
        refine lv_aload_n hx hb dX7_rowOn_49 rfl (lv_at hl 0 rfl) ?_
        refine M_get hx hb hts hown hK hM 42 (v := .ref (ad 42)) (by decide) (hts _ q1725) rfl dX7_rowOn_50 ?_
        refine lv_iload_n hx hb dX7_rowOn_53 rfl (lv_at hl 1 rfl) ?_
        obtain ⟨hb27, hw⟩ := hw
        refine M_iald hx hb hK hM 42 rfl (j := (ix x3)) rfl hb27 dX7_rowOn_54 ?_
        obtain ⟨hb28, hw⟩ := hw
        refine M_iast hx hb hK hM hJ hS 43 rfl (j := (ix x3)) rfl hb28 dX7_rowOn_55 (fun H locs hM hS => ?_)
        obtain ⟨h29, eh29⟩ : ∃ y : Mem, y = up2 h 43 (ix x3) (h 42 (ix x3)) := ⟨_, rfl⟩
        rw [← eh29] at hM
        have hw := hw h29 eh29
        refine lv_iinc (v := (x3 + (1 : Int32))) (lv' := [(3, .int (x3 + (1 : Int32))), (0, .ref (ad 69))]) hx hb dX7_rowOn_56 hl (k := 1) rfl rfl (by decide) rfl (fun ls hl => ?_)
        refine lv_goto (tgt := 38) hx hb dX7_rowOn_59 (by decide) ?_
        exact ih38 h29 (x3 + (1 : Int32)) hw _ _ ls hM hS (lv_sub hl [1, 0] rfl)
  have hB16 : ∀ (h : Mem), wpBX7_rowOn_16 wE post a1 a2  h  → JM p l e (headSpec (ws_ yX7_rowOn cX7_rowOn 4 none) ({ frames := fE + 8, cells := 0, slots := 0, locals := lE + 168 })).room s m ([.ref (ad 69), .int a1, .int a2] : List Value).toArray below meth c (MQ below (MQv D cA E ad post) ([.ref (ad 69), .int a1, .int a2] : List Value).toArray s 0 0 (MA ad)) D cA E ad 4 16 h [(0, .ref (ad 69)), (1, .int a1), (2, .int a2)] [] := by
    intro h hw H locs ls hM hS hl
    unfold wpBX7_rowOn_16 at hw
    refine lv_iload_n hx hb dX7_rowOn_16 rfl (lv_at hl 1 rfl) ?_
    refine lv_aload_n hx hb dX7_rowOn_17 rfl (lv_at hl 0 rfl) ?_
    refine M_get hx hb hts hown hK hM 3 (v := .ref (ad 3)) (by decide) (hts _ q1686) rfl dX7_rowOn_18 ?_
    refine lv_iconst (v := (1 : Int32)) hx hb dX7_rowOn_21 (by decide) ?_
    refine M_iald hx hb hK hM 3 rfl (j := 1) rfl (by unfold vp_in; decide) dX7_rowOn_22 ?_
    refine lv_icmp_ne (tgt := 63) hx hb dX7_rowOn_23 (by decide) (fun c2 => ?_) (fun c2 => ?_)
    · have hw := hw.2 c2
      refine lv_aload_n hx hb dX7_rowOn_63 rfl (lv_at hl 0 rfl) ?_
      refine M_get hx hb hts hown hK hM 42 (v := .ref (ad 42)) (by decide) (hts _ q1725) rfl dX7_rowOn_64 ?_
      refine lv_iload_n hx hb dX7_rowOn_67 rfl (lv_at hl 1 rfl) ?_
      refine lv_iconst (v := (-1 : Int32)) hx hb dX7_rowOn_68 (by decide) ?_
      obtain ⟨hb3, hw⟩ := hw
      refine M_iast hx hb hK hM hJ hS 42 rfl (j := (ix a1)) rfl hb3 dX7_rowOn_69 (fun H locs hM hS => ?_)
      obtain ⟨h4, eh4⟩ : ∃ y : Mem, y = up2 h 42 (ix a1) (-1 : Int32) := ⟨_, rfl⟩
      rw [← eh4] at hM
      have hw := hw h4 eh4
      refine lv_aload_n hx hb dX7_rowOn_70 rfl (lv_at hl 0 rfl) ?_
      refine M_get hx hb hts hown hK hM 27 (v := .ref (ad 27)) (by decide) (hts _ q1710) rfl dX7_rowOn_71 ?_
      refine lv_iload_n hx hb dX7_rowOn_74 rfl (lv_at hl 1 rfl) ?_
      obtain ⟨hb5, hw⟩ := hw
      refine M_iald hx hb hK hM 27 rfl (j := (ix a1)) rfl hb5 dX7_rowOn_75 ?_
      refine lv_iconst (v := (-1 : Int32)) hx hb dX7_rowOn_76 (by decide) ?_
      refine lv_icmp_eq (tgt := 89) hx hb dX7_rowOn_77 (by decide) (fun c6 => ?_) (fun c6 => ?_)
      · have hw := hw.1 c6
        refine lv_iconst (v := (0 : Int32)) hx hb dX7_rowOn_89 (by decide) ?_
        refine lv_istore_n (lv' := [(3, .int (0 : Int32)), (0, .ref (ad 69)), (1, .int a1), (2, .int a2)]) hx hb dX7_rowOn_90 rfl hl (by decide) rfl (fun ls hl => ?_)
        obtain ⟨n21, hw⟩ := hw
        exact hL91 n21 h4 (0 : Int32) hw _ _ ls hM hS (lv_sub hl [1, 2, 3, 0] rfl)
      · have hw := hw.2 c6
        refine lv_aload_n hx hb dX7_rowOn_80 rfl (lv_at hl 0 rfl) ?_
        refine lv_iload_n hx hb dX7_rowOn_81 rfl (lv_at hl 1 rfl) ?_
        refine lv_iconst (v := (1 : Int32)) hx hb dX7_rowOn_82 (by decide) ?_
        refine lv_iadd hx hb dX7_rowOn_83 ?_
        refine lv_iload_n hx hb dX7_rowOn_84 rfl (lv_at hl 2 rfl) ?_
        refine M_callV (As := [.int (a1 + (1 : Int32)), .int a2]) (rest := []) ⟨hx, hb, hml, hown, hts⟩ hK hZ hM hJ hS (hE _ h4 (a1 + (1 : Int32)) a2 hw) (cwV 2 hts (lw_V q2182 q2184 qs89 q130 q2185) rfl rfl rfl (by decide +kernel) ⟨(show (fE + 0) + 1 ≤ fE + 8 by omega), (show 8 + (4 + 11) + (lE + 0) ≤ lE + 168 by omega)⟩) rfl hl.1 rfl (Nat.le_of_ble_eq_true rfl) dX7_rowOn_85 ⟨Nat.zero_le _, Nat.zero_le _⟩ (fun h23 H locs hw hM hS => ?_)
        exact M_vret hx hb hr hlocks hM hS hw dX7_rowOn_88
    · have hw := hw.1 c2
      refine lv_aload_n hx hb dX7_rowOn_26 rfl (lv_at hl 0 rfl) ?_
      refine lv_iconst (v := (1 : Int32)) hx hb dX7_rowOn_27 (by decide) ?_
      refine M_put hx hb hts hown hK hM hJ hS 46 rfl rfl (hts _ q1729) rfl .boolean (by decide +kernel) rfl rfl dX7_rowOn_28 (fun H locs hM hS => ?_)
      obtain ⟨h24, eh24⟩ : ∃ y : Mem, y = up2 h 46 0 (1 : Int32) := ⟨_, rfl⟩
      rw [← eh24] at hM
      have hw := hw h24 eh24
      refine lv_aload_n hx hb dX7_rowOn_31 rfl (lv_at hl 0 rfl) ?_
      refine lv_iload_n hx hb dX7_rowOn_32 rfl (lv_at hl 2 rfl) ?_
      refine M_put hx hb hts hown hK hM hJ hS 44 rfl rfl (hts _ q1727) rfl .int (by decide +kernel) rfl rfl dX7_rowOn_33 (fun H locs hM hS => ?_)
      obtain ⟨h25, eh25⟩ : ∃ y : Mem, y = up2 h24 44 0 a2 := ⟨_, rfl⟩
      rw [← eh25] at hM
      have hw := hw h25 eh25
      refine lv_iconst (v := (0 : Int32)) hx hb dX7_rowOn_36 (by decide) ?_
      refine lv_istore_n (lv' := [(3, .int (0 : Int32)), (0, .ref (ad 69)), (1, .int a1), (2, .int a2)]) hx hb dX7_rowOn_37 rfl hl (by decide) rfl (fun ls hl => ?_)
      obtain ⟨n30, hw⟩ := hw
      exact hL38 n30 h25 (0 : Int32) hw _ _ ls hM hS (lv_sub hl [1, 0] rfl)
  unfold wpRX7_rowOn at hw
  refine lv_aload_n hx hb dX7_rowOn_0 rfl (lv_at hl 0 rfl) ?_
  refine M_get hx hb hts hown hK hM 46 (v := .int (h 46 0)) (by decide) (hts _ q1729) rfl dX7_rowOn_1 ?_
  refine lv_if_eq (tgt := 16) hx hb dX7_rowOn_4 (by decide) (fun c1 => ?_) (fun c1 => ?_)
  · have hw := hw.1 c1
    exact hB16 h hw _ _ ls hM hS (lv_sub hl [0, 1, 2] rfl)
  · have hw := hw.2 c1
    refine lv_iload_n hx hb dX7_rowOn_7 rfl (lv_at hl 2 rfl) ?_
    refine lv_aload_n hx hb dX7_rowOn_8 rfl (lv_at hl 0 rfl) ?_
    refine M_get hx hb hts hown hK hM 44 (v := .int (h 44 0)) (by decide) (hts _ q1727) rfl dX7_rowOn_9 ?_
    refine lv_icmp_lt (tgt := 16) hx hb dX7_rowOn_12 (by decide) (fun c31 => ?_) (fun c31 => ?_)
    · have hw := hw.1 c31
      exact hB16 h hw _ _ ls hM hS (lv_sub hl [0, 1, 2] rfl)
    · have hw := hw.2 c31
      exact M_vret hx hb hr hlocks hM hS hw dX7_rowOn_15
theorem metX7_rowOn (l : Launch) (D : va_G) (cA : Nat → ClassId) (z0 : Nat) (E : Nat → Nat → Nat) (ad : Nat → Nat) (d : Nat) : ∀ (h : Mem) (a1 : Int32) (a2 : Int32) (post : Mem → Prop) (hw : wpX7_rowOn d post h a1 a2), MeV l D cA z0 E ad yX7_rowOn (ws_ yX7_rowOn cX7_rowOn 4 none) ({ frames := 8 * d, cells := 0, slots := 0, locals := 168 * d }) [.ref (ad 69), .int a1, .int a2] h post := by
  induction d with
  | zero => intro h a1 a2 post hw; exact False.elim hw
  | succ d ih => intro h a1 a2 post hw; exact metRX7_rowOn l D cA z0 E ad (wpX7_rowOn d) (8 * d) (168 * d) (fun post h a1 a2 hw => ih h a1 a2 post hw) h a1 a2 post hw

/-- noon()I -/
def wpBX7_noon_97 (post : Int32 → Mem → Prop)   (K97 : Mem → Int32 → Prop)  (h : Mem) (x2 : Int32) : Prop :=
  (((6 : Int32) ≤ x2 → post (-1 : Int32) h) ∧ (¬ (6 : Int32) ≤ x2 → (vp_in x2 (mlen 47) ∧ (vp_in x2 (mlen 43) ∧ (∀ h13 : Mem, h13 = up2 h 43 (ix x2) (h 47 (ix x2)) → K97 h13 (x2 + (1 : Int32)))))))
def wpLX7_noon_97 (post : Int32 → Mem → Prop)    : Nat → (Mem × Int32) → Prop := LW (fun K s => wpBX7_noon_97 post   (fun h x2 => K (h, x2))  s.1 s.2)
def wpBX7_noon_53 (post : Int32 → Mem → Prop)   (K53 : Mem → Int32 → Prop)  (h : Mem) (x2 : Int32) : Prop :=
  (((6 : Int32) ≤ x2 → (∀ h5 : Mem, h5 = up2 h 46 0 (0 : Int32) → (wpX7_rowOn 8 (fun h7 => (((h7 46 0) = 0 → (∃ n, wpLX7_noon_97 post    n (h7, (0 : Int32)))) ∧ (¬ (h7 46 0) = 0 → (∀ h9 : Mem, h9 = up2 h7 45 0 (1 : Int32) → post (h9 44 0) h9)))) h5 (0 : Int32) (0 : Int32)))) ∧ (¬ (6 : Int32) ≤ x2 → (vp_in x2 (mlen 43) ∧ (vp_in x2 (mlen 47) ∧ (∀ h17 : Mem, h17 = up2 h 47 (ix x2) (h 43 (ix x2)) → K53 h17 (x2 + (1 : Int32)))))))
def wpLX7_noon_53 (post : Int32 → Mem → Prop)    : Nat → (Mem × Int32) → Prop := LW (fun K s => wpBX7_noon_53 post   (fun h x2 => K (h, x2))  s.1 s.2)
def wpBX7_noon_35 (post : Int32 → Mem → Prop)  (K9 : Int32 → Int32 → Prop) (h : Mem) (x2 : Int32) (s0 : Int32) (s1 : Int32) : Prop :=
  K9 (s1 + s0) (x2 + (1 : Int32))
def wpBX7_noon_9 (post : Int32 → Mem → Prop)   (K9 : Int32 → Int32 → Prop) (h : Mem)  (x1 : Int32) (x2 : Int32) : Prop :=
  (((h 3 1) ≤ x2 → ((x1 ≤ (5 : Int32) → (∃ n, wpLX7_noon_53 post    n (h, (0 : Int32)))) ∧ (¬ x1 ≤ (5 : Int32) → post (-2 : Int32) h))) ∧ (¬ (h 3 1) ≤ x2 → (vp_in x2 (mlen 27) ∧ wpBX7_noon_35 post  K9 h x2 (if (h 27 (ix x2)) = (-1 : Int32) then (1 : Int32) else (0 : Int32)) x1)))
def wpLX7_noon_9 (post : Int32 → Mem → Prop)   (h : Mem)  : Nat → (Int32 × Int32) → Prop := LW (fun K s => wpBX7_noon_9 post   (fun x1 x2 => K (x1, x2)) h  s.1 s.2)
def wpX7_noon (post : Int32 → Mem → Prop) (h : Mem)  : Prop :=
  (∀ h1 : Mem, h1 = up2 h 2 0 (0 : Int32) → (∃ n, wpLX7_noon_9 post   h1 n ((0 : Int32), (0 : Int32))))
set_option maxHeartbeats 4000000 in
set_option maxRecDepth 100000 in
theorem metX7_noon (l : Launch) (D : va_G) (cA : Nat → ClassId) (z0 : Nat) (E : Nat → Nat → Nat) (ad : Nat → Nat) (h : Mem)  (post : Int32 → Mem → Prop) (hw : wpX7_noon post h ) : MeI l D cA z0 E ad yX7_noon (ws_ yX7_noon cX7_noon 3 (some .int)) ({ frames := 65, cells := 0, slots := 0, locals := 1367 }) [.ref (ad 69)] h post := by
  refine Met.ofW (cc := cX7_noon) (maxL := 3) (ret := (some .int)) (by decide) rfl ?_
  intro p e s m args below meth c s₁ B hml hv
  obtain ⟨rfl, hM, hK, hJ, hZ⟩ := hv
  have hx := B.exec
  have hb := B.bytes
  have hr := B.returns
  have hts := atoms_spec (ws := ws_ yX7_noon cX7_noon 3 (some .int)) B.pre
  have hts : ∀ w ∈ lw_all, w.before _ s = true := fun w h => hts w (List.mem_cons_of_mem _ h)
  have hown : s.vm.findClass RX7 = some m.cls := findClass_of_methodNamed B.named
  have hlocks := B.notSynchronized
  have hS : va_S (MA ad) s.heap s.heap [] := va_S.rf
  have hl := lv_entry ([.ref (ad 69)]) (n := 3) (Nat.le_of_ble_eq_true rfl)
  rw [lg_entry_eq]
  generalize (lg_sl ([.ref (ad 69)]) ++ List.replicate (3 - (lg_sl ([.ref (ad 69)])).length) Slot.unset).toArray = ls at hl ⊢
  have hl : lv_has ls 3 [(0, .ref (ad 69))] := hl
  have hL97 : ∀  (n97 : Nat) (h : Mem) (x2 : Int32), wpLX7_noon_97 post    n97 (h, x2) → JM p l e (headSpec (ws_ yX7_noon cX7_noon 3 (some .int)) ({ frames := 65, cells := 0, slots := 0, locals := 1367 })).room s m ([.ref (ad 69)] : List Value).toArray below meth c (MQ below (MQi D cA E ad post) ([.ref (ad 69)] : List Value).toArray s 0 0 (MA ad)) D cA E ad 3 97 h [(0, .ref (ad 69)), (2, .int x2)] [] := by
    intro  n97
    induction n97 with
    | zero => intro h x2 hw; exact False.elim hw
    | succ n97 ih97 =>
      intro h x2 hw H locs ls hM hS hl
      have hw : wpBX7_noon_97 post   (fun h x2 => wpLX7_noon_97 post    n97 (h, x2))  h x2 := hw
      unfold wpBX7_noon_97 at hw
      refine lv_iload_n hx hb dX7_noon_97 rfl (lv_at hl 1 rfl) ?_
      refine lv_bipush (v := (6 : Int32)) hx hb dX7_noon_98 (by decide) ?_
      refine lv_icmp_ge (tgt := 121) hx hb dX7_noon_100 (by decide) (fun c10 => ?_) (fun c10 => ?_)
      · have hw := hw.1 c10
        refine lv_iconst (v := (-1 : Int32)) hx hb dX7_noon_121 (by decide) ?_
        exact M_iret hx hb hr hlocks hM hS hw dX7_noon_122
      · have hw := hw.2 c10
        refine lv_aload_n hx hb dX7_noon_103 rfl (lv_at hl 0 rfl) ?_
        refine M_get hx hb hts hown hK hM 43 (v := .ref (ad 43)) (by decide) (hts _ q1726) rfl dX7_noon_104 ?_
        refine lv_iload_n hx hb dX7_noon_107 rfl (lv_at hl 1 rfl) ?_
        refine lv_aload_n hx hb dX7_noon_108 rfl (lv_at hl 0 rfl) ?_
        refine M_get hx hb hts hown hK hM 47 (v := .ref (ad 47)) (by decide) (hts _ q1730) rfl dX7_noon_109 ?_
        refine lv_iload_n hx hb dX7_noon_112 rfl (lv_at hl 1 rfl) ?_
        obtain ⟨hb11, hw⟩ := hw
        refine M_iald hx hb hK hM 47 rfl (j := (ix x2)) rfl hb11 dX7_noon_113 ?_
        obtain ⟨hb12, hw⟩ := hw
        refine M_iast hx hb hK hM hJ hS 43 rfl (j := (ix x2)) rfl hb12 dX7_noon_114 (fun H locs hM hS => ?_)
        obtain ⟨h13, eh13⟩ : ∃ y : Mem, y = up2 h 43 (ix x2) (h 47 (ix x2)) := ⟨_, rfl⟩
        rw [← eh13] at hM
        have hw := hw h13 eh13
        refine lv_iinc (v := (x2 + (1 : Int32))) (lv' := [(2, .int (x2 + (1 : Int32))), (0, .ref (ad 69))]) hx hb dX7_noon_115 hl (k := 1) rfl rfl (by decide) rfl (fun ls hl => ?_)
        refine lv_goto (tgt := 97) hx hb dX7_noon_118 (by decide) ?_
        exact ih97 h13 (x2 + (1 : Int32)) hw _ _ ls hM hS (lv_sub hl [1, 0] rfl)
  have hL53 : ∀  (n53 : Nat) (h : Mem) (x2 : Int32), wpLX7_noon_53 post    n53 (h, x2) → JM p l e (headSpec (ws_ yX7_noon cX7_noon 3 (some .int)) ({ frames := 65, cells := 0, slots := 0, locals := 1367 })).room s m ([.ref (ad 69)] : List Value).toArray below meth c (MQ below (MQi D cA E ad post) ([.ref (ad 69)] : List Value).toArray s 0 0 (MA ad)) D cA E ad 3 53 h [(0, .ref (ad 69)), (2, .int x2)] [] := by
    intro  n53
    induction n53 with
    | zero => intro h x2 hw; exact False.elim hw
    | succ n53 ih53 =>
      intro h x2 hw H locs ls hM hS hl
      have hw : wpBX7_noon_53 post   (fun h x2 => wpLX7_noon_53 post    n53 (h, x2))  h x2 := hw
      unfold wpBX7_noon_53 at hw
      refine lv_iload_n hx hb dX7_noon_53 rfl (lv_at hl 1 rfl) ?_
      refine lv_bipush (v := (6 : Int32)) hx hb dX7_noon_54 (by decide) ?_
      refine lv_icmp_ge (tgt := 77) hx hb dX7_noon_56 (by decide) (fun c4 => ?_) (fun c4 => ?_)
      · have hw := hw.1 c4
        refine lv_aload_n hx hb dX7_noon_77 rfl (lv_at hl 0 rfl) ?_
        refine lv_iconst (v := (0 : Int32)) hx hb dX7_noon_78 (by decide) ?_
        refine M_put hx hb hts hown hK hM hJ hS 46 rfl rfl (hts _ q1729) rfl .boolean (by decide +kernel) rfl rfl dX7_noon_79 (fun H locs hM hS => ?_)
        obtain ⟨h5, eh5⟩ : ∃ y : Mem, y = up2 h 46 0 (0 : Int32) := ⟨_, rfl⟩
        rw [← eh5] at hM
        have hw := hw h5 eh5
        refine lv_aload_n hx hb dX7_noon_82 rfl (lv_at hl 0 rfl) ?_
        refine lv_iconst (v := (0 : Int32)) hx hb dX7_noon_83 (by decide) ?_
        refine lv_iconst (v := (0 : Int32)) hx hb dX7_noon_84 (by decide) ?_
        refine M_callV (As := [.int (0 : Int32), .int (0 : Int32)]) (rest := []) ⟨hx, hb, hml, hown, hts⟩ hK hZ hM hJ hS (metX7_rowOn l D cA z0 E ad 8 h5 (0 : Int32) (0 : Int32) _ hw) (cwV 2 hts (lw_V q2182 q2184 qs89 q130 q2185) rfl rfl rfl (by decide +kernel) ⟨Nat.le_of_ble_eq_true rfl, Nat.le_of_ble_eq_true rfl⟩) rfl hl.1 rfl (Nat.le_of_ble_eq_true rfl) dX7_noon_85 ⟨Nat.zero_le _, Nat.zero_le _⟩ (fun h7 H locs hw hM hS => ?_)
        refine lv_aload_n hx hb dX7_noon_88 rfl (lv_at hl 0 rfl) ?_
        refine M_get hx hb hts hown hK hM 46 (v := .int (h7 46 0)) (by decide) (hts _ q1729) rfl dX7_noon_89 ?_
        refine lv_if_ne (tgt := 123) hx hb dX7_noon_92 (by decide) (fun c8 => ?_) (fun c8 => ?_)
        · have hw := hw.2 c8
          refine lv_aload_n hx hb dX7_noon_123 rfl (lv_at hl 0 rfl) ?_
          refine lv_iconst (v := (1 : Int32)) hx hb dX7_noon_124 (by decide) ?_
          refine M_put hx hb hts hown hK hM hJ hS 45 rfl rfl (hts _ q1728) rfl .boolean (by decide +kernel) rfl rfl dX7_noon_125 (fun H locs hM hS => ?_)
          obtain ⟨h9, eh9⟩ : ∃ y : Mem, y = up2 h7 45 0 (1 : Int32) := ⟨_, rfl⟩
          rw [← eh9] at hM
          have hw := hw h9 eh9
          refine lv_aload_n hx hb dX7_noon_128 rfl (lv_at hl 0 rfl) ?_
          refine M_get hx hb hts hown hK hM 44 (v := .int (h9 44 0)) (by decide) (hts _ q1727) rfl dX7_noon_129 ?_
          exact M_iret hx hb hr hlocks hM hS hw dX7_noon_132
        · have hw := hw.1 c8
          refine lv_iconst (v := (0 : Int32)) hx hb dX7_noon_95 (by decide) ?_
          refine lv_istore_n (lv' := [(2, .int (0 : Int32)), (0, .ref (ad 69))]) hx hb dX7_noon_96 rfl hl (by decide) rfl (fun ls hl => ?_)
          obtain ⟨n14, hw⟩ := hw
          exact hL97 n14 h7 (0 : Int32) hw _ _ ls hM hS (lv_sub hl [1, 0] rfl)
      · have hw := hw.2 c4
        refine lv_aload_n hx hb dX7_noon_59 rfl (lv_at hl 0 rfl) ?_
        refine M_get hx hb hts hown hK hM 47 (v := .ref (ad 47)) (by decide) (hts _ q1730) rfl dX7_noon_60 ?_
        refine lv_iload_n hx hb dX7_noon_63 rfl (lv_at hl 1 rfl) ?_
        refine lv_aload_n hx hb dX7_noon_64 rfl (lv_at hl 0 rfl) ?_
        refine M_get hx hb hts hown hK hM 43 (v := .ref (ad 43)) (by decide) (hts _ q1726) rfl dX7_noon_65 ?_
        refine lv_iload_n hx hb dX7_noon_68 rfl (lv_at hl 1 rfl) ?_
        obtain ⟨hb15, hw⟩ := hw
        refine M_iald hx hb hK hM 43 rfl (j := (ix x2)) rfl hb15 dX7_noon_69 ?_
        obtain ⟨hb16, hw⟩ := hw
        refine M_iast hx hb hK hM hJ hS 47 rfl (j := (ix x2)) rfl hb16 dX7_noon_70 (fun H locs hM hS => ?_)
        obtain ⟨h17, eh17⟩ : ∃ y : Mem, y = up2 h 47 (ix x2) (h 43 (ix x2)) := ⟨_, rfl⟩
        rw [← eh17] at hM
        have hw := hw h17 eh17
        refine lv_iinc (v := (x2 + (1 : Int32))) (lv' := [(2, .int (x2 + (1 : Int32))), (0, .ref (ad 69))]) hx hb dX7_noon_71 hl (k := 1) rfl rfl (by decide) rfl (fun ls hl => ?_)
        refine lv_goto (tgt := 53) hx hb dX7_noon_74 (by decide) ?_
        exact ih53 h17 (x2 + (1 : Int32)) hw _ _ ls hM hS (lv_sub hl [1, 0] rfl)
  have hL9 : ∀ (h : Mem)  (n9 : Nat) (x1 : Int32) (x2 : Int32), wpLX7_noon_9 post   h  n9 (x1, x2) → JM p l e (headSpec (ws_ yX7_noon cX7_noon 3 (some .int)) ({ frames := 65, cells := 0, slots := 0, locals := 1367 })).room s m ([.ref (ad 69)] : List Value).toArray below meth c (MQ below (MQi D cA E ad post) ([.ref (ad 69)] : List Value).toArray s 0 0 (MA ad)) D cA E ad 3 9 h [(0, .ref (ad 69)), (1, .int x1), (2, .int x2)] [] := by
    intro h n9
    induction n9 with
    | zero => intro x1 x2 hw; exact False.elim hw
    | succ n9 ih9 =>
      have hB35 : ∀ (x2 : Int32) (s0 : Int32) (s1 : Int32), wpBX7_noon_35 post  (fun x1 x2 => wpLX7_noon_9 post   h  n9 (x1, x2)) h x2 s0 s1 → JM p l e (headSpec (ws_ yX7_noon cX7_noon 3 (some .int)) ({ frames := 65, cells := 0, slots := 0, locals := 1367 })).room s m ([.ref (ad 69)] : List Value).toArray below meth c (MQ below (MQi D cA E ad post) ([.ref (ad 69)] : List Value).toArray s 0 0 (MA ad)) D cA E ad 3 35 h [(0, .ref (ad 69)), (2, .int x2)] [.int s0, .int s1] := by
        intro x2 s0 s1 hw H locs ls hM hS hl
        unfold wpBX7_noon_35 at hw
        refine lv_iadd hx hb dX7_noon_35 ?_
        refine lv_istore_n (lv' := [(1, .int (s1 + s0)), (0, .ref (ad 69)), (2, .int x2)]) hx hb dX7_noon_36 rfl hl (by decide) rfl (fun ls hl => ?_)
        refine lv_iinc (v := (x2 + (1 : Int32))) (lv' := [(2, .int (x2 + (1 : Int32))), (1, .int (s1 + s0)), (0, .ref (ad 69))]) hx hb dX7_noon_37 hl (k := 2) rfl rfl (by decide) rfl (fun ls hl => ?_)
        refine lv_goto (tgt := 9) hx hb dX7_noon_40 (by decide) ?_
        exact ih9 (s1 + s0) (x2 + (1 : Int32)) hw _ _ ls hM hS (lv_sub hl [2, 1, 0] rfl)
      intro x1 x2 hw H locs ls hM hS hl
      have hw : wpBX7_noon_9 post   (fun x1 x2 => wpLX7_noon_9 post   h  n9 (x1, x2)) h  x1 x2 := hw
      unfold wpBX7_noon_9 at hw
      refine lv_iload_n hx hb dX7_noon_9 rfl (lv_at hl 2 rfl) ?_
      refine lv_aload_n hx hb dX7_noon_10 rfl (lv_at hl 0 rfl) ?_
      refine M_get hx hb hts hown hK hM 3 (v := .ref (ad 3)) (by decide) (hts _ q1686) rfl dX7_noon_11 ?_
      refine lv_iconst (v := (1 : Int32)) hx hb dX7_noon_14 (by decide) ?_
      refine M_iald hx hb hK hM 3 rfl (j := 1) rfl (by unfold vp_in; decide) dX7_noon_15 ?_
      refine lv_icmp_ge (tgt := 43) hx hb dX7_noon_16 (by decide) (fun c2 => ?_) (fun c2 => ?_)
      · have hw := hw.1 c2
        refine lv_iload_n hx hb dX7_noon_43 rfl (lv_at hl 1 rfl) ?_
        refine lv_iconst (v := (5 : Int32)) hx hb dX7_noon_44 (by decide) ?_
        refine lv_icmp_le (tgt := 51) hx hb dX7_noon_45 (by decide) (fun c3 => ?_) (fun c3 => ?_)
        · have hw := hw.1 c3
          refine lv_iconst (v := (0 : Int32)) hx hb dX7_noon_51 (by decide) ?_
          refine lv_istore_n (lv' := [(2, .int (0 : Int32)), (0, .ref (ad 69)), (1, .int x1)]) hx hb dX7_noon_52 rfl hl (by decide) rfl (fun ls hl => ?_)
          obtain ⟨n18, hw⟩ := hw
          exact hL53 n18 h (0 : Int32) hw _ _ ls hM hS (lv_sub hl [1, 0] rfl)
        · have hw := hw.2 c3
          refine lv_bipush (v := (-2 : Int32)) hx hb dX7_noon_48 (by decide) ?_
          exact M_iret hx hb hr hlocks hM hS hw dX7_noon_50
      · have hw := hw.2 c2
        refine lv_iload_n hx hb dX7_noon_19 rfl (lv_at hl 1 rfl) ?_
        refine lv_aload_n hx hb dX7_noon_20 rfl (lv_at hl 0 rfl) ?_
        refine M_get hx hb hts hown hK hM 27 (v := .ref (ad 27)) (by decide) (hts _ q1710) rfl dX7_noon_21 ?_
        refine lv_iload_n hx hb dX7_noon_24 rfl (lv_at hl 2 rfl) ?_
        obtain ⟨hb19, hw⟩ := hw
        refine M_iald hx hb hK hM 27 rfl (j := (ix x2)) rfl hb19 dX7_noon_25 ?_
        refine lv_iconst (v := (-1 : Int32)) hx hb dX7_noon_26 (by decide) ?_
        have hj20 : JM p l e (headSpec (ws_ yX7_noon cX7_noon 3 (some .int)) ({ frames := 65, cells := 0, slots := 0, locals := 1367 })).room s m ([.ref (ad 69)] : List Value).toArray below meth c (MQ below (MQi D cA E ad post) ([.ref (ad 69)] : List Value).toArray s 0 0 (MA ad)) D cA E ad 3 35 h [(0, .ref (ad 69)), (2, .int x2)] [.int (if (h 27 (ix x2)) = (-1 : Int32) then (1 : Int32) else (0 : Int32)), .int x1] := by
          intro H locs ls hM hS hl
          exact hB35 x2 (if (h 27 (ix x2)) = (-1 : Int32) then (1 : Int32) else (0 : Int32)) x1 hw _ _ ls hM hS (lv_sub hl [0, 1] rfl)
        refine lv_icmp_ne (tgt := 34) hx hb dX7_noon_27 (by decide) (fun c21 => ?_) (fun c21 => ?_)
        · refine lv_iconst (v := (0 : Int32)) hx hb dX7_noon_34 (by decide) ?_
          have e22 : (if (h 27 (ix x2)) = (-1 : Int32) then (1 : Int32) else (0 : Int32)) = (0 : Int32) := by rw [if_neg c21]
          rw [e22] at hj20
          exact hj20 _ _ ls hM hS (lv_sub hl [0, 2] rfl)
        · refine lv_iconst (v := (1 : Int32)) hx hb dX7_noon_30 (by decide) ?_
          refine lv_goto (tgt := 35) hx hb dX7_noon_31 (by decide) ?_
          have e23 : (if (h 27 (ix x2)) = (-1 : Int32) then (1 : Int32) else (0 : Int32)) = (1 : Int32) := by rw [if_pos c21]
          rw [e23] at hj20
          exact hj20 _ _ ls hM hS (lv_sub hl [0, 2] rfl)
  unfold wpX7_noon at hw
  refine lv_aload_n hx hb dX7_noon_0 rfl (lv_at hl 0 rfl) ?_
  refine lv_iconst (v := (0 : Int32)) hx hb dX7_noon_1 (by decide) ?_
  refine M_put hx hb hts hown hK hM hJ hS 2 rfl rfl (hts _ q1685) rfl .int (by decide +kernel) rfl rfl dX7_noon_2 (fun H locs hM hS => ?_)
  obtain ⟨h1, eh1⟩ : ∃ y : Mem, y = up2 h 2 0 (0 : Int32) := ⟨_, rfl⟩
  rw [← eh1] at hM
  have hw := hw h1 eh1
  refine lv_iconst (v := (0 : Int32)) hx hb dX7_noon_5 (by decide) ?_
  refine lv_istore_n (lv' := [(1, .int (0 : Int32)), (0, .ref (ad 69))]) hx hb dX7_noon_6 rfl hl (by decide) rfl (fun ls hl => ?_)
  refine lv_iconst (v := (0 : Int32)) hx hb dX7_noon_7 (by decide) ?_
  refine lv_istore_n (lv' := [(2, .int (0 : Int32)), (1, .int (0 : Int32)), (0, .ref (ad 69))]) hx hb dX7_noon_8 rfl hl (by decide) rfl (fun ls hl => ?_)
  obtain ⟨n24, hw⟩ := hw
  exact hL9 h1 n24 (0 : Int32) (0 : Int32) hw _ _ ls hM hS (lv_sub hl [2, 1, 0] rfl)

/-- carried(I)I -/
def wpBX7_carried_29 (post : Int32 → Mem → Prop) (a1 : Int32)  (h : Mem)   : Prop :=
  (wpX7_fail (fun r5 h6 => post r5 h6) h (1 : Int32))
def wpX7_carried (post : Int32 → Mem → Prop) (h : Mem) (a1 : Int32) : Prop :=
  (∀ h1 : Mem, h1 = up2 h 2 0 (0 : Int32) → (wpX7_isLoaf (fun r2 => ((r2 = true → (((h1 45 0) = 0 → wpBX7_carried_29 post a1  h1 ) ∧ (¬ (h1 45 0) = 0 → (vp_in a1 (mlen 43) ∧ post (h1 43 (ix a1)) h1)))) ∧ (¬ r2 = true → wpBX7_carried_29 post a1  h1 ))) h1 a1))
set_option maxHeartbeats 4000000 in
set_option maxRecDepth 100000 in
theorem metX7_carried (l : Launch) (D : va_G) (cA : Nat → ClassId) (z0 : Nat) (E : Nat → Nat → Nat) (ad : Nat → Nat) (h : Mem) (a1 : Int32) (post : Int32 → Mem → Prop) (hw : wpX7_carried post h a1) : MeI l D cA z0 E ad yX7_carried (ws_ yX7_carried cX7_carried 2 (some .int)) ({ frames := 3, cells := 0, slots := 0, locals := 76 }) [.ref (ad 69), .int a1] h post := by
  refine Met.ofW (cc := cX7_carried) (maxL := 2) (ret := (some .int)) (by decide) rfl ?_
  intro p e s m args below meth c s₁ B hml hv
  obtain ⟨rfl, hM, hK, hJ, hZ⟩ := hv
  have hx := B.exec
  have hb := B.bytes
  have hr := B.returns
  have hts := atoms_spec (ws := ws_ yX7_carried cX7_carried 2 (some .int)) B.pre
  have hts : ∀ w ∈ lw_all, w.before _ s = true := fun w h => hts w (List.mem_cons_of_mem _ h)
  have hown : s.vm.findClass RX7 = some m.cls := findClass_of_methodNamed B.named
  have hlocks := B.notSynchronized
  have hS : va_S (MA ad) s.heap s.heap [] := va_S.rf
  have hl := lv_entry ([.ref (ad 69), .int a1]) (n := 2) (Nat.le_of_ble_eq_true rfl)
  rw [lg_entry_eq]
  generalize (lg_sl ([.ref (ad 69), .int a1]) ++ List.replicate (2 - (lg_sl ([.ref (ad 69), .int a1])).length) Slot.unset).toArray = ls at hl ⊢
  have hl : lv_has ls 2 [(0, .ref (ad 69)), (1, .int a1)] := hl
  have hB29 : ∀ (h : Mem), wpBX7_carried_29 post a1  h  → JM p l e (headSpec (ws_ yX7_carried cX7_carried 2 (some .int)) ({ frames := 3, cells := 0, slots := 0, locals := 76 })).room s m ([.ref (ad 69), .int a1] : List Value).toArray below meth c (MQ below (MQi D cA E ad post) ([.ref (ad 69), .int a1] : List Value).toArray s 0 0 (MA ad)) D cA E ad 2 29 h [(0, .ref (ad 69))] [] := by
    intro h hw H locs ls hM hS hl
    unfold wpBX7_carried_29 at hw
    refine lv_aload_n hx hb dX7_carried_29 rfl (lv_at hl 0 rfl) ?_
    refine lv_iconst (v := (1 : Int32)) hx hb dX7_carried_30 (by decide) ?_
    refine M_callI (As := [.int (1 : Int32)]) (rest := []) ⟨hx, hb, hml, hown, hts⟩ hK hZ hM hJ hS (metX7_fail l D cA z0 E ad h (1 : Int32) _ hw) (cwV 1 hts (lw_V q1903 q1905 qs44 q130 q1906) rfl rfl rfl (by decide +kernel) ⟨Nat.le_of_ble_eq_true rfl, Nat.le_of_ble_eq_true rfl⟩) rfl hl.1 rfl (Nat.le_of_ble_eq_true rfl) dX7_carried_31 ⟨Nat.zero_le _, Nat.zero_le _⟩ (fun r5 h6 H locs hw hM hS => ?_)
    exact M_iret hx hb hr hlocks hM hS hw dX7_carried_34
  unfold wpX7_carried at hw
  refine lv_aload_n hx hb dX7_carried_0 rfl (lv_at hl 0 rfl) ?_
  refine lv_iconst (v := (0 : Int32)) hx hb dX7_carried_1 (by decide) ?_
  refine M_put hx hb hts hown hK hM hJ hS 2 rfl rfl (hts _ q1685) rfl .int (by decide +kernel) rfl rfl dX7_carried_2 (fun H locs hM hS => ?_)
  obtain ⟨h1, eh1⟩ : ∃ y : Mem, y = up2 h 2 0 (0 : Int32) := ⟨_, rfl⟩
  rw [← eh1] at hM
  have hw := hw h1 eh1
  refine lv_aload_n hx hb dX7_carried_5 rfl (lv_at hl 0 rfl) ?_
  refine lv_iload_n hx hb dX7_carried_6 rfl (lv_at hl 1 rfl) ?_
  refine M_callZp (As := [.int a1]) (rest := []) ⟨hx, hb, hml, hown, hts⟩ hK hZ hM hJ hS (metX7_isLoaf l D cA z0 E ad h1 a1 _ hw) (cwV 1 hts (lw_V q2066 q2068 qs72 q130 q2069) rfl rfl rfl (by decide +kernel) ⟨Nat.le_of_ble_eq_true rfl, Nat.le_of_ble_eq_true rfl⟩) rfl hl.1 rfl (Nat.le_of_ble_eq_true rfl) dX7_carried_7 ⟨Nat.zero_le _, Nat.zero_le _⟩ (fun r2 H locs hw hM hS => ?_)
  refine lv_if_eq (tgt := 29) hx hb dX7_carried_10 (by decide) (fun c4 => ?_) (fun c4 => ?_)
  · have c4 := b2i_f c4
    have hw := hw.2 c4
    exact hB29 h1 hw _ _ ls hM hS (lv_sub hl [0] rfl)
  · have c4 := b2i_t c4
    have hw := hw.1 c4
    refine lv_aload_n hx hb dX7_carried_13 rfl (lv_at hl 0 rfl) ?_
    refine M_get hx hb hts hown hK hM 45 (v := .int (h1 45 0)) (by decide) (hts _ q1728) rfl dX7_carried_14 ?_
    refine lv_if_eq (tgt := 29) hx hb dX7_carried_17 (by decide) (fun c7 => ?_) (fun c7 => ?_)
    · have hw := hw.1 c7
      exact hB29 h1 hw _ _ ls hM hS (lv_sub hl [0] rfl)
    · have hw := hw.2 c7
      refine lv_aload_n hx hb dX7_carried_20 rfl (lv_at hl 0 rfl) ?_
      refine M_get hx hb hts hown hK hM 43 (v := .ref (ad 43)) (by decide) (hts _ q1726) rfl dX7_carried_21 ?_
      refine lv_iload_n hx hb dX7_carried_24 rfl (lv_at hl 1 rfl) ?_
      obtain ⟨hb8, hw⟩ := hw
      refine M_iald hx hb hK hM 43 rfl (j := (ix a1)) rfl hb8 dX7_carried_25 ?_
      refine lv_goto (tgt := 34) hx hb dX7_carried_26 (by decide) ?_
      exact M_iret hx hb hr hlocks hM hS hw dX7_carried_34

/-- familiar()I -/
def wpBX7_familiar_73 (post : Int32 → Mem → Prop)  (K9 : Int32 → Int32 → Prop) (h : Mem) (x2 : Int32) (s0 : Int32) (s1 : Int32) : Prop :=
  K9 (s1 ||| s0) (x2 + (1 : Int32))
def wpBX7_familiar_53 (post : Int32 → Mem → Prop)  (K9 : Int32 → Int32 → Prop) (K24 : Int32 → Int32 → Prop) (h : Mem) (x1 : Int32) (x2 : Int32) (x4 : Int32)  : Prop :=
  K24 (0 : Int32) (x4 + (1 : Int32))
def wpBX7_familiar_24 (post : Int32 → Mem → Prop)  (K9 : Int32 → Int32 → Prop) (K24 : Int32 → Int32 → Prop) (h : Mem) (x1 : Int32) (x2 : Int32) (x3 : Int32) (x4 : Int32) : Prop :=
  (((h 3 0) ≤ x4 → wpBX7_familiar_73 post  K9 h x2 (if x3 = 0 then (0 : Int32) else ((1 : Int32) <<< (x2 &&& 31))) x1) ∧ (¬ (h 3 0) ≤ x4 → ((x3 = 0 → wpBX7_familiar_53 post  K9 K24 h x1 x2 x4) ∧ (¬ x3 = 0 → (wpX7_isKnown (fun r9 => K24 (if r9 = true then (1 : Int32) else (0 : Int32)) (x4 + (1 : Int32))) h x2 x4)))))
def wpLX7_familiar_24 (post : Int32 → Mem → Prop)  (K9 : Int32 → Int32 → Prop) (h : Mem) (x1 : Int32) (x2 : Int32) : Nat → (Int32 × Int32) → Prop := LW (fun K s => wpBX7_familiar_24 post  K9 (fun x3 x4 => K (x3, x4)) h x1 x2 s.1 s.2)
def wpBX7_familiar_9 (post : Int32 → Mem → Prop)   (K9 : Int32 → Int32 → Prop) (h : Mem)  (x1 : Int32) (x2 : Int32) : Prop :=
  (((h 3 0) ≤ x2 → post x1 h) ∧ (¬ (h 3 0) ≤ x2 → (∃ n, wpLX7_familiar_24 post  K9 h x1 x2 n ((1 : Int32), (0 : Int32)))))
def wpLX7_familiar_9 (post : Int32 → Mem → Prop)   (h : Mem)  : Nat → (Int32 × Int32) → Prop := LW (fun K s => wpBX7_familiar_9 post   (fun x1 x2 => K (x1, x2)) h  s.1 s.2)
def wpX7_familiar (post : Int32 → Mem → Prop) (h : Mem)  : Prop :=
  (∀ h1 : Mem, h1 = up2 h 2 0 (0 : Int32) → (∃ n, wpLX7_familiar_9 post   h1 n ((0 : Int32), (0 : Int32))))
set_option maxHeartbeats 4000000 in
set_option maxRecDepth 100000 in
theorem metX7_familiar (l : Launch) (D : va_G) (cA : Nat → ClassId) (z0 : Nat) (E : Nat → Nat → Nat) (ad : Nat → Nat) (h : Mem)  (post : Int32 → Mem → Prop) (hw : wpX7_familiar post h ) : MeI l D cA z0 E ad yX7_familiar (ws_ yX7_familiar cX7_familiar 5 (some .int)) ({ frames := 4, cells := 0, slots := 0, locals := 98 }) [.ref (ad 69)] h post := by
  refine Met.ofW (cc := cX7_familiar) (maxL := 5) (ret := (some .int)) (by decide) rfl ?_
  intro p e s m args below meth c s₁ B hml hv
  obtain ⟨rfl, hM, hK, hJ, hZ⟩ := hv
  have hx := B.exec
  have hb := B.bytes
  have hr := B.returns
  have hts := atoms_spec (ws := ws_ yX7_familiar cX7_familiar 5 (some .int)) B.pre
  have hts : ∀ w ∈ lw_all, w.before _ s = true := fun w h => hts w (List.mem_cons_of_mem _ h)
  have hown : s.vm.findClass RX7 = some m.cls := findClass_of_methodNamed B.named
  have hlocks := B.notSynchronized
  have hS : va_S (MA ad) s.heap s.heap [] := va_S.rf
  have hl := lv_entry ([.ref (ad 69)]) (n := 5) (Nat.le_of_ble_eq_true rfl)
  rw [lg_entry_eq]
  generalize (lg_sl ([.ref (ad 69)]) ++ List.replicate (5 - (lg_sl ([.ref (ad 69)])).length) Slot.unset).toArray = ls at hl ⊢
  have hl : lv_has ls 5 [(0, .ref (ad 69))] := hl
  have hL9 : ∀ (h : Mem)  (n9 : Nat) (x1 : Int32) (x2 : Int32), wpLX7_familiar_9 post   h  n9 (x1, x2) → JM p l e (headSpec (ws_ yX7_familiar cX7_familiar 5 (some .int)) ({ frames := 4, cells := 0, slots := 0, locals := 98 })).room s m ([.ref (ad 69)] : List Value).toArray below meth c (MQ below (MQi D cA E ad post) ([.ref (ad 69)] : List Value).toArray s 0 0 (MA ad)) D cA E ad 5 9 h [(0, .ref (ad 69)), (1, .int x1), (2, .int x2)] [] := by
    intro h n9
    induction n9 with
    | zero => intro x1 x2 hw; exact False.elim hw
    | succ n9 ih9 =>
      have hB73 : ∀ (x2 : Int32) (s0 : Int32) (s1 : Int32), wpBX7_familiar_73 post  (fun x1 x2 => wpLX7_familiar_9 post   h  n9 (x1, x2)) h x2 s0 s1 → JM p l e (headSpec (ws_ yX7_familiar cX7_familiar 5 (some .int)) ({ frames := 4, cells := 0, slots := 0, locals := 98 })).room s m ([.ref (ad 69)] : List Value).toArray below meth c (MQ below (MQi D cA E ad post) ([.ref (ad 69)] : List Value).toArray s 0 0 (MA ad)) D cA E ad 5 73 h [(0, .ref (ad 69)), (2, .int x2)] [.int s0, .int s1] := by
        intro x2 s0 s1 hw H locs ls hM hS hl
        unfold wpBX7_familiar_73 at hw
        refine lv_ior hx hb dX7_familiar_73 ?_
        refine lv_istore_n (lv' := [(1, .int (s1 ||| s0)), (0, .ref (ad 69)), (2, .int x2)]) hx hb dX7_familiar_74 rfl hl (by decide) rfl (fun ls hl => ?_)
        refine lv_iinc (v := (x2 + (1 : Int32))) (lv' := [(2, .int (x2 + (1 : Int32))), (1, .int (s1 ||| s0)), (0, .ref (ad 69))]) hx hb dX7_familiar_75 hl (k := 2) rfl rfl (by decide) rfl (fun ls hl => ?_)
        refine lv_goto (tgt := 9) hx hb dX7_familiar_78 (by decide) ?_
        exact ih9 (s1 ||| s0) (x2 + (1 : Int32)) hw _ _ ls hM hS (lv_sub hl [2, 1, 0] rfl)
      have hL24 : ∀ (x1 : Int32) (x2 : Int32) (n24 : Nat) (x3 : Int32) (x4 : Int32), wpLX7_familiar_24 post  (fun x1 x2 => wpLX7_familiar_9 post   h  n9 (x1, x2)) h x1 x2 n24 (x3, x4) → JM p l e (headSpec (ws_ yX7_familiar cX7_familiar 5 (some .int)) ({ frames := 4, cells := 0, slots := 0, locals := 98 })).room s m ([.ref (ad 69)] : List Value).toArray below meth c (MQ below (MQi D cA E ad post) ([.ref (ad 69)] : List Value).toArray s 0 0 (MA ad)) D cA E ad 5 24 h [(0, .ref (ad 69)), (1, .int x1), (2, .int x2), (3, .int x3), (4, .int x4)] [] := by
        intro x1 x2 n24
        induction n24 with
        | zero => intro x3 x4 hw; exact False.elim hw
        | succ n24 ih24 =>
          have hB53 : ∀ (x4 : Int32), wpBX7_familiar_53 post  (fun x1 x2 => wpLX7_familiar_9 post   h  n9 (x1, x2)) (fun x3 x4 => wpLX7_familiar_24 post  (fun x1 x2 => wpLX7_familiar_9 post   h  n9 (x1, x2)) h x1 x2 n24 (x3, x4)) h x1 x2 x4 → JM p l e (headSpec (ws_ yX7_familiar cX7_familiar 5 (some .int)) ({ frames := 4, cells := 0, slots := 0, locals := 98 })).room s m ([.ref (ad 69)] : List Value).toArray below meth c (MQ below (MQi D cA E ad post) ([.ref (ad 69)] : List Value).toArray s 0 0 (MA ad)) D cA E ad 5 53 h [(0, .ref (ad 69)), (1, .int x1), (2, .int x2), (4, .int x4)] [] := by
            intro x4 hw H locs ls hM hS hl
            unfold wpBX7_familiar_53 at hw
            refine lv_iconst (v := (0 : Int32)) hx hb dX7_familiar_53 (by decide) ?_
            refine lv_istore_n (lv' := [(3, .int (0 : Int32)), (0, .ref (ad 69)), (1, .int x1), (2, .int x2), (4, .int x4)]) hx hb dX7_familiar_54 rfl hl (by decide) rfl (fun ls hl => ?_)
            refine lv_iinc (v := (x4 + (1 : Int32))) (lv' := [(4, .int (x4 + (1 : Int32))), (3, .int (0 : Int32)), (0, .ref (ad 69)), (1, .int x1), (2, .int x2)]) hx hb dX7_familiar_55 hl (k := 4) rfl rfl (by decide) rfl (fun ls hl => ?_)
            refine lv_goto (tgt := 24) hx hb dX7_familiar_58 (by decide) ?_
            exact ih24 (0 : Int32) (x4 + (1 : Int32)) hw _ _ ls hM hS (lv_sub hl [2, 3, 4, 1, 0] rfl)
          intro x3 x4 hw H locs ls hM hS hl
          have hw : wpBX7_familiar_24 post  (fun x1 x2 => wpLX7_familiar_9 post   h  n9 (x1, x2)) (fun x3 x4 => wpLX7_familiar_24 post  (fun x1 x2 => wpLX7_familiar_9 post   h  n9 (x1, x2)) h x1 x2 n24 (x3, x4)) h x1 x2 x3 x4 := hw
          unfold wpBX7_familiar_24 at hw
          refine lv_iload hx hb dX7_familiar_24 (lv_at hl 4 rfl) ?_
          refine lv_aload_n hx hb dX7_familiar_26 rfl (lv_at hl 0 rfl) ?_
          refine M_get hx hb hts hown hK hM 3 (v := .ref (ad 3)) (by decide) (hts _ q1686) rfl dX7_familiar_27 ?_
          refine lv_iconst (v := (0 : Int32)) hx hb dX7_familiar_30 (by decide) ?_
          refine M_iald hx hb hK hM 3 rfl (j := 0) rfl (by unfold vp_in; decide) dX7_familiar_31 ?_
          refine lv_icmp_ge (tgt := 61) hx hb dX7_familiar_32 (by decide) (fun c3 => ?_) (fun c3 => ?_)
          · have hw := hw.1 c3
            refine lv_iload_n hx hb dX7_familiar_61 rfl (lv_at hl 1 rfl) ?_
            refine lv_iload_n hx hb dX7_familiar_62 rfl (lv_at hl 3 rfl) ?_
            have hj4 : JM p l e (headSpec (ws_ yX7_familiar cX7_familiar 5 (some .int)) ({ frames := 4, cells := 0, slots := 0, locals := 98 })).room s m ([.ref (ad 69)] : List Value).toArray below meth c (MQ below (MQi D cA E ad post) ([.ref (ad 69)] : List Value).toArray s 0 0 (MA ad)) D cA E ad 5 73 h [(0, .ref (ad 69)), (2, .int x2)] [.int (if x3 = 0 then (0 : Int32) else ((1 : Int32) <<< (x2 &&& 31))), .int x1] := by
              intro H locs ls hM hS hl
              exact hB73 x2 (if x3 = 0 then (0 : Int32) else ((1 : Int32) <<< (x2 &&& 31))) x1 hw _ _ ls hM hS (lv_sub hl [0, 1] rfl)
            refine lv_if_eq (tgt := 72) hx hb dX7_familiar_63 (by decide) (fun c5 => ?_) (fun c5 => ?_)
            · refine lv_iconst (v := (0 : Int32)) hx hb dX7_familiar_72 (by decide) ?_
              have e6 : (if x3 = 0 then (0 : Int32) else ((1 : Int32) <<< (x2 &&& 31))) = (0 : Int32) := by rw [if_pos c5]
              rw [e6] at hj4
              exact hj4 _ _ ls hM hS (lv_sub hl [0, 2] rfl)
            · refine lv_iconst (v := (1 : Int32)) hx hb dX7_familiar_66 (by decide) ?_
              refine lv_iload_n hx hb dX7_familiar_67 rfl (lv_at hl 2 rfl) ?_
              refine lv_ishl hx hb dX7_familiar_68 ?_
              refine lv_goto (tgt := 73) hx hb dX7_familiar_69 (by decide) ?_
              have e7 : (if x3 = 0 then (0 : Int32) else ((1 : Int32) <<< (x2 &&& 31))) = ((1 : Int32) <<< (x2 &&& 31)) := by rw [if_neg c5]
              rw [e7] at hj4
              exact hj4 _ _ ls hM hS (lv_sub hl [0, 2] rfl)
          · have hw := hw.2 c3
            refine lv_iload_n hx hb dX7_familiar_35 rfl (lv_at hl 3 rfl) ?_
            refine lv_if_eq (tgt := 53) hx hb dX7_familiar_36 (by decide) (fun c8 => ?_) (fun c8 => ?_)
            · have hw := hw.1 c8
              exact hB53 x4 hw _ _ ls hM hS (lv_sub hl [0, 1, 2, 4] rfl)
            · have hw := hw.2 c8
              refine lv_aload_n hx hb dX7_familiar_39 rfl (lv_at hl 0 rfl) ?_
              refine lv_iload_n hx hb dX7_familiar_40 rfl (lv_at hl 2 rfl) ?_
              refine lv_iload hx hb dX7_familiar_41 (lv_at hl 4 rfl) ?_
              refine M_callZp (As := [.int x2, .int x4]) (rest := []) ⟨hx, hb, hml, hown, hts⟩ hK hZ hM hJ hS (metX7_isKnown l D cA z0 E ad h x2 x4 _ hw) (cwV 2 hts (lw_V q2039 q2041 qs68 q130 q2042) rfl rfl rfl (by decide +kernel) ⟨Nat.le_of_ble_eq_true rfl, Nat.le_of_ble_eq_true rfl⟩) rfl hl.1 rfl (Nat.le_of_ble_eq_true rfl) dX7_familiar_43 ⟨Nat.zero_le _, Nat.zero_le _⟩ (fun r9 H locs hw hM hS => ?_)
              have hj11 : JM p l e (headSpec (ws_ yX7_familiar cX7_familiar 5 (some .int)) ({ frames := 4, cells := 0, slots := 0, locals := 98 })).room s m ([.ref (ad 69)] : List Value).toArray below meth c (MQ below (MQi D cA E ad post) ([.ref (ad 69)] : List Value).toArray s 0 0 (MA ad)) D cA E ad 5 54 h [(0, .ref (ad 69)), (1, .int x1), (2, .int x2), (4, .int x4)] [.int (if r9 = true then (1 : Int32) else (0 : Int32))] := by
                intro H locs ls hM hS hl
                refine lv_istore_n (lv' := [(3, .int (if r9 = true then (1 : Int32) else (0 : Int32))), (0, .ref (ad 69)), (1, .int x1), (2, .int x2), (4, .int x4)]) hx hb dX7_familiar_54 rfl hl (by decide) rfl (fun ls hl => ?_)
                refine lv_iinc (v := (x4 + (1 : Int32))) (lv' := [(4, .int (x4 + (1 : Int32))), (3, .int (if r9 = true then (1 : Int32) else (0 : Int32))), (0, .ref (ad 69)), (1, .int x1), (2, .int x2)]) hx hb dX7_familiar_55 hl (k := 4) rfl rfl (by decide) rfl (fun ls hl => ?_)
                refine lv_goto (tgt := 24) hx hb dX7_familiar_58 (by decide) ?_
                exact ih24 (if r9 = true then (1 : Int32) else (0 : Int32)) (x4 + (1 : Int32)) hw _ _ ls hM hS (lv_sub hl [2, 3, 4, 1, 0] rfl)
              refine lv_if_eq (tgt := 53) hx hb dX7_familiar_46 (by decide) (fun c12 => ?_) (fun c12 => ?_)
              · have c12 := b2i_f c12
                refine lv_iconst (v := (0 : Int32)) hx hb dX7_familiar_53 (by decide) ?_
                have e13 : (if r9 = true then (1 : Int32) else (0 : Int32)) = (0 : Int32) := by rw [if_neg c12]
                rw [e13] at hj11
                exact hj11 _ _ ls hM hS (lv_sub hl [0, 1, 2, 4] rfl)
              · have c12 := b2i_t c12
                refine lv_iconst (v := (1 : Int32)) hx hb dX7_familiar_49 (by decide) ?_
                refine lv_goto (tgt := 54) hx hb dX7_familiar_50 (by decide) ?_
                have e14 : (if r9 = true then (1 : Int32) else (0 : Int32)) = (1 : Int32) := by rw [if_pos c12]
                rw [e14] at hj11
                exact hj11 _ _ ls hM hS (lv_sub hl [0, 1, 2, 4] rfl)
      intro x1 x2 hw H locs ls hM hS hl
      have hw : wpBX7_familiar_9 post   (fun x1 x2 => wpLX7_familiar_9 post   h  n9 (x1, x2)) h  x1 x2 := hw
      unfold wpBX7_familiar_9 at hw
      refine lv_iload_n hx hb dX7_familiar_9 rfl (lv_at hl 2 rfl) ?_
      refine lv_aload_n hx hb dX7_familiar_10 rfl (lv_at hl 0 rfl) ?_
      refine M_get hx hb hts hown hK hM 3 (v := .ref (ad 3)) (by decide) (hts _ q1686) rfl dX7_familiar_11 ?_
      refine lv_iconst (v := (0 : Int32)) hx hb dX7_familiar_14 (by decide) ?_
      refine M_iald hx hb hK hM 3 rfl (j := 0) rfl (by unfold vp_in; decide) dX7_familiar_15 ?_
      refine lv_icmp_ge (tgt := 81) hx hb dX7_familiar_16 (by decide) (fun c2 => ?_) (fun c2 => ?_)
      · have hw := hw.1 c2
        refine lv_iload_n hx hb dX7_familiar_81 rfl (lv_at hl 1 rfl) ?_
        exact M_iret hx hb hr hlocks hM hS hw dX7_familiar_82
      · have hw := hw.2 c2
        refine lv_iconst (v := (1 : Int32)) hx hb dX7_familiar_19 (by decide) ?_
        refine lv_istore_n (lv' := [(3, .int (1 : Int32)), (0, .ref (ad 69)), (1, .int x1), (2, .int x2)]) hx hb dX7_familiar_20 rfl hl (by decide) rfl (fun ls hl => ?_)
        refine lv_iconst (v := (0 : Int32)) hx hb dX7_familiar_21 (by decide) ?_
        refine lv_istore (lv' := [(4, .int (0 : Int32)), (3, .int (1 : Int32)), (0, .ref (ad 69)), (1, .int x1), (2, .int x2)]) hx hb dX7_familiar_22 hl (by decide) rfl (fun ls hl => ?_)
        obtain ⟨n15, hw⟩ := hw
        exact hL24 x1 x2 n15 (1 : Int32) (0 : Int32) hw _ _ ls hM hS (lv_sub hl [2, 3, 4, 1, 0] rfl)
  unfold wpX7_familiar at hw
  refine lv_aload_n hx hb dX7_familiar_0 rfl (lv_at hl 0 rfl) ?_
  refine lv_iconst (v := (0 : Int32)) hx hb dX7_familiar_1 (by decide) ?_
  refine M_put hx hb hts hown hK hM hJ hS 2 rfl rfl (hts _ q1685) rfl .int (by decide +kernel) rfl rfl dX7_familiar_2 (fun H locs hM hS => ?_)
  obtain ⟨h1, eh1⟩ : ∃ y : Mem, y = up2 h 2 0 (0 : Int32) := ⟨_, rfl⟩
  rw [← eh1] at hM
  have hw := hw h1 eh1
  refine lv_iconst (v := (0 : Int32)) hx hb dX7_familiar_5 (by decide) ?_
  refine lv_istore_n (lv' := [(1, .int (0 : Int32)), (0, .ref (ad 69))]) hx hb dX7_familiar_6 rfl hl (by decide) rfl (fun ls hl => ?_)
  refine lv_iconst (v := (0 : Int32)) hx hb dX7_familiar_7 (by decide) ?_
  refine lv_istore_n (lv' := [(2, .int (0 : Int32)), (1, .int (0 : Int32)), (0, .ref (ad 69))]) hx hb dX7_familiar_8 rfl hl (by decide) rfl (fun ls hl => ?_)
  obtain ⟨n16, hw⟩ := hw
  exact hL9 h1 n16 (0 : Int32) (0 : Int32) hw _ _ ls hM hS (lv_sub hl [2, 1, 0] rfl)

/-- areStrangers(I)Z -/
def wpBX7_areStrangers_14 (post : Bool → Prop) (a1 : Int32) (K2 : Int32 → Prop) (K14 : Int32 → Prop) (h : Mem) (x2 : Int32) (x3 : Int32) : Prop :=
  (((h 3 0) ≤ x3 → K2 (x2 + (1 : Int32))) ∧ (¬ (h 3 0) ≤ x3 → ((x2 = x3 → K14 (x3 + (1 : Int32))) ∧ (¬ x2 = x3 → (wpX7_isOf (fun r4 => ((r4 = true → (wpX7_isOf (fun r7 => ((r7 = true → (wpX7_isKnown (fun r10 => ((r10 = true → post false) ∧ (¬ r10 = true → K14 (x3 + (1 : Int32))))) h x2 x3)) ∧ (¬ r7 = true → K14 (x3 + (1 : Int32))))) h a1 x3)) ∧ (¬ r4 = true → K14 (x3 + (1 : Int32))))) h a1 x2)))))
def wpLX7_areStrangers_14 (post : Bool → Prop) (a1 : Int32) (K2 : Int32 → Prop) (h : Mem) (x2 : Int32) : Nat → (Int32) → Prop := LW (fun K s => wpBX7_areStrangers_14 post a1 K2 (fun x3 => K x3) h x2 s)
def wpBX7_areStrangers_2 (post : Bool → Prop) (a1 : Int32)  (K2 : Int32 → Prop) (h : Mem)  (x2 : Int32) : Prop :=
  (((h 3 0) ≤ x2 → post true) ∧ (¬ (h 3 0) ≤ x2 → (∃ n, wpLX7_areStrangers_14 post a1 K2 h x2 n (0 : Int32))))
def wpLX7_areStrangers_2 (post : Bool → Prop) (a1 : Int32)  (h : Mem)  : Nat → (Int32) → Prop := LW (fun K s => wpBX7_areStrangers_2 post a1  (fun x2 => K x2) h  s)
def wpX7_areStrangers (post : Bool → Prop) (h : Mem) (a1 : Int32) : Prop :=
  (∃ n, wpLX7_areStrangers_2 post a1  h n (0 : Int32))
set_option maxHeartbeats 4000000 in
set_option maxRecDepth 100000 in
theorem metX7_areStrangers (l : Launch) (D : va_G) (cA : Nat → ClassId) (z0 : Nat) (E : Nat → Nat → Nat) (ad : Nat → Nat) (h : Mem) (a1 : Int32) (post : Bool → Prop) (hw : wpX7_areStrangers post h a1) : MeZ l D cA z0 E ad yX7_areStrangers (ws_ yX7_areStrangers cX7_areStrangers 4 (some .boolean)) ({ frames := 4, cells := 0, slots := 0, locals := 98 }) [.ref (ad 69), .int a1] h (fun r h' => h' = h ∧ post r) := by
  refine Met.ofW (cc := cX7_areStrangers) (maxL := 4) (ret := (some .boolean)) (by decide) rfl ?_
  intro p e s m args below meth c s₁ B hml hv
  obtain ⟨rfl, hM, hK, hJ, hZ⟩ := hv
  have hx := B.exec
  have hb := B.bytes
  have hr := B.returns
  have hts := atoms_spec (ws := ws_ yX7_areStrangers cX7_areStrangers 4 (some .boolean)) B.pre
  have hts : ∀ w ∈ lw_all, w.before _ s = true := fun w h => hts w (List.mem_cons_of_mem _ h)
  have hown : s.vm.findClass RX7 = some m.cls := findClass_of_methodNamed B.named
  have hlocks := B.notSynchronized
  have hS : va_S (MA ad) s.heap s.heap [] := va_S.rf
  have hl := lv_entry ([.ref (ad 69), .int a1]) (n := 4) (Nat.le_of_ble_eq_true rfl)
  rw [lg_entry_eq]
  generalize (lg_sl ([.ref (ad 69), .int a1]) ++ List.replicate (4 - (lg_sl ([.ref (ad 69), .int a1])).length) Slot.unset).toArray = ls at hl ⊢
  have hl : lv_has ls 4 [(0, .ref (ad 69)), (1, .int a1)] := hl
  have hL2 : ∀  (n2 : Nat) (x2 : Int32), wpLX7_areStrangers_2 post a1  h  n2 x2 → JM p l e (headSpec (ws_ yX7_areStrangers cX7_areStrangers 4 (some .boolean)) ({ frames := 4, cells := 0, slots := 0, locals := 98 })).room s m ([.ref (ad 69), .int a1] : List Value).toArray below meth c (MQ below (MQz D cA E ad (fun r h' => h' = h ∧ post r)) ([.ref (ad 69), .int a1] : List Value).toArray s 0 0 (MA ad)) D cA E ad 4 2 h [(0, .ref (ad 69)), (1, .int a1), (2, .int x2)] [] := by
    intro  n2
    induction n2 with
    | zero => intro x2 hw; exact False.elim hw
    | succ n2 ih2 =>
      have hL14 : ∀ (x2 : Int32) (n14 : Nat) (x3 : Int32), wpLX7_areStrangers_14 post a1 (fun x2 => wpLX7_areStrangers_2 post a1  h  n2 x2) h x2 n14 x3 → JM p l e (headSpec (ws_ yX7_areStrangers cX7_areStrangers 4 (some .boolean)) ({ frames := 4, cells := 0, slots := 0, locals := 98 })).room s m ([.ref (ad 69), .int a1] : List Value).toArray below meth c (MQ below (MQz D cA E ad (fun r h' => h' = h ∧ post r)) ([.ref (ad 69), .int a1] : List Value).toArray s 0 0 (MA ad)) D cA E ad 4 14 h [(0, .ref (ad 69)), (1, .int a1), (2, .int x2), (3, .int x3)] [] := by
        intro x2 n14
        induction n14 with
        | zero => intro x3 hw; exact False.elim hw
        | succ n14 ih14 =>
          intro x3 hw H locs ls hM hS hl
          have hw : wpBX7_areStrangers_14 post a1 (fun x2 => wpLX7_areStrangers_2 post a1  h  n2 x2) (fun x3 => wpLX7_areStrangers_14 post a1 (fun x2 => wpLX7_areStrangers_2 post a1  h  n2 x2) h x2 n14 x3) h x2 x3 := hw
          unfold wpBX7_areStrangers_14 at hw
          refine lv_iload_n hx hb dX7_areStrangers_14 rfl (lv_at hl 3 rfl) ?_
          refine lv_aload_n hx hb dX7_areStrangers_15 rfl (lv_at hl 0 rfl) ?_
          refine M_get hx hb hts hown hK hM 3 (v := .ref (ad 3)) (by decide) (hts _ q1686) rfl dX7_areStrangers_16 ?_
          refine lv_iconst (v := (0 : Int32)) hx hb dX7_areStrangers_19 (by decide) ?_
          refine M_iald hx hb hK hM 3 rfl (j := 0) rfl (by unfold vp_in; decide) dX7_areStrangers_20 ?_
          refine lv_icmp_ge (tgt := 62) hx hb dX7_areStrangers_21 (by decide) (fun c2 => ?_) (fun c2 => ?_)
          · have hw := hw.1 c2
            refine lv_iinc (v := (x2 + (1 : Int32))) (lv' := [(2, .int (x2 + (1 : Int32))), (0, .ref (ad 69)), (1, .int a1), (3, .int x3)]) hx hb dX7_areStrangers_62 hl (k := 2) rfl rfl (by decide) rfl (fun ls hl => ?_)
            refine lv_goto (tgt := 2) hx hb dX7_areStrangers_65 (by decide) ?_
            exact ih2 (x2 + (1 : Int32)) hw _ _ ls hM hS (lv_sub hl [1, 2, 0] rfl)
          · have hw := hw.2 c2
            refine lv_iload_n hx hb dX7_areStrangers_24 rfl (lv_at hl 2 rfl) ?_
            refine lv_iload_n hx hb dX7_areStrangers_25 rfl (lv_at hl 3 rfl) ?_
            refine lv_icmp_eq (tgt := 56) hx hb dX7_areStrangers_26 (by decide) (fun c3 => ?_) (fun c3 => ?_)
            · have hw := hw.1 c3
              refine lv_iinc (v := (x3 + (1 : Int32))) (lv' := [(3, .int (x3 + (1 : Int32))), (0, .ref (ad 69)), (1, .int a1), (2, .int x2)]) hx hb dX7_areStrangers_56 hl (k := 3) rfl rfl (by decide) rfl (fun ls hl => ?_)
              refine lv_goto (tgt := 14) hx hb dX7_areStrangers_59 (by decide) ?_
              exact ih14 (x3 + (1 : Int32)) hw _ _ ls hM hS (lv_sub hl [1, 2, 3, 0] rfl)
            · have hw := hw.2 c3
              refine lv_iload_n hx hb dX7_areStrangers_29 rfl (lv_at hl 1 rfl) ?_
              refine lv_iload_n hx hb dX7_areStrangers_30 rfl (lv_at hl 2 rfl) ?_
              refine M_callZSp (As := [.int a1, .int x2]) (rest := []) ⟨hx, hb, hml, hown, hts⟩ hK hZ hM hJ hS (metX7_isOf l D cA z0 E ad h a1 x2 _ hw) (va_cwS 2 hts (lw_S q2008 q2009 q130 q2010) rfl rfl rfl (by decide +kernel) ⟨Nat.le_of_ble_eq_true rfl, Nat.le_of_ble_eq_true rfl⟩) rfl hl.1 rfl (Nat.le_of_ble_eq_true rfl) dX7_areStrangers_31 ⟨Nat.zero_le _, Nat.zero_le _⟩ (fun r4 H locs hw hM hS => ?_)
              refine lv_if_eq (tgt := 56) hx hb dX7_areStrangers_34 (by decide) (fun c6 => ?_) (fun c6 => ?_)
              · have c6 := b2i_f c6
                have hw := hw.2 c6
                refine lv_iinc (v := (x3 + (1 : Int32))) (lv' := [(3, .int (x3 + (1 : Int32))), (0, .ref (ad 69)), (1, .int a1), (2, .int x2)]) hx hb dX7_areStrangers_56 hl (k := 3) rfl rfl (by decide) rfl (fun ls hl => ?_)
                refine lv_goto (tgt := 14) hx hb dX7_areStrangers_59 (by decide) ?_
                exact ih14 (x3 + (1 : Int32)) hw _ _ ls hM hS (lv_sub hl [1, 2, 3, 0] rfl)
              · have c6 := b2i_t c6
                have hw := hw.1 c6
                refine lv_iload_n hx hb dX7_areStrangers_37 rfl (lv_at hl 1 rfl) ?_
                refine lv_iload_n hx hb dX7_areStrangers_38 rfl (lv_at hl 3 rfl) ?_
                refine M_callZSp (As := [.int a1, .int x3]) (rest := []) ⟨hx, hb, hml, hown, hts⟩ hK hZ hM hJ hS (metX7_isOf l D cA z0 E ad h a1 x3 _ hw) (va_cwS 2 hts (lw_S q2008 q2009 q130 q2010) rfl rfl rfl (by decide +kernel) ⟨Nat.le_of_ble_eq_true rfl, Nat.le_of_ble_eq_true rfl⟩) rfl hl.1 rfl (Nat.le_of_ble_eq_true rfl) dX7_areStrangers_39 ⟨Nat.zero_le _, Nat.zero_le _⟩ (fun r7 H locs hw hM hS => ?_)
                refine lv_if_eq (tgt := 56) hx hb dX7_areStrangers_42 (by decide) (fun c9 => ?_) (fun c9 => ?_)
                · have c9 := b2i_f c9
                  have hw := hw.2 c9
                  refine lv_iinc (v := (x3 + (1 : Int32))) (lv' := [(3, .int (x3 + (1 : Int32))), (0, .ref (ad 69)), (1, .int a1), (2, .int x2)]) hx hb dX7_areStrangers_56 hl (k := 3) rfl rfl (by decide) rfl (fun ls hl => ?_)
                  refine lv_goto (tgt := 14) hx hb dX7_areStrangers_59 (by decide) ?_
                  exact ih14 (x3 + (1 : Int32)) hw _ _ ls hM hS (lv_sub hl [1, 2, 3, 0] rfl)
                · have c9 := b2i_t c9
                  have hw := hw.1 c9
                  refine lv_aload_n hx hb dX7_areStrangers_45 rfl (lv_at hl 0 rfl) ?_
                  refine lv_iload_n hx hb dX7_areStrangers_46 rfl (lv_at hl 2 rfl) ?_
                  refine lv_iload_n hx hb dX7_areStrangers_47 rfl (lv_at hl 3 rfl) ?_
                  refine M_callZp (As := [.int x2, .int x3]) (rest := []) ⟨hx, hb, hml, hown, hts⟩ hK hZ hM hJ hS (metX7_isKnown l D cA z0 E ad h x2 x3 _ hw) (cwV 2 hts (lw_V q2039 q2041 qs68 q130 q2042) rfl rfl rfl (by decide +kernel) ⟨Nat.le_of_ble_eq_true rfl, Nat.le_of_ble_eq_true rfl⟩) rfl hl.1 rfl (Nat.le_of_ble_eq_true rfl) dX7_areStrangers_48 ⟨Nat.zero_le _, Nat.zero_le _⟩ (fun r10 H locs hw hM hS => ?_)
                  refine lv_if_eq (tgt := 56) hx hb dX7_areStrangers_51 (by decide) (fun c12 => ?_) (fun c12 => ?_)
                  · have c12 := b2i_f c12
                    have hw := hw.2 c12
                    refine lv_iinc (v := (x3 + (1 : Int32))) (lv' := [(3, .int (x3 + (1 : Int32))), (0, .ref (ad 69)), (1, .int a1), (2, .int x2)]) hx hb dX7_areStrangers_56 hl (k := 3) rfl rfl (by decide) rfl (fun ls hl => ?_)
                    refine lv_goto (tgt := 14) hx hb dX7_areStrangers_59 (by decide) ?_
                    exact ih14 (x3 + (1 : Int32)) hw _ _ ls hM hS (lv_sub hl [1, 2, 3, 0] rfl)
                  · have c12 := b2i_t c12
                    have hw := hw.1 c12
                    refine lv_iconst (v := (0 : Int32)) hx hb dX7_areStrangers_54 (by decide) ?_
                    exact M_zret hx hb hr hlocks hM hS ⟨_, rfl, ⟨rfl, hw⟩⟩ dX7_areStrangers_55
      intro x2 hw H locs ls hM hS hl
      have hw : wpBX7_areStrangers_2 post a1  (fun x2 => wpLX7_areStrangers_2 post a1  h  n2 x2) h  x2 := hw
      unfold wpBX7_areStrangers_2 at hw
      refine lv_iload_n hx hb dX7_areStrangers_2 rfl (lv_at hl 2 rfl) ?_
      refine lv_aload_n hx hb dX7_areStrangers_3 rfl (lv_at hl 0 rfl) ?_
      refine M_get hx hb hts hown hK hM 3 (v := .ref (ad 3)) (by decide) (hts _ q1686) rfl dX7_areStrangers_4 ?_
      refine lv_iconst (v := (0 : Int32)) hx hb dX7_areStrangers_7 (by decide) ?_
      refine M_iald hx hb hK hM 3 rfl (j := 0) rfl (by unfold vp_in; decide) dX7_areStrangers_8 ?_
      refine lv_icmp_ge (tgt := 68) hx hb dX7_areStrangers_9 (by decide) (fun c1 => ?_) (fun c1 => ?_)
      · have hw := hw.1 c1
        refine lv_iconst (v := (1 : Int32)) hx hb dX7_areStrangers_68 (by decide) ?_
        exact M_zret hx hb hr hlocks hM hS ⟨_, rfl, ⟨rfl, hw⟩⟩ dX7_areStrangers_69
      · have hw := hw.2 c1
        refine lv_iconst (v := (0 : Int32)) hx hb dX7_areStrangers_12 (by decide) ?_
        refine lv_istore_n (lv' := [(3, .int (0 : Int32)), (0, .ref (ad 69)), (1, .int a1), (2, .int x2)]) hx hb dX7_areStrangers_13 rfl hl (by decide) rfl (fun ls hl => ?_)
        obtain ⟨n13, hw⟩ := hw
        exact hL14 x2 n13 (0 : Int32) hw _ _ ls hM hS (lv_sub hl [1, 2, 3, 0] rfl)
  unfold wpX7_areStrangers at hw
  refine lv_iconst (v := (0 : Int32)) hx hb dX7_areStrangers_0 (by decide) ?_
  refine lv_istore_n (lv' := [(2, .int (0 : Int32)), (0, .ref (ad 69)), (1, .int a1)]) hx hb dX7_areStrangers_1 rfl hl (by decide) rfl (fun ls hl => ?_)
  obtain ⟨n14, hw⟩ := hw
  exact hL2 n14 (0 : Int32) hw _ _ ls hM hS (lv_sub hl [1, 2, 0] rfl)

/-- ring()I -/
def wpBX7_ring_9 (post : Int32 → Mem → Prop)   (K9 : Int32 → Int32 → Prop) (h : Mem)  (x1 : Int32) (x2 : Int32) : Prop :=
  ((((1 : Int32) <<< ((h 3 0) &&& 31)) ≤ x2 → post x1 h) ∧ (¬ ((1 : Int32) <<< ((h 3 0) &&& 31)) ≤ x2 → (wpX7_bitsOf (fun r3 => (wpX7_bitsOf (fun r5 => ((r3 ≤ r5 → K9 x1 (x2 + (1 : Int32))) ∧ (¬ r3 ≤ r5 → (wpX7_areStrangers (fun r8 => K9 (if r8 = true then x2 else x1) (x2 + (1 : Int32))) h x2)))) h x1)) h x2)))
def wpLX7_ring_9 (post : Int32 → Mem → Prop)   (h : Mem)  : Nat → (Int32 × Int32) → Prop := LW (fun K s => wpBX7_ring_9 post   (fun x1 x2 => K (x1, x2)) h  s.1 s.2)
def wpX7_ring (post : Int32 → Mem → Prop) (h : Mem)  : Prop :=
  (∀ h1 : Mem, h1 = up2 h 2 0 (0 : Int32) → (∃ n, wpLX7_ring_9 post   h1 n ((0 : Int32), (0 : Int32))))
set_option maxHeartbeats 4000000 in
set_option maxRecDepth 100000 in
theorem metX7_ring (l : Launch) (D : va_G) (cA : Nat → ClassId) (z0 : Nat) (E : Nat → Nat → Nat) (ad : Nat → Nat) (h : Mem)  (post : Int32 → Mem → Prop) (hw : wpX7_ring post h ) : MeI l D cA z0 E ad yX7_ring (ws_ yX7_ring cX7_ring 3 (some .int)) ({ frames := 5, cells := 0, slots := 0, locals := 121 }) [.ref (ad 69)] h post := by
  refine Met.ofW (cc := cX7_ring) (maxL := 3) (ret := (some .int)) (by decide) rfl ?_
  intro p e s m args below meth c s₁ B hml hv
  obtain ⟨rfl, hM, hK, hJ, hZ⟩ := hv
  have hx := B.exec
  have hb := B.bytes
  have hr := B.returns
  have hts := atoms_spec (ws := ws_ yX7_ring cX7_ring 3 (some .int)) B.pre
  have hts : ∀ w ∈ lw_all, w.before _ s = true := fun w h => hts w (List.mem_cons_of_mem _ h)
  have hown : s.vm.findClass RX7 = some m.cls := findClass_of_methodNamed B.named
  have hlocks := B.notSynchronized
  have hS : va_S (MA ad) s.heap s.heap [] := va_S.rf
  have hl := lv_entry ([.ref (ad 69)]) (n := 3) (Nat.le_of_ble_eq_true rfl)
  rw [lg_entry_eq]
  generalize (lg_sl ([.ref (ad 69)]) ++ List.replicate (3 - (lg_sl ([.ref (ad 69)])).length) Slot.unset).toArray = ls at hl ⊢
  have hl : lv_has ls 3 [(0, .ref (ad 69))] := hl
  have hL9 : ∀ (h : Mem)  (n9 : Nat) (x1 : Int32) (x2 : Int32), wpLX7_ring_9 post   h  n9 (x1, x2) → JM p l e (headSpec (ws_ yX7_ring cX7_ring 3 (some .int)) ({ frames := 5, cells := 0, slots := 0, locals := 121 })).room s m ([.ref (ad 69)] : List Value).toArray below meth c (MQ below (MQi D cA E ad post) ([.ref (ad 69)] : List Value).toArray s 0 0 (MA ad)) D cA E ad 3 9 h [(0, .ref (ad 69)), (1, .int x1), (2, .int x2)] [] := by
    intro h n9
    induction n9 with
    | zero => intro x1 x2 hw; exact False.elim hw
    | succ n9 ih9 =>
      intro x1 x2 hw H locs ls hM hS hl
      have hw : wpBX7_ring_9 post   (fun x1 x2 => wpLX7_ring_9 post   h  n9 (x1, x2)) h  x1 x2 := hw
      unfold wpBX7_ring_9 at hw
      refine lv_iload_n hx hb dX7_ring_9 rfl (lv_at hl 2 rfl) ?_
      refine lv_iconst (v := (1 : Int32)) hx hb dX7_ring_10 (by decide) ?_
      refine lv_aload_n hx hb dX7_ring_11 rfl (lv_at hl 0 rfl) ?_
      refine M_get hx hb hts hown hK hM 3 (v := .ref (ad 3)) (by decide) (hts _ q1686) rfl dX7_ring_12 ?_
      refine lv_iconst (v := (0 : Int32)) hx hb dX7_ring_15 (by decide) ?_
      refine M_iald hx hb hK hM 3 rfl (j := 0) rfl (by unfold vp_in; decide) dX7_ring_16 ?_
      refine lv_ishl hx hb dX7_ring_17 ?_
      refine lv_icmp_ge (tgt := 48) hx hb dX7_ring_18 (by decide) (fun c2 => ?_) (fun c2 => ?_)
      · have hw := hw.1 c2
        refine lv_iload_n hx hb dX7_ring_48 rfl (lv_at hl 1 rfl) ?_
        exact M_iret hx hb hr hlocks hM hS hw dX7_ring_49
      · have hw := hw.2 c2
        refine lv_iload_n hx hb dX7_ring_21 rfl (lv_at hl 2 rfl) ?_
        refine M_callISp (As := [.int x2]) (rest := []) ⟨hx, hb, hml, hown, hts⟩ hK hZ hM hJ hS (metX7_bitsOf l D cA z0 E ad h x2 _ hw) (va_cwS 1 hts (lw_S q2158 q2159 q130 q2160) rfl rfl rfl (by decide +kernel) ⟨Nat.le_of_ble_eq_true rfl, Nat.le_of_ble_eq_true rfl⟩) rfl hl.1 rfl (Nat.le_of_ble_eq_true rfl) dX7_ring_22 ⟨Nat.zero_le _, Nat.zero_le _⟩ (fun r3 H locs hw hM hS => ?_)
        refine lv_iload_n hx hb dX7_ring_25 rfl (lv_at hl 1 rfl) ?_
        refine M_callISp (As := [.int x1]) (rest := [.int r3]) ⟨hx, hb, hml, hown, hts⟩ hK hZ hM hJ hS (metX7_bitsOf l D cA z0 E ad h x1 _ hw) (va_cwS 1 hts (lw_S q2158 q2159 q130 q2160) rfl rfl rfl (by decide +kernel) ⟨Nat.le_of_ble_eq_true rfl, Nat.le_of_ble_eq_true rfl⟩) rfl hl.1 rfl (Nat.le_of_ble_eq_true rfl) dX7_ring_26 ⟨Nat.zero_le _, Nat.zero_le _⟩ (fun r5 H locs hw hM hS => ?_)
        refine lv_icmp_le (tgt := 42) hx hb dX7_ring_29 (by decide) (fun c7 => ?_) (fun c7 => ?_)
        · have hw := hw.1 c7
          refine lv_iinc (v := (x2 + (1 : Int32))) (lv' := [(2, .int (x2 + (1 : Int32))), (0, .ref (ad 69)), (1, .int x1)]) hx hb dX7_ring_42 hl (k := 2) rfl rfl (by decide) rfl (fun ls hl => ?_)
          refine lv_goto (tgt := 9) hx hb dX7_ring_45 (by decide) ?_
          exact ih9 x1 (x2 + (1 : Int32)) hw _ _ ls hM hS (lv_sub hl [1, 2, 0] rfl)
        · have hw := hw.2 c7
          refine lv_aload_n hx hb dX7_ring_32 rfl (lv_at hl 0 rfl) ?_
          refine lv_iload_n hx hb dX7_ring_33 rfl (lv_at hl 2 rfl) ?_
          refine M_callZp (As := [.int x2]) (rest := []) ⟨hx, hb, hml, hown, hts⟩ hK hZ hM hJ hS (metX7_areStrangers l D cA z0 E ad h x2 _ hw) (cwV 1 hts (lw_V q2215 q2217 qs94 q130 q2218) rfl rfl rfl (by decide +kernel) ⟨Nat.le_of_ble_eq_true rfl, Nat.le_of_ble_eq_true rfl⟩) rfl hl.1 rfl (Nat.le_of_ble_eq_true rfl) dX7_ring_34 ⟨Nat.zero_le _, Nat.zero_le _⟩ (fun r8 H locs hw hM hS => ?_)
          have hj10 : JM p l e (headSpec (ws_ yX7_ring cX7_ring 3 (some .int)) ({ frames := 5, cells := 0, slots := 0, locals := 121 })).room s m ([.ref (ad 69)] : List Value).toArray below meth c (MQ below (MQi D cA E ad post) ([.ref (ad 69)] : List Value).toArray s 0 0 (MA ad)) D cA E ad 3 42 h [(0, .ref (ad 69)), (1, .int (if r8 = true then x2 else x1)), (2, .int x2)] [] := by
            intro H locs ls hM hS hl
            refine lv_iinc (v := (x2 + (1 : Int32))) (lv' := [(2, .int (x2 + (1 : Int32))), (0, .ref (ad 69)), (1, .int (if r8 = true then x2 else x1))]) hx hb dX7_ring_42 hl (k := 2) rfl rfl (by decide) rfl (fun ls hl => ?_)
            refine lv_goto (tgt := 9) hx hb dX7_ring_45 (by decide) ?_
            exact ih9 (if r8 = true then x2 else x1) (x2 + (1 : Int32)) hw _ _ ls hM hS (lv_sub hl [1, 2, 0] rfl)
          refine lv_if_eq (tgt := 42) hx hb dX7_ring_37 (by decide) (fun c11 => ?_) (fun c11 => ?_)
          · have c11 := b2i_f c11
            have e12 : (if r8 = true then x2 else x1) = x1 := by rw [if_neg c11]
            rw [e12] at hj10
            exact hj10 _ _ ls hM hS (lv_sub hl [0, 1, 2] rfl)
          · have c11 := b2i_t c11
            refine lv_iload_n hx hb dX7_ring_40 rfl (lv_at hl 2 rfl) ?_
            refine lv_istore_n (lv' := [(1, .int x2), (0, .ref (ad 69)), (2, .int x2)]) hx hb dX7_ring_41 rfl hl (by decide) rfl (fun ls hl => ?_)
            have e13 : (if r8 = true then x2 else x1) = x2 := by rw [if_pos c11]
            rw [e13] at hj10
            exact hj10 _ _ ls hM hS (lv_sub hl [1, 0, 2] rfl)
  unfold wpX7_ring at hw
  refine lv_aload_n hx hb dX7_ring_0 rfl (lv_at hl 0 rfl) ?_
  refine lv_iconst (v := (0 : Int32)) hx hb dX7_ring_1 (by decide) ?_
  refine M_put hx hb hts hown hK hM hJ hS 2 rfl rfl (hts _ q1685) rfl .int (by decide +kernel) rfl rfl dX7_ring_2 (fun H locs hM hS => ?_)
  obtain ⟨h1, eh1⟩ : ∃ y : Mem, y = up2 h 2 0 (0 : Int32) := ⟨_, rfl⟩
  rw [← eh1] at hM
  have hw := hw h1 eh1
  refine lv_iconst (v := (0 : Int32)) hx hb dX7_ring_5 (by decide) ?_
  refine lv_istore_n (lv' := [(1, .int (0 : Int32)), (0, .ref (ad 69))]) hx hb dX7_ring_6 rfl hl (by decide) rfl (fun ls hl => ?_)
  refine lv_iconst (v := (0 : Int32)) hx hb dX7_ring_7 (by decide) ?_
  refine lv_istore_n (lv' := [(2, .int (0 : Int32)), (1, .int (0 : Int32)), (0, .ref (ad 69))]) hx hb dX7_ring_8 rfl hl (by decide) rfl (fun ls hl => ?_)
  obtain ⟨n14, hw⟩ := hw
  exact hL9 h1 n14 (0 : Int32) (0 : Int32) hw _ _ ls hM hS (lv_sub hl [2, 1, 0] rfl)

/-- cutters(I)I -/
def wpBX7_cutters_4 (post : Int32 → Prop) (a1 : Int32)  (K4 : Int32 → Int32 → Prop) (h : Mem)  (x2 : Int32) (x3 : Int32) : Prop :=
  (((h 3 0) ≤ x3 → post x2) ∧ (¬ (h 3 0) ≤ x3 → (wpX7_canCut (fun r2 => K4 (if r2 = true then (x2 ||| ((1 : Int32) <<< (x3 &&& 31))) else x2) (x3 + (1 : Int32))) h x3 a1)))
def wpLX7_cutters_4 (post : Int32 → Prop) (a1 : Int32)  (h : Mem)  : Nat → (Int32 × Int32) → Prop := LW (fun K s => wpBX7_cutters_4 post a1  (fun x2 x3 => K (x2, x3)) h  s.1 s.2)
def wpX7_cutters (post : Int32 → Prop) (h : Mem) (a1 : Int32) : Prop :=
  (∃ n, wpLX7_cutters_4 post a1  h n ((0 : Int32), (0 : Int32)))
set_option maxHeartbeats 4000000 in
set_option maxRecDepth 100000 in
theorem metX7_cutters (l : Launch) (D : va_G) (cA : Nat → ClassId) (z0 : Nat) (E : Nat → Nat → Nat) (ad : Nat → Nat) (h : Mem) (a1 : Int32) (post : Int32 → Prop) (hw : wpX7_cutters post h a1) : MeI l D cA z0 E ad yX7_cutters (ws_ yX7_cutters cX7_cutters 4 (some .int)) ({ frames := 7, cells := 0, slots := 0, locals := 168 }) [.ref (ad 69), .int a1] h (fun r h' => h' = h ∧ post r) := by
  refine Met.ofW (cc := cX7_cutters) (maxL := 4) (ret := (some .int)) (by decide) rfl ?_
  intro p e s m args below meth c s₁ B hml hv
  obtain ⟨rfl, hM, hK, hJ, hZ⟩ := hv
  have hx := B.exec
  have hb := B.bytes
  have hr := B.returns
  have hts := atoms_spec (ws := ws_ yX7_cutters cX7_cutters 4 (some .int)) B.pre
  have hts : ∀ w ∈ lw_all, w.before _ s = true := fun w h => hts w (List.mem_cons_of_mem _ h)
  have hown : s.vm.findClass RX7 = some m.cls := findClass_of_methodNamed B.named
  have hlocks := B.notSynchronized
  have hS : va_S (MA ad) s.heap s.heap [] := va_S.rf
  have hl := lv_entry ([.ref (ad 69), .int a1]) (n := 4) (Nat.le_of_ble_eq_true rfl)
  rw [lg_entry_eq]
  generalize (lg_sl ([.ref (ad 69), .int a1]) ++ List.replicate (4 - (lg_sl ([.ref (ad 69), .int a1])).length) Slot.unset).toArray = ls at hl ⊢
  have hl : lv_has ls 4 [(0, .ref (ad 69)), (1, .int a1)] := hl
  have hL4 : ∀  (n4 : Nat) (x2 : Int32) (x3 : Int32), wpLX7_cutters_4 post a1  h  n4 (x2, x3) → JM p l e (headSpec (ws_ yX7_cutters cX7_cutters 4 (some .int)) ({ frames := 7, cells := 0, slots := 0, locals := 168 })).room s m ([.ref (ad 69), .int a1] : List Value).toArray below meth c (MQ below (MQi D cA E ad (fun r h' => h' = h ∧ post r)) ([.ref (ad 69), .int a1] : List Value).toArray s 0 0 (MA ad)) D cA E ad 4 4 h [(0, .ref (ad 69)), (1, .int a1), (2, .int x2), (3, .int x3)] [] := by
    intro  n4
    induction n4 with
    | zero => intro x2 x3 hw; exact False.elim hw
    | succ n4 ih4 =>
      intro x2 x3 hw H locs ls hM hS hl
      have hw : wpBX7_cutters_4 post a1  (fun x2 x3 => wpLX7_cutters_4 post a1  h  n4 (x2, x3)) h  x2 x3 := hw
      unfold wpBX7_cutters_4 at hw
      refine lv_iload_n hx hb dX7_cutters_4 rfl (lv_at hl 3 rfl) ?_
      refine lv_aload_n hx hb dX7_cutters_5 rfl (lv_at hl 0 rfl) ?_
      refine M_get hx hb hts hown hK hM 3 (v := .ref (ad 3)) (by decide) (hts _ q1686) rfl dX7_cutters_6 ?_
      refine lv_iconst (v := (0 : Int32)) hx hb dX7_cutters_9 (by decide) ?_
      refine M_iald hx hb hK hM 3 rfl (j := 0) rfl (by unfold vp_in; decide) dX7_cutters_10 ?_
      refine lv_icmp_ge (tgt := 35) hx hb dX7_cutters_11 (by decide) (fun c1 => ?_) (fun c1 => ?_)
      · have hw := hw.1 c1
        refine lv_iload_n hx hb dX7_cutters_35 rfl (lv_at hl 2 rfl) ?_
        exact M_iret hx hb hr hlocks hM hS ⟨rfl, hw⟩ dX7_cutters_36
      · have hw := hw.2 c1
        refine lv_aload_n hx hb dX7_cutters_14 rfl (lv_at hl 0 rfl) ?_
        refine lv_iload_n hx hb dX7_cutters_15 rfl (lv_at hl 3 rfl) ?_
        refine lv_iload_n hx hb dX7_cutters_16 rfl (lv_at hl 1 rfl) ?_
        refine M_callZp (As := [.int x3, .int a1]) (rest := []) ⟨hx, hb, hml, hown, hts⟩ hK hZ hM hJ hS (metX7_canCut l D cA z0 E ad h x3 a1 _ hw) (cwV 2 hts (lw_V q2186 q2188 qs90 q130 q2189) rfl rfl rfl (by decide +kernel) ⟨Nat.le_of_ble_eq_true rfl, Nat.le_of_ble_eq_true rfl⟩) rfl hl.1 rfl (Nat.le_of_ble_eq_true rfl) dX7_cutters_17 ⟨Nat.zero_le _, Nat.zero_le _⟩ (fun r2 H locs hw hM hS => ?_)
        have hj4 : JM p l e (headSpec (ws_ yX7_cutters cX7_cutters 4 (some .int)) ({ frames := 7, cells := 0, slots := 0, locals := 168 })).room s m ([.ref (ad 69), .int a1] : List Value).toArray below meth c (MQ below (MQi D cA E ad (fun r h' => h' = h ∧ post r)) ([.ref (ad 69), .int a1] : List Value).toArray s 0 0 (MA ad)) D cA E ad 4 29 h [(0, .ref (ad 69)), (1, .int a1), (2, .int (if r2 = true then (x2 ||| ((1 : Int32) <<< (x3 &&& 31))) else x2)), (3, .int x3)] [] := by
          intro H locs ls hM hS hl
          refine lv_iinc (v := (x3 + (1 : Int32))) (lv' := [(3, .int (x3 + (1 : Int32))), (0, .ref (ad 69)), (1, .int a1), (2, .int (if r2 = true then (x2 ||| ((1 : Int32) <<< (x3 &&& 31))) else x2))]) hx hb dX7_cutters_29 hl (k := 3) rfl rfl (by decide) rfl (fun ls hl => ?_)
          refine lv_goto (tgt := 4) hx hb dX7_cutters_32 (by decide) ?_
          exact ih4 (if r2 = true then (x2 ||| ((1 : Int32) <<< (x3 &&& 31))) else x2) (x3 + (1 : Int32)) hw _ _ ls hM hS (lv_sub hl [1, 2, 3, 0] rfl)
        refine lv_if_eq (tgt := 29) hx hb dX7_cutters_20 (by decide) (fun c5 => ?_) (fun c5 => ?_)
        · have c5 := b2i_f c5
          have e6 : (if r2 = true then (x2 ||| ((1 : Int32) <<< (x3 &&& 31))) else x2) = x2 := by rw [if_neg c5]
          rw [e6] at hj4
          exact hj4 _ _ ls hM hS (lv_sub hl [0, 1, 2, 3] rfl)
        · have c5 := b2i_t c5
          refine lv_iload_n hx hb dX7_cutters_23 rfl (lv_at hl 2 rfl) ?_
          refine lv_iconst (v := (1 : Int32)) hx hb dX7_cutters_24 (by decide) ?_
          refine lv_iload_n hx hb dX7_cutters_25 rfl (lv_at hl 3 rfl) ?_
          refine lv_ishl hx hb dX7_cutters_26 ?_
          refine lv_ior hx hb dX7_cutters_27 ?_
          refine lv_istore_n (lv' := [(2, .int (x2 ||| ((1 : Int32) <<< (x3 &&& 31)))), (0, .ref (ad 69)), (1, .int a1), (3, .int x3)]) hx hb dX7_cutters_28 rfl hl (by decide) rfl (fun ls hl => ?_)
          have e7 : (if r2 = true then (x2 ||| ((1 : Int32) <<< (x3 &&& 31))) else x2) = (x2 ||| ((1 : Int32) <<< (x3 &&& 31))) := by rw [if_pos c5]
          rw [e7] at hj4
          exact hj4 _ _ ls hM hS (lv_sub hl [1, 2, 0, 3] rfl)
  unfold wpX7_cutters at hw
  refine lv_iconst (v := (0 : Int32)) hx hb dX7_cutters_0 (by decide) ?_
  refine lv_istore_n (lv' := [(2, .int (0 : Int32)), (0, .ref (ad 69)), (1, .int a1)]) hx hb dX7_cutters_1 rfl hl (by decide) rfl (fun ls hl => ?_)
  refine lv_iconst (v := (0 : Int32)) hx hb dX7_cutters_2 (by decide) ?_
  refine lv_istore_n (lv' := [(3, .int (0 : Int32)), (2, .int (0 : Int32)), (0, .ref (ad 69)), (1, .int a1)]) hx hb dX7_cutters_3 rfl hl (by decide) rfl (fun ls hl => ?_)
  obtain ⟨n8, hw⟩ := hw
  exact hL4 n8 (0 : Int32) (0 : Int32) hw _ _ ls hM hS (lv_sub hl [2, 3, 1, 0] rfl)

/-- cuttable(Z)I -/
def wpBX7_cuttable_28 (post : Int32 → Prop) (a1 : Int32) (K4 : Int32 → Int32 → Prop) (h : Mem) (x2 : Int32) (x3 : Int32)  : Prop :=
  (wpX7_cutters (fun r3 => K4 (if r3 = 0 then x2 else (x2 ||| ((1 : Int32) <<< (x3 &&& 31)))) (x3 + (1 : Int32))) h x3)
def wpBX7_cuttable_4 (post : Int32 → Prop) (a1 : Int32)  (K4 : Int32 → Int32 → Prop) (h : Mem)  (x2 : Int32) (x3 : Int32) : Prop :=
  (((h 3 1) ≤ x3 → post x2) ∧ (¬ (h 3 1) ≤ x3 → ((a1 = 0 → (vp_in x3 (mlen 27) ∧ (((h 27 (ix x3)) = (-1 : Int32) → wpBX7_cuttable_28 post a1 K4 h x2 x3) ∧ (¬ (h 27 (ix x3)) = (-1 : Int32) → K4 x2 (x3 + (1 : Int32)))))) ∧ (¬ a1 = 0 → wpBX7_cuttable_28 post a1 K4 h x2 x3))))
def wpLX7_cuttable_4 (post : Int32 → Prop) (a1 : Int32)  (h : Mem)  : Nat → (Int32 × Int32) → Prop := LW (fun K s => wpBX7_cuttable_4 post a1  (fun x2 x3 => K (x2, x3)) h  s.1 s.2)
def wpX7_cuttable (post : Int32 → Prop) (h : Mem) (a1 : Int32) : Prop :=
  (∃ n, wpLX7_cuttable_4 post a1  h n ((0 : Int32), (0 : Int32)))
set_option maxHeartbeats 4000000 in
set_option maxRecDepth 100000 in
theorem metX7_cuttable (l : Launch) (D : va_G) (cA : Nat → ClassId) (z0 : Nat) (E : Nat → Nat → Nat) (ad : Nat → Nat) (h : Mem) (a1 : Int32) (post : Int32 → Prop) (hw : wpX7_cuttable post h a1) : MeI l D cA z0 E ad yX7_cuttable (ws_ yX7_cuttable cX7_cuttable 4 (some .int)) ({ frames := 8, cells := 0, slots := 0, locals := 191 }) [.ref (ad 69), .int a1] h (fun r h' => h' = h ∧ post r) := by
  refine Met.ofW (cc := cX7_cuttable) (maxL := 4) (ret := (some .int)) (by decide) rfl ?_
  intro p e s m args below meth c s₁ B hml hv
  obtain ⟨rfl, hM, hK, hJ, hZ⟩ := hv
  have hx := B.exec
  have hb := B.bytes
  have hr := B.returns
  have hts := atoms_spec (ws := ws_ yX7_cuttable cX7_cuttable 4 (some .int)) B.pre
  have hts : ∀ w ∈ lw_all, w.before _ s = true := fun w h => hts w (List.mem_cons_of_mem _ h)
  have hown : s.vm.findClass RX7 = some m.cls := findClass_of_methodNamed B.named
  have hlocks := B.notSynchronized
  have hS : va_S (MA ad) s.heap s.heap [] := va_S.rf
  have hl := lv_entry ([.ref (ad 69), .int a1]) (n := 4) (Nat.le_of_ble_eq_true rfl)
  rw [lg_entry_eq]
  generalize (lg_sl ([.ref (ad 69), .int a1]) ++ List.replicate (4 - (lg_sl ([.ref (ad 69), .int a1])).length) Slot.unset).toArray = ls at hl ⊢
  have hl : lv_has ls 4 [(0, .ref (ad 69)), (1, .int a1)] := hl
  have hL4 : ∀  (n4 : Nat) (x2 : Int32) (x3 : Int32), wpLX7_cuttable_4 post a1  h  n4 (x2, x3) → JM p l e (headSpec (ws_ yX7_cuttable cX7_cuttable 4 (some .int)) ({ frames := 8, cells := 0, slots := 0, locals := 191 })).room s m ([.ref (ad 69), .int a1] : List Value).toArray below meth c (MQ below (MQi D cA E ad (fun r h' => h' = h ∧ post r)) ([.ref (ad 69), .int a1] : List Value).toArray s 0 0 (MA ad)) D cA E ad 4 4 h [(0, .ref (ad 69)), (1, .int a1), (2, .int x2), (3, .int x3)] [] := by
    intro  n4
    induction n4 with
    | zero => intro x2 x3 hw; exact False.elim hw
    | succ n4 ih4 =>
      have hB28 : ∀ (x2 : Int32) (x3 : Int32), wpBX7_cuttable_28 post a1 (fun x2 x3 => wpLX7_cuttable_4 post a1  h  n4 (x2, x3)) h x2 x3 → JM p l e (headSpec (ws_ yX7_cuttable cX7_cuttable 4 (some .int)) ({ frames := 8, cells := 0, slots := 0, locals := 191 })).room s m ([.ref (ad 69), .int a1] : List Value).toArray below meth c (MQ below (MQi D cA E ad (fun r h' => h' = h ∧ post r)) ([.ref (ad 69), .int a1] : List Value).toArray s 0 0 (MA ad)) D cA E ad 4 28 h [(0, .ref (ad 69)), (1, .int a1), (2, .int x2), (3, .int x3)] [] := by
        intro x2 x3 hw H locs ls hM hS hl
        unfold wpBX7_cuttable_28 at hw
        refine lv_aload_n hx hb dX7_cuttable_28 rfl (lv_at hl 0 rfl) ?_
        refine lv_iload_n hx hb dX7_cuttable_29 rfl (lv_at hl 3 rfl) ?_
        refine M_callIp (As := [.int x3]) (rest := []) ⟨hx, hb, hml, hown, hts⟩ hK hZ hM hJ hS (metX7_cutters l D cA z0 E ad h x3 _ hw) (cwV 1 hts (lw_V q2227 q2229 qs96 q130 q2230) rfl rfl rfl (by decide +kernel) ⟨Nat.le_of_ble_eq_true rfl, Nat.le_of_ble_eq_true rfl⟩) rfl hl.1 rfl (Nat.le_of_ble_eq_true rfl) dX7_cuttable_30 ⟨Nat.zero_le _, Nat.zero_le _⟩ (fun r3 H locs hw hM hS => ?_)
        have hj5 : JM p l e (headSpec (ws_ yX7_cuttable cX7_cuttable 4 (some .int)) ({ frames := 8, cells := 0, slots := 0, locals := 191 })).room s m ([.ref (ad 69), .int a1] : List Value).toArray below meth c (MQ below (MQi D cA E ad (fun r h' => h' = h ∧ post r)) ([.ref (ad 69), .int a1] : List Value).toArray s 0 0 (MA ad)) D cA E ad 4 42 h [(0, .ref (ad 69)), (1, .int a1), (2, .int (if r3 = 0 then x2 else (x2 ||| ((1 : Int32) <<< (x3 &&& 31))))), (3, .int x3)] [] := by
          intro H locs ls hM hS hl
          refine lv_iinc (v := (x3 + (1 : Int32))) (lv' := [(3, .int (x3 + (1 : Int32))), (0, .ref (ad 69)), (1, .int a1), (2, .int (if r3 = 0 then x2 else (x2 ||| ((1 : Int32) <<< (x3 &&& 31)))))]) hx hb dX7_cuttable_42 hl (k := 3) rfl rfl (by decide) rfl (fun ls hl => ?_)
          refine lv_goto (tgt := 4) hx hb dX7_cuttable_45 (by decide) ?_
          exact ih4 (if r3 = 0 then x2 else (x2 ||| ((1 : Int32) <<< (x3 &&& 31)))) (x3 + (1 : Int32)) hw _ _ ls hM hS (lv_sub hl [1, 2, 3, 0] rfl)
        refine lv_if_eq (tgt := 42) hx hb dX7_cuttable_33 (by decide) (fun c6 => ?_) (fun c6 => ?_)
        · have e7 : (if r3 = 0 then x2 else (x2 ||| ((1 : Int32) <<< (x3 &&& 31)))) = x2 := by rw [if_pos c6]
          rw [e7] at hj5
          exact hj5 _ _ ls hM hS (lv_sub hl [0, 1, 2, 3] rfl)
        · refine lv_iload_n hx hb dX7_cuttable_36 rfl (lv_at hl 2 rfl) ?_
          refine lv_iconst (v := (1 : Int32)) hx hb dX7_cuttable_37 (by decide) ?_
          refine lv_iload_n hx hb dX7_cuttable_38 rfl (lv_at hl 3 rfl) ?_
          refine lv_ishl hx hb dX7_cuttable_39 ?_
          refine lv_ior hx hb dX7_cuttable_40 ?_
          refine lv_istore_n (lv' := [(2, .int (x2 ||| ((1 : Int32) <<< (x3 &&& 31)))), (0, .ref (ad 69)), (1, .int a1), (3, .int x3)]) hx hb dX7_cuttable_41 rfl hl (by decide) rfl (fun ls hl => ?_)
          have e8 : (if r3 = 0 then x2 else (x2 ||| ((1 : Int32) <<< (x3 &&& 31)))) = (x2 ||| ((1 : Int32) <<< (x3 &&& 31))) := by rw [if_neg c6]
          rw [e8] at hj5
          exact hj5 _ _ ls hM hS (lv_sub hl [1, 2, 0, 3] rfl)
      intro x2 x3 hw H locs ls hM hS hl
      have hw : wpBX7_cuttable_4 post a1  (fun x2 x3 => wpLX7_cuttable_4 post a1  h  n4 (x2, x3)) h  x2 x3 := hw
      unfold wpBX7_cuttable_4 at hw
      refine lv_iload_n hx hb dX7_cuttable_4 rfl (lv_at hl 3 rfl) ?_
      refine lv_aload_n hx hb dX7_cuttable_5 rfl (lv_at hl 0 rfl) ?_
      refine M_get hx hb hts hown hK hM 3 (v := .ref (ad 3)) (by decide) (hts _ q1686) rfl dX7_cuttable_6 ?_
      refine lv_iconst (v := (1 : Int32)) hx hb dX7_cuttable_9 (by decide) ?_
      refine M_iald hx hb hK hM 3 rfl (j := 1) rfl (by unfold vp_in; decide) dX7_cuttable_10 ?_
      refine lv_icmp_ge (tgt := 48) hx hb dX7_cuttable_11 (by decide) (fun c1 => ?_) (fun c1 => ?_)
      · have hw := hw.1 c1
        refine lv_iload_n hx hb dX7_cuttable_48 rfl (lv_at hl 2 rfl) ?_
        exact M_iret hx hb hr hlocks hM hS ⟨rfl, hw⟩ dX7_cuttable_49
      · have hw := hw.2 c1
        refine lv_iload_n hx hb dX7_cuttable_14 rfl (lv_at hl 1 rfl) ?_
        refine lv_if_ne (tgt := 28) hx hb dX7_cuttable_15 (by decide) (fun c2 => ?_) (fun c2 => ?_)
        · have hw := hw.2 c2
          exact hB28 x2 x3 hw _ _ ls hM hS (lv_sub hl [0, 1, 2, 3] rfl)
        · have hw := hw.1 c2
          refine lv_aload_n hx hb dX7_cuttable_18 rfl (lv_at hl 0 rfl) ?_
          refine M_get hx hb hts hown hK hM 27 (v := .ref (ad 27)) (by decide) (hts _ q1710) rfl dX7_cuttable_19 ?_
          refine lv_iload_n hx hb dX7_cuttable_22 rfl (lv_at hl 3 rfl) ?_
          obtain ⟨hb9, hw⟩ := hw
          refine M_iald hx hb hK hM 27 rfl (j := (ix x3)) rfl hb9 dX7_cuttable_23 ?_
          refine lv_iconst (v := (-1 : Int32)) hx hb dX7_cuttable_24 (by decide) ?_
          refine lv_icmp_ne (tgt := 42) hx hb dX7_cuttable_25 (by decide) (fun c10 => ?_) (fun c10 => ?_)
          · have hw := hw.2 c10
            refine lv_iinc (v := (x3 + (1 : Int32))) (lv' := [(3, .int (x3 + (1 : Int32))), (0, .ref (ad 69)), (1, .int a1), (2, .int x2)]) hx hb dX7_cuttable_42 hl (k := 3) rfl rfl (by decide) rfl (fun ls hl => ?_)
            refine lv_goto (tgt := 4) hx hb dX7_cuttable_45 (by decide) ?_
            exact ih4 x2 (x3 + (1 : Int32)) hw _ _ ls hM hS (lv_sub hl [1, 2, 3, 0] rfl)
          · have hw := hw.1 c10
            exact hB28 x2 x3 hw _ _ ls hM hS (lv_sub hl [0, 1, 2, 3] rfl)
  unfold wpX7_cuttable at hw
  refine lv_iconst (v := (0 : Int32)) hx hb dX7_cuttable_0 (by decide) ?_
  refine lv_istore_n (lv' := [(2, .int (0 : Int32)), (0, .ref (ad 69)), (1, .int a1)]) hx hb dX7_cuttable_1 rfl hl (by decide) rfl (fun ls hl => ?_)
  refine lv_iconst (v := (0 : Int32)) hx hb dX7_cuttable_2 (by decide) ?_
  refine lv_istore_n (lv' := [(3, .int (0 : Int32)), (2, .int (0 : Int32)), (0, .ref (ad 69)), (1, .int a1)]) hx hb dX7_cuttable_3 rfl hl (by decide) rfl (fun ls hl => ?_)
  obtain ⟨n11, hw⟩ := hw
  exact hL4 n11 (0 : Int32) (0 : Int32) hw _ _ ls hM hS (lv_sub hl [2, 3, 1, 0] rfl)

/-- safe()I -/
def wpBX7_safe_82 (post : Int32 → Mem → Prop)  (K24 : Mem → Int32 → Int32 → Prop) (h : Mem) (x1 : Int32) (x2 : Int32) (x3 : Int32)  : Prop :=
  (wpX7_unpack (fun h17 => K24 h17 x2 (x3 + (1 : Int32))) h 48 (0 : Int32))
def wpBX7_safe_63 (post : Int32 → Mem → Prop)  (K24 : Mem → Int32 → Int32 → Prop) (h : Mem) (x1 : Int32) (x2 : Int32) (x3 : Int32)  : Prop :=
  (wpX7_fairOf (fun h12 => (wpX7_cuttable (fun r13 => wpBX7_safe_82 post  K24 h12 x1 (if (x1 &&& (r13 ^^^ (-1 : Int32))) = 0 then x3 else x2) x3) h12 (0 : Int32))) h x3)
def wpBX7_safe_24 (post : Int32 → Mem → Prop)   (K24 : Mem → Int32 → Int32 → Prop) (x1 : Int32) (h : Mem) (x2 : Int32) (x3 : Int32) : Prop :=
  ((((1 : Int32) <<< ((h 3 0) &&& 31)) ≤ x3 → post x2 h) ∧ (¬ ((1 : Int32) <<< ((h 3 0) &&& 31)) ≤ x3 → (wpX7_bitsOf (fun r7 => ((r7 < (2 : Int32) → K24 h x2 (x3 + (1 : Int32))) ∧ (¬ r7 < (2 : Int32) → ((x2 = (-1 : Int32) → wpBX7_safe_63 post  K24 h x1 x2 x3) ∧ (¬ x2 = (-1 : Int32) → (wpX7_bitsOf (fun r21 => (wpX7_bitsOf (fun r23 => ((r23 < r21 → wpBX7_safe_63 post  K24 h x1 x2 x3) ∧ (¬ r23 < r21 → K24 h x2 (x3 + (1 : Int32))))) h x2)) h x3)))))) h x3)))
def wpLX7_safe_24 (post : Int32 → Mem → Prop)   (x1 : Int32) : Nat → (Mem × Int32 × Int32) → Prop := LW (fun K s => wpBX7_safe_24 post   (fun h x2 x3 => K (h, x2, x3)) x1 s.1 s.2.1 s.2.2)
def wpX7_safe (post : Int32 → Mem → Prop) (h : Mem)  : Prop :=
  (∀ h1 : Mem, h1 = up2 h 2 0 (0 : Int32) → (wpX7_cuttable (fun r2 => (wpX7_pack (fun h5 => (∃ n, wpLX7_safe_24 post   r2 n (h5, (-1 : Int32), (0 : Int32)))) h1 48 (0 : Int32))) h1 (0 : Int32)))
set_option maxHeartbeats 4000000 in
set_option maxRecDepth 100000 in
theorem metX7_safe (l : Launch) (D : va_G) (cA : Nat → ClassId) (z0 : Nat) (E : Nat → Nat → Nat) (ad : Nat → Nat) (h : Mem)  (post : Int32 → Mem → Prop) (hw : wpX7_safe post h ) : MeI l D cA z0 E ad yX7_safe (ws_ yX7_safe cX7_safe 4 (some .int)) ({ frames := 9, cells := 0, slots := 0, locals := 214 }) [.ref (ad 69)] h post := by
  refine Met.ofW (cc := cX7_safe) (maxL := 4) (ret := (some .int)) (by decide) rfl ?_
  intro p e s m args below meth c s₁ B hml hv
  obtain ⟨rfl, hM, hK, hJ, hZ⟩ := hv
  have hx := B.exec
  have hb := B.bytes
  have hr := B.returns
  have hts := atoms_spec (ws := ws_ yX7_safe cX7_safe 4 (some .int)) B.pre
  have hts : ∀ w ∈ lw_all, w.before _ s = true := fun w h => hts w (List.mem_cons_of_mem _ h)
  have hown : s.vm.findClass RX7 = some m.cls := findClass_of_methodNamed B.named
  have hlocks := B.notSynchronized
  have hS : va_S (MA ad) s.heap s.heap [] := va_S.rf
  have hl := lv_entry ([.ref (ad 69)]) (n := 4) (Nat.le_of_ble_eq_true rfl)
  rw [lg_entry_eq]
  generalize (lg_sl ([.ref (ad 69)]) ++ List.replicate (4 - (lg_sl ([.ref (ad 69)])).length) Slot.unset).toArray = ls at hl ⊢
  have hl : lv_has ls 4 [(0, .ref (ad 69))] := hl
  have hL24 : ∀ (x1 : Int32) (n24 : Nat) (h : Mem) (x2 : Int32) (x3 : Int32), wpLX7_safe_24 post   x1 n24 (h, x2, x3) → JM p l e (headSpec (ws_ yX7_safe cX7_safe 4 (some .int)) ({ frames := 9, cells := 0, slots := 0, locals := 214 })).room s m ([.ref (ad 69)] : List Value).toArray below meth c (MQ below (MQi D cA E ad post) ([.ref (ad 69)] : List Value).toArray s 0 0 (MA ad)) D cA E ad 4 24 h [(0, .ref (ad 69)), (1, .int x1), (2, .int x2), (3, .int x3)] [] := by
    intro x1 n24
    induction n24 with
    | zero => intro h x2 x3 hw; exact False.elim hw
    | succ n24 ih24 =>
      have hB82 : ∀ (h : Mem) (x2 : Int32) (x3 : Int32), wpBX7_safe_82 post  (fun h x2 x3 => wpLX7_safe_24 post   x1 n24 (h, x2, x3)) h x1 x2 x3 → JM p l e (headSpec (ws_ yX7_safe cX7_safe 4 (some .int)) ({ frames := 9, cells := 0, slots := 0, locals := 214 })).room s m ([.ref (ad 69)] : List Value).toArray below meth c (MQ below (MQi D cA E ad post) ([.ref (ad 69)] : List Value).toArray s 0 0 (MA ad)) D cA E ad 4 82 h [(0, .ref (ad 69)), (1, .int x1), (2, .int x2), (3, .int x3)] [] := by
        intro h x2 x3 hw H locs ls hM hS hl
        unfold wpBX7_safe_82 at hw
        refine lv_aload_n hx hb dX7_safe_82 rfl (lv_at hl 0 rfl) ?_
        refine lv_aload_n hx hb dX7_safe_83 rfl (lv_at hl 0 rfl) ?_
        refine M_get hx hb hts hown hK hM 48 (v := .ref (ad 48)) (by decide) (hts _ q1731) rfl dX7_safe_84 ?_
        refine lv_iconst (v := (0 : Int32)) hx hb dX7_safe_87 (by decide) ?_
        refine M_callV (As := [.ref (ad 48), .int (0 : Int32)]) (rest := []) ⟨hx, hb, hml, hown, hts⟩ hK hZ hM hJ hS (metX7_unpack l D cA z0 E ad h 48 (0 : Int32) _ (by first | exact rfl | rfl) hw) (cwV 2 hts (lw_V q2174 q2176 qs88 q130 q2177) rfl rfl rfl (by decide +kernel) ⟨Nat.le_of_ble_eq_true rfl, Nat.le_of_ble_eq_true rfl⟩) rfl hl.1 rfl (Nat.le_of_ble_eq_true rfl) dX7_safe_88 ⟨Nat.zero_le _, Nat.zero_le _⟩ (fun h17 H locs hw hM hS => ?_)
        refine lv_iinc (v := (x3 + (1 : Int32))) (lv' := [(3, .int (x3 + (1 : Int32))), (0, .ref (ad 69)), (1, .int x1), (2, .int x2)]) hx hb dX7_safe_91 hl (k := 3) rfl rfl (by decide) rfl (fun ls hl => ?_)
        refine lv_goto (tgt := 24) hx hb dX7_safe_94 (by decide) ?_
        exact ih24 h17 x2 (x3 + (1 : Int32)) hw _ _ ls hM hS (lv_sub hl [1, 2, 3, 0] rfl)
      have hB63 : ∀ (h : Mem) (x2 : Int32) (x3 : Int32), wpBX7_safe_63 post  (fun h x2 x3 => wpLX7_safe_24 post   x1 n24 (h, x2, x3)) h x1 x2 x3 → JM p l e (headSpec (ws_ yX7_safe cX7_safe 4 (some .int)) ({ frames := 9, cells := 0, slots := 0, locals := 214 })).room s m ([.ref (ad 69)] : List Value).toArray below meth c (MQ below (MQi D cA E ad post) ([.ref (ad 69)] : List Value).toArray s 0 0 (MA ad)) D cA E ad 4 63 h [(0, .ref (ad 69)), (1, .int x1), (2, .int x2), (3, .int x3)] [] := by
        intro h x2 x3 hw H locs ls hM hS hl
        unfold wpBX7_safe_63 at hw
        refine lv_aload_n hx hb dX7_safe_63 rfl (lv_at hl 0 rfl) ?_
        refine lv_iload_n hx hb dX7_safe_64 rfl (lv_at hl 3 rfl) ?_
        refine M_callV (As := [.int x3]) (rest := []) ⟨hx, hb, hml, hown, hts⟩ hK hZ hM hJ hS (metX7_fairOf l D cA z0 E ad h x3 _ hw) (cwV 1 hts (lw_V q2161 q2163 qs87 q130 q2164) rfl rfl rfl (by decide +kernel) ⟨Nat.le_of_ble_eq_true rfl, Nat.le_of_ble_eq_true rfl⟩) rfl hl.1 rfl (Nat.le_of_ble_eq_true rfl) dX7_safe_65 ⟨Nat.zero_le _, Nat.zero_le _⟩ (fun h12 H locs hw hM hS => ?_)
        refine lv_iload_n hx hb dX7_safe_68 rfl (lv_at hl 1 rfl) ?_
        refine lv_aload_n hx hb dX7_safe_69 rfl (lv_at hl 0 rfl) ?_
        refine lv_iconst (v := (0 : Int32)) hx hb dX7_safe_70 (by decide) ?_
        refine M_callIp (As := [.int (0 : Int32)]) (rest := [.int x1]) ⟨hx, hb, hml, hown, hts⟩ hK hZ hM hJ hS (metX7_cuttable l D cA z0 E ad h12 (0 : Int32) _ hw) (cwV 1 hts (lw_V q2223 q2225 qs95 q130 q2226) rfl rfl rfl (by decide +kernel) ⟨Nat.le_of_ble_eq_true rfl, Nat.le_of_ble_eq_true rfl⟩) rfl hl.1 rfl (Nat.le_of_ble_eq_true rfl) dX7_safe_71 ⟨Nat.zero_le _, Nat.zero_le _⟩ (fun r13 H locs hw hM hS => ?_)
        refine lv_iconst (v := (-1 : Int32)) hx hb dX7_safe_74 (by decide) ?_
        refine lv_ixor hx hb dX7_safe_75 ?_
        refine lv_iand hx hb dX7_safe_76 ?_
        have hj15 : JM p l e (headSpec (ws_ yX7_safe cX7_safe 4 (some .int)) ({ frames := 9, cells := 0, slots := 0, locals := 214 })).room s m ([.ref (ad 69)] : List Value).toArray below meth c (MQ below (MQi D cA E ad post) ([.ref (ad 69)] : List Value).toArray s 0 0 (MA ad)) D cA E ad 4 82 h12 [(0, .ref (ad 69)), (1, .int x1), (2, .int (if (x1 &&& (r13 ^^^ (-1 : Int32))) = 0 then x3 else x2)), (3, .int x3)] [] := by
          intro H locs ls hM hS hl
          exact hB82 h12 (if (x1 &&& (r13 ^^^ (-1 : Int32))) = 0 then x3 else x2) x3 hw _ _ ls hM hS (lv_sub hl [0, 1, 2, 3] rfl)
        refine lv_if_ne (tgt := 82) hx hb dX7_safe_77 (by decide) (fun c18 => ?_) (fun c18 => ?_)
        · have e19 : (if (x1 &&& (r13 ^^^ (-1 : Int32))) = 0 then x3 else x2) = x2 := by rw [if_neg c18]
          rw [e19] at hj15
          exact hj15 _ _ ls hM hS (lv_sub hl [0, 1, 2, 3] rfl)
        · refine lv_iload_n hx hb dX7_safe_80 rfl (lv_at hl 3 rfl) ?_
          refine lv_istore_n (lv' := [(2, .int x3), (0, .ref (ad 69)), (1, .int x1), (3, .int x3)]) hx hb dX7_safe_81 rfl hl (by decide) rfl (fun ls hl => ?_)
          have e20 : (if (x1 &&& (r13 ^^^ (-1 : Int32))) = 0 then x3 else x2) = x3 := by rw [if_pos c18]
          rw [e20] at hj15
          exact hj15 _ _ ls hM hS (lv_sub hl [1, 2, 0, 3] rfl)
      intro h x2 x3 hw H locs ls hM hS hl
      have hw : wpBX7_safe_24 post   (fun h x2 x3 => wpLX7_safe_24 post   x1 n24 (h, x2, x3)) x1 h x2 x3 := hw
      unfold wpBX7_safe_24 at hw
      refine lv_iload_n hx hb dX7_safe_24 rfl (lv_at hl 3 rfl) ?_
      refine lv_iconst (v := (1 : Int32)) hx hb dX7_safe_25 (by decide) ?_
      refine lv_aload_n hx hb dX7_safe_26 rfl (lv_at hl 0 rfl) ?_
      refine M_get hx hb hts hown hK hM 3 (v := .ref (ad 3)) (by decide) (hts _ q1686) rfl dX7_safe_27 ?_
      refine lv_iconst (v := (0 : Int32)) hx hb dX7_safe_30 (by decide) ?_
      refine M_iald hx hb hK hM 3 rfl (j := 0) rfl (by unfold vp_in; decide) dX7_safe_31 ?_
      refine lv_ishl hx hb dX7_safe_32 ?_
      refine lv_icmp_ge (tgt := 97) hx hb dX7_safe_33 (by decide) (fun c6 => ?_) (fun c6 => ?_)
      · have hw := hw.1 c6
        refine lv_iload_n hx hb dX7_safe_97 rfl (lv_at hl 2 rfl) ?_
        exact M_iret hx hb hr hlocks hM hS hw dX7_safe_98
      · have hw := hw.2 c6
        refine lv_iload_n hx hb dX7_safe_36 rfl (lv_at hl 3 rfl) ?_
        refine M_callISp (As := [.int x3]) (rest := []) ⟨hx, hb, hml, hown, hts⟩ hK hZ hM hJ hS (metX7_bitsOf l D cA z0 E ad h x3 _ hw) (va_cwS 1 hts (lw_S q2158 q2159 q130 q2160) rfl rfl rfl (by decide +kernel) ⟨Nat.le_of_ble_eq_true rfl, Nat.le_of_ble_eq_true rfl⟩) rfl hl.1 rfl (Nat.le_of_ble_eq_true rfl) dX7_safe_37 ⟨Nat.zero_le _, Nat.zero_le _⟩ (fun r7 H locs hw hM hS => ?_)
        refine lv_iconst (v := (2 : Int32)) hx hb dX7_safe_40 (by decide) ?_
        refine lv_icmp_lt (tgt := 91) hx hb dX7_safe_41 (by decide) (fun c9 => ?_) (fun c9 => ?_)
        · have hw := hw.1 c9
          refine lv_iinc (v := (x3 + (1 : Int32))) (lv' := [(3, .int (x3 + (1 : Int32))), (0, .ref (ad 69)), (1, .int x1), (2, .int x2)]) hx hb dX7_safe_91 hl (k := 3) rfl rfl (by decide) rfl (fun ls hl => ?_)
          refine lv_goto (tgt := 24) hx hb dX7_safe_94 (by decide) ?_
          exact ih24 h x2 (x3 + (1 : Int32)) hw _ _ ls hM hS (lv_sub hl [1, 2, 3, 0] rfl)
        · have hw := hw.2 c9
          refine lv_iload_n hx hb dX7_safe_44 rfl (lv_at hl 2 rfl) ?_
          refine lv_iconst (v := (-1 : Int32)) hx hb dX7_safe_45 (by decide) ?_
          refine lv_icmp_eq (tgt := 63) hx hb dX7_safe_46 (by decide) (fun c10 => ?_) (fun c10 => ?_)
          · have hw := hw.1 c10
            exact hB63 h x2 x3 hw _ _ ls hM hS (lv_sub hl [0, 1, 2, 3] rfl)
          · have hw := hw.2 c10
            refine lv_iload_n hx hb dX7_safe_49 rfl (lv_at hl 3 rfl) ?_
            refine M_callISp (As := [.int x3]) (rest := []) ⟨hx, hb, hml, hown, hts⟩ hK hZ hM hJ hS (metX7_bitsOf l D cA z0 E ad h x3 _ hw) (va_cwS 1 hts (lw_S q2158 q2159 q130 q2160) rfl rfl rfl (by decide +kernel) ⟨Nat.le_of_ble_eq_true rfl, Nat.le_of_ble_eq_true rfl⟩) rfl hl.1 rfl (Nat.le_of_ble_eq_true rfl) dX7_safe_50 ⟨Nat.zero_le _, Nat.zero_le _⟩ (fun r21 H locs hw hM hS => ?_)
            refine lv_iload_n hx hb dX7_safe_53 rfl (lv_at hl 2 rfl) ?_
            refine M_callISp (As := [.int x2]) (rest := [.int r21]) ⟨hx, hb, hml, hown, hts⟩ hK hZ hM hJ hS (metX7_bitsOf l D cA z0 E ad h x2 _ hw) (va_cwS 1 hts (lw_S q2158 q2159 q130 q2160) rfl rfl rfl (by decide +kernel) ⟨Nat.le_of_ble_eq_true rfl, Nat.le_of_ble_eq_true rfl⟩) rfl hl.1 rfl (Nat.le_of_ble_eq_true rfl) dX7_safe_54 ⟨Nat.zero_le _, Nat.zero_le _⟩ (fun r23 H locs hw hM hS => ?_)
            refine lv_icmp_gt (tgt := 63) hx hb dX7_safe_57 (by decide) (fun c25 => ?_) (fun c25 => ?_)
            · have hw := hw.1 c25
              exact hB63 h x2 x3 hw _ _ ls hM hS (lv_sub hl [0, 1, 2, 3] rfl)
            · have hw := hw.2 c25
              refine lv_goto (tgt := 91) hx hb dX7_safe_60 (by decide) ?_
              refine lv_iinc (v := (x3 + (1 : Int32))) (lv' := [(3, .int (x3 + (1 : Int32))), (0, .ref (ad 69)), (1, .int x1), (2, .int x2)]) hx hb dX7_safe_91 hl (k := 3) rfl rfl (by decide) rfl (fun ls hl => ?_)
              refine lv_goto (tgt := 24) hx hb dX7_safe_94 (by decide) ?_
              exact ih24 h x2 (x3 + (1 : Int32)) hw _ _ ls hM hS (lv_sub hl [1, 2, 3, 0] rfl)
  unfold wpX7_safe at hw
  refine lv_aload_n hx hb dX7_safe_0 rfl (lv_at hl 0 rfl) ?_
  refine lv_iconst (v := (0 : Int32)) hx hb dX7_safe_1 (by decide) ?_
  refine M_put hx hb hts hown hK hM hJ hS 2 rfl rfl (hts _ q1685) rfl .int (by decide +kernel) rfl rfl dX7_safe_2 (fun H locs hM hS => ?_)
  obtain ⟨h1, eh1⟩ : ∃ y : Mem, y = up2 h 2 0 (0 : Int32) := ⟨_, rfl⟩
  rw [← eh1] at hM
  have hw := hw h1 eh1
  refine lv_aload_n hx hb dX7_safe_5 rfl (lv_at hl 0 rfl) ?_
  refine lv_iconst (v := (0 : Int32)) hx hb dX7_safe_6 (by decide) ?_
  refine M_callIp (As := [.int (0 : Int32)]) (rest := []) ⟨hx, hb, hml, hown, hts⟩ hK hZ hM hJ hS (metX7_cuttable l D cA z0 E ad h1 (0 : Int32) _ hw) (cwV 1 hts (lw_V q2223 q2225 qs95 q130 q2226) rfl rfl rfl (by decide +kernel) ⟨Nat.le_of_ble_eq_true rfl, Nat.le_of_ble_eq_true rfl⟩) rfl hl.1 rfl (Nat.le_of_ble_eq_true rfl) dX7_safe_7 ⟨Nat.zero_le _, Nat.zero_le _⟩ (fun r2 H locs hw hM hS => ?_)
  refine lv_istore_n (lv' := [(1, .int r2), (0, .ref (ad 69))]) hx hb dX7_safe_10 rfl hl (by decide) rfl (fun ls hl => ?_)
  refine lv_iconst (v := (-1 : Int32)) hx hb dX7_safe_11 (by decide) ?_
  refine lv_istore_n (lv' := [(2, .int (-1 : Int32)), (1, .int r2), (0, .ref (ad 69))]) hx hb dX7_safe_12 rfl hl (by decide) rfl (fun ls hl => ?_)
  refine lv_aload_n hx hb dX7_safe_13 rfl (lv_at hl 2 rfl) ?_
  refine lv_aload_n hx hb dX7_safe_14 rfl (lv_at hl 2 rfl) ?_
  refine M_get hx hb hts hown hK hM 48 (v := .ref (ad 48)) (by decide) (hts _ q1731) rfl dX7_safe_15 ?_
  refine lv_iconst (v := (0 : Int32)) hx hb dX7_safe_18 (by decide) ?_
  refine M_callV (As := [.ref (ad 48), .int (0 : Int32)]) (rest := []) ⟨hx, hb, hml, hown, hts⟩ hK hZ hM hJ hS (metX7_pack l D cA z0 E ad h1 48 (0 : Int32) _ (by first | exact rfl | rfl) hw) (cwV 2 hts (lw_V q2138 q2140 qs84 q130 q2141) rfl rfl rfl (by decide +kernel) ⟨Nat.le_of_ble_eq_true rfl, Nat.le_of_ble_eq_true rfl⟩) rfl hl.1 rfl (Nat.le_of_ble_eq_true rfl) dX7_safe_19 ⟨Nat.zero_le _, Nat.zero_le _⟩ (fun h5 H locs hw hM hS => ?_)
  refine lv_iconst (v := (0 : Int32)) hx hb dX7_safe_22 (by decide) ?_
  refine lv_istore_n (lv' := [(3, .int (0 : Int32)), (2, .int (-1 : Int32)), (1, .int r2), (0, .ref (ad 69))]) hx hb dX7_safe_23 rfl hl (by decide) rfl (fun ls hl => ?_)
  obtain ⟨n26, hw⟩ := hw
  exact hL24 r2 n26 h5 (-1 : Int32) (0 : Int32) hw _ _ ls hM hS (lv_sub hl [3, 2, 1, 0] rfl)

/-- isHelped(I)Z -/
def wpBX7_isHelped_73 (wE : (Bool → Mem → Prop) → Mem → Int32 → Prop) (post : Bool → Mem → Prop) (a1 : Int32)  (h : Mem) (x2 : Int32)  : Prop :=
  (vp_in x2 (mlen 49) ∧ (∀ h12 : Mem, h12 = up2 h 49 (ix x2) a1 → post true h12))
def wpBX7_isHelped_2 (wE : (Bool → Mem → Prop) → Mem → Int32 → Prop) (post : Bool → Mem → Prop) (a1 : Int32)  (K2 : Mem → Int32 → Prop)  (h : Mem) (x2 : Int32) : Prop :=
  (((h 3 0) ≤ x2 → post false h) ∧ (¬ (h 3 0) ≤ x2 → (wpX7_isOf (fun r2 => ((r2 = true → K2 h (x2 + (1 : Int32))) ∧ (¬ r2 = true → (wpX7_canCut (fun r5 => ((r5 = true → (∀ h8 : Mem, h8 = up2 h 50 0 ((h 50 0) ||| ((1 : Int32) <<< (x2 &&& 31))) → (vp_in x2 (mlen 49) ∧ (((h8 49 (ix x2)) = (-1 : Int32) → wpBX7_isHelped_73 wE post a1  h8 x2) ∧ (¬ (h8 49 (ix x2)) = (-1 : Int32) → (wE (fun r13 h14 => ((r13 = true → wpBX7_isHelped_73 wE post a1  h14 x2) ∧ (¬ r13 = true → K2 h14 (x2 + (1 : Int32))))) h8 (h8 49 (ix x2)))))))) ∧ (¬ r5 = true → K2 h (x2 + (1 : Int32))))) h x2 a1)))) h (h 50 0) x2)))
def wpLX7_isHelped_2 (wE : (Bool → Mem → Prop) → Mem → Int32 → Prop) (post : Bool → Mem → Prop) (a1 : Int32)   : Nat → (Mem × Int32) → Prop := LW (fun K s => wpBX7_isHelped_2 wE post a1  (fun h x2 => K (h, x2))  s.1 s.2)
def wpRX7_isHelped (wE : (Bool → Mem → Prop) → Mem → Int32 → Prop) (post : Bool → Mem → Prop) (h : Mem) (a1 : Int32) : Prop :=
  (∃ n, wpLX7_isHelped_2 wE post a1   n (h, (0 : Int32)))
def wpX7_isHelped : Nat → (Bool → Mem → Prop) → Mem → Int32 → Prop
  | 0 => fun _ _ _ => False
  | d + 1 => wpRX7_isHelped (wpX7_isHelped d)
set_option maxHeartbeats 4000000 in
set_option maxRecDepth 100000 in
theorem metRX7_isHelped (l : Launch) (D : va_G) (cA : Nat → ClassId) (z0 : Nat) (E : Nat → Nat → Nat) (ad : Nat → Nat) (wE : (Bool → Mem → Prop) → Mem → Int32 → Prop) (fE lE : Nat) (hE : ∀ (post : Bool → Mem → Prop) (h : Mem) (a1 : Int32), wE post h a1 → MeZ l D cA z0 E ad yX7_isHelped (ws_ yX7_isHelped cX7_isHelped 3 (some .boolean)) ({ frames := fE, cells := 0, slots := 0, locals := lE }) [.ref (ad 69), .int a1] h post) (h : Mem) (a1 : Int32) (post : Bool → Mem → Prop) (hw : wpRX7_isHelped wE post h a1) : MeZ l D cA z0 E ad yX7_isHelped (ws_ yX7_isHelped cX7_isHelped 3 (some .boolean)) ({ frames := fE + 8, cells := 0, slots := 0, locals := lE + 168 }) [.ref (ad 69), .int a1] h post := by
  refine Met.ofW (cc := cX7_isHelped) (maxL := 3) (ret := (some .boolean)) (by decide) rfl ?_
  intro p e s m args below meth c s₁ B hml hv
  obtain ⟨rfl, hM, hK, hJ, hZ⟩ := hv
  have hx := B.exec
  have hb := B.bytes
  have hr := B.returns
  have hts := atoms_spec (ws := ws_ yX7_isHelped cX7_isHelped 3 (some .boolean)) B.pre
  have hts : ∀ w ∈ lw_all, w.before _ s = true := fun w h => hts w (List.mem_cons_of_mem _ h)
  have hown : s.vm.findClass RX7 = some m.cls := findClass_of_methodNamed B.named
  have hlocks := B.notSynchronized
  have hS : va_S (MA ad) s.heap s.heap [] := va_S.rf
  have hl := lv_entry ([.ref (ad 69), .int a1]) (n := 3) (Nat.le_of_ble_eq_true rfl)
  rw [lg_entry_eq]
  generalize (lg_sl ([.ref (ad 69), .int a1]) ++ List.replicate (3 - (lg_sl ([.ref (ad 69), .int a1])).length) Slot.unset).toArray = ls at hl ⊢
  have hl : lv_has ls 3 [(0, .ref (ad 69)), (1, .int a1)] := hl
  have hB73 : ∀ (h : Mem) (x2 : Int32), wpBX7_isHelped_73 wE post a1  h x2 → JM p l e (headSpec (ws_ yX7_isHelped cX7_isHelped 3 (some .boolean)) ({ frames := fE + 8, cells := 0, slots := 0, locals := lE + 168 })).room s m ([.ref (ad 69), .int a1] : List Value).toArray below meth c (MQ below (MQz D cA E ad post) ([.ref (ad 69), .int a1] : List Value).toArray s 0 0 (MA ad)) D cA E ad 3 73 h [(0, .ref (ad 69)), (1, .int a1), (2, .int x2)] [] := by
    intro h x2 hw H locs ls hM hS hl
    unfold wpBX7_isHelped_73 at hw
    refine lv_aload_n hx hb dX7_isHelped_73 rfl (lv_at hl 0 rfl) ?_
    refine M_get hx hb hts hown hK hM 49 (v := .ref (ad 49)) (by decide) (hts _ q1732) rfl dX7_isHelped_74 ?_
    refine lv_iload_n hx hb dX7_isHelped_77 rfl (lv_at hl 2 rfl) ?_
    refine lv_iload_n hx hb dX7_isHelped_78 rfl (lv_at hl 1 rfl) ?_
    obtain ⟨hb11, hw⟩ := hw
    refine M_iast hx hb hK hM hJ hS 49 rfl (j := (ix x2)) rfl hb11 dX7_isHelped_79 (fun H locs hM hS => ?_)
    obtain ⟨h12, eh12⟩ : ∃ y : Mem, y = up2 h 49 (ix x2) a1 := ⟨_, rfl⟩
    rw [← eh12] at hM
    have hw := hw h12 eh12
    refine lv_iconst (v := (1 : Int32)) hx hb dX7_isHelped_80 (by decide) ?_
    exact M_zret hx hb hr hlocks hM hS ⟨_, rfl, hw⟩ dX7_isHelped_81
  have hL2 : ∀  (n2 : Nat) (h : Mem) (x2 : Int32), wpLX7_isHelped_2 wE post a1   n2 (h, x2) → JM p l e (headSpec (ws_ yX7_isHelped cX7_isHelped 3 (some .boolean)) ({ frames := fE + 8, cells := 0, slots := 0, locals := lE + 168 })).room s m ([.ref (ad 69), .int a1] : List Value).toArray below meth c (MQ below (MQz D cA E ad post) ([.ref (ad 69), .int a1] : List Value).toArray s 0 0 (MA ad)) D cA E ad 3 2 h [(0, .ref (ad 69)), (1, .int a1), (2, .int x2)] [] := by
    intro  n2
    induction n2 with
    | zero => intro h x2 hw; exact False.elim hw
    | succ n2 ih2 =>
      intro h x2 hw H locs ls hM hS hl
      have hw : wpBX7_isHelped_2 wE post a1  (fun h x2 => wpLX7_isHelped_2 wE post a1   n2 (h, x2))  h x2 := hw
      unfold wpBX7_isHelped_2 at hw
      refine lv_iload_n hx hb dX7_isHelped_2 rfl (lv_at hl 2 rfl) ?_
      refine lv_aload_n hx hb dX7_isHelped_3 rfl (lv_at hl 0 rfl) ?_
      refine M_get hx hb hts hown hK hM 3 (v := .ref (ad 3)) (by decide) (hts _ q1686) rfl dX7_isHelped_4 ?_
      refine lv_iconst (v := (0 : Int32)) hx hb dX7_isHelped_7 (by decide) ?_
      refine M_iald hx hb hK hM 3 rfl (j := 0) rfl (by unfold vp_in; decide) dX7_isHelped_8 ?_
      refine lv_icmp_ge (tgt := 88) hx hb dX7_isHelped_9 (by decide) (fun c1 => ?_) (fun c1 => ?_)
      · have hw := hw.1 c1
        refine lv_iconst (v := (0 : Int32)) hx hb dX7_isHelped_88 (by decide) ?_
        exact M_zret hx hb hr hlocks hM hS ⟨_, rfl, hw⟩ dX7_isHelped_89
      · have hw := hw.2 c1
        refine lv_aload_n hx hb dX7_isHelped_12 rfl (lv_at hl 0 rfl) ?_
        refine M_get hx hb hts hown hK hM 50 (v := .int (h 50 0)) (by decide) (hts _ q1733) rfl dX7_isHelped_13 ?_
        refine lv_iload_n hx hb dX7_isHelped_16 rfl (lv_at hl 2 rfl) ?_
        refine M_callZSp (As := [.int (h 50 0), .int x2]) (rest := []) ⟨hx, hb, hml, hown, hts⟩ hK hZ hM hJ hS (metX7_isOf l D cA z0 E ad h (h 50 0) x2 _ hw) (va_cwS 2 hts (lw_S q2008 q2009 q130 q2010) rfl rfl rfl (by decide +kernel) ⟨(show (1) + 1 ≤ fE + 8 by omega), (show 8 + (2 + 11) + (30) ≤ lE + 168 by omega)⟩) rfl hl.1 rfl (Nat.le_of_ble_eq_true rfl) dX7_isHelped_17 ⟨Nat.zero_le _, Nat.zero_le _⟩ (fun r2 H locs hw hM hS => ?_)
        refine lv_if_ne (tgt := 82) hx hb dX7_isHelped_20 (by decide) (fun c4 => ?_) (fun c4 => ?_)
        · have c4 := b2i_t c4
          have hw := hw.1 c4
          refine lv_iinc (v := (x2 + (1 : Int32))) (lv' := [(2, .int (x2 + (1 : Int32))), (0, .ref (ad 69)), (1, .int a1)]) hx hb dX7_isHelped_82 hl (k := 2) rfl rfl (by decide) rfl (fun ls hl => ?_)
          refine lv_goto (tgt := 2) hx hb dX7_isHelped_85 (by decide) ?_
          exact ih2 h (x2 + (1 : Int32)) hw _ _ ls hM hS (lv_sub hl [1, 2, 0] rfl)
        · have c4 := b2i_f c4
          have hw := hw.2 c4
          refine lv_aload_n hx hb dX7_isHelped_23 rfl (lv_at hl 0 rfl) ?_
          refine lv_iload_n hx hb dX7_isHelped_24 rfl (lv_at hl 2 rfl) ?_
          refine lv_iload_n hx hb dX7_isHelped_25 rfl (lv_at hl 1 rfl) ?_
          refine M_callZp (As := [.int x2, .int a1]) (rest := []) ⟨hx, hb, hml, hown, hts⟩ hK hZ hM hJ hS (metX7_canCut l D cA z0 E ad h x2 a1 _ hw) (cwV 2 hts (lw_V q2186 q2188 qs90 q130 q2189) rfl rfl rfl (by decide +kernel) ⟨(show (6) + 1 ≤ fE + 8 by omega), (show 8 + (4 + 11) + (145) ≤ lE + 168 by omega)⟩) rfl hl.1 rfl (Nat.le_of_ble_eq_true rfl) dX7_isHelped_26 ⟨Nat.zero_le _, Nat.zero_le _⟩ (fun r5 H locs hw hM hS => ?_)
          refine lv_if_ne (tgt := 35) hx hb dX7_isHelped_29 (by decide) (fun c7 => ?_) (fun c7 => ?_)
          · have c7 := b2i_t c7
            have hw := hw.1 c7
            refine lv_aload_n hx hb dX7_isHelped_35 rfl (lv_at hl 0 rfl) ?_
            refine lv_dup hx hb dX7_isHelped_36 rfl ?_
            refine M_get hx hb hts hown hK hM 50 (v := .int (h 50 0)) (by decide) (hts _ q1733) rfl dX7_isHelped_37 ?_
            refine lv_iconst (v := (1 : Int32)) hx hb dX7_isHelped_40 (by decide) ?_
            refine lv_iload_n hx hb dX7_isHelped_41 rfl (lv_at hl 2 rfl) ?_
            refine lv_ishl hx hb dX7_isHelped_42 ?_
            refine lv_ior hx hb dX7_isHelped_43 ?_
            refine M_put hx hb hts hown hK hM hJ hS 50 rfl rfl (hts _ q1733) rfl .int (by decide +kernel) rfl rfl dX7_isHelped_44 (fun H locs hM hS => ?_)
            obtain ⟨h8, eh8⟩ : ∃ y : Mem, y = up2 h 50 0 ((h 50 0) ||| ((1 : Int32) <<< (x2 &&& 31))) := ⟨_, rfl⟩
            rw [← eh8] at hM
            have hw := hw h8 eh8
            refine lv_aload_n hx hb dX7_isHelped_47 rfl (lv_at hl 0 rfl) ?_
            refine M_get hx hb hts hown hK hM 49 (v := .ref (ad 49)) (by decide) (hts _ q1732) rfl dX7_isHelped_48 ?_
            refine lv_iload_n hx hb dX7_isHelped_51 rfl (lv_at hl 2 rfl) ?_
            obtain ⟨hb9, hw⟩ := hw
            refine M_iald hx hb hK hM 49 rfl (j := (ix x2)) rfl hb9 dX7_isHelped_52 ?_
            refine lv_iconst (v := (-1 : Int32)) hx hb dX7_isHelped_53 (by decide) ?_
            refine lv_icmp_eq (tgt := 73) hx hb dX7_isHelped_54 (by decide) (fun c10 => ?_) (fun c10 => ?_)
            · have hw := hw.1 c10
              exact hB73 h8 x2 hw _ _ ls hM hS (lv_sub hl [0, 1, 2] rfl)
            · have hw := hw.2 c10
              refine lv_aload_n hx hb dX7_isHelped_57 rfl (lv_at hl 0 rfl) ?_
              refine lv_aload_n hx hb dX7_isHelped_58 rfl (lv_at hl 0 rfl) ?_
              refine M_get hx hb hts hown hK hM 49 (v := .ref (ad 49)) (by decide) (hts _ q1732) rfl dX7_isHelped_59 ?_
              refine lv_iload_n hx hb dX7_isHelped_62 rfl (lv_at hl 2 rfl) ?_
              refine M_iald hx hb hK hM 49 rfl (j := (ix x2)) rfl hb9 dX7_isHelped_63 ?_
              refine M_callZ (As := [.int (h8 49 (ix x2))]) (rest := []) ⟨hx, hb, hml, hown, hts⟩ hK hZ hM hJ hS (hE _ h8 (h8 49 (ix x2)) hw) (cwV 1 hts (lw_V q2235 q2237 qs97 q130 q2238) rfl rfl rfl (by decide +kernel) ⟨(show (fE + 0) + 1 ≤ fE + 8 by omega), (show 8 + (3 + 11) + (lE + 0) ≤ lE + 168 by omega)⟩) rfl hl.1 rfl (Nat.le_of_ble_eq_true rfl) dX7_isHelped_64 ⟨Nat.zero_le _, Nat.zero_le _⟩ (fun r13 h14 H locs hw hM hS => ?_)
              refine lv_if_ne (tgt := 73) hx hb dX7_isHelped_67 (by decide) (fun c15 => ?_) (fun c15 => ?_)
              · have c15 := b2i_t c15
                have hw := hw.1 c15
                exact hB73 h14 x2 hw _ _ ls hM hS (lv_sub hl [0, 1, 2] rfl)
              · have c15 := b2i_f c15
                have hw := hw.2 c15
                refine lv_goto (tgt := 82) hx hb dX7_isHelped_70 (by decide) ?_
                refine lv_iinc (v := (x2 + (1 : Int32))) (lv' := [(2, .int (x2 + (1 : Int32))), (0, .ref (ad 69)), (1, .int a1)]) hx hb dX7_isHelped_82 hl (k := 2) rfl rfl (by decide) rfl (fun ls hl => ?_)
                refine lv_goto (tgt := 2) hx hb dX7_isHelped_85 (by decide) ?_
                exact ih2 h14 (x2 + (1 : Int32)) hw _ _ ls hM hS (lv_sub hl [1, 2, 0] rfl)
          · have c7 := b2i_f c7
            have hw := hw.2 c7
            refine lv_goto (tgt := 82) hx hb dX7_isHelped_32 (by decide) ?_
            refine lv_iinc (v := (x2 + (1 : Int32))) (lv' := [(2, .int (x2 + (1 : Int32))), (0, .ref (ad 69)), (1, .int a1)]) hx hb dX7_isHelped_82 hl (k := 2) rfl rfl (by decide) rfl (fun ls hl => ?_)
            refine lv_goto (tgt := 2) hx hb dX7_isHelped_85 (by decide) ?_
            exact ih2 h (x2 + (1 : Int32)) hw _ _ ls hM hS (lv_sub hl [1, 2, 0] rfl)
  unfold wpRX7_isHelped at hw
  refine lv_iconst (v := (0 : Int32)) hx hb dX7_isHelped_0 (by decide) ?_
  refine lv_istore_n (lv' := [(2, .int (0 : Int32)), (0, .ref (ad 69)), (1, .int a1)]) hx hb dX7_isHelped_1 rfl hl (by decide) rfl (fun ls hl => ?_)
  obtain ⟨n16, hw⟩ := hw
  exact hL2 n16 h (0 : Int32) hw _ _ ls hM hS (lv_sub hl [1, 2, 0] rfl)
theorem metX7_isHelped (l : Launch) (D : va_G) (cA : Nat → ClassId) (z0 : Nat) (E : Nat → Nat → Nat) (ad : Nat → Nat) (d : Nat) : ∀ (h : Mem) (a1 : Int32) (post : Bool → Mem → Prop) (hw : wpX7_isHelped d post h a1), MeZ l D cA z0 E ad yX7_isHelped (ws_ yX7_isHelped cX7_isHelped 3 (some .boolean)) ({ frames := 8 * d, cells := 0, slots := 0, locals := 168 * d }) [.ref (ad 69), .int a1] h post := by
  induction d with
  | zero => intro h a1 post hw; exact False.elim hw
  | succ d ih => intro h a1 post hw; exact metRX7_isHelped l D cA z0 E ad (wpX7_isHelped d) (8 * d) (168 * d) (fun post h a1 hw => ih h a1 post hw) h a1 post hw

/-- help()I -/
def wpBX7_help_72 (post : Int32 → Mem → Prop)  (K30 : Mem → Int32 → Int32 → Prop) (h : Mem) (x2 : Int32) (s0 : Int32) (s1 : Int32) : Prop :=
  K30 h (s1 + s0) (x2 + (1 : Int32))
def wpBX7_help_30 (post : Int32 → Mem → Prop)   (K30 : Mem → Int32 → Int32 → Prop)  (h : Mem) (x1 : Int32) (x2 : Int32) : Prop :=
  (((h 3 1) ≤ x2 → post x1 h) ∧ (¬ (h 3 1) ≤ x2 → (vp_in x2 (mlen 27) ∧ (((h 27 (ix x2)) = (-1 : Int32) → (∀ h6 : Mem, h6 = up2 h 50 0 (0 : Int32) → (wpX7_isHelped 10 (fun r7 h8 => wpBX7_help_72 post  K30 h8 x2 (if r7 = true then (0 : Int32) else (1 : Int32)) x1) h6 x2))) ∧ (¬ (h 27 (ix x2)) = (-1 : Int32) → K30 h x1 (x2 + (1 : Int32)))))))
def wpLX7_help_30 (post : Int32 → Mem → Prop)    : Nat → (Mem × Int32 × Int32) → Prop := LW (fun K s => wpBX7_help_30 post   (fun h x1 x2 => K (h, x1, x2))  s.1 s.2.1 s.2.2)
def wpBX7_help_9 (post : Int32 → Mem → Prop)   (K9 : Mem → Int32 → Prop) (x1 : Int32) (h : Mem) (x2 : Int32) : Prop :=
  (((8 : Int32) ≤ x2 → (∃ n, wpLX7_help_30 post    n (h, x1, (0 : Int32)))) ∧ (¬ (8 : Int32) ≤ x2 → (vp_in x2 (mlen 49) ∧ (∀ h15 : Mem, h15 = up2 h 49 (ix x2) (-1 : Int32) → K9 h15 (x2 + (1 : Int32))))))
def wpLX7_help_9 (post : Int32 → Mem → Prop)   (x1 : Int32) : Nat → (Mem × Int32) → Prop := LW (fun K s => wpBX7_help_9 post   (fun h x2 => K (h, x2)) x1 s.1 s.2)
def wpX7_help (post : Int32 → Mem → Prop) (h : Mem)  : Prop :=
  (∀ h1 : Mem, h1 = up2 h 2 0 (0 : Int32) → (∃ n, wpLX7_help_9 post   (0 : Int32) n (h1, (0 : Int32))))
set_option maxHeartbeats 4000000 in
set_option maxRecDepth 100000 in
theorem metX7_help (l : Launch) (D : va_G) (cA : Nat → ClassId) (z0 : Nat) (E : Nat → Nat → Nat) (ad : Nat → Nat) (h : Mem)  (post : Int32 → Mem → Prop) (hw : wpX7_help post h ) : MeI l D cA z0 E ad yX7_help (ws_ yX7_help cX7_help 3 (some .int)) ({ frames := 81, cells := 0, slots := 0, locals := 1702 }) [.ref (ad 69)] h post := by
  refine Met.ofW (cc := cX7_help) (maxL := 3) (ret := (some .int)) (by decide) rfl ?_
  intro p e s m args below meth c s₁ B hml hv
  obtain ⟨rfl, hM, hK, hJ, hZ⟩ := hv
  have hx := B.exec
  have hb := B.bytes
  have hr := B.returns
  have hts := atoms_spec (ws := ws_ yX7_help cX7_help 3 (some .int)) B.pre
  have hts : ∀ w ∈ lw_all, w.before _ s = true := fun w h => hts w (List.mem_cons_of_mem _ h)
  have hown : s.vm.findClass RX7 = some m.cls := findClass_of_methodNamed B.named
  have hlocks := B.notSynchronized
  have hS : va_S (MA ad) s.heap s.heap [] := va_S.rf
  have hl := lv_entry ([.ref (ad 69)]) (n := 3) (Nat.le_of_ble_eq_true rfl)
  rw [lg_entry_eq]
  generalize (lg_sl ([.ref (ad 69)]) ++ List.replicate (3 - (lg_sl ([.ref (ad 69)])).length) Slot.unset).toArray = ls at hl ⊢
  have hl : lv_has ls 3 [(0, .ref (ad 69))] := hl
  have hL30 : ∀  (n30 : Nat) (h : Mem) (x1 : Int32) (x2 : Int32), wpLX7_help_30 post    n30 (h, x1, x2) → JM p l e (headSpec (ws_ yX7_help cX7_help 3 (some .int)) ({ frames := 81, cells := 0, slots := 0, locals := 1702 })).room s m ([.ref (ad 69)] : List Value).toArray below meth c (MQ below (MQi D cA E ad post) ([.ref (ad 69)] : List Value).toArray s 0 0 (MA ad)) D cA E ad 3 30 h [(0, .ref (ad 69)), (1, .int x1), (2, .int x2)] [] := by
    intro  n30
    induction n30 with
    | zero => intro h x1 x2 hw; exact False.elim hw
    | succ n30 ih30 =>
      have hB72 : ∀ (h : Mem) (x2 : Int32) (s0 : Int32) (s1 : Int32), wpBX7_help_72 post  (fun h x1 x2 => wpLX7_help_30 post    n30 (h, x1, x2)) h x2 s0 s1 → JM p l e (headSpec (ws_ yX7_help cX7_help 3 (some .int)) ({ frames := 81, cells := 0, slots := 0, locals := 1702 })).room s m ([.ref (ad 69)] : List Value).toArray below meth c (MQ below (MQi D cA E ad post) ([.ref (ad 69)] : List Value).toArray s 0 0 (MA ad)) D cA E ad 3 72 h [(0, .ref (ad 69)), (2, .int x2)] [.int s0, .int s1] := by
        intro h x2 s0 s1 hw H locs ls hM hS hl
        unfold wpBX7_help_72 at hw
        refine lv_iadd hx hb dX7_help_72 ?_
        refine lv_istore_n (lv' := [(1, .int (s1 + s0)), (0, .ref (ad 69)), (2, .int x2)]) hx hb dX7_help_73 rfl hl (by decide) rfl (fun ls hl => ?_)
        refine lv_iinc (v := (x2 + (1 : Int32))) (lv' := [(2, .int (x2 + (1 : Int32))), (1, .int (s1 + s0)), (0, .ref (ad 69))]) hx hb dX7_help_74 hl (k := 2) rfl rfl (by decide) rfl (fun ls hl => ?_)
        refine lv_goto (tgt := 30) hx hb dX7_help_77 (by decide) ?_
        exact ih30 h (s1 + s0) (x2 + (1 : Int32)) hw _ _ ls hM hS (lv_sub hl [2, 1, 0] rfl)
      intro h x1 x2 hw H locs ls hM hS hl
      have hw : wpBX7_help_30 post   (fun h x1 x2 => wpLX7_help_30 post    n30 (h, x1, x2))  h x1 x2 := hw
      unfold wpBX7_help_30 at hw
      refine lv_iload_n hx hb dX7_help_30 rfl (lv_at hl 2 rfl) ?_
      refine lv_aload_n hx hb dX7_help_31 rfl (lv_at hl 0 rfl) ?_
      refine M_get hx hb hts hown hK hM 3 (v := .ref (ad 3)) (by decide) (hts _ q1686) rfl dX7_help_32 ?_
      refine lv_iconst (v := (1 : Int32)) hx hb dX7_help_35 (by decide) ?_
      refine M_iald hx hb hK hM 3 rfl (j := 1) rfl (by unfold vp_in; decide) dX7_help_36 ?_
      refine lv_icmp_ge (tgt := 80) hx hb dX7_help_37 (by decide) (fun c3 => ?_) (fun c3 => ?_)
      · have hw := hw.1 c3
        refine lv_iload_n hx hb dX7_help_80 rfl (lv_at hl 1 rfl) ?_
        exact M_iret hx hb hr hlocks hM hS hw dX7_help_81
      · have hw := hw.2 c3
        refine lv_aload_n hx hb dX7_help_40 rfl (lv_at hl 0 rfl) ?_
        refine M_get hx hb hts hown hK hM 27 (v := .ref (ad 27)) (by decide) (hts _ q1710) rfl dX7_help_41 ?_
        refine lv_iload_n hx hb dX7_help_44 rfl (lv_at hl 2 rfl) ?_
        obtain ⟨hb4, hw⟩ := hw
        refine M_iald hx hb hK hM 27 rfl (j := (ix x2)) rfl hb4 dX7_help_45 ?_
        refine lv_iconst (v := (-1 : Int32)) hx hb dX7_help_46 (by decide) ?_
        refine lv_icmp_eq (tgt := 53) hx hb dX7_help_47 (by decide) (fun c5 => ?_) (fun c5 => ?_)
        · have hw := hw.1 c5
          refine lv_aload_n hx hb dX7_help_53 rfl (lv_at hl 0 rfl) ?_
          refine lv_iconst (v := (0 : Int32)) hx hb dX7_help_54 (by decide) ?_
          refine M_put hx hb hts hown hK hM hJ hS 50 rfl rfl (hts _ q1733) rfl .int (by decide +kernel) rfl rfl dX7_help_55 (fun H locs hM hS => ?_)
          obtain ⟨h6, eh6⟩ : ∃ y : Mem, y = up2 h 50 0 (0 : Int32) := ⟨_, rfl⟩
          rw [← eh6] at hM
          have hw := hw h6 eh6
          refine lv_iload_n hx hb dX7_help_58 rfl (lv_at hl 1 rfl) ?_
          refine lv_aload_n hx hb dX7_help_59 rfl (lv_at hl 0 rfl) ?_
          refine lv_iload_n hx hb dX7_help_60 rfl (lv_at hl 2 rfl) ?_
          refine M_callZ (As := [.int x2]) (rest := [.int x1]) ⟨hx, hb, hml, hown, hts⟩ hK hZ hM hJ hS (metX7_isHelped l D cA z0 E ad 10 h6 x2 _ hw) (cwV 1 hts (lw_V q2235 q2237 qs97 q130 q2238) rfl rfl rfl (by decide +kernel) ⟨Nat.le_of_ble_eq_true rfl, Nat.le_of_ble_eq_true rfl⟩) rfl hl.1 rfl (Nat.le_of_ble_eq_true rfl) dX7_help_61 ⟨Nat.zero_le _, Nat.zero_le _⟩ (fun r7 h8 H locs hw hM hS => ?_)
          have hj9 : JM p l e (headSpec (ws_ yX7_help cX7_help 3 (some .int)) ({ frames := 81, cells := 0, slots := 0, locals := 1702 })).room s m ([.ref (ad 69)] : List Value).toArray below meth c (MQ below (MQi D cA E ad post) ([.ref (ad 69)] : List Value).toArray s 0 0 (MA ad)) D cA E ad 3 72 h8 [(0, .ref (ad 69)), (2, .int x2)] [.int (if r7 = true then (0 : Int32) else (1 : Int32)), .int x1] := by
            intro H locs ls hM hS hl
            exact hB72 h8 x2 (if r7 = true then (0 : Int32) else (1 : Int32)) x1 hw _ _ ls hM hS (lv_sub hl [0, 1] rfl)
          refine lv_if_eq (tgt := 71) hx hb dX7_help_64 (by decide) (fun c10 => ?_) (fun c10 => ?_)
          · have c10 := b2i_f c10
            refine lv_iconst (v := (1 : Int32)) hx hb dX7_help_71 (by decide) ?_
            have e11 : (if r7 = true then (0 : Int32) else (1 : Int32)) = (1 : Int32) := by rw [if_neg c10]
            rw [e11] at hj9
            exact hj9 _ _ ls hM hS (lv_sub hl [0, 2] rfl)
          · have c10 := b2i_t c10
            refine lv_iconst (v := (0 : Int32)) hx hb dX7_help_67 (by decide) ?_
            refine lv_goto (tgt := 72) hx hb dX7_help_68 (by decide) ?_
            have e12 : (if r7 = true then (0 : Int32) else (1 : Int32)) = (0 : Int32) := by rw [if_pos c10]
            rw [e12] at hj9
            exact hj9 _ _ ls hM hS (lv_sub hl [0, 2] rfl)
        · have hw := hw.2 c5
          refine lv_goto (tgt := 74) hx hb dX7_help_50 (by decide) ?_
          refine lv_iinc (v := (x2 + (1 : Int32))) (lv' := [(2, .int (x2 + (1 : Int32))), (0, .ref (ad 69)), (1, .int x1)]) hx hb dX7_help_74 hl (k := 2) rfl rfl (by decide) rfl (fun ls hl => ?_)
          refine lv_goto (tgt := 30) hx hb dX7_help_77 (by decide) ?_
          exact ih30 h x1 (x2 + (1 : Int32)) hw _ _ ls hM hS (lv_sub hl [1, 2, 0] rfl)
  have hL9 : ∀ (x1 : Int32) (n9 : Nat) (h : Mem) (x2 : Int32), wpLX7_help_9 post   x1 n9 (h, x2) → JM p l e (headSpec (ws_ yX7_help cX7_help 3 (some .int)) ({ frames := 81, cells := 0, slots := 0, locals := 1702 })).room s m ([.ref (ad 69)] : List Value).toArray below meth c (MQ below (MQi D cA E ad post) ([.ref (ad 69)] : List Value).toArray s 0 0 (MA ad)) D cA E ad 3 9 h [(0, .ref (ad 69)), (1, .int x1), (2, .int x2)] [] := by
    intro x1 n9
    induction n9 with
    | zero => intro h x2 hw; exact False.elim hw
    | succ n9 ih9 =>
      intro h x2 hw H locs ls hM hS hl
      have hw : wpBX7_help_9 post   (fun h x2 => wpLX7_help_9 post   x1 n9 (h, x2)) x1 h x2 := hw
      unfold wpBX7_help_9 at hw
      refine lv_iload_n hx hb dX7_help_9 rfl (lv_at hl 2 rfl) ?_
      refine lv_bipush (v := (8 : Int32)) hx hb dX7_help_10 (by decide) ?_
      refine lv_icmp_ge (tgt := 28) hx hb dX7_help_12 (by decide) (fun c2 => ?_) (fun c2 => ?_)
      · have hw := hw.1 c2
        refine lv_iconst (v := (0 : Int32)) hx hb dX7_help_28 (by decide) ?_
        refine lv_istore_n (lv' := [(2, .int (0 : Int32)), (0, .ref (ad 69)), (1, .int x1)]) hx hb dX7_help_29 rfl hl (by decide) rfl (fun ls hl => ?_)
        obtain ⟨n13, hw⟩ := hw
        exact hL30 n13 h x1 (0 : Int32) hw _ _ ls hM hS (lv_sub hl [1, 2, 0] rfl)
      · have hw := hw.2 c2
        refine lv_aload_n hx hb dX7_help_15 rfl (lv_at hl 0 rfl) ?_
        refine M_get hx hb hts hown hK hM 49 (v := .ref (ad 49)) (by decide) (hts _ q1732) rfl dX7_help_16 ?_
        refine lv_iload_n hx hb dX7_help_19 rfl (lv_at hl 2 rfl) ?_
        refine lv_iconst (v := (-1 : Int32)) hx hb dX7_help_20 (by decide) ?_
        obtain ⟨hb14, hw⟩ := hw
        refine M_iast hx hb hK hM hJ hS 49 rfl (j := (ix x2)) rfl hb14 dX7_help_21 (fun H locs hM hS => ?_)
        obtain ⟨h15, eh15⟩ : ∃ y : Mem, y = up2 h 49 (ix x2) (-1 : Int32) := ⟨_, rfl⟩
        rw [← eh15] at hM
        have hw := hw h15 eh15
        refine lv_iinc (v := (x2 + (1 : Int32))) (lv' := [(2, .int (x2 + (1 : Int32))), (0, .ref (ad 69)), (1, .int x1)]) hx hb dX7_help_22 hl (k := 2) rfl rfl (by decide) rfl (fun ls hl => ?_)
        refine lv_goto (tgt := 9) hx hb dX7_help_25 (by decide) ?_
        exact ih9 h15 (x2 + (1 : Int32)) hw _ _ ls hM hS (lv_sub hl [1, 2, 0] rfl)
  unfold wpX7_help at hw
  refine lv_aload_n hx hb dX7_help_0 rfl (lv_at hl 0 rfl) ?_
  refine lv_iconst (v := (0 : Int32)) hx hb dX7_help_1 (by decide) ?_
  refine M_put hx hb hts hown hK hM hJ hS 2 rfl rfl (hts _ q1685) rfl .int (by decide +kernel) rfl rfl dX7_help_2 (fun H locs hM hS => ?_)
  obtain ⟨h1, eh1⟩ : ∃ y : Mem, y = up2 h 2 0 (0 : Int32) := ⟨_, rfl⟩
  rw [← eh1] at hM
  have hw := hw h1 eh1
  refine lv_iconst (v := (0 : Int32)) hx hb dX7_help_5 (by decide) ?_
  refine lv_istore_n (lv' := [(1, .int (0 : Int32)), (0, .ref (ad 69))]) hx hb dX7_help_6 rfl hl (by decide) rfl (fun ls hl => ?_)
  refine lv_iconst (v := (0 : Int32)) hx hb dX7_help_7 (by decide) ?_
  refine lv_istore_n (lv' := [(2, .int (0 : Int32)), (1, .int (0 : Int32)), (0, .ref (ad 69))]) hx hb dX7_help_8 rfl hl (by decide) rfl (fun ls hl => ?_)
  obtain ⟨n16, hw⟩ := hw
  exact hL9 (0 : Int32) n16 h1 (0 : Int32) hw _ _ ls hM hS (lv_sub hl [2, 1, 0] rfl)
