/-! the walks of the twin, printed by tools/gen.py: takeHalf takeOver town fault twinOf lastDay isKnown knownBoth count isIn isPerson person eatersOf eats knowsEater mayNow answering isLoaf tellUnits loaf met failing knows may reckon valueNow shareOf tellSlices -/
/-- takeHalf(I)V -/
def wpBX7_takeHalf_2 (post : Mem → Prop) (k0 : Nat)  (K2 : Mem → Int32 → Prop)  (h : Mem) (x1 : Int32) : Prop :=
  ((((nI (mlen k0)) / (2 : Int32)) ≤ x1 → post h) ∧ (¬ ((nI (mlen k0)) / (2 : Int32)) ≤ x1 → (vp_in (((nI (mlen k0)) / (2 : Int32)) + x1) (mlen k0) ∧ (vp_in x1 (mlen k0) ∧ (∀ h4 : Mem, h4 = up2 h k0 (ix x1) (h k0 (ix (((nI (mlen k0)) / (2 : Int32)) + x1))) → K2 h4 (x1 + (1 : Int32)))))))
def wpLX7_takeHalf_2 (post : Mem → Prop) (k0 : Nat)   : Nat → (Mem × Int32) → Prop := LW (fun K s => wpBX7_takeHalf_2 post k0  (fun h x1 => K (h, x1))  s.1 s.2)
def wpX7_takeHalf (post : Mem → Prop) (h : Mem) (k0 : Nat) : Prop :=
  (∃ n, wpLX7_takeHalf_2 post k0   n (h, (0 : Int32)))
set_option maxHeartbeats 4000000 in
set_option maxRecDepth 100000 in
theorem metX7_takeHalf (l : Launch) (D : va_G) (cA : Nat → ClassId) (z0 : Nat) (E : Nat → Nat → Nat) (ad : Nat → Nat) (h : Mem) (k0 : Nat) (post : Mem → Prop) (hk0 : marr k0 = true) (hw : wpX7_takeHalf post h k0) : MeV l D cA z0 E ad yX7_takeHalf (ws_ yX7_takeHalf cX7_takeHalf 2 none) ({ frames := 1, cells := 0, slots := 0, locals := 30 }) [.ref (ad k0)] h post := by
  refine Met.ofW (cc := cX7_takeHalf) (maxL := 2) (ret := none) (by decide) rfl ?_
  intro p e s m args below meth c s₁ B hml hv
  obtain ⟨rfl, hM, hK, hJ, hZ⟩ := hv
  have hx := B.exec
  have hb := B.bytes
  have hr := B.returns
  have hts := atoms_spec (ws := ws_ yX7_takeHalf cX7_takeHalf 2 none) B.pre
  have hts : ∀ w ∈ lw_all, w.before _ s = true := fun w h => hts w (List.mem_cons_of_mem _ h)
  have hown : s.vm.findClass RX7 = some m.cls := findClass_of_methodNamed B.named
  have hlocks := B.notSynchronized
  have hS : va_S (MA ad) s.heap s.heap [] := va_S.rf
  have hl := lv_entry ([.ref (ad k0)]) (n := 2) (Nat.le_of_ble_eq_true rfl)
  rw [lg_entry_eq]
  generalize (lg_sl ([.ref (ad k0)]) ++ List.replicate (2 - (lg_sl ([.ref (ad k0)])).length) Slot.unset).toArray = ls at hl ⊢
  have hl : lv_has ls 2 [(0, .ref (ad k0))] := hl
  have hL2 : ∀  (n2 : Nat) (h : Mem) (x1 : Int32), wpLX7_takeHalf_2 post k0   n2 (h, x1) → JM p l e (headSpec (ws_ yX7_takeHalf cX7_takeHalf 2 none) ({ frames := 1, cells := 0, slots := 0, locals := 30 })).room s m ([.ref (ad k0)] : List Value).toArray below meth c (MQ below (MQv D cA E ad post) ([.ref (ad k0)] : List Value).toArray s 0 0 (MA ad)) D cA E ad 2 2 h [(0, .ref (ad k0)), (1, .int x1)] [] := by
    intro  n2
    induction n2 with
    | zero => intro h x1 hw; exact False.elim hw
    | succ n2 ih2 =>
      intro h x1 hw H locs ls hM hS hl
      have hw : wpBX7_takeHalf_2 post k0  (fun h x1 => wpLX7_takeHalf_2 post k0   n2 (h, x1))  h x1 := hw
      unfold wpBX7_takeHalf_2 at hw
      refine lv_iload_n hx hb dX7_takeHalf_2 rfl (lv_at hl 1 rfl) ?_
      refine lv_aload_n hx hb dX7_takeHalf_3 rfl (lv_at hl 0 rfl) ?_
      refine M_alen hx hb hK hM k0 hk0 dX7_takeHalf_4 ?_
      refine lv_iconst (v := (2 : Int32)) hx hb dX7_takeHalf_5 (by decide) ?_
      refine lv_idiv hx hb dX7_takeHalf_6 (by decide) ?_
      refine lv_icmp_ge (tgt := 27) hx hb dX7_takeHalf_7 (by decide) (fun c1 => ?_) (fun c1 => ?_)
      · have hw := hw.1 c1
        exact M_vret hx hb hr hlocks hM hS hw dX7_takeHalf_27
      · have hw := hw.2 c1
        refine lv_aload_n hx hb dX7_takeHalf_10 rfl (lv_at hl 0 rfl) ?_
        refine lv_iload_n hx hb dX7_takeHalf_11 rfl (lv_at hl 1 rfl) ?_
        refine lv_aload_n hx hb dX7_takeHalf_12 rfl (lv_at hl 0 rfl) ?_
        refine lv_aload_n hx hb dX7_takeHalf_13 rfl (lv_at hl 0 rfl) ?_
        refine M_alen hx hb hK hM k0 hk0 dX7_takeHalf_14 ?_
        refine lv_iconst (v := (2 : Int32)) hx hb dX7_takeHalf_15 (by decide) ?_
        refine lv_idiv hx hb dX7_takeHalf_16 (by decide) ?_
        refine lv_iload_n hx hb dX7_takeHalf_17 rfl (lv_at hl 1 rfl) ?_
        refine lv_iadd hx hb dX7_takeHalf_18 ?_
        obtain ⟨hb2, hw⟩ := hw
        refine M_iald hx hb hK hM k0 hk0 (j := (ix (((nI (mlen k0)) / (2 : Int32)) + x1))) rfl hb2 dX7_takeHalf_19 ?_
        obtain ⟨hb3, hw⟩ := hw
        refine M_iast hx hb hK hM hJ hS k0 hk0 (j := (ix x1)) rfl hb3 dX7_takeHalf_20 (fun H locs hM hS => ?_)
        obtain ⟨h4, eh4⟩ : ∃ y : Mem, y = up2 h k0 (ix x1) (h k0 (ix (((nI (mlen k0)) / (2 : Int32)) + x1))) := ⟨_, rfl⟩
        rw [← eh4] at hM
        have hw := hw h4 eh4
        refine lv_iinc (v := (x1 + (1 : Int32))) (lv' := [(1, .int (x1 + (1 : Int32))), (0, .ref (ad k0))]) hx hb dX7_takeHalf_21 hl (k := 1) rfl rfl (by decide) rfl (fun ls hl => ?_)
        refine lv_goto (tgt := 2) hx hb dX7_takeHalf_24 (by decide) ?_
        exact ih2 h4 (x1 + (1 : Int32)) hw _ _ ls hM hS (lv_sub hl [1, 0] rfl)
  unfold wpX7_takeHalf at hw
  refine lv_iconst (v := (0 : Int32)) hx hb dX7_takeHalf_0 (by decide) ?_
  refine lv_istore_n (lv' := [(1, .int (0 : Int32)), (0, .ref (ad k0))]) hx hb dX7_takeHalf_1 rfl hl (by decide) rfl (fun ls hl => ?_)
  obtain ⟨n5, hw⟩ := hw
  exact hL2 n5 h (0 : Int32) hw _ _ ls hM hS (lv_sub hl [1, 0] rfl)

/-- takeOver()V -/
def wpBX7_takeOver_117 (post : Mem → Prop)   (K117 : Mem → Int32 → Prop)  (h : Mem) (x1 : Int32) : Prop :=
  (((8 : Int32) ≤ x1 → (∀ h29 : Mem, h29 = up2 h 32 0 (0 : Int32) → (∀ h30 : Mem, h30 = up2 h29 33 0 (0 : Int32) → (∀ h31 : Mem, h31 = up2 h30 34 0 (0 : Int32) → (∀ h32 : Mem, h32 = up2 h31 45 0 (0 : Int32) → (∀ h33 : Mem, h33 = up2 h32 57 0 (0 : Int32) → post h33)))))) ∧ (¬ (8 : Int32) ≤ x1 → (vp_in x1 (mlen 28) ∧ (∀ h35 : Mem, h35 = up2 h 28 (ix x1) (0 : Int32) → K117 h35 (x1 + (1 : Int32))))))
def wpLX7_takeOver_117 (post : Mem → Prop)    : Nat → (Mem × Int32) → Prop := LW (fun K s => wpBX7_takeOver_117 post   (fun h x1 => K (h, x1))  s.1 s.2)
def wpBX7_takeOver_96 (post : Mem → Prop)   (K96 : Mem → Int32 → Prop)  (h : Mem) (x1 : Int32) : Prop :=
  (((6 : Int32) ≤ x1 → (∃ n, wpLX7_takeOver_117 post    n (h, (0 : Int32)))) ∧ (¬ (6 : Int32) ≤ x1 → (vp_in x1 (mlen 27) ∧ (∀ h38 : Mem, h38 = up2 h 27 (ix x1) (-1 : Int32) → K96 h38 (x1 + (1 : Int32))))))
def wpLX7_takeOver_96 (post : Mem → Prop)    : Nat → (Mem × Int32) → Prop := LW (fun K s => wpBX7_takeOver_96 post   (fun h x1 => K (h, x1))  s.1 s.2)
def wpX7_takeOver (post : Mem → Prop) (h : Mem)  : Prop :=
  (wpX7_takeHalf (fun h2 => (wpX7_takeHalf (fun h4 => (wpX7_takeHalf (fun h6 => (wpX7_takeHalf (fun h8 => (wpX7_takeHalf (fun h10 => (wpX7_takeHalf (fun h12 => (wpX7_takeHalf (fun h14 => (wpX7_takeHalf (fun h16 => (wpX7_takeHalf (fun h18 => (wpX7_takeHalf (fun h20 => (wpX7_takeHalf (fun h22 => (wpX7_takeHalf (fun h24 => (∀ h25 : Mem, h25 = up2 h24 30 0 (0 : Int32) → (∀ h26 : Mem, h26 = up2 h25 31 0 (0 : Int32) → (∃ n, wpLX7_takeOver_96 post    n (h26, (0 : Int32)))))) h22 14)) h20 13)) h18 12)) h16 11)) h14 10)) h12 9)) h10 8)) h8 7)) h6 6)) h4 5)) h2 4)) h 3)
set_option maxHeartbeats 4000000 in
set_option maxRecDepth 100000 in
theorem metX7_takeOver (l : Launch) (D : va_G) (cA : Nat → ClassId) (z0 : Nat) (E : Nat → Nat → Nat) (ad : Nat → Nat) (h : Mem)  (post : Mem → Prop) (hw : wpX7_takeOver post h ) : MeV l D cA z0 E ad yX7_takeOver (ws_ yX7_takeOver cX7_takeOver 2 none) ({ frames := 2, cells := 0, slots := 0, locals := 51 }) [.ref (ad 69)] h post := by
  refine Met.ofW (cc := cX7_takeOver) (maxL := 2) (ret := none) (by decide) rfl ?_
  intro p e s m args below meth c s₁ B hml hv
  obtain ⟨rfl, hM, hK, hJ, hZ⟩ := hv
  have hx := B.exec
  have hb := B.bytes
  have hr := B.returns
  have hts := atoms_spec (ws := ws_ yX7_takeOver cX7_takeOver 2 none) B.pre
  have hts : ∀ w ∈ lw_all, w.before _ s = true := fun w h => hts w (List.mem_cons_of_mem _ h)
  have hown : s.vm.findClass RX7 = some m.cls := findClass_of_methodNamed B.named
  have hlocks := B.notSynchronized
  have hS : va_S (MA ad) s.heap s.heap [] := va_S.rf
  have hl := lv_entry ([.ref (ad 69)]) (n := 2) (Nat.le_of_ble_eq_true rfl)
  rw [lg_entry_eq]
  generalize (lg_sl ([.ref (ad 69)]) ++ List.replicate (2 - (lg_sl ([.ref (ad 69)])).length) Slot.unset).toArray = ls at hl ⊢
  have hl : lv_has ls 2 [(0, .ref (ad 69))] := hl
  have hL117 : ∀  (n117 : Nat) (h : Mem) (x1 : Int32), wpLX7_takeOver_117 post    n117 (h, x1) → JM p l e (headSpec (ws_ yX7_takeOver cX7_takeOver 2 none) ({ frames := 2, cells := 0, slots := 0, locals := 51 })).room s m ([.ref (ad 69)] : List Value).toArray below meth c (MQ below (MQv D cA E ad post) ([.ref (ad 69)] : List Value).toArray s 0 0 (MA ad)) D cA E ad 2 117 h [(0, .ref (ad 69)), (1, .int x1)] [] := by
    intro  n117
    induction n117 with
    | zero => intro h x1 hw; exact False.elim hw
    | succ n117 ih117 =>
      intro h x1 hw H locs ls hM hS hl
      have hw : wpBX7_takeOver_117 post   (fun h x1 => wpLX7_takeOver_117 post    n117 (h, x1))  h x1 := hw
      unfold wpBX7_takeOver_117 at hw
      refine lv_iload_n hx hb dX7_takeOver_117 rfl (lv_at hl 1 rfl) ?_
      refine lv_bipush (v := (8 : Int32)) hx hb dX7_takeOver_118 (by decide) ?_
      refine lv_icmp_ge (tgt := 136) hx hb dX7_takeOver_120 (by decide) (fun c28 => ?_) (fun c28 => ?_)
      · have hw := hw.1 c28
        refine lv_aload_n hx hb dX7_takeOver_136 rfl (lv_at hl 0 rfl) ?_
        refine lv_iconst (v := (0 : Int32)) hx hb dX7_takeOver_137 (by decide) ?_
        refine M_put hx hb hts hown hK hM hJ hS 32 rfl rfl (hts _ q1715) rfl .int (by decide +kernel) rfl rfl dX7_takeOver_138 (fun H locs hM hS => ?_)
        obtain ⟨h29, eh29⟩ : ∃ y : Mem, y = up2 h 32 0 (0 : Int32) := ⟨_, rfl⟩
        rw [← eh29] at hM
        have hw := hw h29 eh29
        refine lv_aload_n hx hb dX7_takeOver_141 rfl (lv_at hl 0 rfl) ?_
        refine lv_iconst (v := (0 : Int32)) hx hb dX7_takeOver_142 (by decide) ?_
        refine M_put hx hb hts hown hK hM hJ hS 33 rfl rfl (hts _ q1716) rfl .int (by decide +kernel) rfl rfl dX7_takeOver_143 (fun H locs hM hS => ?_)
        obtain ⟨h30, eh30⟩ : ∃ y : Mem, y = up2 h29 33 0 (0 : Int32) := ⟨_, rfl⟩
        rw [← eh30] at hM
        have hw := hw h30 eh30
        refine lv_aload_n hx hb dX7_takeOver_146 rfl (lv_at hl 0 rfl) ?_
        refine lv_iconst (v := (0 : Int32)) hx hb dX7_takeOver_147 (by decide) ?_
        refine M_put hx hb hts hown hK hM hJ hS 34 rfl rfl (hts _ q1717) rfl .int (by decide +kernel) rfl rfl dX7_takeOver_148 (fun H locs hM hS => ?_)
        obtain ⟨h31, eh31⟩ : ∃ y : Mem, y = up2 h30 34 0 (0 : Int32) := ⟨_, rfl⟩
        rw [← eh31] at hM
        have hw := hw h31 eh31
        refine lv_aload_n hx hb dX7_takeOver_151 rfl (lv_at hl 0 rfl) ?_
        refine lv_iconst (v := (0 : Int32)) hx hb dX7_takeOver_152 (by decide) ?_
        refine M_put hx hb hts hown hK hM hJ hS 45 rfl rfl (hts _ q1728) rfl .boolean (by decide +kernel) rfl rfl dX7_takeOver_153 (fun H locs hM hS => ?_)
        obtain ⟨h32, eh32⟩ : ∃ y : Mem, y = up2 h31 45 0 (0 : Int32) := ⟨_, rfl⟩
        rw [← eh32] at hM
        have hw := hw h32 eh32
        refine lv_aload_n hx hb dX7_takeOver_156 rfl (lv_at hl 0 rfl) ?_
        refine lv_iconst (v := (0 : Int32)) hx hb dX7_takeOver_157 (by decide) ?_
        refine M_put hx hb hts hown hK hM hJ hS 57 rfl rfl (hts _ q1740) rfl .boolean (by decide +kernel) rfl rfl dX7_takeOver_158 (fun H locs hM hS => ?_)
        obtain ⟨h33, eh33⟩ : ∃ y : Mem, y = up2 h32 57 0 (0 : Int32) := ⟨_, rfl⟩
        rw [← eh33] at hM
        have hw := hw h33 eh33
        exact M_vret hx hb hr hlocks hM hS hw dX7_takeOver_161
      · have hw := hw.2 c28
        refine lv_aload_n hx hb dX7_takeOver_123 rfl (lv_at hl 0 rfl) ?_
        refine M_get hx hb hts hown hK hM 28 (v := .ref (ad 28)) (by decide) (hts _ q1711) rfl dX7_takeOver_124 ?_
        refine lv_iload_n hx hb dX7_takeOver_127 rfl (lv_at hl 1 rfl) ?_
        refine lv_iconst (v := (0 : Int32)) hx hb dX7_takeOver_128 (by decide) ?_
        obtain ⟨hb34, hw⟩ := hw
        refine M_iast hx hb hK hM hJ hS 28 rfl (j := (ix x1)) rfl hb34 dX7_takeOver_129 (fun H locs hM hS => ?_)
        obtain ⟨h35, eh35⟩ : ∃ y : Mem, y = up2 h 28 (ix x1) (0 : Int32) := ⟨_, rfl⟩
        rw [← eh35] at hM
        have hw := hw h35 eh35
        refine lv_iinc (v := (x1 + (1 : Int32))) (lv' := [(1, .int (x1 + (1 : Int32))), (0, .ref (ad 69))]) hx hb dX7_takeOver_130 hl (k := 1) rfl rfl (by decide) rfl (fun ls hl => ?_)
        refine lv_goto (tgt := 117) hx hb dX7_takeOver_133 (by decide) ?_
        exact ih117 h35 (x1 + (1 : Int32)) hw _ _ ls hM hS (lv_sub hl [1, 0] rfl)
  have hL96 : ∀  (n96 : Nat) (h : Mem) (x1 : Int32), wpLX7_takeOver_96 post    n96 (h, x1) → JM p l e (headSpec (ws_ yX7_takeOver cX7_takeOver 2 none) ({ frames := 2, cells := 0, slots := 0, locals := 51 })).room s m ([.ref (ad 69)] : List Value).toArray below meth c (MQ below (MQv D cA E ad post) ([.ref (ad 69)] : List Value).toArray s 0 0 (MA ad)) D cA E ad 2 96 h [(0, .ref (ad 69)), (1, .int x1)] [] := by
    intro  n96
    induction n96 with
    | zero => intro h x1 hw; exact False.elim hw
    | succ n96 ih96 =>
      intro h x1 hw H locs ls hM hS hl
      have hw : wpBX7_takeOver_96 post   (fun h x1 => wpLX7_takeOver_96 post    n96 (h, x1))  h x1 := hw
      unfold wpBX7_takeOver_96 at hw
      refine lv_iload_n hx hb dX7_takeOver_96 rfl (lv_at hl 1 rfl) ?_
      refine lv_bipush (v := (6 : Int32)) hx hb dX7_takeOver_97 (by decide) ?_
      refine lv_icmp_ge (tgt := 115) hx hb dX7_takeOver_99 (by decide) (fun c27 => ?_) (fun c27 => ?_)
      · have hw := hw.1 c27
        refine lv_iconst (v := (0 : Int32)) hx hb dX7_takeOver_115 (by decide) ?_
        refine lv_istore_n (lv' := [(1, .int (0 : Int32)), (0, .ref (ad 69))]) hx hb dX7_takeOver_116 rfl hl (by decide) rfl (fun ls hl => ?_)
        obtain ⟨n36, hw⟩ := hw
        exact hL117 n36 h (0 : Int32) hw _ _ ls hM hS (lv_sub hl [1, 0] rfl)
      · have hw := hw.2 c27
        refine lv_aload_n hx hb dX7_takeOver_102 rfl (lv_at hl 0 rfl) ?_
        refine M_get hx hb hts hown hK hM 27 (v := .ref (ad 27)) (by decide) (hts _ q1710) rfl dX7_takeOver_103 ?_
        refine lv_iload_n hx hb dX7_takeOver_106 rfl (lv_at hl 1 rfl) ?_
        refine lv_iconst (v := (-1 : Int32)) hx hb dX7_takeOver_107 (by decide) ?_
        obtain ⟨hb37, hw⟩ := hw
        refine M_iast hx hb hK hM hJ hS 27 rfl (j := (ix x1)) rfl hb37 dX7_takeOver_108 (fun H locs hM hS => ?_)
        obtain ⟨h38, eh38⟩ : ∃ y : Mem, y = up2 h 27 (ix x1) (-1 : Int32) := ⟨_, rfl⟩
        rw [← eh38] at hM
        have hw := hw h38 eh38
        refine lv_iinc (v := (x1 + (1 : Int32))) (lv' := [(1, .int (x1 + (1 : Int32))), (0, .ref (ad 69))]) hx hb dX7_takeOver_109 hl (k := 1) rfl rfl (by decide) rfl (fun ls hl => ?_)
        refine lv_goto (tgt := 96) hx hb dX7_takeOver_112 (by decide) ?_
        exact ih96 h38 (x1 + (1 : Int32)) hw _ _ ls hM hS (lv_sub hl [1, 0] rfl)
  unfold wpX7_takeOver at hw
  refine lv_aload_n hx hb dX7_takeOver_0 rfl (lv_at hl 0 rfl) ?_
  refine M_get hx hb hts hown hK hM 3 (v := .ref (ad 3)) (by decide) (hts _ q1686) rfl dX7_takeOver_1 ?_
  refine M_callVS (As := [.ref (ad 3)]) (rest := []) ⟨hx, hb, hml, hown, hts⟩ hK hZ hM hJ hS (metX7_takeHalf l D cA z0 E ad h 3 _ (by first | exact rfl | rfl) hw) (va_cwS 1 hts (lw_S q2024 q2025 q130 q2026) rfl rfl rfl (by decide +kernel) ⟨Nat.le_of_ble_eq_true rfl, Nat.le_of_ble_eq_true rfl⟩) rfl hl.1 rfl (Nat.le_of_ble_eq_true rfl) dX7_takeOver_4 ⟨Nat.zero_le _, Nat.zero_le _⟩ (fun h2 H locs hw hM hS => ?_)
  refine lv_aload_n hx hb dX7_takeOver_7 rfl (lv_at hl 0 rfl) ?_
  refine M_get hx hb hts hown hK hM 4 (v := .ref (ad 4)) (by decide) (hts _ q1687) rfl dX7_takeOver_8 ?_
  refine M_callVS (As := [.ref (ad 4)]) (rest := []) ⟨hx, hb, hml, hown, hts⟩ hK hZ hM hJ hS (metX7_takeHalf l D cA z0 E ad h2 4 _ (by first | exact rfl | rfl) hw) (va_cwS 1 hts (lw_S q2024 q2025 q130 q2026) rfl rfl rfl (by decide +kernel) ⟨Nat.le_of_ble_eq_true rfl, Nat.le_of_ble_eq_true rfl⟩) rfl hl.1 rfl (Nat.le_of_ble_eq_true rfl) dX7_takeOver_11 ⟨Nat.zero_le _, Nat.zero_le _⟩ (fun h4 H locs hw hM hS => ?_)
  refine lv_aload_n hx hb dX7_takeOver_14 rfl (lv_at hl 0 rfl) ?_
  refine M_get hx hb hts hown hK hM 5 (v := .ref (ad 5)) (by decide) (hts _ q1688) rfl dX7_takeOver_15 ?_
  refine M_callVS (As := [.ref (ad 5)]) (rest := []) ⟨hx, hb, hml, hown, hts⟩ hK hZ hM hJ hS (metX7_takeHalf l D cA z0 E ad h4 5 _ (by first | exact rfl | rfl) hw) (va_cwS 1 hts (lw_S q2024 q2025 q130 q2026) rfl rfl rfl (by decide +kernel) ⟨Nat.le_of_ble_eq_true rfl, Nat.le_of_ble_eq_true rfl⟩) rfl hl.1 rfl (Nat.le_of_ble_eq_true rfl) dX7_takeOver_18 ⟨Nat.zero_le _, Nat.zero_le _⟩ (fun h6 H locs hw hM hS => ?_)
  refine lv_aload_n hx hb dX7_takeOver_21 rfl (lv_at hl 0 rfl) ?_
  refine M_get hx hb hts hown hK hM 6 (v := .ref (ad 6)) (by decide) (hts _ q1689) rfl dX7_takeOver_22 ?_
  refine M_callVS (As := [.ref (ad 6)]) (rest := []) ⟨hx, hb, hml, hown, hts⟩ hK hZ hM hJ hS (metX7_takeHalf l D cA z0 E ad h6 6 _ (by first | exact rfl | rfl) hw) (va_cwS 1 hts (lw_S q2024 q2025 q130 q2026) rfl rfl rfl (by decide +kernel) ⟨Nat.le_of_ble_eq_true rfl, Nat.le_of_ble_eq_true rfl⟩) rfl hl.1 rfl (Nat.le_of_ble_eq_true rfl) dX7_takeOver_25 ⟨Nat.zero_le _, Nat.zero_le _⟩ (fun h8 H locs hw hM hS => ?_)
  refine lv_aload_n hx hb dX7_takeOver_28 rfl (lv_at hl 0 rfl) ?_
  refine M_get hx hb hts hown hK hM 7 (v := .ref (ad 7)) (by decide) (hts _ q1690) rfl dX7_takeOver_29 ?_
  refine M_callVS (As := [.ref (ad 7)]) (rest := []) ⟨hx, hb, hml, hown, hts⟩ hK hZ hM hJ hS (metX7_takeHalf l D cA z0 E ad h8 7 _ (by first | exact rfl | rfl) hw) (va_cwS 1 hts (lw_S q2024 q2025 q130 q2026) rfl rfl rfl (by decide +kernel) ⟨Nat.le_of_ble_eq_true rfl, Nat.le_of_ble_eq_true rfl⟩) rfl hl.1 rfl (Nat.le_of_ble_eq_true rfl) dX7_takeOver_32 ⟨Nat.zero_le _, Nat.zero_le _⟩ (fun h10 H locs hw hM hS => ?_)
  refine lv_aload_n hx hb dX7_takeOver_35 rfl (lv_at hl 0 rfl) ?_
  refine M_get hx hb hts hown hK hM 8 (v := .ref (ad 8)) (by decide) (hts _ q1691) rfl dX7_takeOver_36 ?_
  refine M_callVS (As := [.ref (ad 8)]) (rest := []) ⟨hx, hb, hml, hown, hts⟩ hK hZ hM hJ hS (metX7_takeHalf l D cA z0 E ad h10 8 _ (by first | exact rfl | rfl) hw) (va_cwS 1 hts (lw_S q2024 q2025 q130 q2026) rfl rfl rfl (by decide +kernel) ⟨Nat.le_of_ble_eq_true rfl, Nat.le_of_ble_eq_true rfl⟩) rfl hl.1 rfl (Nat.le_of_ble_eq_true rfl) dX7_takeOver_39 ⟨Nat.zero_le _, Nat.zero_le _⟩ (fun h12 H locs hw hM hS => ?_)
  refine lv_aload_n hx hb dX7_takeOver_42 rfl (lv_at hl 0 rfl) ?_
  refine M_get hx hb hts hown hK hM 9 (v := .ref (ad 9)) (by decide) (hts _ q1692) rfl dX7_takeOver_43 ?_
  refine M_callVS (As := [.ref (ad 9)]) (rest := []) ⟨hx, hb, hml, hown, hts⟩ hK hZ hM hJ hS (metX7_takeHalf l D cA z0 E ad h12 9 _ (by first | exact rfl | rfl) hw) (va_cwS 1 hts (lw_S q2024 q2025 q130 q2026) rfl rfl rfl (by decide +kernel) ⟨Nat.le_of_ble_eq_true rfl, Nat.le_of_ble_eq_true rfl⟩) rfl hl.1 rfl (Nat.le_of_ble_eq_true rfl) dX7_takeOver_46 ⟨Nat.zero_le _, Nat.zero_le _⟩ (fun h14 H locs hw hM hS => ?_)
  refine lv_aload_n hx hb dX7_takeOver_49 rfl (lv_at hl 0 rfl) ?_
  refine M_get hx hb hts hown hK hM 10 (v := .ref (ad 10)) (by decide) (hts _ q1693) rfl dX7_takeOver_50 ?_
  refine M_callVS (As := [.ref (ad 10)]) (rest := []) ⟨hx, hb, hml, hown, hts⟩ hK hZ hM hJ hS (metX7_takeHalf l D cA z0 E ad h14 10 _ (by first | exact rfl | rfl) hw) (va_cwS 1 hts (lw_S q2024 q2025 q130 q2026) rfl rfl rfl (by decide +kernel) ⟨Nat.le_of_ble_eq_true rfl, Nat.le_of_ble_eq_true rfl⟩) rfl hl.1 rfl (Nat.le_of_ble_eq_true rfl) dX7_takeOver_53 ⟨Nat.zero_le _, Nat.zero_le _⟩ (fun h16 H locs hw hM hS => ?_)
  refine lv_aload_n hx hb dX7_takeOver_56 rfl (lv_at hl 0 rfl) ?_
  refine M_get hx hb hts hown hK hM 11 (v := .ref (ad 11)) (by decide) (hts _ q1694) rfl dX7_takeOver_57 ?_
  refine M_callVS (As := [.ref (ad 11)]) (rest := []) ⟨hx, hb, hml, hown, hts⟩ hK hZ hM hJ hS (metX7_takeHalf l D cA z0 E ad h16 11 _ (by first | exact rfl | rfl) hw) (va_cwS 1 hts (lw_S q2024 q2025 q130 q2026) rfl rfl rfl (by decide +kernel) ⟨Nat.le_of_ble_eq_true rfl, Nat.le_of_ble_eq_true rfl⟩) rfl hl.1 rfl (Nat.le_of_ble_eq_true rfl) dX7_takeOver_60 ⟨Nat.zero_le _, Nat.zero_le _⟩ (fun h18 H locs hw hM hS => ?_)
  refine lv_aload_n hx hb dX7_takeOver_63 rfl (lv_at hl 0 rfl) ?_
  refine M_get hx hb hts hown hK hM 12 (v := .ref (ad 12)) (by decide) (hts _ q1695) rfl dX7_takeOver_64 ?_
  refine M_callVS (As := [.ref (ad 12)]) (rest := []) ⟨hx, hb, hml, hown, hts⟩ hK hZ hM hJ hS (metX7_takeHalf l D cA z0 E ad h18 12 _ (by first | exact rfl | rfl) hw) (va_cwS 1 hts (lw_S q2024 q2025 q130 q2026) rfl rfl rfl (by decide +kernel) ⟨Nat.le_of_ble_eq_true rfl, Nat.le_of_ble_eq_true rfl⟩) rfl hl.1 rfl (Nat.le_of_ble_eq_true rfl) dX7_takeOver_67 ⟨Nat.zero_le _, Nat.zero_le _⟩ (fun h20 H locs hw hM hS => ?_)
  refine lv_aload_n hx hb dX7_takeOver_70 rfl (lv_at hl 0 rfl) ?_
  refine M_get hx hb hts hown hK hM 13 (v := .ref (ad 13)) (by decide) (hts _ q1696) rfl dX7_takeOver_71 ?_
  refine M_callVS (As := [.ref (ad 13)]) (rest := []) ⟨hx, hb, hml, hown, hts⟩ hK hZ hM hJ hS (metX7_takeHalf l D cA z0 E ad h20 13 _ (by first | exact rfl | rfl) hw) (va_cwS 1 hts (lw_S q2024 q2025 q130 q2026) rfl rfl rfl (by decide +kernel) ⟨Nat.le_of_ble_eq_true rfl, Nat.le_of_ble_eq_true rfl⟩) rfl hl.1 rfl (Nat.le_of_ble_eq_true rfl) dX7_takeOver_74 ⟨Nat.zero_le _, Nat.zero_le _⟩ (fun h22 H locs hw hM hS => ?_)
  refine lv_aload_n hx hb dX7_takeOver_77 rfl (lv_at hl 0 rfl) ?_
  refine M_get hx hb hts hown hK hM 14 (v := .ref (ad 14)) (by decide) (hts _ q1697) rfl dX7_takeOver_78 ?_
  refine M_callVS (As := [.ref (ad 14)]) (rest := []) ⟨hx, hb, hml, hown, hts⟩ hK hZ hM hJ hS (metX7_takeHalf l D cA z0 E ad h22 14 _ (by first | exact rfl | rfl) hw) (va_cwS 1 hts (lw_S q2024 q2025 q130 q2026) rfl rfl rfl (by decide +kernel) ⟨Nat.le_of_ble_eq_true rfl, Nat.le_of_ble_eq_true rfl⟩) rfl hl.1 rfl (Nat.le_of_ble_eq_true rfl) dX7_takeOver_81 ⟨Nat.zero_le _, Nat.zero_le _⟩ (fun h24 H locs hw hM hS => ?_)
  refine lv_aload_n hx hb dX7_takeOver_84 rfl (lv_at hl 0 rfl) ?_
  refine lv_iconst (v := (0 : Int32)) hx hb dX7_takeOver_85 (by decide) ?_
  refine M_put hx hb hts hown hK hM hJ hS 30 rfl rfl (hts _ q1713) rfl .int (by decide +kernel) rfl rfl dX7_takeOver_86 (fun H locs hM hS => ?_)
  obtain ⟨h25, eh25⟩ : ∃ y : Mem, y = up2 h24 30 0 (0 : Int32) := ⟨_, rfl⟩
  rw [← eh25] at hM
  have hw := hw h25 eh25
  refine lv_aload_n hx hb dX7_takeOver_89 rfl (lv_at hl 0 rfl) ?_
  refine lv_iconst (v := (0 : Int32)) hx hb dX7_takeOver_90 (by decide) ?_
  refine M_put hx hb hts hown hK hM hJ hS 31 rfl rfl (hts _ q1714) rfl .int (by decide +kernel) rfl rfl dX7_takeOver_91 (fun H locs hM hS => ?_)
  obtain ⟨h26, eh26⟩ : ∃ y : Mem, y = up2 h25 31 0 (0 : Int32) := ⟨_, rfl⟩
  rw [← eh26] at hM
  have hw := hw h26 eh26
  refine lv_iconst (v := (0 : Int32)) hx hb dX7_takeOver_94 (by decide) ?_
  refine lv_istore_n (lv' := [(1, .int (0 : Int32)), (0, .ref (ad 69))]) hx hb dX7_takeOver_95 rfl hl (by decide) rfl (fun ls hl => ?_)
  obtain ⟨n39, hw⟩ := hw
  exact hL96 n39 h26 (0 : Int32) hw _ _ ls hM hS (lv_sub hl [1, 0] rfl)

/-- town(I)I -/
def wpBX7_town_17 (post : Int32 → Mem → Prop) (a1 : Int32)  (h : Mem)   : Prop :=
  (wpX7_fail (fun r3 h4 => post r3 h4) h (1 : Int32))
def wpBX7_town_148 (post : Int32 → Mem → Prop) (a1 : Int32)  (h : Mem)   : Prop :=
  (((h 24 0) = 0 → (wpX7_takeOver (fun h18 => post (0 : Int32) h18) h )) ∧ (¬ (h 24 0) = 0 → (∀ h19 : Mem, h19 = up2 h 26 0 (h 25 0) → (∀ h20 : Mem, h20 = up2 h19 15 0 ((h19 15 0) + (1 : Int32)) → post (h20 24 0) h20))))
def wpBX7_town_125 (post : Int32 → Mem → Prop) (a1 : Int32)  (K125 : Mem → Int32 → Prop)  (h : Mem) (x2 : Int32) : Prop :=
  (((h 24 0) = 0 → (((h 20 0) = 0 → wpBX7_town_148 post a1  h ) ∧ (¬ (h 20 0) = 0 → (wpX7_readLine (fun r22 h23 => K125 h23 r22) h x2)))) ∧ (¬ (h 24 0) = 0 → wpBX7_town_148 post a1  h ))
def wpLX7_town_125 (post : Int32 → Mem → Prop) (a1 : Int32)   : Nat → (Mem × Int32) → Prop := LW (fun K s => wpBX7_town_125 post a1  (fun h x2 => K (h, x2))  s.1 s.2)
def wpBX7_town_95 (post : Int32 → Mem → Prop) (a1 : Int32)  (K95 : Mem → Int32 → Prop)  (h : Mem) (x2 : Int32) : Prop :=
  (((64 : Int32) ≤ x2 → (wpX7_stepOn (fun h14 => (∃ n, wpLX7_town_125 post a1   n (h14, (0 : Int32)))) h )) ∧ (¬ (64 : Int32) ≤ x2 → (vp_in ((64 : Int32) + x2) (mlen 13) ∧ (∀ h26 : Mem, h26 = up2 h 13 (ix ((64 : Int32) + x2)) (-100000 : Int32) → K95 h26 (x2 + (1 : Int32))))))
def wpLX7_town_95 (post : Int32 → Mem → Prop) (a1 : Int32)   : Nat → (Mem × Int32) → Prop := LW (fun K s => wpBX7_town_95 post a1  (fun h x2 => K (h, x2))  s.1 s.2)
def wpBX7_town_86 (post : Int32 → Mem → Prop) (a1 : Int32) (K50 : Mem → Int32 → Prop) (h : Mem) (x2 : Int32) (s0 : Int32) (s1 : Int32) : Prop :=
  (vp_in s1 (mlen 3) ∧ (∀ h30 : Mem, h30 = up2 h 3 (ix s1) s0 → K50 h30 (x2 + (1 : Int32))))
def wpBX7_town_50 (post : Int32 → Mem → Prop) (a1 : Int32)  (K50 : Mem → Int32 → Prop)  (h : Mem) (x2 : Int32) : Prop :=
  (((6 : Int32) ≤ x2 → (∃ n, wpLX7_town_95 post a1   n (h, (0 : Int32)))) ∧ (¬ (6 : Int32) ≤ x2 → wpBX7_town_86 post a1 K50 h x2 (if x2 = (3 : Int32) then (365 : Int32) else (if x2 = (4 : Int32) then (12 : Int32) else (0 : Int32))) ((6 : Int32) + x2)))
def wpLX7_town_50 (post : Int32 → Mem → Prop) (a1 : Int32)   : Nat → (Mem × Int32) → Prop := LW (fun K s => wpBX7_town_50 post a1  (fun h x2 => K (h, x2))  s.1 s.2)
def wpX7_town (post : Int32 → Mem → Prop) (h : Mem) (a1 : Int32) : Prop :=
  (∀ h1 : Mem, h1 = up2 h 2 0 (0 : Int32) → ((a1 < 0 → wpBX7_town_17 post a1  h1 ) ∧ (¬ a1 < 0 → ((a1 ≤ (h1 17 0) → (∀ h6 : Mem, h6 = up2 h1 17 0 (0 : Int32) → (∀ h7 : Mem, h7 = up2 h6 19 0 a1 → (∀ h8 : Mem, h8 = up2 h7 18 0 (0 : Int32) → (∀ h9 : Mem, h9 = up2 h8 24 0 (0 : Int32) → (∀ h10 : Mem, h10 = up2 h9 26 0 (-1 : Int32) → (∃ n, wpLX7_town_50 post a1   n (h10, (0 : Int32))))))))) ∧ (¬ a1 ≤ (h1 17 0) → wpBX7_town_17 post a1  h1 )))))
set_option maxHeartbeats 4000000 in
set_option maxRecDepth 100000 in
theorem metX7_town (l : Launch) (D : va_G) (cA : Nat → ClassId) (z0 : Nat) (E : Nat → Nat → Nat) (ad : Nat → Nat) (h : Mem) (a1 : Int32) (post : Int32 → Mem → Prop) (hw : wpX7_town post h a1) : MeI l D cA z0 E ad yX7_town (ws_ yX7_town cX7_town 3 (some .int)) ({ frames := 191, cells := 0, slots := 0, locals := 3609 }) [.ref (ad 69), .int a1] h post := by
  refine Met.ofW (cc := cX7_town) (maxL := 3) (ret := (some .int)) (by decide) rfl ?_
  intro p e s m args below meth c s₁ B hml hv
  obtain ⟨rfl, hM, hK, hJ, hZ⟩ := hv
  have hx := B.exec
  have hb := B.bytes
  have hr := B.returns
  have hts := atoms_spec (ws := ws_ yX7_town cX7_town 3 (some .int)) B.pre
  have hts : ∀ w ∈ lw_all, w.before _ s = true := fun w h => hts w (List.mem_cons_of_mem _ h)
  have hown : s.vm.findClass RX7 = some m.cls := findClass_of_methodNamed B.named
  have hlocks := B.notSynchronized
  have hS : va_S (MA ad) s.heap s.heap [] := va_S.rf
  have hl := lv_entry ([.ref (ad 69), .int a1]) (n := 3) (Nat.le_of_ble_eq_true rfl)
  rw [lg_entry_eq]
  generalize (lg_sl ([.ref (ad 69), .int a1]) ++ List.replicate (3 - (lg_sl ([.ref (ad 69), .int a1])).length) Slot.unset).toArray = ls at hl ⊢
  have hl : lv_has ls 3 [(0, .ref (ad 69)), (1, .int a1)] := hl
  have hB17 : ∀ (h : Mem), wpBX7_town_17 post a1  h  → JM p l e (headSpec (ws_ yX7_town cX7_town 3 (some .int)) ({ frames := 191, cells := 0, slots := 0, locals := 3609 })).room s m ([.ref (ad 69), .int a1] : List Value).toArray below meth c (MQ below (MQi D cA E ad post) ([.ref (ad 69), .int a1] : List Value).toArray s 0 0 (MA ad)) D cA E ad 3 17 h [(0, .ref (ad 69))] [] := by
    intro h hw H locs ls hM hS hl
    unfold wpBX7_town_17 at hw
    refine lv_aload_n hx hb dX7_town_17 rfl (lv_at hl 0 rfl) ?_
    refine lv_iconst (v := (1 : Int32)) hx hb dX7_town_18 (by decide) ?_
    refine M_callI (As := [.int (1 : Int32)]) (rest := []) ⟨hx, hb, hml, hown, hts⟩ hK hZ hM hJ hS (metX7_fail l D cA z0 E ad h (1 : Int32) _ hw) (cwV 1 hts (lw_V q1903 q1905 qs44 q130 q1906) rfl rfl rfl (by decide +kernel) ⟨Nat.le_of_ble_eq_true rfl, Nat.le_of_ble_eq_true rfl⟩) rfl hl.1 rfl (Nat.le_of_ble_eq_true rfl) dX7_town_19 ⟨Nat.zero_le _, Nat.zero_le _⟩ (fun r3 h4 H locs hw hM hS => ?_)
    exact M_iret hx hb hr hlocks hM hS hw dX7_town_22
  have hB148 : ∀ (h : Mem), wpBX7_town_148 post a1  h  → JM p l e (headSpec (ws_ yX7_town cX7_town 3 (some .int)) ({ frames := 191, cells := 0, slots := 0, locals := 3609 })).room s m ([.ref (ad 69), .int a1] : List Value).toArray below meth c (MQ below (MQi D cA E ad post) ([.ref (ad 69), .int a1] : List Value).toArray s 0 0 (MA ad)) D cA E ad 3 148 h [(0, .ref (ad 69))] [] := by
    intro h hw H locs ls hM hS hl
    unfold wpBX7_town_148 at hw
    refine lv_aload_n hx hb dX7_town_148 rfl (lv_at hl 0 rfl) ?_
    refine M_get hx hb hts hown hK hM 24 (v := .int (h 24 0)) (by decide) (hts _ q1707) rfl dX7_town_149 ?_
    refine lv_if_eq (tgt := 178) hx hb dX7_town_152 (by decide) (fun c16 => ?_) (fun c16 => ?_)
    · have hw := hw.1 c16
      refine lv_aload_n hx hb dX7_town_178 rfl (lv_at hl 0 rfl) ?_
      refine M_callV (As := []) (rest := []) ⟨hx, hb, hml, hown, hts⟩ hK hZ hM hJ hS (metX7_takeOver l D cA z0 E ad h  _ hw) (cwV 0 hts (lw_V q2020 q2022 qs66 q130 q2023) rfl rfl rfl (by decide +kernel) ⟨Nat.le_of_ble_eq_true rfl, Nat.le_of_ble_eq_true rfl⟩) rfl hl.1 rfl (Nat.le_of_ble_eq_true rfl) dX7_town_179 ⟨Nat.zero_le _, Nat.zero_le _⟩ (fun h18 H locs hw hM hS => ?_)
      refine lv_iconst (v := (0 : Int32)) hx hb dX7_town_182 (by decide) ?_
      exact M_iret hx hb hr hlocks hM hS hw dX7_town_183
    · have hw := hw.2 c16
      refine lv_aload_n hx hb dX7_town_155 rfl (lv_at hl 0 rfl) ?_
      refine lv_aload_n hx hb dX7_town_156 rfl (lv_at hl 0 rfl) ?_
      refine M_get hx hb hts hown hK hM 25 (v := .int (h 25 0)) (by decide) (hts _ q1708) rfl dX7_town_157 ?_
      refine M_put hx hb hts hown hK hM hJ hS 26 rfl rfl (hts _ q1709) rfl .int (by decide +kernel) rfl rfl dX7_town_160 (fun H locs hM hS => ?_)
      obtain ⟨h19, eh19⟩ : ∃ y : Mem, y = up2 h 26 0 (h 25 0) := ⟨_, rfl⟩
      rw [← eh19] at hM
      have hw := hw h19 eh19
      refine lv_aload_n hx hb dX7_town_163 rfl (lv_at hl 0 rfl) ?_
      refine M_get hx hb hts hown hK hM 15 (v := .ref (ad 15)) (by decide) (hts _ q1698) rfl dX7_town_164 ?_
      refine lv_iconst (v := (0 : Int32)) hx hb dX7_town_167 (by decide) ?_
      refine lv_dup2_11 hx hb dX7_town_168 rfl rfl ?_
      refine M_iald hx hb hK hM 15 rfl (j := 0) rfl (by unfold vp_in; decide) dX7_town_169 ?_
      refine lv_iconst (v := (1 : Int32)) hx hb dX7_town_170 (by decide) ?_
      refine lv_iadd hx hb dX7_town_171 ?_
      refine M_iast hx hb hK hM hJ hS 15 rfl (j := 0) rfl (by unfold vp_in; decide) dX7_town_172 (fun H locs hM hS => ?_)
      obtain ⟨h20, eh20⟩ : ∃ y : Mem, y = up2 h19 15 0 ((h19 15 0) + (1 : Int32)) := ⟨_, rfl⟩
      rw [← eh20] at hM
      have hw := hw h20 eh20
      refine lv_aload_n hx hb dX7_town_173 rfl (lv_at hl 0 rfl) ?_
      refine M_get hx hb hts hown hK hM 24 (v := .int (h20 24 0)) (by decide) (hts _ q1707) rfl dX7_town_174 ?_
      exact M_iret hx hb hr hlocks hM hS hw dX7_town_177
  have hL125 : ∀  (n125 : Nat) (h : Mem) (x2 : Int32), wpLX7_town_125 post a1   n125 (h, x2) → JM p l e (headSpec (ws_ yX7_town cX7_town 3 (some .int)) ({ frames := 191, cells := 0, slots := 0, locals := 3609 })).room s m ([.ref (ad 69), .int a1] : List Value).toArray below meth c (MQ below (MQi D cA E ad post) ([.ref (ad 69), .int a1] : List Value).toArray s 0 0 (MA ad)) D cA E ad 3 125 h [(0, .ref (ad 69)), (2, .int x2)] [] := by
    intro  n125
    induction n125 with
    | zero => intro h x2 hw; exact False.elim hw
    | succ n125 ih125 =>
      intro h x2 hw H locs ls hM hS hl
      have hw : wpBX7_town_125 post a1  (fun h x2 => wpLX7_town_125 post a1   n125 (h, x2))  h x2 := hw
      unfold wpBX7_town_125 at hw
      refine lv_aload_n hx hb dX7_town_125 rfl (lv_at hl 0 rfl) ?_
      refine M_get hx hb hts hown hK hM 24 (v := .int (h 24 0)) (by decide) (hts _ q1707) rfl dX7_town_126 ?_
      refine lv_if_ne (tgt := 148) hx hb dX7_town_129 (by decide) (fun c15 => ?_) (fun c15 => ?_)
      · have hw := hw.2 c15
        exact hB148 h hw _ _ ls hM hS (lv_sub hl [0] rfl)
      · have hw := hw.1 c15
        refine lv_aload_n hx hb dX7_town_132 rfl (lv_at hl 0 rfl) ?_
        refine M_get hx hb hts hown hK hM 20 (v := .int (h 20 0)) (by decide) (hts _ q1703) rfl dX7_town_133 ?_
        refine lv_if_eq (tgt := 148) hx hb dX7_town_136 (by decide) (fun c21 => ?_) (fun c21 => ?_)
        · have hw := hw.1 c21
          exact hB148 h hw _ _ ls hM hS (lv_sub hl [0] rfl)
        · have hw := hw.2 c21
          refine lv_aload_n hx hb dX7_town_139 rfl (lv_at hl 0 rfl) ?_
          refine lv_iload_n hx hb dX7_town_140 rfl (lv_at hl 1 rfl) ?_
          refine M_callI (As := [.int x2]) (rest := []) ⟨hx, hb, hml, hown, hts⟩ hK hZ hM hJ hS (metX7_readLine l D cA z0 E ad h x2 _ hw) (cwV 1 hts (lw_V q1927 q1929 qs47 q130 q1930) rfl rfl rfl (by decide +kernel) ⟨Nat.le_of_ble_eq_true rfl, Nat.le_of_ble_eq_true rfl⟩) rfl hl.1 rfl (Nat.le_of_ble_eq_true rfl) dX7_town_141 ⟨Nat.zero_le _, Nat.zero_le _⟩ (fun r22 h23 H locs hw hM hS => ?_)
          refine lv_istore_n (lv' := [(2, .int r22), (0, .ref (ad 69))]) hx hb dX7_town_144 rfl hl (by decide) rfl (fun ls hl => ?_)
          refine lv_goto (tgt := 125) hx hb dX7_town_145 (by decide) ?_
          exact ih125 h23 r22 hw _ _ ls hM hS (lv_sub hl [1, 0] rfl)
  have hL95 : ∀  (n95 : Nat) (h : Mem) (x2 : Int32), wpLX7_town_95 post a1   n95 (h, x2) → JM p l e (headSpec (ws_ yX7_town cX7_town 3 (some .int)) ({ frames := 191, cells := 0, slots := 0, locals := 3609 })).room s m ([.ref (ad 69), .int a1] : List Value).toArray below meth c (MQ below (MQi D cA E ad post) ([.ref (ad 69), .int a1] : List Value).toArray s 0 0 (MA ad)) D cA E ad 3 95 h [(0, .ref (ad 69)), (2, .int x2)] [] := by
    intro  n95
    induction n95 with
    | zero => intro h x2 hw; exact False.elim hw
    | succ n95 ih95 =>
      intro h x2 hw H locs ls hM hS hl
      have hw : wpBX7_town_95 post a1  (fun h x2 => wpLX7_town_95 post a1   n95 (h, x2))  h x2 := hw
      unfold wpBX7_town_95 at hw
      refine lv_iload_n hx hb dX7_town_95 rfl (lv_at hl 1 rfl) ?_
      refine lv_bipush (v := (64 : Int32)) hx hb dX7_town_96 (by decide) ?_
      refine lv_icmp_ge (tgt := 119) hx hb dX7_town_98 (by decide) (fun c12 => ?_) (fun c12 => ?_)
      · have hw := hw.1 c12
        refine lv_aload_n hx hb dX7_town_119 rfl (lv_at hl 0 rfl) ?_
        refine M_callV (As := []) (rest := []) ⟨hx, hb, hml, hown, hts⟩ hK hZ hM hJ hS (metX7_stepOn l D cA z0 E ad h  _ hw) (cwV 0 hts (lw_V q1908 q1910 qs45 q130 q1911) rfl rfl rfl (by decide +kernel) ⟨Nat.le_of_ble_eq_true rfl, Nat.le_of_ble_eq_true rfl⟩) rfl hl.1 rfl (Nat.le_of_ble_eq_true rfl) dX7_town_120 ⟨Nat.zero_le _, Nat.zero_le _⟩ (fun h14 H locs hw hM hS => ?_)
        refine lv_iconst (v := (0 : Int32)) hx hb dX7_town_123 (by decide) ?_
        refine lv_istore_n (lv' := [(2, .int (0 : Int32)), (0, .ref (ad 69))]) hx hb dX7_town_124 rfl hl (by decide) rfl (fun ls hl => ?_)
        obtain ⟨n24, hw⟩ := hw
        exact hL125 n24 h14 (0 : Int32) hw _ _ ls hM hS (lv_sub hl [1, 0] rfl)
      · have hw := hw.2 c12
        refine lv_aload_n hx hb dX7_town_101 rfl (lv_at hl 0 rfl) ?_
        refine M_get hx hb hts hown hK hM 13 (v := .ref (ad 13)) (by decide) (hts _ q1696) rfl dX7_town_102 ?_
        refine lv_bipush (v := (64 : Int32)) hx hb dX7_town_105 (by decide) ?_
        refine lv_iload_n hx hb dX7_town_107 rfl (lv_at hl 1 rfl) ?_
        refine lv_iadd hx hb dX7_town_108 ?_
        refine lv_ldcw hx hb hown (hts _ q1907) dX7_town_109 ?_
        obtain ⟨hb25, hw⟩ := hw
        refine M_iast hx hb hK hM hJ hS 13 rfl (j := (ix ((64 : Int32) + x2))) rfl hb25 dX7_town_112 (fun H locs hM hS => ?_)
        obtain ⟨h26, eh26⟩ : ∃ y : Mem, y = up2 h 13 (ix ((64 : Int32) + x2)) (-100000 : Int32) := ⟨_, rfl⟩
        rw [← eh26] at hM
        have hw := hw h26 eh26
        refine lv_iinc (v := (x2 + (1 : Int32))) (lv' := [(2, .int (x2 + (1 : Int32))), (0, .ref (ad 69))]) hx hb dX7_town_113 hl (k := 1) rfl rfl (by decide) rfl (fun ls hl => ?_)
        refine lv_goto (tgt := 95) hx hb dX7_town_116 (by decide) ?_
        exact ih95 h26 (x2 + (1 : Int32)) hw _ _ ls hM hS (lv_sub hl [1, 0] rfl)
  have hL50 : ∀  (n50 : Nat) (h : Mem) (x2 : Int32), wpLX7_town_50 post a1   n50 (h, x2) → JM p l e (headSpec (ws_ yX7_town cX7_town 3 (some .int)) ({ frames := 191, cells := 0, slots := 0, locals := 3609 })).room s m ([.ref (ad 69), .int a1] : List Value).toArray below meth c (MQ below (MQi D cA E ad post) ([.ref (ad 69), .int a1] : List Value).toArray s 0 0 (MA ad)) D cA E ad 3 50 h [(0, .ref (ad 69)), (2, .int x2)] [] := by
    intro  n50
    induction n50 with
    | zero => intro h x2 hw; exact False.elim hw
    | succ n50 ih50 =>
      have hB86 : ∀ (h : Mem) (x2 : Int32) (s0 : Int32) (s1 : Int32), wpBX7_town_86 post a1 (fun h x2 => wpLX7_town_50 post a1   n50 (h, x2)) h x2 s0 s1 → JM p l e (headSpec (ws_ yX7_town cX7_town 3 (some .int)) ({ frames := 191, cells := 0, slots := 0, locals := 3609 })).room s m ([.ref (ad 69), .int a1] : List Value).toArray below meth c (MQ below (MQi D cA E ad post) ([.ref (ad 69), .int a1] : List Value).toArray s 0 0 (MA ad)) D cA E ad 3 86 h [(0, .ref (ad 69)), (2, .int x2)] [.int s0, .int s1, .ref (ad 3)] := by
        intro h x2 s0 s1 hw H locs ls hM hS hl
        unfold wpBX7_town_86 at hw
        obtain ⟨hb29, hw⟩ := hw
        refine M_iast hx hb hK hM hJ hS 3 rfl (j := (ix s1)) rfl hb29 dX7_town_86 (fun H locs hM hS => ?_)
        obtain ⟨h30, eh30⟩ : ∃ y : Mem, y = up2 h 3 (ix s1) s0 := ⟨_, rfl⟩
        rw [← eh30] at hM
        have hw := hw h30 eh30
        refine lv_iinc (v := (x2 + (1 : Int32))) (lv' := [(2, .int (x2 + (1 : Int32))), (0, .ref (ad 69))]) hx hb dX7_town_87 hl (k := 1) rfl rfl (by decide) rfl (fun ls hl => ?_)
        refine lv_goto (tgt := 50) hx hb dX7_town_90 (by decide) ?_
        exact ih50 h30 (x2 + (1 : Int32)) hw _ _ ls hM hS (lv_sub hl [1, 0] rfl)
      intro h x2 hw H locs ls hM hS hl
      have hw : wpBX7_town_50 post a1  (fun h x2 => wpLX7_town_50 post a1   n50 (h, x2))  h x2 := hw
      unfold wpBX7_town_50 at hw
      refine lv_iload_n hx hb dX7_town_50 rfl (lv_at hl 1 rfl) ?_
      refine lv_bipush (v := (6 : Int32)) hx hb dX7_town_51 (by decide) ?_
      refine lv_icmp_ge (tgt := 93) hx hb dX7_town_53 (by decide) (fun c11 => ?_) (fun c11 => ?_)
      · have hw := hw.1 c11
        refine lv_iconst (v := (0 : Int32)) hx hb dX7_town_93 (by decide) ?_
        refine lv_istore_n (lv' := [(2, .int (0 : Int32)), (0, .ref (ad 69))]) hx hb dX7_town_94 rfl hl (by decide) rfl (fun ls hl => ?_)
        obtain ⟨n27, hw⟩ := hw
        exact hL95 n27 h (0 : Int32) hw _ _ ls hM hS (lv_sub hl [1, 0] rfl)
      · have hw := hw.2 c11
        refine lv_aload_n hx hb dX7_town_56 rfl (lv_at hl 0 rfl) ?_
        refine M_get hx hb hts hown hK hM 3 (v := .ref (ad 3)) (by decide) (hts _ q1686) rfl dX7_town_57 ?_
        refine lv_bipush (v := (6 : Int32)) hx hb dX7_town_60 (by decide) ?_
        refine lv_iload_n hx hb dX7_town_62 rfl (lv_at hl 1 rfl) ?_
        refine lv_iadd hx hb dX7_town_63 ?_
        refine lv_iload_n hx hb dX7_town_64 rfl (lv_at hl 1 rfl) ?_
        refine lv_iconst (v := (3 : Int32)) hx hb dX7_town_65 (by decide) ?_
        have hj28 : JM p l e (headSpec (ws_ yX7_town cX7_town 3 (some .int)) ({ frames := 191, cells := 0, slots := 0, locals := 3609 })).room s m ([.ref (ad 69), .int a1] : List Value).toArray below meth c (MQ below (MQi D cA E ad post) ([.ref (ad 69), .int a1] : List Value).toArray s 0 0 (MA ad)) D cA E ad 3 86 h [(0, .ref (ad 69)), (2, .int x2)] [.int (if x2 = (3 : Int32) then (365 : Int32) else (if x2 = (4 : Int32) then (12 : Int32) else (0 : Int32))), .int ((6 : Int32) + x2), .ref (ad 3)] := by
          intro H locs ls hM hS hl
          exact hB86 h x2 (if x2 = (3 : Int32) then (365 : Int32) else (if x2 = (4 : Int32) then (12 : Int32) else (0 : Int32))) ((6 : Int32) + x2) hw _ _ ls hM hS (lv_sub hl [0, 1] rfl)
        refine lv_icmp_ne (tgt := 75) hx hb dX7_town_66 (by decide) (fun c31 => ?_) (fun c31 => ?_)
        · refine lv_iload_n hx hb dX7_town_75 rfl (lv_at hl 1 rfl) ?_
          refine lv_iconst (v := (4 : Int32)) hx hb dX7_town_76 (by decide) ?_
          refine lv_icmp_ne (tgt := 85) hx hb dX7_town_77 (by decide) (fun c32 => ?_) (fun c32 => ?_)
          · refine lv_iconst (v := (0 : Int32)) hx hb dX7_town_85 (by decide) ?_
            have e33 : (if x2 = (3 : Int32) then (365 : Int32) else (if x2 = (4 : Int32) then (12 : Int32) else (0 : Int32))) = (0 : Int32) := by rw [if_neg c31, if_neg c32]
            rw [e33] at hj28
            exact hj28 _ _ ls hM hS (lv_sub hl [0, 1] rfl)
          · refine lv_bipush (v := (12 : Int32)) hx hb dX7_town_80 (by decide) ?_
            refine lv_goto (tgt := 86) hx hb dX7_town_82 (by decide) ?_
            have e34 : (if x2 = (3 : Int32) then (365 : Int32) else (if x2 = (4 : Int32) then (12 : Int32) else (0 : Int32))) = (12 : Int32) := by rw [if_neg c31, if_pos c32]
            rw [e34] at hj28
            exact hj28 _ _ ls hM hS (lv_sub hl [0, 1] rfl)
        · refine lv_sipush (v := (365 : Int32)) hx hb dX7_town_69 (by decide) ?_
          refine lv_goto (tgt := 86) hx hb dX7_town_72 (by decide) ?_
          have e35 : (if x2 = (3 : Int32) then (365 : Int32) else (if x2 = (4 : Int32) then (12 : Int32) else (0 : Int32))) = (365 : Int32) := by rw [if_pos c31]
          rw [e35] at hj28
          exact hj28 _ _ ls hM hS (lv_sub hl [0, 1] rfl)
  unfold wpX7_town at hw
  refine lv_aload_n hx hb dX7_town_0 rfl (lv_at hl 0 rfl) ?_
  refine lv_iconst (v := (0 : Int32)) hx hb dX7_town_1 (by decide) ?_
  refine M_put hx hb hts hown hK hM hJ hS 2 rfl rfl (hts _ q1685) rfl .int (by decide +kernel) rfl rfl dX7_town_2 (fun H locs hM hS => ?_)
  obtain ⟨h1, eh1⟩ : ∃ y : Mem, y = up2 h 2 0 (0 : Int32) := ⟨_, rfl⟩
  rw [← eh1] at hM
  have hw := hw h1 eh1
  refine lv_iload_n hx hb dX7_town_5 rfl (lv_at hl 1 rfl) ?_
  refine lv_if_lt (tgt := 17) hx hb dX7_town_6 (by decide) (fun c2 => ?_) (fun c2 => ?_)
  · have hw := hw.1 c2
    exact hB17 h1 hw _ _ ls hM hS (lv_sub hl [0] rfl)
  · have hw := hw.2 c2
    refine lv_iload_n hx hb dX7_town_9 rfl (lv_at hl 1 rfl) ?_
    refine lv_aload_n hx hb dX7_town_10 rfl (lv_at hl 0 rfl) ?_
    refine M_get hx hb hts hown hK hM 17 (v := .int (h1 17 0)) (by decide) (hts _ q1700) rfl dX7_town_11 ?_
    refine lv_icmp_le (tgt := 23) hx hb dX7_town_14 (by decide) (fun c5 => ?_) (fun c5 => ?_)
    · have hw := hw.1 c5
      refine lv_aload_n hx hb dX7_town_23 rfl (lv_at hl 0 rfl) ?_
      refine lv_iconst (v := (0 : Int32)) hx hb dX7_town_24 (by decide) ?_
      refine M_put hx hb hts hown hK hM hJ hS 17 rfl rfl (hts _ q1700) rfl .int (by decide +kernel) rfl rfl dX7_town_25 (fun H locs hM hS => ?_)
      obtain ⟨h6, eh6⟩ : ∃ y : Mem, y = up2 h1 17 0 (0 : Int32) := ⟨_, rfl⟩
      rw [← eh6] at hM
      have hw := hw h6 eh6
      refine lv_aload_n hx hb dX7_town_28 rfl (lv_at hl 0 rfl) ?_
      refine lv_iload_n hx hb dX7_town_29 rfl (lv_at hl 1 rfl) ?_
      refine M_put hx hb hts hown hK hM hJ hS 19 rfl rfl (hts _ q1702) rfl .int (by decide +kernel) rfl rfl dX7_town_30 (fun H locs hM hS => ?_)
      obtain ⟨h7, eh7⟩ : ∃ y : Mem, y = up2 h6 19 0 a1 := ⟨_, rfl⟩
      rw [← eh7] at hM
      have hw := hw h7 eh7
      refine lv_aload_n hx hb dX7_town_33 rfl (lv_at hl 0 rfl) ?_
      refine lv_iconst (v := (0 : Int32)) hx hb dX7_town_34 (by decide) ?_
      refine M_put hx hb hts hown hK hM hJ hS 18 rfl rfl (hts _ q1701) rfl .int (by decide +kernel) rfl rfl dX7_town_35 (fun H locs hM hS => ?_)
      obtain ⟨h8, eh8⟩ : ∃ y : Mem, y = up2 h7 18 0 (0 : Int32) := ⟨_, rfl⟩
      rw [← eh8] at hM
      have hw := hw h8 eh8
      refine lv_aload_n hx hb dX7_town_38 rfl (lv_at hl 0 rfl) ?_
      refine lv_iconst (v := (0 : Int32)) hx hb dX7_town_39 (by decide) ?_
      refine M_put hx hb hts hown hK hM hJ hS 24 rfl rfl (hts _ q1707) rfl .int (by decide +kernel) rfl rfl dX7_town_40 (fun H locs hM hS => ?_)
      obtain ⟨h9, eh9⟩ : ∃ y : Mem, y = up2 h8 24 0 (0 : Int32) := ⟨_, rfl⟩
      rw [← eh9] at hM
      have hw := hw h9 eh9
      refine lv_aload_n hx hb dX7_town_43 rfl (lv_at hl 0 rfl) ?_
      refine lv_iconst (v := (-1 : Int32)) hx hb dX7_town_44 (by decide) ?_
      refine M_put hx hb hts hown hK hM hJ hS 26 rfl rfl (hts _ q1709) rfl .int (by decide +kernel) rfl rfl dX7_town_45 (fun H locs hM hS => ?_)
      obtain ⟨h10, eh10⟩ : ∃ y : Mem, y = up2 h9 26 0 (-1 : Int32) := ⟨_, rfl⟩
      rw [← eh10] at hM
      have hw := hw h10 eh10
      refine lv_iconst (v := (0 : Int32)) hx hb dX7_town_48 (by decide) ?_
      refine lv_istore_n (lv' := [(2, .int (0 : Int32)), (0, .ref (ad 69)), (1, .int a1)]) hx hb dX7_town_49 rfl hl (by decide) rfl (fun ls hl => ?_)
      obtain ⟨n36, hw⟩ := hw
      exact hL50 n36 h10 (0 : Int32) hw _ _ ls hM hS (lv_sub hl [1, 0] rfl)
    · have hw := hw.2 c5
      exact hB17 h1 hw _ _ ls hM hS (lv_sub hl [0] rfl)

/-- fault()I -/
def wpX7_fault (post : Int32 → Mem → Prop) (h : Mem)  : Prop :=
  (∀ h1 : Mem, h1 = up2 h 2 0 (0 : Int32) → post (h1 26 0) h1)
set_option maxHeartbeats 4000000 in
set_option maxRecDepth 100000 in
theorem metX7_fault (l : Launch) (D : va_G) (cA : Nat → ClassId) (z0 : Nat) (E : Nat → Nat → Nat) (ad : Nat → Nat) (h : Mem)  (post : Int32 → Mem → Prop) (hw : wpX7_fault post h ) : MeI l D cA z0 E ad yX7_fault (ws_ yX7_fault cX7_fault 1 (some .int)) ({ frames := 1, cells := 0, slots := 0, locals := 30 }) [.ref (ad 69)] h post := by
  refine Met.ofW (cc := cX7_fault) (maxL := 1) (ret := (some .int)) (by decide) rfl ?_
  intro p e s m args below meth c s₁ B hml hv
  obtain ⟨rfl, hM, hK, hJ, hZ⟩ := hv
  have hx := B.exec
  have hb := B.bytes
  have hr := B.returns
  have hts := atoms_spec (ws := ws_ yX7_fault cX7_fault 1 (some .int)) B.pre
  have hts : ∀ w ∈ lw_all, w.before _ s = true := fun w h => hts w (List.mem_cons_of_mem _ h)
  have hown : s.vm.findClass RX7 = some m.cls := findClass_of_methodNamed B.named
  have hlocks := B.notSynchronized
  have hS : va_S (MA ad) s.heap s.heap [] := va_S.rf
  have hl := lv_entry ([.ref (ad 69)]) (n := 1) (Nat.le_of_ble_eq_true rfl)
  rw [lg_entry_eq]
  generalize (lg_sl ([.ref (ad 69)]) ++ List.replicate (1 - (lg_sl ([.ref (ad 69)])).length) Slot.unset).toArray = ls at hl ⊢
  have hl : lv_has ls 1 [(0, .ref (ad 69))] := hl
  unfold wpX7_fault at hw
  refine lv_aload_n hx hb dX7_fault_0 rfl (lv_at hl 0 rfl) ?_
  refine lv_iconst (v := (0 : Int32)) hx hb dX7_fault_1 (by decide) ?_
  refine M_put hx hb hts hown hK hM hJ hS 2 rfl rfl (hts _ q1685) rfl .int (by decide +kernel) rfl rfl dX7_fault_2 (fun H locs hM hS => ?_)
  obtain ⟨h1, eh1⟩ : ∃ y : Mem, y = up2 h 2 0 (0 : Int32) := ⟨_, rfl⟩
  rw [← eh1] at hM
  have hw := hw h1 eh1
  refine lv_aload_n hx hb dX7_fault_5 rfl (lv_at hl 0 rfl) ?_
  refine M_get hx hb hts hown hK hM 26 (v := .int (h1 26 0)) (by decide) (hts _ q1709) rfl dX7_fault_6 ?_
  exact M_iret hx hb hr hlocks hM hS hw dX7_fault_9

/-- twinOf(I)I -/
def wpX7_twinOf (post : Int32 → Prop) (h : Mem) (a1 : Int32) : Prop :=
  (vp_in a1 (mlen 4) ∧ (((h 4 (ix a1)) = (3 : Int32) → post (a1 - (1 : Int32))) ∧ (¬ (h 4 (ix a1)) = (3 : Int32) → (((h 3 0) ≤ (a1 + (1 : Int32)) → post (-1 : Int32)) ∧ (¬ (h 3 0) ≤ (a1 + (1 : Int32)) → (vp_in (a1 + (1 : Int32)) (mlen 4) ∧ post (if (h 4 (ix (a1 + (1 : Int32)))) = (3 : Int32) then (a1 + (1 : Int32)) else (-1 : Int32))))))))
set_option maxHeartbeats 4000000 in
set_option maxRecDepth 100000 in
theorem metX7_twinOf (l : Launch) (D : va_G) (cA : Nat → ClassId) (z0 : Nat) (E : Nat → Nat → Nat) (ad : Nat → Nat) (h : Mem) (a1 : Int32) (post : Int32 → Prop) (hw : wpX7_twinOf post h a1) : MeI l D cA z0 E ad yX7_twinOf (ws_ yX7_twinOf cX7_twinOf 2 (some .int)) ({ frames := 1, cells := 0, slots := 0, locals := 30 }) [.ref (ad 69), .int a1] h (fun r h' => h' = h ∧ post r) := by
  refine Met.ofW (cc := cX7_twinOf) (maxL := 2) (ret := (some .int)) (by decide) rfl ?_
  intro p e s m args below meth c s₁ B hml hv
  obtain ⟨rfl, hM, hK, hJ, hZ⟩ := hv
  have hx := B.exec
  have hb := B.bytes
  have hr := B.returns
  have hts := atoms_spec (ws := ws_ yX7_twinOf cX7_twinOf 2 (some .int)) B.pre
  have hts : ∀ w ∈ lw_all, w.before _ s = true := fun w h => hts w (List.mem_cons_of_mem _ h)
  have hown : s.vm.findClass RX7 = some m.cls := findClass_of_methodNamed B.named
  have hlocks := B.notSynchronized
  have hS : va_S (MA ad) s.heap s.heap [] := va_S.rf
  have hl := lv_entry ([.ref (ad 69), .int a1]) (n := 2) (Nat.le_of_ble_eq_true rfl)
  rw [lg_entry_eq]
  generalize (lg_sl ([.ref (ad 69), .int a1]) ++ List.replicate (2 - (lg_sl ([.ref (ad 69), .int a1])).length) Slot.unset).toArray = ls at hl ⊢
  have hl : lv_has ls 2 [(0, .ref (ad 69)), (1, .int a1)] := hl
  unfold wpX7_twinOf at hw
  refine lv_aload_n hx hb dX7_twinOf_0 rfl (lv_at hl 0 rfl) ?_
  refine M_get hx hb hts hown hK hM 4 (v := .ref (ad 4)) (by decide) (hts _ q1687) rfl dX7_twinOf_1 ?_
  refine lv_iload_n hx hb dX7_twinOf_4 rfl (lv_at hl 1 rfl) ?_
  obtain ⟨hb1, hw⟩ := hw
  refine M_iald hx hb hK hM 4 rfl (j := (ix a1)) rfl hb1 dX7_twinOf_5 ?_
  refine lv_iconst (v := (3 : Int32)) hx hb dX7_twinOf_6 (by decide) ?_
  refine lv_icmp_ne (tgt := 14) hx hb dX7_twinOf_7 (by decide) (fun c2 => ?_) (fun c2 => ?_)
  · have hw := hw.2 c2
    refine lv_iload_n hx hb dX7_twinOf_14 rfl (lv_at hl 1 rfl) ?_
    refine lv_iconst (v := (1 : Int32)) hx hb dX7_twinOf_15 (by decide) ?_
    refine lv_iadd hx hb dX7_twinOf_16 ?_
    refine lv_aload_n hx hb dX7_twinOf_17 rfl (lv_at hl 0 rfl) ?_
    refine M_get hx hb hts hown hK hM 3 (v := .ref (ad 3)) (by decide) (hts _ q1686) rfl dX7_twinOf_18 ?_
    refine lv_iconst (v := (0 : Int32)) hx hb dX7_twinOf_21 (by decide) ?_
    refine M_iald hx hb hK hM 3 rfl (j := 0) rfl (by unfold vp_in; decide) dX7_twinOf_22 ?_
    refine lv_icmp_ge (tgt := 44) hx hb dX7_twinOf_23 (by decide) (fun c3 => ?_) (fun c3 => ?_)
    · have hw := hw.1 c3
      refine lv_iconst (v := (-1 : Int32)) hx hb dX7_twinOf_44 (by decide) ?_
      exact M_iret hx hb hr hlocks hM hS ⟨rfl, hw⟩ dX7_twinOf_45
    · have hw := hw.2 c3
      refine lv_aload_n hx hb dX7_twinOf_26 rfl (lv_at hl 0 rfl) ?_
      refine M_get hx hb hts hown hK hM 4 (v := .ref (ad 4)) (by decide) (hts _ q1687) rfl dX7_twinOf_27 ?_
      refine lv_iload_n hx hb dX7_twinOf_30 rfl (lv_at hl 1 rfl) ?_
      refine lv_iconst (v := (1 : Int32)) hx hb dX7_twinOf_31 (by decide) ?_
      refine lv_iadd hx hb dX7_twinOf_32 ?_
      obtain ⟨hb4, hw⟩ := hw
      refine M_iald hx hb hK hM 4 rfl (j := (ix (a1 + (1 : Int32)))) rfl hb4 dX7_twinOf_33 ?_
      refine lv_iconst (v := (3 : Int32)) hx hb dX7_twinOf_34 (by decide) ?_
      have hj5 : JM p l e (headSpec (ws_ yX7_twinOf cX7_twinOf 2 (some .int)) ({ frames := 1, cells := 0, slots := 0, locals := 30 })).room s m ([.ref (ad 69), .int a1] : List Value).toArray below meth c (MQ below (MQi D cA E ad (fun r h' => h' = h ∧ post r)) ([.ref (ad 69), .int a1] : List Value).toArray s 0 0 (MA ad)) D cA E ad 2 45 h [] [.int (if (h 4 (ix (a1 + (1 : Int32)))) = (3 : Int32) then (a1 + (1 : Int32)) else (-1 : Int32))] := by
        intro H locs ls hM hS hl
        exact M_iret hx hb hr hlocks hM hS ⟨rfl, hw⟩ dX7_twinOf_45
      refine lv_icmp_ne (tgt := 44) hx hb dX7_twinOf_35 (by decide) (fun c6 => ?_) (fun c6 => ?_)
      · refine lv_iconst (v := (-1 : Int32)) hx hb dX7_twinOf_44 (by decide) ?_
        have e7 : (if (h 4 (ix (a1 + (1 : Int32)))) = (3 : Int32) then (a1 + (1 : Int32)) else (-1 : Int32)) = (-1 : Int32) := by rw [if_neg c6]
        rw [e7] at hj5
        exact hj5 _ _ ls hM hS (lv_sub hl [] rfl)
      · refine lv_iload_n hx hb dX7_twinOf_38 rfl (lv_at hl 1 rfl) ?_
        refine lv_iconst (v := (1 : Int32)) hx hb dX7_twinOf_39 (by decide) ?_
        refine lv_iadd hx hb dX7_twinOf_40 ?_
        refine lv_goto (tgt := 45) hx hb dX7_twinOf_41 (by decide) ?_
        have e8 : (if (h 4 (ix (a1 + (1 : Int32)))) = (3 : Int32) then (a1 + (1 : Int32)) else (-1 : Int32)) = (a1 + (1 : Int32)) := by rw [if_pos c6]
        rw [e8] at hj5
        exact hj5 _ _ ls hM hS (lv_sub hl [] rfl)
  · have hw := hw.1 c2
    refine lv_iload_n hx hb dX7_twinOf_10 rfl (lv_at hl 1 rfl) ?_
    refine lv_iconst (v := (1 : Int32)) hx hb dX7_twinOf_11 (by decide) ?_
    refine lv_isub hx hb dX7_twinOf_12 ?_
    exact M_iret hx hb hr hlocks hM hS ⟨rfl, hw⟩ dX7_twinOf_13

/-- lastDay(II)I -/
def wpBX7_lastDay_79 (post : Int32 → Prop) (a1 : Int32) (a2 : Int32)  (h : Mem) (x3 : Int32) (x4 : Int32) (x5 : Int32)  : Prop :=
  ((x4 = (-1 : Int32) → post x3) ∧ (¬ x4 = (-1 : Int32) → ((x5 = (-1 : Int32) → post x3) ∧ (¬ x5 = (-1 : Int32) → (wpX7_couple (fun r13 => (vp_in r13 (mlen 13) ∧ post (mxI x3 (h 13 (ix r13))))) h x4 x5)))))
def wpBX7_lastDay_57 (post : Int32 → Prop) (a1 : Int32) (a2 : Int32)  (h : Mem) (x3 : Int32) (x4 : Int32) (x5 : Int32)  : Prop :=
  ((x5 = (-1 : Int32) → wpBX7_lastDay_79 post a1 a2  h x3 x4 x5) ∧ (¬ x5 = (-1 : Int32) → (wpX7_couple (fun r16 => (vp_in r16 (mlen 13) ∧ wpBX7_lastDay_79 post a1 a2  h (mxI x3 (h 13 (ix r16))) x4 x5)) h a1 x5)))
def wpX7_lastDay (post : Int32 → Prop) (h : Mem) (a1 : Int32) (a2 : Int32) : Prop :=
  (wpX7_couple (fun r1 => (vp_in r1 (mlen 13) ∧ (wpX7_twinOf (fun r4 => (wpX7_twinOf (fun r6 => ((r4 = a2 → post (-100000 : Int32)) ∧ (¬ r4 = a2 → ((r4 = (-1 : Int32) → wpBX7_lastDay_57 post a1 a2  h (h 13 (ix r1)) r4 r6) ∧ (¬ r4 = (-1 : Int32) → (wpX7_couple (fun r19 => (vp_in r19 (mlen 13) ∧ wpBX7_lastDay_57 post a1 a2  h (mxI (h 13 (ix r1)) (h 13 (ix r19))) r4 r6)) h r4 a2)))))) h a2)) h a1))) h a1 a2)
set_option maxHeartbeats 4000000 in
set_option maxRecDepth 100000 in
theorem metX7_lastDay (l : Launch) (D : va_G) (cA : Nat → ClassId) (z0 : Nat) (E : Nat → Nat → Nat) (ad : Nat → Nat) (h : Mem) (a1 : Int32) (a2 : Int32) (post : Int32 → Prop) (hw : wpX7_lastDay post h a1 a2) : MeI l D cA z0 E ad yX7_lastDay (ws_ yX7_lastDay cX7_lastDay 6 (some .int)) ({ frames := 2, cells := 0, slots := 0, locals := 51 }) [.ref (ad 69), .int a1, .int a2] h (fun r h' => h' = h ∧ post r) := by
  refine Met.ofW (cc := cX7_lastDay) (maxL := 6) (ret := (some .int)) (by decide) rfl ?_
  intro p e s m args below meth c s₁ B hml hv
  obtain ⟨rfl, hM, hK, hJ, hZ⟩ := hv
  have hx := B.exec
  have hb := B.bytes
  have hr := B.returns
  have hts := atoms_spec (ws := ws_ yX7_lastDay cX7_lastDay 6 (some .int)) B.pre
  have hts : ∀ w ∈ lw_all, w.before _ s = true := fun w h => hts w (List.mem_cons_of_mem _ h)
  have hown : s.vm.findClass RX7 = some m.cls := findClass_of_methodNamed B.named
  have hlocks := B.notSynchronized
  have hS : va_S (MA ad) s.heap s.heap [] := va_S.rf
  have hl := lv_entry ([.ref (ad 69), .int a1, .int a2]) (n := 6) (Nat.le_of_ble_eq_true rfl)
  rw [lg_entry_eq]
  generalize (lg_sl ([.ref (ad 69), .int a1, .int a2]) ++ List.replicate (6 - (lg_sl ([.ref (ad 69), .int a1, .int a2])).length) Slot.unset).toArray = ls at hl ⊢
  have hl : lv_has ls 6 [(0, .ref (ad 69)), (1, .int a1), (2, .int a2)] := hl
  have hB79 : ∀ (x3 : Int32) (x4 : Int32) (x5 : Int32), wpBX7_lastDay_79 post a1 a2  h x3 x4 x5 → JM p l e (headSpec (ws_ yX7_lastDay cX7_lastDay 6 (some .int)) ({ frames := 2, cells := 0, slots := 0, locals := 51 })).room s m ([.ref (ad 69), .int a1, .int a2] : List Value).toArray below meth c (MQ below (MQi D cA E ad (fun r h' => h' = h ∧ post r)) ([.ref (ad 69), .int a1, .int a2] : List Value).toArray s 0 0 (MA ad)) D cA E ad 6 79 h [(0, .ref (ad 69)), (3, .int x3), (4, .int x4), (5, .int x5)] [] := by
    intro x3 x4 x5 hw H locs ls hM hS hl
    unfold wpBX7_lastDay_79 at hw
    refine lv_iload hx hb dX7_lastDay_79 (lv_at hl 2 rfl) ?_
    refine lv_iconst (v := (-1 : Int32)) hx hb dX7_lastDay_81 (by decide) ?_
    refine lv_icmp_eq (tgt := 108) hx hb dX7_lastDay_82 (by decide) (fun c11 => ?_) (fun c11 => ?_)
    · have hw := hw.1 c11
      refine lv_iload_n hx hb dX7_lastDay_108 rfl (lv_at hl 1 rfl) ?_
      exact M_iret hx hb hr hlocks hM hS ⟨rfl, hw⟩ dX7_lastDay_109
    · have hw := hw.2 c11
      refine lv_iload hx hb dX7_lastDay_85 (lv_at hl 3 rfl) ?_
      refine lv_iconst (v := (-1 : Int32)) hx hb dX7_lastDay_87 (by decide) ?_
      refine lv_icmp_eq (tgt := 108) hx hb dX7_lastDay_88 (by decide) (fun c12 => ?_) (fun c12 => ?_)
      · have hw := hw.1 c12
        refine lv_iload_n hx hb dX7_lastDay_108 rfl (lv_at hl 1 rfl) ?_
        exact M_iret hx hb hr hlocks hM hS ⟨rfl, hw⟩ dX7_lastDay_109
      · have hw := hw.2 c12
        refine lv_iload_n hx hb dX7_lastDay_91 rfl (lv_at hl 1 rfl) ?_
        refine lv_aload_n hx hb dX7_lastDay_92 rfl (lv_at hl 0 rfl) ?_
        refine M_get hx hb hts hown hK hM 13 (v := .ref (ad 13)) (by decide) (hts _ q1696) rfl dX7_lastDay_93 ?_
        refine lv_iload hx hb dX7_lastDay_96 (lv_at hl 2 rfl) ?_
        refine lv_iload hx hb dX7_lastDay_98 (lv_at hl 3 rfl) ?_
        refine M_callISp (As := [.int x4, .int x5]) (rest := [.ref (ad 13), .int x3]) ⟨hx, hb, hml, hown, hts⟩ hK hZ hM hJ hS (metX7_couple l D cA z0 E ad h x4 x5 _ hw) (va_cwS 2 hts (lw_S q2016 q2017 q130 q2018) rfl rfl rfl (by decide +kernel) ⟨Nat.le_of_ble_eq_true rfl, Nat.le_of_ble_eq_true rfl⟩) rfl hl.1 rfl (Nat.le_of_ble_eq_true rfl) dX7_lastDay_100 ⟨Nat.zero_le _, Nat.zero_le _⟩ (fun r13 H locs hw hM hS => ?_)
        obtain ⟨hb15, hw⟩ := hw
        refine M_iald hx hb hK hM 13 rfl (j := (ix r13)) rfl hb15 dX7_lastDay_103 ?_
        refine J_mxI hx hb hml hl.1 hown (hts _ q2019) (hts _ q273) (hts _ q118) (hts _ q274) (Nat.le_of_ble_eq_true rfl) (Nat.le_of_ble_eq_true rfl) (Nat.zero_le _) (Nat.zero_le _) dX7_lastDay_104 ?_
        refine lv_istore_n (lv' := [(3, .int (mxI x3 (h 13 (ix r13)))), (0, .ref (ad 69)), (4, .int x4), (5, .int x5)]) hx hb dX7_lastDay_107 rfl hl (by decide) rfl (fun ls hl => ?_)
        refine lv_iload_n hx hb dX7_lastDay_108 rfl (lv_at hl 0 rfl) ?_
        exact M_iret hx hb hr hlocks hM hS ⟨rfl, hw⟩ dX7_lastDay_109
  have hB57 : ∀ (x3 : Int32) (x4 : Int32) (x5 : Int32), wpBX7_lastDay_57 post a1 a2  h x3 x4 x5 → JM p l e (headSpec (ws_ yX7_lastDay cX7_lastDay 6 (some .int)) ({ frames := 2, cells := 0, slots := 0, locals := 51 })).room s m ([.ref (ad 69), .int a1, .int a2] : List Value).toArray below meth c (MQ below (MQi D cA E ad (fun r h' => h' = h ∧ post r)) ([.ref (ad 69), .int a1, .int a2] : List Value).toArray s 0 0 (MA ad)) D cA E ad 6 57 h [(0, .ref (ad 69)), (1, .int a1), (3, .int x3), (4, .int x4), (5, .int x5)] [] := by
    intro x3 x4 x5 hw H locs ls hM hS hl
    unfold wpBX7_lastDay_57 at hw
    refine lv_iload hx hb dX7_lastDay_57 (lv_at hl 4 rfl) ?_
    refine lv_iconst (v := (-1 : Int32)) hx hb dX7_lastDay_59 (by decide) ?_
    refine lv_icmp_eq (tgt := 79) hx hb dX7_lastDay_60 (by decide) (fun c10 => ?_) (fun c10 => ?_)
    · have hw := hw.1 c10
      exact hB79 x3 x4 x5 hw _ _ ls hM hS (lv_sub hl [0, 2, 3, 4] rfl)
    · have hw := hw.2 c10
      refine lv_iload_n hx hb dX7_lastDay_63 rfl (lv_at hl 2 rfl) ?_
      refine lv_aload_n hx hb dX7_lastDay_64 rfl (lv_at hl 0 rfl) ?_
      refine M_get hx hb hts hown hK hM 13 (v := .ref (ad 13)) (by decide) (hts _ q1696) rfl dX7_lastDay_65 ?_
      refine lv_iload_n hx hb dX7_lastDay_68 rfl (lv_at hl 1 rfl) ?_
      refine lv_iload hx hb dX7_lastDay_69 (lv_at hl 4 rfl) ?_
      refine M_callISp (As := [.int a1, .int x5]) (rest := [.ref (ad 13), .int x3]) ⟨hx, hb, hml, hown, hts⟩ hK hZ hM hJ hS (metX7_couple l D cA z0 E ad h a1 x5 _ hw) (va_cwS 2 hts (lw_S q2016 q2017 q130 q2018) rfl rfl rfl (by decide +kernel) ⟨Nat.le_of_ble_eq_true rfl, Nat.le_of_ble_eq_true rfl⟩) rfl hl.1 rfl (Nat.le_of_ble_eq_true rfl) dX7_lastDay_71 ⟨Nat.zero_le _, Nat.zero_le _⟩ (fun r16 H locs hw hM hS => ?_)
      obtain ⟨hb18, hw⟩ := hw
      refine M_iald hx hb hK hM 13 rfl (j := (ix r16)) rfl hb18 dX7_lastDay_74 ?_
      refine J_mxI hx hb hml hl.1 hown (hts _ q2019) (hts _ q273) (hts _ q118) (hts _ q274) (Nat.le_of_ble_eq_true rfl) (Nat.le_of_ble_eq_true rfl) (Nat.zero_le _) (Nat.zero_le _) dX7_lastDay_75 ?_
      refine lv_istore_n (lv' := [(3, .int (mxI x3 (h 13 (ix r16)))), (0, .ref (ad 69)), (1, .int a1), (4, .int x4), (5, .int x5)]) hx hb dX7_lastDay_78 rfl hl (by decide) rfl (fun ls hl => ?_)
      exact hB79 (mxI x3 (h 13 (ix r16))) x4 x5 hw _ _ ls hM hS (lv_sub hl [1, 0, 3, 4] rfl)
  unfold wpX7_lastDay at hw
  refine lv_aload_n hx hb dX7_lastDay_0 rfl (lv_at hl 0 rfl) ?_
  refine M_get hx hb hts hown hK hM 13 (v := .ref (ad 13)) (by decide) (hts _ q1696) rfl dX7_lastDay_1 ?_
  refine lv_iload_n hx hb dX7_lastDay_4 rfl (lv_at hl 1 rfl) ?_
  refine lv_iload_n hx hb dX7_lastDay_5 rfl (lv_at hl 2 rfl) ?_
  refine M_callISp (As := [.int a1, .int a2]) (rest := [.ref (ad 13)]) ⟨hx, hb, hml, hown, hts⟩ hK hZ hM hJ hS (metX7_couple l D cA z0 E ad h a1 a2 _ hw) (va_cwS 2 hts (lw_S q2016 q2017 q130 q2018) rfl rfl rfl (by decide +kernel) ⟨Nat.le_of_ble_eq_true rfl, Nat.le_of_ble_eq_true rfl⟩) rfl hl.1 rfl (Nat.le_of_ble_eq_true rfl) dX7_lastDay_6 ⟨Nat.zero_le _, Nat.zero_le _⟩ (fun r1 H locs hw hM hS => ?_)
  obtain ⟨hb3, hw⟩ := hw
  refine M_iald hx hb hK hM 13 rfl (j := (ix r1)) rfl hb3 dX7_lastDay_9 ?_
  refine lv_istore_n (lv' := [(3, .int (h 13 (ix r1))), (0, .ref (ad 69)), (1, .int a1), (2, .int a2)]) hx hb dX7_lastDay_10 rfl hl (by decide) rfl (fun ls hl => ?_)
  refine lv_aload_n hx hb dX7_lastDay_11 rfl (lv_at hl 1 rfl) ?_
  refine lv_iload_n hx hb dX7_lastDay_12 rfl (lv_at hl 2 rfl) ?_
  refine M_callIp (As := [.int a1]) (rest := []) ⟨hx, hb, hml, hown, hts⟩ hK hZ hM hJ hS (metX7_twinOf l D cA z0 E ad h a1 _ hw) (cwV 1 hts (lw_V q2043 q2045 qs69 q130 q2046) rfl rfl rfl (by decide +kernel) ⟨Nat.le_of_ble_eq_true rfl, Nat.le_of_ble_eq_true rfl⟩) rfl hl.1 rfl (Nat.le_of_ble_eq_true rfl) dX7_lastDay_13 ⟨Nat.zero_le _, Nat.zero_le _⟩ (fun r4 H locs hw hM hS => ?_)
  refine lv_istore (lv' := [(4, .int r4), (3, .int (h 13 (ix r1))), (0, .ref (ad 69)), (1, .int a1), (2, .int a2)]) hx hb dX7_lastDay_16 hl (by decide) rfl (fun ls hl => ?_)
  refine lv_aload_n hx hb dX7_lastDay_18 rfl (lv_at hl 2 rfl) ?_
  refine lv_iload_n hx hb dX7_lastDay_19 rfl (lv_at hl 4 rfl) ?_
  refine M_callIp (As := [.int a2]) (rest := []) ⟨hx, hb, hml, hown, hts⟩ hK hZ hM hJ hS (metX7_twinOf l D cA z0 E ad h a2 _ hw) (cwV 1 hts (lw_V q2043 q2045 qs69 q130 q2046) rfl rfl rfl (by decide +kernel) ⟨Nat.le_of_ble_eq_true rfl, Nat.le_of_ble_eq_true rfl⟩) rfl hl.1 rfl (Nat.le_of_ble_eq_true rfl) dX7_lastDay_20 ⟨Nat.zero_le _, Nat.zero_le _⟩ (fun r6 H locs hw hM hS => ?_)
  refine lv_istore (lv' := [(5, .int r6), (4, .int r4), (3, .int (h 13 (ix r1))), (0, .ref (ad 69)), (1, .int a1), (2, .int a2)]) hx hb dX7_lastDay_23 hl (by decide) rfl (fun ls hl => ?_)
  refine lv_iload hx hb dX7_lastDay_25 (lv_at hl 1 rfl) ?_
  refine lv_iload_n hx hb dX7_lastDay_27 rfl (lv_at hl 5 rfl) ?_
  refine lv_icmp_ne (tgt := 35) hx hb dX7_lastDay_28 (by decide) (fun c8 => ?_) (fun c8 => ?_)
  · have hw := hw.2 c8
    refine lv_iload hx hb dX7_lastDay_35 (lv_at hl 1 rfl) ?_
    refine lv_iconst (v := (-1 : Int32)) hx hb dX7_lastDay_37 (by decide) ?_
    refine lv_icmp_eq (tgt := 57) hx hb dX7_lastDay_38 (by decide) (fun c9 => ?_) (fun c9 => ?_)
    · have hw := hw.1 c9
      exact hB57 (h 13 (ix r1)) r4 r6 hw _ _ ls hM hS (lv_sub hl [3, 4, 2, 1, 0] rfl)
    · have hw := hw.2 c9
      refine lv_iload_n hx hb dX7_lastDay_41 rfl (lv_at hl 2 rfl) ?_
      refine lv_aload_n hx hb dX7_lastDay_42 rfl (lv_at hl 3 rfl) ?_
      refine M_get hx hb hts hown hK hM 13 (v := .ref (ad 13)) (by decide) (hts _ q1696) rfl dX7_lastDay_43 ?_
      refine lv_iload hx hb dX7_lastDay_46 (lv_at hl 1 rfl) ?_
      refine lv_iload_n hx hb dX7_lastDay_48 rfl (lv_at hl 5 rfl) ?_
      refine M_callISp (As := [.int r4, .int a2]) (rest := [.ref (ad 13), .int (h 13 (ix r1))]) ⟨hx, hb, hml, hown, hts⟩ hK hZ hM hJ hS (metX7_couple l D cA z0 E ad h r4 a2 _ hw) (va_cwS 2 hts (lw_S q2016 q2017 q130 q2018) rfl rfl rfl (by decide +kernel) ⟨Nat.le_of_ble_eq_true rfl, Nat.le_of_ble_eq_true rfl⟩) rfl hl.1 rfl (Nat.le_of_ble_eq_true rfl) dX7_lastDay_49 ⟨Nat.zero_le _, Nat.zero_le _⟩ (fun r19 H locs hw hM hS => ?_)
      obtain ⟨hb21, hw⟩ := hw
      refine M_iald hx hb hK hM 13 rfl (j := (ix r19)) rfl hb21 dX7_lastDay_52 ?_
      refine J_mxI hx hb hml hl.1 hown (hts _ q2019) (hts _ q273) (hts _ q118) (hts _ q274) (Nat.le_of_ble_eq_true rfl) (Nat.le_of_ble_eq_true rfl) (Nat.zero_le _) (Nat.zero_le _) dX7_lastDay_53 ?_
      refine lv_istore_n (lv' := [(3, .int (mxI (h 13 (ix r1)) (h 13 (ix r19)))), (5, .int r6), (4, .int r4), (0, .ref (ad 69)), (1, .int a1), (2, .int a2)]) hx hb dX7_lastDay_56 rfl hl (by decide) rfl (fun ls hl => ?_)
      exact hB57 (mxI (h 13 (ix r1)) (h 13 (ix r19))) r4 r6 hw _ _ ls hM hS (lv_sub hl [3, 4, 0, 2, 1] rfl)
  · have hw := hw.1 c8
    refine lv_ldcw hx hb hown (hts _ q1907) dX7_lastDay_31 ?_
    exact M_iret hx hb hr hlocks hM hS ⟨rfl, hw⟩ dX7_lastDay_34

/-- isKnown(II)Z -/
def wpX7_isKnown (post : Bool → Prop) (h : Mem) (a1 : Int32) (a2 : Int32) : Prop :=
  ((a1 = a2 → post true) ∧ (¬ a1 = a2 → (vp_in a1 (mlen 5) ∧ (vp_in a2 (mlen 5) ∧ (((h 5 (ix a1)) = (h 5 (ix a2)) → post true) ∧ (¬ (h 5 (ix a1)) = (h 5 (ix a2)) → (wpX7_twinOf (fun r5 => ((r5 = a2 → post true) ∧ (¬ r5 = a2 → (vp_in a1 (mlen 4) ∧ (((h 4 (ix a1)) = (2 : Int32) → post false) ∧ (¬ (h 4 (ix a1)) = (2 : Int32) → (wpX7_lastDay (fun r10 => ((r10 = (-100000 : Int32) → post false) ∧ (¬ r10 = (-100000 : Int32) → (wpX7_lastDay (fun r13 => post (if (h 3 3) < ((h 30 0) - r13) then false else true)) h a1 a2)))) h a1 a2))))))) h a1)))))))
set_option maxHeartbeats 4000000 in
set_option maxRecDepth 100000 in
theorem metX7_isKnown (l : Launch) (D : va_G) (cA : Nat → ClassId) (z0 : Nat) (E : Nat → Nat → Nat) (ad : Nat → Nat) (h : Mem) (a1 : Int32) (a2 : Int32) (post : Bool → Prop) (hw : wpX7_isKnown post h a1 a2) : MeZ l D cA z0 E ad yX7_isKnown (ws_ yX7_isKnown cX7_isKnown 3 (some .boolean)) ({ frames := 3, cells := 0, slots := 0, locals := 76 }) [.ref (ad 69), .int a1, .int a2] h (fun r h' => h' = h ∧ post r) := by
  refine Met.ofW (cc := cX7_isKnown) (maxL := 3) (ret := (some .boolean)) (by decide) rfl ?_
  intro p e s m args below meth c s₁ B hml hv
  obtain ⟨rfl, hM, hK, hJ, hZ⟩ := hv
  have hx := B.exec
  have hb := B.bytes
  have hr := B.returns
  have hts := atoms_spec (ws := ws_ yX7_isKnown cX7_isKnown 3 (some .boolean)) B.pre
  have hts : ∀ w ∈ lw_all, w.before _ s = true := fun w h => hts w (List.mem_cons_of_mem _ h)
  have hown : s.vm.findClass RX7 = some m.cls := findClass_of_methodNamed B.named
  have hlocks := B.notSynchronized
  have hS : va_S (MA ad) s.heap s.heap [] := va_S.rf
  have hl := lv_entry ([.ref (ad 69), .int a1, .int a2]) (n := 3) (Nat.le_of_ble_eq_true rfl)
  rw [lg_entry_eq]
  generalize (lg_sl ([.ref (ad 69), .int a1, .int a2]) ++ List.replicate (3 - (lg_sl ([.ref (ad 69), .int a1, .int a2])).length) Slot.unset).toArray = ls at hl ⊢
  have hl : lv_has ls 3 [(0, .ref (ad 69)), (1, .int a1), (2, .int a2)] := hl
  unfold wpX7_isKnown at hw
  refine lv_iload_n hx hb dX7_isKnown_0 rfl (lv_at hl 1 rfl) ?_
  refine lv_iload_n hx hb dX7_isKnown_1 rfl (lv_at hl 2 rfl) ?_
  refine lv_icmp_eq (tgt := 29) hx hb dX7_isKnown_2 (by decide) (fun c1 => ?_) (fun c1 => ?_)
  · have hw := hw.1 c1
    refine lv_iconst (v := (1 : Int32)) hx hb dX7_isKnown_29 (by decide) ?_
    exact M_zret hx hb hr hlocks hM hS ⟨_, rfl, ⟨rfl, hw⟩⟩ dX7_isKnown_30
  · have hw := hw.2 c1
    refine lv_aload_n hx hb dX7_isKnown_5 rfl (lv_at hl 0 rfl) ?_
    refine M_get hx hb hts hown hK hM 5 (v := .ref (ad 5)) (by decide) (hts _ q1688) rfl dX7_isKnown_6 ?_
    refine lv_iload_n hx hb dX7_isKnown_9 rfl (lv_at hl 1 rfl) ?_
    obtain ⟨hb2, hw⟩ := hw
    refine M_iald hx hb hK hM 5 rfl (j := (ix a1)) rfl hb2 dX7_isKnown_10 ?_
    refine lv_aload_n hx hb dX7_isKnown_11 rfl (lv_at hl 0 rfl) ?_
    refine M_get hx hb hts hown hK hM 5 (v := .ref (ad 5)) (by decide) (hts _ q1688) rfl dX7_isKnown_12 ?_
    refine lv_iload_n hx hb dX7_isKnown_15 rfl (lv_at hl 2 rfl) ?_
    obtain ⟨hb3, hw⟩ := hw
    refine M_iald hx hb hK hM 5 rfl (j := (ix a2)) rfl hb3 dX7_isKnown_16 ?_
    refine lv_icmp_eq (tgt := 29) hx hb dX7_isKnown_17 (by decide) (fun c4 => ?_) (fun c4 => ?_)
    · have hw := hw.1 c4
      refine lv_iconst (v := (1 : Int32)) hx hb dX7_isKnown_29 (by decide) ?_
      exact M_zret hx hb hr hlocks hM hS ⟨_, rfl, ⟨rfl, hw⟩⟩ dX7_isKnown_30
    · have hw := hw.2 c4
      refine lv_aload_n hx hb dX7_isKnown_20 rfl (lv_at hl 0 rfl) ?_
      refine lv_iload_n hx hb dX7_isKnown_21 rfl (lv_at hl 1 rfl) ?_
      refine M_callIp (As := [.int a1]) (rest := []) ⟨hx, hb, hml, hown, hts⟩ hK hZ hM hJ hS (metX7_twinOf l D cA z0 E ad h a1 _ hw) (cwV 1 hts (lw_V q2043 q2045 qs69 q130 q2046) rfl rfl rfl (by decide +kernel) ⟨Nat.le_of_ble_eq_true rfl, Nat.le_of_ble_eq_true rfl⟩) rfl hl.1 rfl (Nat.le_of_ble_eq_true rfl) dX7_isKnown_22 ⟨Nat.zero_le _, Nat.zero_le _⟩ (fun r5 H locs hw hM hS => ?_)
      refine lv_iload_n hx hb dX7_isKnown_25 rfl (lv_at hl 2 rfl) ?_
      refine lv_icmp_ne (tgt := 31) hx hb dX7_isKnown_26 (by decide) (fun c7 => ?_) (fun c7 => ?_)
      · have hw := hw.2 c7
        refine lv_aload_n hx hb dX7_isKnown_31 rfl (lv_at hl 0 rfl) ?_
        refine M_get hx hb hts hown hK hM 4 (v := .ref (ad 4)) (by decide) (hts _ q1687) rfl dX7_isKnown_32 ?_
        refine lv_iload_n hx hb dX7_isKnown_35 rfl (lv_at hl 1 rfl) ?_
        obtain ⟨hb8, hw⟩ := hw
        refine M_iald hx hb hK hM 4 rfl (j := (ix a1)) rfl hb8 dX7_isKnown_36 ?_
        refine lv_iconst (v := (2 : Int32)) hx hb dX7_isKnown_37 (by decide) ?_
        refine lv_icmp_eq (tgt := 77) hx hb dX7_isKnown_38 (by decide) (fun c9 => ?_) (fun c9 => ?_)
        · have hw := hw.1 c9
          refine lv_iconst (v := (0 : Int32)) hx hb dX7_isKnown_77 (by decide) ?_
          exact M_zret hx hb hr hlocks hM hS ⟨_, rfl, ⟨rfl, hw⟩⟩ dX7_isKnown_78
        · have hw := hw.2 c9
          refine lv_aload_n hx hb dX7_isKnown_41 rfl (lv_at hl 0 rfl) ?_
          refine lv_iload_n hx hb dX7_isKnown_42 rfl (lv_at hl 1 rfl) ?_
          refine lv_iload_n hx hb dX7_isKnown_43 rfl (lv_at hl 2 rfl) ?_
          refine M_callIp (As := [.int a1, .int a2]) (rest := []) ⟨hx, hb, hml, hown, hts⟩ hK hZ hM hJ hS (metX7_lastDay l D cA z0 E ad h a1 a2 _ hw) (cwV 2 hts (lw_V q2047 q2049 qs70 q130 q2050) rfl rfl rfl (by decide +kernel) ⟨Nat.le_of_ble_eq_true rfl, Nat.le_of_ble_eq_true rfl⟩) rfl hl.1 rfl (Nat.le_of_ble_eq_true rfl) dX7_isKnown_44 ⟨Nat.zero_le _, Nat.zero_le _⟩ (fun r10 H locs hw hM hS => ?_)
          refine lv_ldcw hx hb hown (hts _ q1907) dX7_isKnown_47 ?_
          refine lv_icmp_eq (tgt := 77) hx hb dX7_isKnown_50 (by decide) (fun c12 => ?_) (fun c12 => ?_)
          · have hw := hw.1 c12
            refine lv_iconst (v := (0 : Int32)) hx hb dX7_isKnown_77 (by decide) ?_
            exact M_zret hx hb hr hlocks hM hS ⟨_, rfl, ⟨rfl, hw⟩⟩ dX7_isKnown_78
          · have hw := hw.2 c12
            refine lv_aload_n hx hb dX7_isKnown_53 rfl (lv_at hl 0 rfl) ?_
            refine M_get hx hb hts hown hK hM 30 (v := .int (h 30 0)) (by decide) (hts _ q1713) rfl dX7_isKnown_54 ?_
            refine lv_aload_n hx hb dX7_isKnown_57 rfl (lv_at hl 0 rfl) ?_
            refine lv_iload_n hx hb dX7_isKnown_58 rfl (lv_at hl 1 rfl) ?_
            refine lv_iload_n hx hb dX7_isKnown_59 rfl (lv_at hl 2 rfl) ?_
            refine M_callIp (As := [.int a1, .int a2]) (rest := [.int (h 30 0)]) ⟨hx, hb, hml, hown, hts⟩ hK hZ hM hJ hS (metX7_lastDay l D cA z0 E ad h a1 a2 _ hw) (cwV 2 hts (lw_V q2047 q2049 qs70 q130 q2050) rfl rfl rfl (by decide +kernel) ⟨Nat.le_of_ble_eq_true rfl, Nat.le_of_ble_eq_true rfl⟩) rfl hl.1 rfl (Nat.le_of_ble_eq_true rfl) dX7_isKnown_60 ⟨Nat.zero_le _, Nat.zero_le _⟩ (fun r13 H locs hw hM hS => ?_)
            refine lv_isub hx hb dX7_isKnown_63 ?_
            refine lv_aload_n hx hb dX7_isKnown_64 rfl (lv_at hl 0 rfl) ?_
            refine M_get hx hb hts hown hK hM 3 (v := .ref (ad 3)) (by decide) (hts _ q1686) rfl dX7_isKnown_65 ?_
            refine lv_iconst (v := (3 : Int32)) hx hb dX7_isKnown_68 (by decide) ?_
            refine M_iald hx hb hK hM 3 rfl (j := 3) rfl (by unfold vp_in; decide) dX7_isKnown_69 ?_
            have hj15 : JM p l e (headSpec (ws_ yX7_isKnown cX7_isKnown 3 (some .boolean)) ({ frames := 3, cells := 0, slots := 0, locals := 76 })).room s m ([.ref (ad 69), .int a1, .int a2] : List Value).toArray below meth c (MQ below (MQz D cA E ad (fun r h' => h' = h ∧ post r)) ([.ref (ad 69), .int a1, .int a2] : List Value).toArray s 0 0 (MA ad)) D cA E ad 3 78 h [] [.int (if (h 3 3) < ((h 30 0) - r13) then (0 : Int32) else (1 : Int32))] := by
              intro H locs ls hM hS hl
              exact M_zret hx hb hr hlocks hM hS ⟨_, (b2i_pick rfl rfl), ⟨rfl, hw⟩⟩ dX7_isKnown_78
            refine lv_icmp_gt (tgt := 77) hx hb dX7_isKnown_70 (by decide) (fun c16 => ?_) (fun c16 => ?_)
            · refine lv_iconst (v := (0 : Int32)) hx hb dX7_isKnown_77 (by decide) ?_
              have e17 : (if (h 3 3) < ((h 30 0) - r13) then (0 : Int32) else (1 : Int32)) = (0 : Int32) := by rw [if_pos c16]
              rw [e17] at hj15
              exact hj15 _ _ ls hM hS (lv_sub hl [] rfl)
            · refine lv_iconst (v := (1 : Int32)) hx hb dX7_isKnown_73 (by decide) ?_
              refine lv_goto (tgt := 78) hx hb dX7_isKnown_74 (by decide) ?_
              have e18 : (if (h 3 3) < ((h 30 0) - r13) then (0 : Int32) else (1 : Int32)) = (1 : Int32) := by rw [if_neg c16]
              rw [e18] at hj15
              exact hj15 _ _ ls hM hS (lv_sub hl [] rfl)
      · have hw := hw.1 c7
        refine lv_iconst (v := (1 : Int32)) hx hb dX7_isKnown_29 (by decide) ?_
        exact M_zret hx hb hr hlocks hM hS ⟨_, rfl, ⟨rfl, hw⟩⟩ dX7_isKnown_30

/-- knownBoth()I -/
def wpBX7_knownBoth_52 (post : Int32 → Prop)  (K4 : Int32 → Int32 → Prop) (K18 : Int32 → Int32 → Prop) (h : Mem) (x2 : Int32) (x3 : Int32) (s0 : Int32) (s1 : Int32) : Prop :=
  K18 (s1 + s0) (x3 + (1 : Int32))
def wpBX7_knownBoth_51 (post : Int32 → Prop)  (K4 : Int32 → Int32 → Prop) (K18 : Int32 → Int32 → Prop) (h : Mem) (x2 : Int32) (x3 : Int32) (s0 : Int32) : Prop :=
  wpBX7_knownBoth_52 post  K4 K18 h x2 x3 (0 : Int32) s0
def wpBX7_knownBoth_18 (post : Int32 → Prop)  (K4 : Int32 → Int32 → Prop) (K18 : Int32 → Int32 → Prop) (h : Mem) (x2 : Int32) (x1 : Int32) (x3 : Int32) : Prop :=
  (((h 3 0) ≤ x3 → K4 x1 (x2 + (1 : Int32))) ∧ (¬ (h 3 0) ≤ x3 → (wpX7_isKnown (fun r3 => ((r3 = true → (wpX7_isKnown (fun r6 => wpBX7_knownBoth_52 post  K4 K18 h x2 x3 (if r6 = true then (1 : Int32) else (0 : Int32)) x1) h x3 x2)) ∧ (¬ r3 = true → wpBX7_knownBoth_51 post  K4 K18 h x2 x3 x1))) h x2 x3)))
def wpLX7_knownBoth_18 (post : Int32 → Prop)  (K4 : Int32 → Int32 → Prop) (h : Mem) (x2 : Int32) : Nat → (Int32 × Int32) → Prop := LW (fun K s => wpBX7_knownBoth_18 post  K4 (fun x1 x3 => K (x1, x3)) h x2 s.1 s.2)
def wpBX7_knownBoth_4 (post : Int32 → Prop)   (K4 : Int32 → Int32 → Prop) (h : Mem)  (x1 : Int32) (x2 : Int32) : Prop :=
  (((h 3 0) ≤ x2 → post x1) ∧ (¬ (h 3 0) ≤ x2 → (∃ n, wpLX7_knownBoth_18 post  K4 h x2 n (x1, (x2 + (1 : Int32))))))
def wpLX7_knownBoth_4 (post : Int32 → Prop)   (h : Mem)  : Nat → (Int32 × Int32) → Prop := LW (fun K s => wpBX7_knownBoth_4 post   (fun x1 x2 => K (x1, x2)) h  s.1 s.2)
def wpX7_knownBoth (post : Int32 → Prop) (h : Mem)  : Prop :=
  (∃ n, wpLX7_knownBoth_4 post   h n ((0 : Int32), (0 : Int32)))
set_option maxHeartbeats 4000000 in
set_option maxRecDepth 100000 in
theorem metX7_knownBoth (l : Launch) (D : va_G) (cA : Nat → ClassId) (z0 : Nat) (E : Nat → Nat → Nat) (ad : Nat → Nat) (h : Mem)  (post : Int32 → Prop) (hw : wpX7_knownBoth post h ) : MeI l D cA z0 E ad yX7_knownBoth (ws_ yX7_knownBoth cX7_knownBoth 4 (some .int)) ({ frames := 4, cells := 0, slots := 0, locals := 98 }) [.ref (ad 69)] h (fun r h' => h' = h ∧ post r) := by
  refine Met.ofW (cc := cX7_knownBoth) (maxL := 4) (ret := (some .int)) (by decide) rfl ?_
  intro p e s m args below meth c s₁ B hml hv
  obtain ⟨rfl, hM, hK, hJ, hZ⟩ := hv
  have hx := B.exec
  have hb := B.bytes
  have hr := B.returns
  have hts := atoms_spec (ws := ws_ yX7_knownBoth cX7_knownBoth 4 (some .int)) B.pre
  have hts : ∀ w ∈ lw_all, w.before _ s = true := fun w h => hts w (List.mem_cons_of_mem _ h)
  have hown : s.vm.findClass RX7 = some m.cls := findClass_of_methodNamed B.named
  have hlocks := B.notSynchronized
  have hS : va_S (MA ad) s.heap s.heap [] := va_S.rf
  have hl := lv_entry ([.ref (ad 69)]) (n := 4) (Nat.le_of_ble_eq_true rfl)
  rw [lg_entry_eq]
  generalize (lg_sl ([.ref (ad 69)]) ++ List.replicate (4 - (lg_sl ([.ref (ad 69)])).length) Slot.unset).toArray = ls at hl ⊢
  have hl : lv_has ls 4 [(0, .ref (ad 69))] := hl
  have hL4 : ∀  (n4 : Nat) (x1 : Int32) (x2 : Int32), wpLX7_knownBoth_4 post   h  n4 (x1, x2) → JM p l e (headSpec (ws_ yX7_knownBoth cX7_knownBoth 4 (some .int)) ({ frames := 4, cells := 0, slots := 0, locals := 98 })).room s m ([.ref (ad 69)] : List Value).toArray below meth c (MQ below (MQi D cA E ad (fun r h' => h' = h ∧ post r)) ([.ref (ad 69)] : List Value).toArray s 0 0 (MA ad)) D cA E ad 4 4 h [(0, .ref (ad 69)), (1, .int x1), (2, .int x2)] [] := by
    intro  n4
    induction n4 with
    | zero => intro x1 x2 hw; exact False.elim hw
    | succ n4 ih4 =>
      have hL18 : ∀ (x2 : Int32) (n18 : Nat) (x1 : Int32) (x3 : Int32), wpLX7_knownBoth_18 post  (fun x1 x2 => wpLX7_knownBoth_4 post   h  n4 (x1, x2)) h x2 n18 (x1, x3) → JM p l e (headSpec (ws_ yX7_knownBoth cX7_knownBoth 4 (some .int)) ({ frames := 4, cells := 0, slots := 0, locals := 98 })).room s m ([.ref (ad 69)] : List Value).toArray below meth c (MQ below (MQi D cA E ad (fun r h' => h' = h ∧ post r)) ([.ref (ad 69)] : List Value).toArray s 0 0 (MA ad)) D cA E ad 4 18 h [(0, .ref (ad 69)), (1, .int x1), (2, .int x2), (3, .int x3)] [] := by
        intro x2 n18
        induction n18 with
        | zero => intro x1 x3 hw; exact False.elim hw
        | succ n18 ih18 =>
          have hB52 : ∀ (x3 : Int32) (s0 : Int32) (s1 : Int32), wpBX7_knownBoth_52 post  (fun x1 x2 => wpLX7_knownBoth_4 post   h  n4 (x1, x2)) (fun x1 x3 => wpLX7_knownBoth_18 post  (fun x1 x2 => wpLX7_knownBoth_4 post   h  n4 (x1, x2)) h x2 n18 (x1, x3)) h x2 x3 s0 s1 → JM p l e (headSpec (ws_ yX7_knownBoth cX7_knownBoth 4 (some .int)) ({ frames := 4, cells := 0, slots := 0, locals := 98 })).room s m ([.ref (ad 69)] : List Value).toArray below meth c (MQ below (MQi D cA E ad (fun r h' => h' = h ∧ post r)) ([.ref (ad 69)] : List Value).toArray s 0 0 (MA ad)) D cA E ad 4 52 h [(0, .ref (ad 69)), (2, .int x2), (3, .int x3)] [.int s0, .int s1] := by
            intro x3 s0 s1 hw H locs ls hM hS hl
            unfold wpBX7_knownBoth_52 at hw
            refine lv_iadd hx hb dX7_knownBoth_52 ?_
            refine lv_istore_n (lv' := [(1, .int (s1 + s0)), (0, .ref (ad 69)), (2, .int x2), (3, .int x3)]) hx hb dX7_knownBoth_53 rfl hl (by decide) rfl (fun ls hl => ?_)
            refine lv_iinc (v := (x3 + (1 : Int32))) (lv' := [(3, .int (x3 + (1 : Int32))), (1, .int (s1 + s0)), (0, .ref (ad 69)), (2, .int x2)]) hx hb dX7_knownBoth_54 hl (k := 3) rfl rfl (by decide) rfl (fun ls hl => ?_)
            refine lv_goto (tgt := 18) hx hb dX7_knownBoth_57 (by decide) ?_
            exact ih18 (s1 + s0) (x3 + (1 : Int32)) hw _ _ ls hM hS (lv_sub hl [2, 1, 3, 0] rfl)
          have hB51 : ∀ (x3 : Int32) (s0 : Int32), wpBX7_knownBoth_51 post  (fun x1 x2 => wpLX7_knownBoth_4 post   h  n4 (x1, x2)) (fun x1 x3 => wpLX7_knownBoth_18 post  (fun x1 x2 => wpLX7_knownBoth_4 post   h  n4 (x1, x2)) h x2 n18 (x1, x3)) h x2 x3 s0 → JM p l e (headSpec (ws_ yX7_knownBoth cX7_knownBoth 4 (some .int)) ({ frames := 4, cells := 0, slots := 0, locals := 98 })).room s m ([.ref (ad 69)] : List Value).toArray below meth c (MQ below (MQi D cA E ad (fun r h' => h' = h ∧ post r)) ([.ref (ad 69)] : List Value).toArray s 0 0 (MA ad)) D cA E ad 4 51 h [(0, .ref (ad 69)), (2, .int x2), (3, .int x3)] [.int s0] := by
            intro x3 s0 hw H locs ls hM hS hl
            unfold wpBX7_knownBoth_51 at hw
            refine lv_iconst (v := (0 : Int32)) hx hb dX7_knownBoth_51 (by decide) ?_
            exact hB52 x3 (0 : Int32) s0 hw _ _ ls hM hS (lv_sub hl [0, 1, 2] rfl)
          intro x1 x3 hw H locs ls hM hS hl
          have hw : wpBX7_knownBoth_18 post  (fun x1 x2 => wpLX7_knownBoth_4 post   h  n4 (x1, x2)) (fun x1 x3 => wpLX7_knownBoth_18 post  (fun x1 x2 => wpLX7_knownBoth_4 post   h  n4 (x1, x2)) h x2 n18 (x1, x3)) h x2 x1 x3 := hw
          unfold wpBX7_knownBoth_18 at hw
          refine lv_iload_n hx hb dX7_knownBoth_18 rfl (lv_at hl 3 rfl) ?_
          refine lv_aload_n hx hb dX7_knownBoth_19 rfl (lv_at hl 0 rfl) ?_
          refine M_get hx hb hts hown hK hM 3 (v := .ref (ad 3)) (by decide) (hts _ q1686) rfl dX7_knownBoth_20 ?_
          refine lv_iconst (v := (0 : Int32)) hx hb dX7_knownBoth_23 (by decide) ?_
          refine M_iald hx hb hK hM 3 rfl (j := 0) rfl (by unfold vp_in; decide) dX7_knownBoth_24 ?_
          refine lv_icmp_ge (tgt := 60) hx hb dX7_knownBoth_25 (by decide) (fun c2 => ?_) (fun c2 => ?_)
          · have hw := hw.1 c2
            refine lv_iinc (v := (x2 + (1 : Int32))) (lv' := [(2, .int (x2 + (1 : Int32))), (0, .ref (ad 69)), (1, .int x1), (3, .int x3)]) hx hb dX7_knownBoth_60 hl (k := 2) rfl rfl (by decide) rfl (fun ls hl => ?_)
            refine lv_goto (tgt := 4) hx hb dX7_knownBoth_63 (by decide) ?_
            exact ih4 x1 (x2 + (1 : Int32)) hw _ _ ls hM hS (lv_sub hl [1, 2, 0] rfl)
          · have hw := hw.2 c2
            refine lv_iload_n hx hb dX7_knownBoth_28 rfl (lv_at hl 1 rfl) ?_
            refine lv_aload_n hx hb dX7_knownBoth_29 rfl (lv_at hl 0 rfl) ?_
            refine lv_iload_n hx hb dX7_knownBoth_30 rfl (lv_at hl 2 rfl) ?_
            refine lv_iload_n hx hb dX7_knownBoth_31 rfl (lv_at hl 3 rfl) ?_
            refine M_callZp (As := [.int x2, .int x3]) (rest := [.int x1]) ⟨hx, hb, hml, hown, hts⟩ hK hZ hM hJ hS (metX7_isKnown l D cA z0 E ad h x2 x3 _ hw) (cwV 2 hts (lw_V q2039 q2041 qs68 q130 q2042) rfl rfl rfl (by decide +kernel) ⟨Nat.le_of_ble_eq_true rfl, Nat.le_of_ble_eq_true rfl⟩) rfl hl.1 rfl (Nat.le_of_ble_eq_true rfl) dX7_knownBoth_32 ⟨Nat.zero_le _, Nat.zero_le _⟩ (fun r3 H locs hw hM hS => ?_)
            refine lv_if_eq (tgt := 51) hx hb dX7_knownBoth_35 (by decide) (fun c5 => ?_) (fun c5 => ?_)
            · have c5 := b2i_f c5
              have hw := hw.2 c5
              exact hB51 x3 x1 hw _ _ ls hM hS (lv_sub hl [0, 2, 3] rfl)
            · have c5 := b2i_t c5
              have hw := hw.1 c5
              refine lv_aload_n hx hb dX7_knownBoth_38 rfl (lv_at hl 0 rfl) ?_
              refine lv_iload_n hx hb dX7_knownBoth_39 rfl (lv_at hl 3 rfl) ?_
              refine lv_iload_n hx hb dX7_knownBoth_40 rfl (lv_at hl 2 rfl) ?_
              refine M_callZp (As := [.int x3, .int x2]) (rest := [.int x1]) ⟨hx, hb, hml, hown, hts⟩ hK hZ hM hJ hS (metX7_isKnown l D cA z0 E ad h x3 x2 _ hw) (cwV 2 hts (lw_V q2039 q2041 qs68 q130 q2042) rfl rfl rfl (by decide +kernel) ⟨Nat.le_of_ble_eq_true rfl, Nat.le_of_ble_eq_true rfl⟩) rfl hl.1 rfl (Nat.le_of_ble_eq_true rfl) dX7_knownBoth_41 ⟨Nat.zero_le _, Nat.zero_le _⟩ (fun r6 H locs hw hM hS => ?_)
              have hj8 : JM p l e (headSpec (ws_ yX7_knownBoth cX7_knownBoth 4 (some .int)) ({ frames := 4, cells := 0, slots := 0, locals := 98 })).room s m ([.ref (ad 69)] : List Value).toArray below meth c (MQ below (MQi D cA E ad (fun r h' => h' = h ∧ post r)) ([.ref (ad 69)] : List Value).toArray s 0 0 (MA ad)) D cA E ad 4 52 h [(0, .ref (ad 69)), (2, .int x2), (3, .int x3)] [.int (if r6 = true then (1 : Int32) else (0 : Int32)), .int x1] := by
                intro H locs ls hM hS hl
                exact hB52 x3 (if r6 = true then (1 : Int32) else (0 : Int32)) x1 hw _ _ ls hM hS (lv_sub hl [0, 1, 2] rfl)
              refine lv_if_eq (tgt := 51) hx hb dX7_knownBoth_44 (by decide) (fun c9 => ?_) (fun c9 => ?_)
              · have c9 := b2i_f c9
                refine lv_iconst (v := (0 : Int32)) hx hb dX7_knownBoth_51 (by decide) ?_
                have e10 : (if r6 = true then (1 : Int32) else (0 : Int32)) = (0 : Int32) := by rw [if_neg c9]
                rw [e10] at hj8
                exact hj8 _ _ ls hM hS (lv_sub hl [0, 2, 3] rfl)
              · have c9 := b2i_t c9
                refine lv_iconst (v := (1 : Int32)) hx hb dX7_knownBoth_47 (by decide) ?_
                refine lv_goto (tgt := 52) hx hb dX7_knownBoth_48 (by decide) ?_
                have e11 : (if r6 = true then (1 : Int32) else (0 : Int32)) = (1 : Int32) := by rw [if_pos c9]
                rw [e11] at hj8
                exact hj8 _ _ ls hM hS (lv_sub hl [0, 2, 3] rfl)
      intro x1 x2 hw H locs ls hM hS hl
      have hw : wpBX7_knownBoth_4 post   (fun x1 x2 => wpLX7_knownBoth_4 post   h  n4 (x1, x2)) h  x1 x2 := hw
      unfold wpBX7_knownBoth_4 at hw
      refine lv_iload_n hx hb dX7_knownBoth_4 rfl (lv_at hl 2 rfl) ?_
      refine lv_aload_n hx hb dX7_knownBoth_5 rfl (lv_at hl 0 rfl) ?_
      refine M_get hx hb hts hown hK hM 3 (v := .ref (ad 3)) (by decide) (hts _ q1686) rfl dX7_knownBoth_6 ?_
      refine lv_iconst (v := (0 : Int32)) hx hb dX7_knownBoth_9 (by decide) ?_
      refine M_iald hx hb hK hM 3 rfl (j := 0) rfl (by unfold vp_in; decide) dX7_knownBoth_10 ?_
      refine lv_icmp_ge (tgt := 66) hx hb dX7_knownBoth_11 (by decide) (fun c1 => ?_) (fun c1 => ?_)
      · have hw := hw.1 c1
        refine lv_iload_n hx hb dX7_knownBoth_66 rfl (lv_at hl 1 rfl) ?_
        exact M_iret hx hb hr hlocks hM hS ⟨rfl, hw⟩ dX7_knownBoth_67
      · have hw := hw.2 c1
        refine lv_iload_n hx hb dX7_knownBoth_14 rfl (lv_at hl 2 rfl) ?_
        refine lv_iconst (v := (1 : Int32)) hx hb dX7_knownBoth_15 (by decide) ?_
        refine lv_iadd hx hb dX7_knownBoth_16 ?_
        refine lv_istore_n (lv' := [(3, .int (x2 + (1 : Int32))), (0, .ref (ad 69)), (1, .int x1), (2, .int x2)]) hx hb dX7_knownBoth_17 rfl hl (by decide) rfl (fun ls hl => ?_)
        obtain ⟨n12, hw⟩ := hw
        exact hL18 x2 n12 x1 (x2 + (1 : Int32)) hw _ _ ls hM hS (lv_sub hl [1, 2, 3, 0] rfl)
  unfold wpX7_knownBoth at hw
  refine lv_iconst (v := (0 : Int32)) hx hb dX7_knownBoth_0 (by decide) ?_
  refine lv_istore_n (lv' := [(1, .int (0 : Int32)), (0, .ref (ad 69))]) hx hb dX7_knownBoth_1 rfl hl (by decide) rfl (fun ls hl => ?_)
  refine lv_iconst (v := (0 : Int32)) hx hb dX7_knownBoth_2 (by decide) ?_
  refine lv_istore_n (lv' := [(2, .int (0 : Int32)), (1, .int (0 : Int32)), (0, .ref (ad 69))]) hx hb dX7_knownBoth_3 rfl hl (by decide) rfl (fun ls hl => ?_)
  obtain ⟨n13, hw⟩ := hw
  exact hL4 n13 (0 : Int32) (0 : Int32) hw _ _ ls hM hS (lv_sub hl [2, 1, 0] rfl)

/-- count(I)I -/
def wpBX7_count_136 (post : Int32 → Mem → Prop) (a1 : Int32) (K110 : Int32 → Int32 → Prop) (h : Mem) (x3 : Int32) (s0 : Int32) (s1 : Int32) : Prop :=
  K110 (s1 + s0) (x3 + (1 : Int32))
def wpBX7_count_110 (post : Int32 → Mem → Prop) (a1 : Int32)  (K110 : Int32 → Int32 → Prop) (h : Mem)  (x2 : Int32) (x3 : Int32) : Prop :=
  (((h 3 1) ≤ x3 → post x2 h) ∧ (¬ (h 3 1) ≤ x3 → (vp_in x3 (mlen 27) ∧ wpBX7_count_136 post a1 K110 h x3 (if (h 27 (ix x3)) = (-1 : Int32) then (0 : Int32) else (1 : Int32)) x2)))
def wpLX7_count_110 (post : Int32 → Mem → Prop) (a1 : Int32)  (h : Mem)  : Nat → (Int32 × Int32) → Prop := LW (fun K s => wpBX7_count_110 post a1  (fun x2 x3 => K (x2, x3)) h  s.1 s.2)
def wpX7_count (post : Int32 → Mem → Prop) (h : Mem) (a1 : Int32) : Prop :=
  (∀ h1 : Mem, h1 = up2 h 2 0 (0 : Int32) → ((a1 = (0 : Int32) → (vp_in a1 (mlen 3) ∧ post (h1 3 (ix a1)) h1)) ∧ (¬ a1 = (0 : Int32) → ((a1 = (1 : Int32) → (vp_in a1 (mlen 3) ∧ post (h1 3 (ix a1)) h1)) ∧ (¬ a1 = (1 : Int32) → ((a1 = (2 : Int32) → (vp_in (a1 + (1 : Int32)) (mlen 3) ∧ post (h1 3 (ix (a1 + (1 : Int32)))) h1)) ∧ (¬ a1 = (2 : Int32) → ((a1 = (3 : Int32) → (vp_in (a1 + (1 : Int32)) (mlen 3) ∧ post (h1 3 (ix (a1 + (1 : Int32)))) h1)) ∧ (¬ a1 = (3 : Int32) → ((a1 = (4 : Int32) → post (h1 30 0) h1) ∧ (¬ a1 = (4 : Int32) → ((a1 = (5 : Int32) → post (h1 31 0) h1) ∧ (¬ a1 = (5 : Int32) → ((a1 = (6 : Int32) → (∃ n, wpLX7_count_110 post a1  h1 n ((0 : Int32), (0 : Int32)))) ∧ (¬ a1 = (6 : Int32) → ((a1 = (7 : Int32) → (wpX7_knownBoth (fun r13 => post r13 h1) h1 )) ∧ (¬ a1 = (7 : Int32) → ((a1 = (8 : Int32) → post (h1 32 0) h1) ∧ (¬ a1 = (8 : Int32) → ((a1 = (9 : Int32) → post (h1 33 0) h1) ∧ (¬ a1 = (9 : Int32) → ((a1 = (10 : Int32) → post (h1 34 0) h1) ∧ (¬ a1 = (10 : Int32) → ((a1 = (11 : Int32) → post (h1 17 0) h1) ∧ (¬ a1 = (11 : Int32) → ((a1 = (12 : Int32) → (vp_in (a1 - (12 : Int32)) (mlen 15) ∧ post (h1 15 (ix (a1 - (12 : Int32)))) h1)) ∧ (¬ a1 = (12 : Int32) → ((a1 = (13 : Int32) → (vp_in (a1 - (12 : Int32)) (mlen 15) ∧ post (h1 15 (ix (a1 - (12 : Int32)))) h1)) ∧ (¬ a1 = (13 : Int32) → ((a1 = (14 : Int32) → (vp_in (a1 - (12 : Int32)) (mlen 15) ∧ post (h1 15 (ix (a1 - (12 : Int32)))) h1)) ∧ (¬ a1 = (14 : Int32) → (wpX7_fail (fun r18 h19 => post r18 h19) h1 (1 : Int32)))))))))))))))))))))))))))))))))
set_option maxHeartbeats 4000000 in
set_option maxRecDepth 100000 in
theorem metX7_count (l : Launch) (D : va_G) (cA : Nat → ClassId) (z0 : Nat) (E : Nat → Nat → Nat) (ad : Nat → Nat) (h : Mem) (a1 : Int32) (post : Int32 → Mem → Prop) (hw : wpX7_count post h a1) : MeI l D cA z0 E ad yX7_count (ws_ yX7_count cX7_count 4 (some .int)) ({ frames := 5, cells := 0, slots := 0, locals := 121 }) [.ref (ad 69), .int a1] h post := by
  refine Met.ofW (cc := cX7_count) (maxL := 4) (ret := (some .int)) (by decide) rfl ?_
  intro p e s m args below meth c s₁ B hml hv
  obtain ⟨rfl, hM, hK, hJ, hZ⟩ := hv
  have hx := B.exec
  have hb := B.bytes
  have hr := B.returns
  have hts := atoms_spec (ws := ws_ yX7_count cX7_count 4 (some .int)) B.pre
  have hts : ∀ w ∈ lw_all, w.before _ s = true := fun w h => hts w (List.mem_cons_of_mem _ h)
  have hown : s.vm.findClass RX7 = some m.cls := findClass_of_methodNamed B.named
  have hlocks := B.notSynchronized
  have hS : va_S (MA ad) s.heap s.heap [] := va_S.rf
  have hl := lv_entry ([.ref (ad 69), .int a1]) (n := 4) (Nat.le_of_ble_eq_true rfl)
  rw [lg_entry_eq]
  generalize (lg_sl ([.ref (ad 69), .int a1]) ++ List.replicate (4 - (lg_sl ([.ref (ad 69), .int a1])).length) Slot.unset).toArray = ls at hl ⊢
  have hl : lv_has ls 4 [(0, .ref (ad 69)), (1, .int a1)] := hl
  have hL110 : ∀ (h : Mem)  (n110 : Nat) (x2 : Int32) (x3 : Int32), wpLX7_count_110 post a1  h  n110 (x2, x3) → JM p l e (headSpec (ws_ yX7_count cX7_count 4 (some .int)) ({ frames := 5, cells := 0, slots := 0, locals := 121 })).room s m ([.ref (ad 69), .int a1] : List Value).toArray below meth c (MQ below (MQi D cA E ad post) ([.ref (ad 69), .int a1] : List Value).toArray s 0 0 (MA ad)) D cA E ad 4 110 h [(0, .ref (ad 69)), (2, .int x2), (3, .int x3)] [] := by
    intro h n110
    induction n110 with
    | zero => intro x2 x3 hw; exact False.elim hw
    | succ n110 ih110 =>
      have hB136 : ∀ (x3 : Int32) (s0 : Int32) (s1 : Int32), wpBX7_count_136 post a1 (fun x2 x3 => wpLX7_count_110 post a1  h  n110 (x2, x3)) h x3 s0 s1 → JM p l e (headSpec (ws_ yX7_count cX7_count 4 (some .int)) ({ frames := 5, cells := 0, slots := 0, locals := 121 })).room s m ([.ref (ad 69), .int a1] : List Value).toArray below meth c (MQ below (MQi D cA E ad post) ([.ref (ad 69), .int a1] : List Value).toArray s 0 0 (MA ad)) D cA E ad 4 136 h [(0, .ref (ad 69)), (3, .int x3)] [.int s0, .int s1] := by
        intro x3 s0 s1 hw H locs ls hM hS hl
        unfold wpBX7_count_136 at hw
        refine lv_iadd hx hb dX7_count_136 ?_
        refine lv_istore_n (lv' := [(2, .int (s1 + s0)), (0, .ref (ad 69)), (3, .int x3)]) hx hb dX7_count_137 rfl hl (by decide) rfl (fun ls hl => ?_)
        refine lv_iinc (v := (x3 + (1 : Int32))) (lv' := [(3, .int (x3 + (1 : Int32))), (2, .int (s1 + s0)), (0, .ref (ad 69))]) hx hb dX7_count_138 hl (k := 2) rfl rfl (by decide) rfl (fun ls hl => ?_)
        refine lv_goto (tgt := 110) hx hb dX7_count_141 (by decide) ?_
        exact ih110 (s1 + s0) (x3 + (1 : Int32)) hw _ _ ls hM hS (lv_sub hl [2, 1, 0] rfl)
      intro x2 x3 hw H locs ls hM hS hl
      have hw : wpBX7_count_110 post a1  (fun x2 x3 => wpLX7_count_110 post a1  h  n110 (x2, x3)) h  x2 x3 := hw
      unfold wpBX7_count_110 at hw
      refine lv_iload_n hx hb dX7_count_110 rfl (lv_at hl 2 rfl) ?_
      refine lv_aload_n hx hb dX7_count_111 rfl (lv_at hl 0 rfl) ?_
      refine M_get hx hb hts hown hK hM 3 (v := .ref (ad 3)) (by decide) (hts _ q1686) rfl dX7_count_112 ?_
      refine lv_iconst (v := (1 : Int32)) hx hb dX7_count_115 (by decide) ?_
      refine M_iald hx hb hK hM 3 rfl (j := 1) rfl (by unfold vp_in; decide) dX7_count_116 ?_
      refine lv_icmp_ge (tgt := 144) hx hb dX7_count_117 (by decide) (fun c6 => ?_) (fun c6 => ?_)
      · have hw := hw.1 c6
        refine lv_iload_n hx hb dX7_count_144 rfl (lv_at hl 1 rfl) ?_
        exact M_iret hx hb hr hlocks hM hS hw dX7_count_145
      · have hw := hw.2 c6
        refine lv_iload_n hx hb dX7_count_120 rfl (lv_at hl 1 rfl) ?_
        refine lv_aload_n hx hb dX7_count_121 rfl (lv_at hl 0 rfl) ?_
        refine M_get hx hb hts hown hK hM 27 (v := .ref (ad 27)) (by decide) (hts _ q1710) rfl dX7_count_122 ?_
        refine lv_iload_n hx hb dX7_count_125 rfl (lv_at hl 2 rfl) ?_
        obtain ⟨hb7, hw⟩ := hw
        refine M_iald hx hb hK hM 27 rfl (j := (ix x3)) rfl hb7 dX7_count_126 ?_
        refine lv_iconst (v := (-1 : Int32)) hx hb dX7_count_127 (by decide) ?_
        have hj8 : JM p l e (headSpec (ws_ yX7_count cX7_count 4 (some .int)) ({ frames := 5, cells := 0, slots := 0, locals := 121 })).room s m ([.ref (ad 69), .int a1] : List Value).toArray below meth c (MQ below (MQi D cA E ad post) ([.ref (ad 69), .int a1] : List Value).toArray s 0 0 (MA ad)) D cA E ad 4 136 h [(0, .ref (ad 69)), (3, .int x3)] [.int (if (h 27 (ix x3)) = (-1 : Int32) then (0 : Int32) else (1 : Int32)), .int x2] := by
          intro H locs ls hM hS hl
          exact hB136 x3 (if (h 27 (ix x3)) = (-1 : Int32) then (0 : Int32) else (1 : Int32)) x2 hw _ _ ls hM hS (lv_sub hl [0, 1] rfl)
        refine lv_icmp_ne (tgt := 135) hx hb dX7_count_128 (by decide) (fun c9 => ?_) (fun c9 => ?_)
        · refine lv_iconst (v := (1 : Int32)) hx hb dX7_count_135 (by decide) ?_
          have e10 : (if (h 27 (ix x3)) = (-1 : Int32) then (0 : Int32) else (1 : Int32)) = (1 : Int32) := by rw [if_neg c9]
          rw [e10] at hj8
          exact hj8 _ _ ls hM hS (lv_sub hl [0, 2] rfl)
        · refine lv_iconst (v := (0 : Int32)) hx hb dX7_count_131 (by decide) ?_
          refine lv_goto (tgt := 136) hx hb dX7_count_132 (by decide) ?_
          have e11 : (if (h 27 (ix x3)) = (-1 : Int32) then (0 : Int32) else (1 : Int32)) = (0 : Int32) := by rw [if_pos c9]
          rw [e11] at hj8
          exact hj8 _ _ ls hM hS (lv_sub hl [0, 2] rfl)
  unfold wpX7_count at hw
  refine lv_aload_n hx hb dX7_count_0 rfl (lv_at hl 0 rfl) ?_
  refine lv_iconst (v := (0 : Int32)) hx hb dX7_count_1 (by decide) ?_
  refine M_put hx hb hts hown hK hM hJ hS 2 rfl rfl (hts _ q1685) rfl .int (by decide +kernel) rfl rfl dX7_count_2 (fun H locs hM hS => ?_)
  obtain ⟨h1, eh1⟩ : ∃ y : Mem, y = up2 h 2 0 (0 : Int32) := ⟨_, rfl⟩
  rw [← eh1] at hM
  have hw := hw h1 eh1
  refine lv_iload_n hx hb dX7_count_5 rfl (lv_at hl 1 rfl) ?_
  by_cases c6_0 : a1 = (0 : Int32)
  · have hw := hw.1 c6_0
    refine lv_swIn (v := (0 : Int32)) (tgt := 80) hx hb c6_0 dX7_count_6 (by decide) (by decide) rfl (by decide) ?_
    refine lv_aload_n hx hb dX7_count_80 rfl (lv_at hl 0 rfl) ?_
    refine M_get hx hb hts hown hK hM 3 (v := .ref (ad 3)) (by decide) (hts _ q1686) rfl dX7_count_81 ?_
    refine lv_iload_n hx hb dX7_count_84 rfl (lv_at hl 1 rfl) ?_
    obtain ⟨hb2, hw⟩ := hw
    refine M_iald hx hb hK hM 3 rfl (j := (ix a1)) rfl hb2 dX7_count_85 ?_
    exact M_iret hx hb hr hlocks hM hS hw dX7_count_86
  have hw := hw.2 c6_0
  by_cases c6_1 : a1 = (1 : Int32)
  · have hw := hw.1 c6_1
    refine lv_swIn (v := (1 : Int32)) (tgt := 80) hx hb c6_1 dX7_count_6 (by decide) (by decide) rfl (by decide) ?_
    refine lv_aload_n hx hb dX7_count_80 rfl (lv_at hl 0 rfl) ?_
    refine M_get hx hb hts hown hK hM 3 (v := .ref (ad 3)) (by decide) (hts _ q1686) rfl dX7_count_81 ?_
    refine lv_iload_n hx hb dX7_count_84 rfl (lv_at hl 1 rfl) ?_
    obtain ⟨hb3, hw⟩ := hw
    refine M_iald hx hb hK hM 3 rfl (j := (ix a1)) rfl hb3 dX7_count_85 ?_
    exact M_iret hx hb hr hlocks hM hS hw dX7_count_86
  have hw := hw.2 c6_1
  by_cases c6_2 : a1 = (2 : Int32)
  · have hw := hw.1 c6_2
    refine lv_swIn (v := (2 : Int32)) (tgt := 87) hx hb c6_2 dX7_count_6 (by decide) (by decide) rfl (by decide) ?_
    refine lv_aload_n hx hb dX7_count_87 rfl (lv_at hl 0 rfl) ?_
    refine M_get hx hb hts hown hK hM 3 (v := .ref (ad 3)) (by decide) (hts _ q1686) rfl dX7_count_88 ?_
    refine lv_iload_n hx hb dX7_count_91 rfl (lv_at hl 1 rfl) ?_
    refine lv_iconst (v := (1 : Int32)) hx hb dX7_count_92 (by decide) ?_
    refine lv_iadd hx hb dX7_count_93 ?_
    obtain ⟨hb4, hw⟩ := hw
    refine M_iald hx hb hK hM 3 rfl (j := (ix (a1 + (1 : Int32)))) rfl hb4 dX7_count_94 ?_
    exact M_iret hx hb hr hlocks hM hS hw dX7_count_95
  have hw := hw.2 c6_2
  by_cases c6_3 : a1 = (3 : Int32)
  · have hw := hw.1 c6_3
    refine lv_swIn (v := (3 : Int32)) (tgt := 87) hx hb c6_3 dX7_count_6 (by decide) (by decide) rfl (by decide) ?_
    refine lv_aload_n hx hb dX7_count_87 rfl (lv_at hl 0 rfl) ?_
    refine M_get hx hb hts hown hK hM 3 (v := .ref (ad 3)) (by decide) (hts _ q1686) rfl dX7_count_88 ?_
    refine lv_iload_n hx hb dX7_count_91 rfl (lv_at hl 1 rfl) ?_
    refine lv_iconst (v := (1 : Int32)) hx hb dX7_count_92 (by decide) ?_
    refine lv_iadd hx hb dX7_count_93 ?_
    obtain ⟨hb5, hw⟩ := hw
    refine M_iald hx hb hK hM 3 rfl (j := (ix (a1 + (1 : Int32)))) rfl hb5 dX7_count_94 ?_
    exact M_iret hx hb hr hlocks hM hS hw dX7_count_95
  have hw := hw.2 c6_3
  by_cases c6_4 : a1 = (4 : Int32)
  · have hw := hw.1 c6_4
    refine lv_swIn (v := (4 : Int32)) (tgt := 96) hx hb c6_4 dX7_count_6 (by decide) (by decide) rfl (by decide) ?_
    refine lv_aload_n hx hb dX7_count_96 rfl (lv_at hl 0 rfl) ?_
    refine M_get hx hb hts hown hK hM 30 (v := .int (h1 30 0)) (by decide) (hts _ q1713) rfl dX7_count_97 ?_
    exact M_iret hx hb hr hlocks hM hS hw dX7_count_100
  have hw := hw.2 c6_4
  by_cases c6_5 : a1 = (5 : Int32)
  · have hw := hw.1 c6_5
    refine lv_swIn (v := (5 : Int32)) (tgt := 101) hx hb c6_5 dX7_count_6 (by decide) (by decide) rfl (by decide) ?_
    refine lv_aload_n hx hb dX7_count_101 rfl (lv_at hl 0 rfl) ?_
    refine M_get hx hb hts hown hK hM 31 (v := .int (h1 31 0)) (by decide) (hts _ q1714) rfl dX7_count_102 ?_
    exact M_iret hx hb hr hlocks hM hS hw dX7_count_105
  have hw := hw.2 c6_5
  by_cases c6_6 : a1 = (6 : Int32)
  · have hw := hw.1 c6_6
    refine lv_swIn (v := (6 : Int32)) (tgt := 106) hx hb c6_6 dX7_count_6 (by decide) (by decide) rfl (by decide) ?_
    refine lv_iconst (v := (0 : Int32)) hx hb dX7_count_106 (by decide) ?_
    refine lv_istore_n (lv' := [(2, .int (0 : Int32)), (0, .ref (ad 69)), (1, .int a1)]) hx hb dX7_count_107 rfl hl (by decide) rfl (fun ls hl => ?_)
    refine lv_iconst (v := (0 : Int32)) hx hb dX7_count_108 (by decide) ?_
    refine lv_istore_n (lv' := [(3, .int (0 : Int32)), (2, .int (0 : Int32)), (0, .ref (ad 69)), (1, .int a1)]) hx hb dX7_count_109 rfl hl (by decide) rfl (fun ls hl => ?_)
    obtain ⟨n12, hw⟩ := hw
    exact hL110 h1 n12 (0 : Int32) (0 : Int32) hw _ _ ls hM hS (lv_sub hl [2, 1, 0] rfl)
  have hw := hw.2 c6_6
  by_cases c6_7 : a1 = (7 : Int32)
  · have hw := hw.1 c6_7
    refine lv_swIn (v := (7 : Int32)) (tgt := 146) hx hb c6_7 dX7_count_6 (by decide) (by decide) rfl (by decide) ?_
    refine lv_aload_n hx hb dX7_count_146 rfl (lv_at hl 0 rfl) ?_
    refine M_callIp (As := []) (rest := []) ⟨hx, hb, hml, hown, hts⟩ hK hZ hM hJ hS (metX7_knownBoth l D cA z0 E ad h1  _ hw) (cwV 0 hts (lw_V q2035 q2037 qs67 q130 q2038) rfl rfl rfl (by decide +kernel) ⟨Nat.le_of_ble_eq_true rfl, Nat.le_of_ble_eq_true rfl⟩) rfl hl.1 rfl (Nat.le_of_ble_eq_true rfl) dX7_count_147 ⟨Nat.zero_le _, Nat.zero_le _⟩ (fun r13 H locs hw hM hS => ?_)
    exact M_iret hx hb hr hlocks hM hS hw dX7_count_150
  have hw := hw.2 c6_7
  by_cases c6_8 : a1 = (8 : Int32)
  · have hw := hw.1 c6_8
    refine lv_swIn (v := (8 : Int32)) (tgt := 151) hx hb c6_8 dX7_count_6 (by decide) (by decide) rfl (by decide) ?_
    refine lv_aload_n hx hb dX7_count_151 rfl (lv_at hl 0 rfl) ?_
    refine M_get hx hb hts hown hK hM 32 (v := .int (h1 32 0)) (by decide) (hts _ q1715) rfl dX7_count_152 ?_
    exact M_iret hx hb hr hlocks hM hS hw dX7_count_155
  have hw := hw.2 c6_8
  by_cases c6_9 : a1 = (9 : Int32)
  · have hw := hw.1 c6_9
    refine lv_swIn (v := (9 : Int32)) (tgt := 156) hx hb c6_9 dX7_count_6 (by decide) (by decide) rfl (by decide) ?_
    refine lv_aload_n hx hb dX7_count_156 rfl (lv_at hl 0 rfl) ?_
    refine M_get hx hb hts hown hK hM 33 (v := .int (h1 33 0)) (by decide) (hts _ q1716) rfl dX7_count_157 ?_
    exact M_iret hx hb hr hlocks hM hS hw dX7_count_160
  have hw := hw.2 c6_9
  by_cases c6_10 : a1 = (10 : Int32)
  · have hw := hw.1 c6_10
    refine lv_swIn (v := (10 : Int32)) (tgt := 161) hx hb c6_10 dX7_count_6 (by decide) (by decide) rfl (by decide) ?_
    refine lv_aload_n hx hb dX7_count_161 rfl (lv_at hl 0 rfl) ?_
    refine M_get hx hb hts hown hK hM 34 (v := .int (h1 34 0)) (by decide) (hts _ q1717) rfl dX7_count_162 ?_
    exact M_iret hx hb hr hlocks hM hS hw dX7_count_165
  have hw := hw.2 c6_10
  by_cases c6_11 : a1 = (11 : Int32)
  · have hw := hw.1 c6_11
    refine lv_swIn (v := (11 : Int32)) (tgt := 166) hx hb c6_11 dX7_count_6 (by decide) (by decide) rfl (by decide) ?_
    refine lv_aload_n hx hb dX7_count_166 rfl (lv_at hl 0 rfl) ?_
    refine M_get hx hb hts hown hK hM 17 (v := .int (h1 17 0)) (by decide) (hts _ q1700) rfl dX7_count_167 ?_
    exact M_iret hx hb hr hlocks hM hS hw dX7_count_170
  have hw := hw.2 c6_11
  by_cases c6_12 : a1 = (12 : Int32)
  · have hw := hw.1 c6_12
    refine lv_swIn (v := (12 : Int32)) (tgt := 171) hx hb c6_12 dX7_count_6 (by decide) (by decide) rfl (by decide) ?_
    refine lv_aload_n hx hb dX7_count_171 rfl (lv_at hl 0 rfl) ?_
    refine M_get hx hb hts hown hK hM 15 (v := .ref (ad 15)) (by decide) (hts _ q1698) rfl dX7_count_172 ?_
    refine lv_iload_n hx hb dX7_count_175 rfl (lv_at hl 1 rfl) ?_
    refine lv_bipush (v := (12 : Int32)) hx hb dX7_count_176 (by decide) ?_
    refine lv_isub hx hb dX7_count_178 ?_
    obtain ⟨hb15, hw⟩ := hw
    refine M_iald hx hb hK hM 15 rfl (j := (ix (a1 - (12 : Int32)))) rfl hb15 dX7_count_179 ?_
    exact M_iret hx hb hr hlocks hM hS hw dX7_count_180
  have hw := hw.2 c6_12
  by_cases c6_13 : a1 = (13 : Int32)
  · have hw := hw.1 c6_13
    refine lv_swIn (v := (13 : Int32)) (tgt := 171) hx hb c6_13 dX7_count_6 (by decide) (by decide) rfl (by decide) ?_
    refine lv_aload_n hx hb dX7_count_171 rfl (lv_at hl 0 rfl) ?_
    refine M_get hx hb hts hown hK hM 15 (v := .ref (ad 15)) (by decide) (hts _ q1698) rfl dX7_count_172 ?_
    refine lv_iload_n hx hb dX7_count_175 rfl (lv_at hl 1 rfl) ?_
    refine lv_bipush (v := (12 : Int32)) hx hb dX7_count_176 (by decide) ?_
    refine lv_isub hx hb dX7_count_178 ?_
    obtain ⟨hb16, hw⟩ := hw
    refine M_iald hx hb hK hM 15 rfl (j := (ix (a1 - (12 : Int32)))) rfl hb16 dX7_count_179 ?_
    exact M_iret hx hb hr hlocks hM hS hw dX7_count_180
  have hw := hw.2 c6_13
  by_cases c6_14 : a1 = (14 : Int32)
  · have hw := hw.1 c6_14
    refine lv_swIn (v := (14 : Int32)) (tgt := 171) hx hb c6_14 dX7_count_6 (by decide) (by decide) rfl (by decide) ?_
    refine lv_aload_n hx hb dX7_count_171 rfl (lv_at hl 0 rfl) ?_
    refine M_get hx hb hts hown hK hM 15 (v := .ref (ad 15)) (by decide) (hts _ q1698) rfl dX7_count_172 ?_
    refine lv_iload_n hx hb dX7_count_175 rfl (lv_at hl 1 rfl) ?_
    refine lv_bipush (v := (12 : Int32)) hx hb dX7_count_176 (by decide) ?_
    refine lv_isub hx hb dX7_count_178 ?_
    obtain ⟨hb17, hw⟩ := hw
    refine M_iald hx hb hK hM 15 rfl (j := (ix (a1 - (12 : Int32)))) rfl hb17 dX7_count_179 ?_
    exact M_iret hx hb hr hlocks hM hS hw dX7_count_180
  have hw := hw.2 c6_14
  have hsw : a1.toInt < (0 : Int) ∨ (14 : Int) < a1.toInt := by
    refine sw_out (fun k h1 h2 => ?_)
    rcases (show k = 0 ∨ k = 1 ∨ k = 2 ∨ k = 3 ∨ k = 4 ∨ k = 5 ∨ k = 6 ∨ k = 7 ∨ k = 8 ∨ k = 9 ∨ k = 10 ∨ k = 11 ∨ k = 12 ∨ k = 13 ∨ k = 14 by omega) with rfl | rfl | rfl | rfl | rfl | rfl | rfl | rfl | rfl | rfl | rfl | rfl | rfl | rfl | rfl
    · exact c6_0
    · exact c6_1
    · exact c6_2
    · exact c6_3
    · exact c6_4
    · exact c6_5
    · exact c6_6
    · exact c6_7
    · exact c6_8
    · exact c6_9
    · exact c6_10
    · exact c6_11
    · exact c6_12
    · exact c6_13
    · exact c6_14
  refine lv_tableOut (tgt := 181) hx hb dX7_count_6 hsw (by decide) ?_
  refine lv_aload_n hx hb dX7_count_181 rfl (lv_at hl 0 rfl) ?_
  refine lv_iconst (v := (1 : Int32)) hx hb dX7_count_182 (by decide) ?_
  refine M_callI (As := [.int (1 : Int32)]) (rest := []) ⟨hx, hb, hml, hown, hts⟩ hK hZ hM hJ hS (metX7_fail l D cA z0 E ad h1 (1 : Int32) _ hw) (cwV 1 hts (lw_V q1903 q1905 qs44 q130 q1906) rfl rfl rfl (by decide +kernel) ⟨Nat.le_of_ble_eq_true rfl, Nat.le_of_ble_eq_true rfl⟩) rfl hl.1 rfl (Nat.le_of_ble_eq_true rfl) dX7_count_183 ⟨Nat.zero_le _, Nat.zero_le _⟩ (fun r18 h19 H locs hw hM hS => ?_)
  exact M_iret hx hb hr hlocks hM hS hw dX7_count_186

/-- isIn(JJJ)Z -/
def wpX7_isIn (post : Bool → Prop) (h : Mem) (a0 : Int64) (a2 : Int64) (a4 : Int64) : Prop :=
  (((lg_cmp a0 a2) < 0 → post false) ∧ (¬ (lg_cmp a0 a2) < 0 → post (if 0 < (lg_cmp a0 a4) then false else true)))
set_option maxHeartbeats 4000000 in
set_option maxRecDepth 100000 in
theorem metX7_isIn (l : Launch) (D : va_G) (cA : Nat → ClassId) (z0 : Nat) (E : Nat → Nat → Nat) (ad : Nat → Nat) (h : Mem) (a0 : Int64) (a2 : Int64) (a4 : Int64) (post : Bool → Prop) (hw : wpX7_isIn post h a0 a2 a4) : MeZ l D cA z0 E ad yX7_isIn (ws_ yX7_isIn cX7_isIn 6 (some .boolean)) ({ frames := 1, cells := 0, slots := 0, locals := 30 }) [.long a0, .long a2, .long a4] h (fun r h' => h' = h ∧ post r) := by
  refine Met.ofW (cc := cX7_isIn) (maxL := 6) (ret := (some .boolean)) (by decide) rfl ?_
  intro p e s m args below meth c s₁ B hml hv
  obtain ⟨rfl, hM, hK, hJ, hZ⟩ := hv
  have hx := B.exec
  have hb := B.bytes
  have hr := B.returns
  have hts := atoms_spec (ws := ws_ yX7_isIn cX7_isIn 6 (some .boolean)) B.pre
  have hts : ∀ w ∈ lw_all, w.before _ s = true := fun w h => hts w (List.mem_cons_of_mem _ h)
  have hown : s.vm.findClass RX7 = some m.cls := findClass_of_methodNamed B.named
  have hlocks := B.notSynchronized
  have hS : va_S (MA ad) s.heap s.heap [] := va_S.rf
  have hl := lv_entry ([.long a0, .long a2, .long a4]) (n := 6) (Nat.le_of_ble_eq_true rfl)
  rw [lg_entry_eq]
  generalize (lg_sl ([.long a0, .long a2, .long a4]) ++ List.replicate (6 - (lg_sl ([.long a0, .long a2, .long a4])).length) Slot.unset).toArray = ls at hl ⊢
  have hl : lv_has ls 6 [(0, .long a0), (2, .long a2), (4, .long a4)] := hl
  unfold wpX7_isIn at hw
  refine lv_lload_n hx hb dX7_isIn_0 rfl (lv_at hl 0 rfl) ?_
  refine lv_lload_n hx hb dX7_isIn_1 rfl (lv_at hl 1 rfl) ?_
  refine W.lcmp hx hb dX7_isIn_2 ?_
  refine lv_if_lt (tgt := 17) hx hb dX7_isIn_3 (by decide) (fun c1 => ?_) (fun c1 => ?_)
  · have hw := hw.1 c1
    refine lv_iconst (v := (0 : Int32)) hx hb dX7_isIn_17 (by decide) ?_
    exact M_zret hx hb hr hlocks hM hS ⟨_, rfl, ⟨rfl, hw⟩⟩ dX7_isIn_18
  · have hw := hw.2 c1
    refine lv_lload_n hx hb dX7_isIn_6 rfl (lv_at hl 0 rfl) ?_
    refine lv_lload hx hb dX7_isIn_7 (lv_at hl 2 rfl) ?_
    refine W.lcmp hx hb dX7_isIn_9 ?_
    have hj2 : JM p l e (headSpec (ws_ yX7_isIn cX7_isIn 6 (some .boolean)) ({ frames := 1, cells := 0, slots := 0, locals := 30 })).room s m ([.long a0, .long a2, .long a4] : List Value).toArray below meth c (MQ below (MQz D cA E ad (fun r h' => h' = h ∧ post r)) ([.long a0, .long a2, .long a4] : List Value).toArray s 0 0 (MA ad)) D cA E ad 6 18 h [] [.int (if 0 < (lg_cmp a0 a4) then (0 : Int32) else (1 : Int32))] := by
      intro H locs ls hM hS hl
      exact M_zret hx hb hr hlocks hM hS ⟨_, (b2i_pick rfl rfl), ⟨rfl, hw⟩⟩ dX7_isIn_18
    refine lv_if_gt (tgt := 17) hx hb dX7_isIn_10 (by decide) (fun c3 => ?_) (fun c3 => ?_)
    · refine lv_iconst (v := (0 : Int32)) hx hb dX7_isIn_17 (by decide) ?_
      have e4 : (if 0 < (lg_cmp a0 a4) then (0 : Int32) else (1 : Int32)) = (0 : Int32) := by rw [if_pos c3]
      rw [e4] at hj2
      exact hj2 _ _ ls hM hS (lv_sub hl [] rfl)
    · refine lv_iconst (v := (1 : Int32)) hx hb dX7_isIn_13 (by decide) ?_
      refine lv_goto (tgt := 18) hx hb dX7_isIn_14 (by decide) ?_
      have e5 : (if 0 < (lg_cmp a0 a4) then (0 : Int32) else (1 : Int32)) = (1 : Int32) := by rw [if_neg c3]
      rw [e5] at hj2
      exact hj2 _ _ ls hM hS (lv_sub hl [] rfl)

/-- isPerson(I)Z -/
def wpX7_isPerson (post : Bool → Prop) (h : Mem) (a1 : Int32) : Prop :=
  (wpX7_isIn (fun r1 => post r1) h (a1).toInt64 (0 : Int64) (((h 3 0) - (1 : Int32))).toInt64)
set_option maxHeartbeats 4000000 in
set_option maxRecDepth 100000 in
theorem metX7_isPerson (l : Launch) (D : va_G) (cA : Nat → ClassId) (z0 : Nat) (E : Nat → Nat → Nat) (ad : Nat → Nat) (h : Mem) (a1 : Int32) (post : Bool → Prop) (hw : wpX7_isPerson post h a1) : MeZ l D cA z0 E ad yX7_isPerson (ws_ yX7_isPerson cX7_isPerson 2 (some .boolean)) ({ frames := 2, cells := 0, slots := 0, locals := 55 }) [.ref (ad 69), .int a1] h (fun r h' => h' = h ∧ post r) := by
  refine Met.ofW (cc := cX7_isPerson) (maxL := 2) (ret := (some .boolean)) (by decide) rfl ?_
  intro p e s m args below meth c s₁ B hml hv
  obtain ⟨rfl, hM, hK, hJ, hZ⟩ := hv
  have hx := B.exec
  have hb := B.bytes
  have hr := B.returns
  have hts := atoms_spec (ws := ws_ yX7_isPerson cX7_isPerson 2 (some .boolean)) B.pre
  have hts : ∀ w ∈ lw_all, w.before _ s = true := fun w h => hts w (List.mem_cons_of_mem _ h)
  have hown : s.vm.findClass RX7 = some m.cls := findClass_of_methodNamed B.named
  have hlocks := B.notSynchronized
  have hS : va_S (MA ad) s.heap s.heap [] := va_S.rf
  have hl := lv_entry ([.ref (ad 69), .int a1]) (n := 2) (Nat.le_of_ble_eq_true rfl)
  rw [lg_entry_eq]
  generalize (lg_sl ([.ref (ad 69), .int a1]) ++ List.replicate (2 - (lg_sl ([.ref (ad 69), .int a1])).length) Slot.unset).toArray = ls at hl ⊢
  have hl : lv_has ls 2 [(0, .ref (ad 69)), (1, .int a1)] := hl
  unfold wpX7_isPerson at hw
  refine lv_iload_n hx hb dX7_isPerson_0 rfl (lv_at hl 1 rfl) ?_
  refine lv_i2l (v := (a1).toInt64) hx hb dX7_isPerson_1 rfl ?_
  refine lv_lconst (v := (0 : Int64)) hx hb dX7_isPerson_2 (by decide) ?_
  refine lv_aload_n hx hb dX7_isPerson_3 rfl (lv_at hl 0 rfl) ?_
  refine M_get hx hb hts hown hK hM 3 (v := .ref (ad 3)) (by decide) (hts _ q1686) rfl dX7_isPerson_4 ?_
  refine lv_iconst (v := (0 : Int32)) hx hb dX7_isPerson_7 (by decide) ?_
  refine M_iald hx hb hK hM 3 rfl (j := 0) rfl (by unfold vp_in; decide) dX7_isPerson_8 ?_
  refine lv_iconst (v := (1 : Int32)) hx hb dX7_isPerson_9 (by decide) ?_
  refine lv_isub hx hb dX7_isPerson_10 ?_
  refine lv_i2l (v := (((h 3 0) - (1 : Int32))).toInt64) hx hb dX7_isPerson_11 rfl ?_
  refine M_callZSp (As := [.long (a1).toInt64, .long (0 : Int64), .long (((h 3 0) - (1 : Int32))).toInt64]) (rest := []) ⟨hx, hb, hml, hown, hts⟩ hK hZ hM hJ hS (metX7_isIn l D cA z0 E ad h (a1).toInt64 (0 : Int64) (((h 3 0) - (1 : Int32))).toInt64 _ hw) (va_cwS 3 hts (lw_S q2059 q2060 q130 q2061) rfl rfl rfl (by decide +kernel) ⟨Nat.le_of_ble_eq_true rfl, Nat.le_of_ble_eq_true rfl⟩) rfl hl.1 rfl (Nat.le_of_ble_eq_true rfl) dX7_isPerson_12 ⟨Nat.zero_le _, Nat.zero_le _⟩ (fun r1 H locs hw hM hS => ?_)
  exact M_zret hx hb hr hlocks hM hS ⟨_, rfl, ⟨rfl, hw⟩⟩ dX7_isPerson_15

/-- person(II)I -/
def wpBX7_person_99 (post : Int32 → Mem → Prop) (a1 : Int32) (a2 : Int32)  (K99 : Int32 → Int32 → Prop) (h : Mem)  (x3 : Int32) (x4 : Int32) : Prop :=
  (((h 3 0) ≤ x4 → post x3 h) ∧ (¬ (h 3 0) ≤ x4 → ((x4 = a1 → K99 x3 (x4 + (1 : Int32))) ∧ (¬ x4 = a1 → (wpX7_isKnown (fun r13 => K99 (if r13 = true then (x3 ||| ((1 : Int32) <<< (x4 &&& 31))) else x3) (x4 + (1 : Int32))) h a1 x4)))))
def wpLX7_person_99 (post : Int32 → Mem → Prop) (a1 : Int32) (a2 : Int32)  (h : Mem)  : Nat → (Int32 × Int32) → Prop := LW (fun K s => wpBX7_person_99 post a1 a2  (fun x3 x4 => K (x3, x4)) h  s.1 s.2)
def wpX7_person (post : Int32 → Mem → Prop) (h : Mem) (a1 : Int32) (a2 : Int32) : Prop :=
  (∀ h1 : Mem, h1 = up2 h 2 0 (0 : Int32) → (wpX7_isPerson (fun r2 => ((r2 = true → ((a2 = (0 : Int32) → (vp_in a1 (mlen 4) ∧ post (h1 4 (ix a1)) h1)) ∧ (¬ a2 = (0 : Int32) → ((a2 = (1 : Int32) → (vp_in a1 (mlen 5) ∧ post (h1 5 (ix a1)) h1)) ∧ (¬ a2 = (1 : Int32) → ((a2 = (2 : Int32) → (vp_in a1 (mlen 6) ∧ post (h1 6 (ix a1)) h1)) ∧ (¬ a2 = (2 : Int32) → ((a2 = (3 : Int32) → (wpX7_twinOf (fun r8 => post r8 h1) h1 a1)) ∧ (¬ a2 = (3 : Int32) → ((a2 = (4 : Int32) → (vp_in a1 (mlen 28) ∧ post (h1 28 (ix a1)) h1)) ∧ (¬ a2 = (4 : Int32) → ((a2 = (5 : Int32) → (∃ n, wpLX7_person_99 post a1 a2  h1 n ((0 : Int32), (0 : Int32)))) ∧ (¬ a2 = (5 : Int32) → (wpX7_fail (fun r20 h21 => post r20 h21) h1 (1 : Int32))))))))))))))) ∧ (¬ r2 = true → (wpX7_fail (fun r22 h23 => post r22 h23) h1 (1 : Int32))))) h1 a1))
set_option maxHeartbeats 4000000 in
set_option maxRecDepth 100000 in
theorem metX7_person (l : Launch) (D : va_G) (cA : Nat → ClassId) (z0 : Nat) (E : Nat → Nat → Nat) (ad : Nat → Nat) (h : Mem) (a1 : Int32) (a2 : Int32) (post : Int32 → Mem → Prop) (hw : wpX7_person post h a1 a2) : MeI l D cA z0 E ad yX7_person (ws_ yX7_person cX7_person 5 (some .int)) ({ frames := 4, cells := 0, slots := 0, locals := 98 }) [.ref (ad 69), .int a1, .int a2] h post := by
  refine Met.ofW (cc := cX7_person) (maxL := 5) (ret := (some .int)) (by decide) rfl ?_
  intro p e s m args below meth c s₁ B hml hv
  obtain ⟨rfl, hM, hK, hJ, hZ⟩ := hv
  have hx := B.exec
  have hb := B.bytes
  have hr := B.returns
  have hts := atoms_spec (ws := ws_ yX7_person cX7_person 5 (some .int)) B.pre
  have hts : ∀ w ∈ lw_all, w.before _ s = true := fun w h => hts w (List.mem_cons_of_mem _ h)
  have hown : s.vm.findClass RX7 = some m.cls := findClass_of_methodNamed B.named
  have hlocks := B.notSynchronized
  have hS : va_S (MA ad) s.heap s.heap [] := va_S.rf
  have hl := lv_entry ([.ref (ad 69), .int a1, .int a2]) (n := 5) (Nat.le_of_ble_eq_true rfl)
  rw [lg_entry_eq]
  generalize (lg_sl ([.ref (ad 69), .int a1, .int a2]) ++ List.replicate (5 - (lg_sl ([.ref (ad 69), .int a1, .int a2])).length) Slot.unset).toArray = ls at hl ⊢
  have hl : lv_has ls 5 [(0, .ref (ad 69)), (1, .int a1), (2, .int a2)] := hl
  have hL99 : ∀ (h : Mem)  (n99 : Nat) (x3 : Int32) (x4 : Int32), wpLX7_person_99 post a1 a2  h  n99 (x3, x4) → JM p l e (headSpec (ws_ yX7_person cX7_person 5 (some .int)) ({ frames := 4, cells := 0, slots := 0, locals := 98 })).room s m ([.ref (ad 69), .int a1, .int a2] : List Value).toArray below meth c (MQ below (MQi D cA E ad post) ([.ref (ad 69), .int a1, .int a2] : List Value).toArray s 0 0 (MA ad)) D cA E ad 5 99 h [(0, .ref (ad 69)), (1, .int a1), (3, .int x3), (4, .int x4)] [] := by
    intro h n99
    induction n99 with
    | zero => intro x3 x4 hw; exact False.elim hw
    | succ n99 ih99 =>
      intro x3 x4 hw H locs ls hM hS hl
      have hw : wpBX7_person_99 post a1 a2  (fun x3 x4 => wpLX7_person_99 post a1 a2  h  n99 (x3, x4)) h  x3 x4 := hw
      unfold wpBX7_person_99 at hw
      refine lv_iload hx hb dX7_person_99 (lv_at hl 3 rfl) ?_
      refine lv_aload_n hx hb dX7_person_101 rfl (lv_at hl 0 rfl) ?_
      refine M_get hx hb hts hown hK hM 3 (v := .ref (ad 3)) (by decide) (hts _ q1686) rfl dX7_person_102 ?_
      refine lv_iconst (v := (0 : Int32)) hx hb dX7_person_105 (by decide) ?_
      refine M_iald hx hb hK hM 3 rfl (j := 0) rfl (by unfold vp_in; decide) dX7_person_106 ?_
      refine lv_icmp_ge (tgt := 139) hx hb dX7_person_107 (by decide) (fun c11 => ?_) (fun c11 => ?_)
      · have hw := hw.1 c11
        refine lv_iload_n hx hb dX7_person_139 rfl (lv_at hl 2 rfl) ?_
        exact M_iret hx hb hr hlocks hM hS hw dX7_person_140
      · have hw := hw.2 c11
        refine lv_iload hx hb dX7_person_110 (lv_at hl 3 rfl) ?_
        refine lv_iload_n hx hb dX7_person_112 rfl (lv_at hl 1 rfl) ?_
        refine lv_icmp_eq (tgt := 133) hx hb dX7_person_113 (by decide) (fun c12 => ?_) (fun c12 => ?_)
        · have hw := hw.1 c12
          refine lv_iinc (v := (x4 + (1 : Int32))) (lv' := [(4, .int (x4 + (1 : Int32))), (0, .ref (ad 69)), (1, .int a1), (3, .int x3)]) hx hb dX7_person_133 hl (k := 3) rfl rfl (by decide) rfl (fun ls hl => ?_)
          refine lv_goto (tgt := 99) hx hb dX7_person_136 (by decide) ?_
          exact ih99 x3 (x4 + (1 : Int32)) hw _ _ ls hM hS (lv_sub hl [1, 2, 3, 0] rfl)
        · have hw := hw.2 c12
          refine lv_aload_n hx hb dX7_person_116 rfl (lv_at hl 0 rfl) ?_
          refine lv_iload_n hx hb dX7_person_117 rfl (lv_at hl 1 rfl) ?_
          refine lv_iload hx hb dX7_person_118 (lv_at hl 3 rfl) ?_
          refine M_callZp (As := [.int a1, .int x4]) (rest := []) ⟨hx, hb, hml, hown, hts⟩ hK hZ hM hJ hS (metX7_isKnown l D cA z0 E ad h a1 x4 _ hw) (cwV 2 hts (lw_V q2039 q2041 qs68 q130 q2042) rfl rfl rfl (by decide +kernel) ⟨Nat.le_of_ble_eq_true rfl, Nat.le_of_ble_eq_true rfl⟩) rfl hl.1 rfl (Nat.le_of_ble_eq_true rfl) dX7_person_120 ⟨Nat.zero_le _, Nat.zero_le _⟩ (fun r13 H locs hw hM hS => ?_)
          have hj15 : JM p l e (headSpec (ws_ yX7_person cX7_person 5 (some .int)) ({ frames := 4, cells := 0, slots := 0, locals := 98 })).room s m ([.ref (ad 69), .int a1, .int a2] : List Value).toArray below meth c (MQ below (MQi D cA E ad post) ([.ref (ad 69), .int a1, .int a2] : List Value).toArray s 0 0 (MA ad)) D cA E ad 5 133 h [(0, .ref (ad 69)), (1, .int a1), (3, .int (if r13 = true then (x3 ||| ((1 : Int32) <<< (x4 &&& 31))) else x3)), (4, .int x4)] [] := by
            intro H locs ls hM hS hl
            refine lv_iinc (v := (x4 + (1 : Int32))) (lv' := [(4, .int (x4 + (1 : Int32))), (0, .ref (ad 69)), (1, .int a1), (3, .int (if r13 = true then (x3 ||| ((1 : Int32) <<< (x4 &&& 31))) else x3))]) hx hb dX7_person_133 hl (k := 3) rfl rfl (by decide) rfl (fun ls hl => ?_)
            refine lv_goto (tgt := 99) hx hb dX7_person_136 (by decide) ?_
            exact ih99 (if r13 = true then (x3 ||| ((1 : Int32) <<< (x4 &&& 31))) else x3) (x4 + (1 : Int32)) hw _ _ ls hM hS (lv_sub hl [1, 2, 3, 0] rfl)
          refine lv_if_eq (tgt := 133) hx hb dX7_person_123 (by decide) (fun c16 => ?_) (fun c16 => ?_)
          · have c16 := b2i_f c16
            have e17 : (if r13 = true then (x3 ||| ((1 : Int32) <<< (x4 &&& 31))) else x3) = x3 := by rw [if_neg c16]
            rw [e17] at hj15
            exact hj15 _ _ ls hM hS (lv_sub hl [0, 1, 2, 3] rfl)
          · have c16 := b2i_t c16
            refine lv_iload_n hx hb dX7_person_126 rfl (lv_at hl 2 rfl) ?_
            refine lv_iconst (v := (1 : Int32)) hx hb dX7_person_127 (by decide) ?_
            refine lv_iload hx hb dX7_person_128 (lv_at hl 3 rfl) ?_
            refine lv_ishl hx hb dX7_person_130 ?_
            refine lv_ior hx hb dX7_person_131 ?_
            refine lv_istore_n (lv' := [(3, .int (x3 ||| ((1 : Int32) <<< (x4 &&& 31)))), (0, .ref (ad 69)), (1, .int a1), (4, .int x4)]) hx hb dX7_person_132 rfl hl (by decide) rfl (fun ls hl => ?_)
            have e18 : (if r13 = true then (x3 ||| ((1 : Int32) <<< (x4 &&& 31))) else x3) = (x3 ||| ((1 : Int32) <<< (x4 &&& 31))) := by rw [if_pos c16]
            rw [e18] at hj15
            exact hj15 _ _ ls hM hS (lv_sub hl [1, 2, 0, 3] rfl)
  unfold wpX7_person at hw
  refine lv_aload_n hx hb dX7_person_0 rfl (lv_at hl 0 rfl) ?_
  refine lv_iconst (v := (0 : Int32)) hx hb dX7_person_1 (by decide) ?_
  refine M_put hx hb hts hown hK hM hJ hS 2 rfl rfl (hts _ q1685) rfl .int (by decide +kernel) rfl rfl dX7_person_2 (fun H locs hM hS => ?_)
  obtain ⟨h1, eh1⟩ : ∃ y : Mem, y = up2 h 2 0 (0 : Int32) := ⟨_, rfl⟩
  rw [← eh1] at hM
  have hw := hw h1 eh1
  refine lv_aload_n hx hb dX7_person_5 rfl (lv_at hl 0 rfl) ?_
  refine lv_iload_n hx hb dX7_person_6 rfl (lv_at hl 1 rfl) ?_
  refine M_callZp (As := [.int a1]) (rest := []) ⟨hx, hb, hml, hown, hts⟩ hK hZ hM hJ hS (metX7_isPerson l D cA z0 E ad h1 a1 _ hw) (cwV 1 hts (lw_V q2055 q2057 qs71 q130 q2058) rfl rfl rfl (by decide +kernel) ⟨Nat.le_of_ble_eq_true rfl, Nat.le_of_ble_eq_true rfl⟩) rfl hl.1 rfl (Nat.le_of_ble_eq_true rfl) dX7_person_7 ⟨Nat.zero_le _, Nat.zero_le _⟩ (fun r2 H locs hw hM hS => ?_)
  refine lv_if_ne (tgt := 19) hx hb dX7_person_10 (by decide) (fun c4 => ?_) (fun c4 => ?_)
  · have c4 := b2i_t c4
    have hw := hw.1 c4
    refine lv_iload_n hx hb dX7_person_19 rfl (lv_at hl 2 rfl) ?_
    by_cases c20_0 : a2 = (0 : Int32)
    · have hw := hw.1 c20_0
      refine lv_swIn (v := (0 : Int32)) (tgt := 60) hx hb c20_0 dX7_person_20 (by decide) (by decide) rfl (by decide) ?_
      refine lv_aload_n hx hb dX7_person_60 rfl (lv_at hl 0 rfl) ?_
      refine M_get hx hb hts hown hK hM 4 (v := .ref (ad 4)) (by decide) (hts _ q1687) rfl dX7_person_61 ?_
      refine lv_iload_n hx hb dX7_person_64 rfl (lv_at hl 1 rfl) ?_
      obtain ⟨hb5, hw⟩ := hw
      refine M_iald hx hb hK hM 4 rfl (j := (ix a1)) rfl hb5 dX7_person_65 ?_
      exact M_iret hx hb hr hlocks hM hS hw dX7_person_66
    have hw := hw.2 c20_0
    by_cases c20_1 : a2 = (1 : Int32)
    · have hw := hw.1 c20_1
      refine lv_swIn (v := (1 : Int32)) (tgt := 67) hx hb c20_1 dX7_person_20 (by decide) (by decide) rfl (by decide) ?_
      refine lv_aload_n hx hb dX7_person_67 rfl (lv_at hl 0 rfl) ?_
      refine M_get hx hb hts hown hK hM 5 (v := .ref (ad 5)) (by decide) (hts _ q1688) rfl dX7_person_68 ?_
      refine lv_iload_n hx hb dX7_person_71 rfl (lv_at hl 1 rfl) ?_
      obtain ⟨hb6, hw⟩ := hw
      refine M_iald hx hb hK hM 5 rfl (j := (ix a1)) rfl hb6 dX7_person_72 ?_
      exact M_iret hx hb hr hlocks hM hS hw dX7_person_73
    have hw := hw.2 c20_1
    by_cases c20_2 : a2 = (2 : Int32)
    · have hw := hw.1 c20_2
      refine lv_swIn (v := (2 : Int32)) (tgt := 74) hx hb c20_2 dX7_person_20 (by decide) (by decide) rfl (by decide) ?_
      refine lv_aload_n hx hb dX7_person_74 rfl (lv_at hl 0 rfl) ?_
      refine M_get hx hb hts hown hK hM 6 (v := .ref (ad 6)) (by decide) (hts _ q1689) rfl dX7_person_75 ?_
      refine lv_iload_n hx hb dX7_person_78 rfl (lv_at hl 1 rfl) ?_
      obtain ⟨hb7, hw⟩ := hw
      refine M_iald hx hb hK hM 6 rfl (j := (ix a1)) rfl hb7 dX7_person_79 ?_
      exact M_iret hx hb hr hlocks hM hS hw dX7_person_80
    have hw := hw.2 c20_2
    by_cases c20_3 : a2 = (3 : Int32)
    · have hw := hw.1 c20_3
      refine lv_swIn (v := (3 : Int32)) (tgt := 81) hx hb c20_3 dX7_person_20 (by decide) (by decide) rfl (by decide) ?_
      refine lv_aload_n hx hb dX7_person_81 rfl (lv_at hl 0 rfl) ?_
      refine lv_iload_n hx hb dX7_person_82 rfl (lv_at hl 1 rfl) ?_
      refine M_callIp (As := [.int a1]) (rest := []) ⟨hx, hb, hml, hown, hts⟩ hK hZ hM hJ hS (metX7_twinOf l D cA z0 E ad h1 a1 _ hw) (cwV 1 hts (lw_V q2043 q2045 qs69 q130 q2046) rfl rfl rfl (by decide +kernel) ⟨Nat.le_of_ble_eq_true rfl, Nat.le_of_ble_eq_true rfl⟩) rfl hl.1 rfl (Nat.le_of_ble_eq_true rfl) dX7_person_83 ⟨Nat.zero_le _, Nat.zero_le _⟩ (fun r8 H locs hw hM hS => ?_)
      exact M_iret hx hb hr hlocks hM hS hw dX7_person_86
    have hw := hw.2 c20_3
    by_cases c20_4 : a2 = (4 : Int32)
    · have hw := hw.1 c20_4
      refine lv_swIn (v := (4 : Int32)) (tgt := 87) hx hb c20_4 dX7_person_20 (by decide) (by decide) rfl (by decide) ?_
      refine lv_aload_n hx hb dX7_person_87 rfl (lv_at hl 0 rfl) ?_
      refine M_get hx hb hts hown hK hM 28 (v := .ref (ad 28)) (by decide) (hts _ q1711) rfl dX7_person_88 ?_
      refine lv_iload_n hx hb dX7_person_91 rfl (lv_at hl 1 rfl) ?_
      obtain ⟨hb10, hw⟩ := hw
      refine M_iald hx hb hK hM 28 rfl (j := (ix a1)) rfl hb10 dX7_person_92 ?_
      exact M_iret hx hb hr hlocks hM hS hw dX7_person_93
    have hw := hw.2 c20_4
    by_cases c20_5 : a2 = (5 : Int32)
    · have hw := hw.1 c20_5
      refine lv_swIn (v := (5 : Int32)) (tgt := 94) hx hb c20_5 dX7_person_20 (by decide) (by decide) rfl (by decide) ?_
      refine lv_iconst (v := (0 : Int32)) hx hb dX7_person_94 (by decide) ?_
      refine lv_istore_n (lv' := [(3, .int (0 : Int32)), (0, .ref (ad 69)), (1, .int a1), (2, .int a2)]) hx hb dX7_person_95 rfl hl (by decide) rfl (fun ls hl => ?_)
      refine lv_iconst (v := (0 : Int32)) hx hb dX7_person_96 (by decide) ?_
      refine lv_istore (lv' := [(4, .int (0 : Int32)), (3, .int (0 : Int32)), (0, .ref (ad 69)), (1, .int a1), (2, .int a2)]) hx hb dX7_person_97 hl (by decide) rfl (fun ls hl => ?_)
      obtain ⟨n19, hw⟩ := hw
      exact hL99 h1 n19 (0 : Int32) (0 : Int32) hw _ _ ls hM hS (lv_sub hl [2, 3, 1, 0] rfl)
    have hw := hw.2 c20_5
    have hsw : a2.toInt < (0 : Int) ∨ (5 : Int) < a2.toInt := by
      refine sw_out (fun k h1 h2 => ?_)
      rcases (show k = 0 ∨ k = 1 ∨ k = 2 ∨ k = 3 ∨ k = 4 ∨ k = 5 by omega) with rfl | rfl | rfl | rfl | rfl | rfl
      · exact c20_0
      · exact c20_1
      · exact c20_2
      · exact c20_3
      · exact c20_4
      · exact c20_5
    refine lv_tableOut (tgt := 141) hx hb dX7_person_20 hsw (by decide) ?_
    refine lv_aload_n hx hb dX7_person_141 rfl (lv_at hl 0 rfl) ?_
    refine lv_iconst (v := (1 : Int32)) hx hb dX7_person_142 (by decide) ?_
    refine M_callI (As := [.int (1 : Int32)]) (rest := []) ⟨hx, hb, hml, hown, hts⟩ hK hZ hM hJ hS (metX7_fail l D cA z0 E ad h1 (1 : Int32) _ hw) (cwV 1 hts (lw_V q1903 q1905 qs44 q130 q1906) rfl rfl rfl (by decide +kernel) ⟨Nat.le_of_ble_eq_true rfl, Nat.le_of_ble_eq_true rfl⟩) rfl hl.1 rfl (Nat.le_of_ble_eq_true rfl) dX7_person_143 ⟨Nat.zero_le _, Nat.zero_le _⟩ (fun r20 h21 H locs hw hM hS => ?_)
    exact M_iret hx hb hr hlocks hM hS hw dX7_person_146
  · have c4 := b2i_f c4
    have hw := hw.2 c4
    refine lv_aload_n hx hb dX7_person_13 rfl (lv_at hl 0 rfl) ?_
    refine lv_iconst (v := (1 : Int32)) hx hb dX7_person_14 (by decide) ?_
    refine M_callI (As := [.int (1 : Int32)]) (rest := []) ⟨hx, hb, hml, hown, hts⟩ hK hZ hM hJ hS (metX7_fail l D cA z0 E ad h1 (1 : Int32) _ hw) (cwV 1 hts (lw_V q1903 q1905 qs44 q130 q1906) rfl rfl rfl (by decide +kernel) ⟨Nat.le_of_ble_eq_true rfl, Nat.le_of_ble_eq_true rfl⟩) rfl hl.1 rfl (Nat.le_of_ble_eq_true rfl) dX7_person_15 ⟨Nat.zero_le _, Nat.zero_le _⟩ (fun r22 h23 H locs hw hM hS => ?_)
    exact M_iret hx hb hr hlocks hM hS hw dX7_person_18

/-- eatersOf(I)I -/
def wpBX7_eatersOf_4 (post : Int32 → Prop) (a1 : Int32)  (K4 : Int32 → Int32 → Prop) (h : Mem)  (x2 : Int32) (x3 : Int32) : Prop :=
  (vp_in a1 (mlen 11) ∧ (((h 11 (ix a1)) ≤ x3 → post x2) ∧ (¬ (h 11 (ix a1)) ≤ x3 → (vp_in (((6 : Int32) * a1) + x3) (mlen 12) ∧ K4 (x2 ||| ((1 : Int32) <<< ((h 12 (ix (((6 : Int32) * a1) + x3))) &&& 31))) (x3 + (1 : Int32))))))
def wpLX7_eatersOf_4 (post : Int32 → Prop) (a1 : Int32)  (h : Mem)  : Nat → (Int32 × Int32) → Prop := LW (fun K s => wpBX7_eatersOf_4 post a1  (fun x2 x3 => K (x2, x3)) h  s.1 s.2)
def wpX7_eatersOf (post : Int32 → Prop) (h : Mem) (a1 : Int32) : Prop :=
  (∃ n, wpLX7_eatersOf_4 post a1  h n ((0 : Int32), (0 : Int32)))
set_option maxHeartbeats 4000000 in
set_option maxRecDepth 100000 in
theorem metX7_eatersOf (l : Launch) (D : va_G) (cA : Nat → ClassId) (z0 : Nat) (E : Nat → Nat → Nat) (ad : Nat → Nat) (h : Mem) (a1 : Int32) (post : Int32 → Prop) (hw : wpX7_eatersOf post h a1) : MeI l D cA z0 E ad yX7_eatersOf (ws_ yX7_eatersOf cX7_eatersOf 4 (some .int)) ({ frames := 1, cells := 0, slots := 0, locals := 30 }) [.ref (ad 69), .int a1] h (fun r h' => h' = h ∧ post r) := by
  refine Met.ofW (cc := cX7_eatersOf) (maxL := 4) (ret := (some .int)) (by decide) rfl ?_
  intro p e s m args below meth c s₁ B hml hv
  obtain ⟨rfl, hM, hK, hJ, hZ⟩ := hv
  have hx := B.exec
  have hb := B.bytes
  have hr := B.returns
  have hts := atoms_spec (ws := ws_ yX7_eatersOf cX7_eatersOf 4 (some .int)) B.pre
  have hts : ∀ w ∈ lw_all, w.before _ s = true := fun w h => hts w (List.mem_cons_of_mem _ h)
  have hown : s.vm.findClass RX7 = some m.cls := findClass_of_methodNamed B.named
  have hlocks := B.notSynchronized
  have hS : va_S (MA ad) s.heap s.heap [] := va_S.rf
  have hl := lv_entry ([.ref (ad 69), .int a1]) (n := 4) (Nat.le_of_ble_eq_true rfl)
  rw [lg_entry_eq]
  generalize (lg_sl ([.ref (ad 69), .int a1]) ++ List.replicate (4 - (lg_sl ([.ref (ad 69), .int a1])).length) Slot.unset).toArray = ls at hl ⊢
  have hl : lv_has ls 4 [(0, .ref (ad 69)), (1, .int a1)] := hl
  have hL4 : ∀  (n4 : Nat) (x2 : Int32) (x3 : Int32), wpLX7_eatersOf_4 post a1  h  n4 (x2, x3) → JM p l e (headSpec (ws_ yX7_eatersOf cX7_eatersOf 4 (some .int)) ({ frames := 1, cells := 0, slots := 0, locals := 30 })).room s m ([.ref (ad 69), .int a1] : List Value).toArray below meth c (MQ below (MQi D cA E ad (fun r h' => h' = h ∧ post r)) ([.ref (ad 69), .int a1] : List Value).toArray s 0 0 (MA ad)) D cA E ad 4 4 h [(0, .ref (ad 69)), (1, .int a1), (2, .int x2), (3, .int x3)] [] := by
    intro  n4
    induction n4 with
    | zero => intro x2 x3 hw; exact False.elim hw
    | succ n4 ih4 =>
      intro x2 x3 hw H locs ls hM hS hl
      have hw : wpBX7_eatersOf_4 post a1  (fun x2 x3 => wpLX7_eatersOf_4 post a1  h  n4 (x2, x3)) h  x2 x3 := hw
      unfold wpBX7_eatersOf_4 at hw
      refine lv_iload_n hx hb dX7_eatersOf_4 rfl (lv_at hl 3 rfl) ?_
      refine lv_aload_n hx hb dX7_eatersOf_5 rfl (lv_at hl 0 rfl) ?_
      refine M_get hx hb hts hown hK hM 11 (v := .ref (ad 11)) (by decide) (hts _ q1694) rfl dX7_eatersOf_6 ?_
      refine lv_iload_n hx hb dX7_eatersOf_9 rfl (lv_at hl 1 rfl) ?_
      obtain ⟨hb1, hw⟩ := hw
      refine M_iald hx hb hK hM 11 rfl (j := (ix a1)) rfl hb1 dX7_eatersOf_10 ?_
      refine lv_icmp_ge (tgt := 36) hx hb dX7_eatersOf_11 (by decide) (fun c2 => ?_) (fun c2 => ?_)
      · have hw := hw.1 c2
        refine lv_iload_n hx hb dX7_eatersOf_36 rfl (lv_at hl 2 rfl) ?_
        exact M_iret hx hb hr hlocks hM hS ⟨rfl, hw⟩ dX7_eatersOf_37
      · have hw := hw.2 c2
        refine lv_iload_n hx hb dX7_eatersOf_14 rfl (lv_at hl 2 rfl) ?_
        refine lv_iconst (v := (1 : Int32)) hx hb dX7_eatersOf_15 (by decide) ?_
        refine lv_aload_n hx hb dX7_eatersOf_16 rfl (lv_at hl 0 rfl) ?_
        refine M_get hx hb hts hown hK hM 12 (v := .ref (ad 12)) (by decide) (hts _ q1695) rfl dX7_eatersOf_17 ?_
        refine lv_bipush (v := (6 : Int32)) hx hb dX7_eatersOf_20 (by decide) ?_
        refine lv_iload_n hx hb dX7_eatersOf_22 rfl (lv_at hl 1 rfl) ?_
        refine lv_imul hx hb dX7_eatersOf_23 ?_
        refine lv_iload_n hx hb dX7_eatersOf_24 rfl (lv_at hl 3 rfl) ?_
        refine lv_iadd hx hb dX7_eatersOf_25 ?_
        obtain ⟨hb3, hw⟩ := hw
        refine M_iald hx hb hK hM 12 rfl (j := (ix (((6 : Int32) * a1) + x3))) rfl hb3 dX7_eatersOf_26 ?_
        refine lv_ishl hx hb dX7_eatersOf_27 ?_
        refine lv_ior hx hb dX7_eatersOf_28 ?_
        refine lv_istore_n (lv' := [(2, .int (x2 ||| ((1 : Int32) <<< ((h 12 (ix (((6 : Int32) * a1) + x3))) &&& 31)))), (0, .ref (ad 69)), (1, .int a1), (3, .int x3)]) hx hb dX7_eatersOf_29 rfl hl (by decide) rfl (fun ls hl => ?_)
        refine lv_iinc (v := (x3 + (1 : Int32))) (lv' := [(3, .int (x3 + (1 : Int32))), (2, .int (x2 ||| ((1 : Int32) <<< ((h 12 (ix (((6 : Int32) * a1) + x3))) &&& 31)))), (0, .ref (ad 69)), (1, .int a1)]) hx hb dX7_eatersOf_30 hl (k := 3) rfl rfl (by decide) rfl (fun ls hl => ?_)
        refine lv_goto (tgt := 4) hx hb dX7_eatersOf_33 (by decide) ?_
        exact ih4 (x2 ||| ((1 : Int32) <<< ((h 12 (ix (((6 : Int32) * a1) + x3))) &&& 31))) (x3 + (1 : Int32)) hw _ _ ls hM hS (lv_sub hl [2, 3, 1, 0] rfl)
  unfold wpX7_eatersOf at hw
  refine lv_iconst (v := (0 : Int32)) hx hb dX7_eatersOf_0 (by decide) ?_
  refine lv_istore_n (lv' := [(2, .int (0 : Int32)), (0, .ref (ad 69)), (1, .int a1)]) hx hb dX7_eatersOf_1 rfl hl (by decide) rfl (fun ls hl => ?_)
  refine lv_iconst (v := (0 : Int32)) hx hb dX7_eatersOf_2 (by decide) ?_
  refine lv_istore_n (lv' := [(3, .int (0 : Int32)), (2, .int (0 : Int32)), (0, .ref (ad 69)), (1, .int a1)]) hx hb dX7_eatersOf_3 rfl hl (by decide) rfl (fun ls hl => ?_)
  obtain ⟨n4, hw⟩ := hw
  exact hL4 n4 (0 : Int32) (0 : Int32) hw _ _ ls hM hS (lv_sub hl [2, 3, 1, 0] rfl)

/-- eats(II)Z -/
def wpX7_eats (post : Bool → Prop) (h : Mem) (a1 : Int32) (a2 : Int32) : Prop :=
  (wpX7_eatersOf (fun r1 => (wpX7_isOf (fun r3 => ((r3 = true → post true) ∧ (¬ r3 = true → (wpX7_twinOf (fun r6 => ((r6 = (-1 : Int32) → post false) ∧ (¬ r6 = (-1 : Int32) → (wpX7_twinOf (fun r9 => (wpX7_isOf (fun r11 => post (if r11 = true then true else false)) h r1 r9)) h a1)))) h a1)))) h r1 a1)) h a2)
set_option maxHeartbeats 4000000 in
set_option maxRecDepth 100000 in
theorem metX7_eats (l : Launch) (D : va_G) (cA : Nat → ClassId) (z0 : Nat) (E : Nat → Nat → Nat) (ad : Nat → Nat) (h : Mem) (a1 : Int32) (a2 : Int32) (post : Bool → Prop) (hw : wpX7_eats post h a1 a2) : MeZ l D cA z0 E ad yX7_eats (ws_ yX7_eats cX7_eats 4 (some .boolean)) ({ frames := 2, cells := 0, slots := 0, locals := 53 }) [.ref (ad 69), .int a1, .int a2] h (fun r h' => h' = h ∧ post r) := by
  refine Met.ofW (cc := cX7_eats) (maxL := 4) (ret := (some .boolean)) (by decide) rfl ?_
  intro p e s m args below meth c s₁ B hml hv
  obtain ⟨rfl, hM, hK, hJ, hZ⟩ := hv
  have hx := B.exec
  have hb := B.bytes
  have hr := B.returns
  have hts := atoms_spec (ws := ws_ yX7_eats cX7_eats 4 (some .boolean)) B.pre
  have hts : ∀ w ∈ lw_all, w.before _ s = true := fun w h => hts w (List.mem_cons_of_mem _ h)
  have hown : s.vm.findClass RX7 = some m.cls := findClass_of_methodNamed B.named
  have hlocks := B.notSynchronized
  have hS : va_S (MA ad) s.heap s.heap [] := va_S.rf
  have hl := lv_entry ([.ref (ad 69), .int a1, .int a2]) (n := 4) (Nat.le_of_ble_eq_true rfl)
  rw [lg_entry_eq]
  generalize (lg_sl ([.ref (ad 69), .int a1, .int a2]) ++ List.replicate (4 - (lg_sl ([.ref (ad 69), .int a1, .int a2])).length) Slot.unset).toArray = ls at hl ⊢
  have hl : lv_has ls 4 [(0, .ref (ad 69)), (1, .int a1), (2, .int a2)] := hl
  unfold wpX7_eats at hw
  refine lv_aload_n hx hb dX7_eats_0 rfl (lv_at hl 0 rfl) ?_
  refine lv_iload_n hx hb dX7_eats_1 rfl (lv_at hl 2 rfl) ?_
  refine M_callIp (As := [.int a2]) (rest := []) ⟨hx, hb, hml, hown, hts⟩ hK hZ hM hJ hS (metX7_eatersOf l D cA z0 E ad h a2 _ hw) (cwV 1 hts (lw_V q2070 q2072 qs73 q130 q2073) rfl rfl rfl (by decide +kernel) ⟨Nat.le_of_ble_eq_true rfl, Nat.le_of_ble_eq_true rfl⟩) rfl hl.1 rfl (Nat.le_of_ble_eq_true rfl) dX7_eats_2 ⟨Nat.zero_le _, Nat.zero_le _⟩ (fun r1 H locs hw hM hS => ?_)
  refine lv_istore_n (lv' := [(3, .int r1), (0, .ref (ad 69)), (1, .int a1), (2, .int a2)]) hx hb dX7_eats_5 rfl hl (by decide) rfl (fun ls hl => ?_)
  refine lv_iload_n hx hb dX7_eats_6 rfl (lv_at hl 0 rfl) ?_
  refine lv_iload_n hx hb dX7_eats_7 rfl (lv_at hl 2 rfl) ?_
  refine M_callZSp (As := [.int r1, .int a1]) (rest := []) ⟨hx, hb, hml, hown, hts⟩ hK hZ hM hJ hS (metX7_isOf l D cA z0 E ad h r1 a1 _ hw) (va_cwS 2 hts (lw_S q2008 q2009 q130 q2010) rfl rfl rfl (by decide +kernel) ⟨Nat.le_of_ble_eq_true rfl, Nat.le_of_ble_eq_true rfl⟩) rfl hl.1 rfl (Nat.le_of_ble_eq_true rfl) dX7_eats_8 ⟨Nat.zero_le _, Nat.zero_le _⟩ (fun r3 H locs hw hM hS => ?_)
  refine lv_if_ne (tgt := 35) hx hb dX7_eats_11 (by decide) (fun c5 => ?_) (fun c5 => ?_)
  · have c5 := b2i_t c5
    have hw := hw.1 c5
    refine lv_iconst (v := (1 : Int32)) hx hb dX7_eats_35 (by decide) ?_
    refine lv_goto (tgt := 40) hx hb dX7_eats_36 (by decide) ?_
    exact M_zret hx hb hr hlocks hM hS ⟨_, rfl, ⟨rfl, hw⟩⟩ dX7_eats_40
  · have c5 := b2i_f c5
    have hw := hw.2 c5
    refine lv_aload_n hx hb dX7_eats_14 rfl (lv_at hl 1 rfl) ?_
    refine lv_iload_n hx hb dX7_eats_15 rfl (lv_at hl 2 rfl) ?_
    refine M_callIp (As := [.int a1]) (rest := []) ⟨hx, hb, hml, hown, hts⟩ hK hZ hM hJ hS (metX7_twinOf l D cA z0 E ad h a1 _ hw) (cwV 1 hts (lw_V q2043 q2045 qs69 q130 q2046) rfl rfl rfl (by decide +kernel) ⟨Nat.le_of_ble_eq_true rfl, Nat.le_of_ble_eq_true rfl⟩) rfl hl.1 rfl (Nat.le_of_ble_eq_true rfl) dX7_eats_16 ⟨Nat.zero_le _, Nat.zero_le _⟩ (fun r6 H locs hw hM hS => ?_)
    refine lv_iconst (v := (-1 : Int32)) hx hb dX7_eats_19 (by decide) ?_
    refine lv_icmp_eq (tgt := 39) hx hb dX7_eats_20 (by decide) (fun c8 => ?_) (fun c8 => ?_)
    · have hw := hw.1 c8
      refine lv_iconst (v := (0 : Int32)) hx hb dX7_eats_39 (by decide) ?_
      exact M_zret hx hb hr hlocks hM hS ⟨_, rfl, ⟨rfl, hw⟩⟩ dX7_eats_40
    · have hw := hw.2 c8
      refine lv_iload_n hx hb dX7_eats_23 rfl (lv_at hl 0 rfl) ?_
      refine lv_aload_n hx hb dX7_eats_24 rfl (lv_at hl 1 rfl) ?_
      refine lv_iload_n hx hb dX7_eats_25 rfl (lv_at hl 2 rfl) ?_
      refine M_callIp (As := [.int a1]) (rest := [.int r1]) ⟨hx, hb, hml, hown, hts⟩ hK hZ hM hJ hS (metX7_twinOf l D cA z0 E ad h a1 _ hw) (cwV 1 hts (lw_V q2043 q2045 qs69 q130 q2046) rfl rfl rfl (by decide +kernel) ⟨Nat.le_of_ble_eq_true rfl, Nat.le_of_ble_eq_true rfl⟩) rfl hl.1 rfl (Nat.le_of_ble_eq_true rfl) dX7_eats_26 ⟨Nat.zero_le _, Nat.zero_le _⟩ (fun r9 H locs hw hM hS => ?_)
      refine M_callZSp (As := [.int r1, .int r9]) (rest := []) ⟨hx, hb, hml, hown, hts⟩ hK hZ hM hJ hS (metX7_isOf l D cA z0 E ad h r1 r9 _ hw) (va_cwS 2 hts (lw_S q2008 q2009 q130 q2010) rfl rfl rfl (by decide +kernel) ⟨Nat.le_of_ble_eq_true rfl, Nat.le_of_ble_eq_true rfl⟩) rfl hl.1 rfl (Nat.le_of_ble_eq_true rfl) dX7_eats_29 ⟨Nat.zero_le _, Nat.zero_le _⟩ (fun r11 H locs hw hM hS => ?_)
      have hj13 : JM p l e (headSpec (ws_ yX7_eats cX7_eats 4 (some .boolean)) ({ frames := 2, cells := 0, slots := 0, locals := 53 })).room s m ([.ref (ad 69), .int a1, .int a2] : List Value).toArray below meth c (MQ below (MQz D cA E ad (fun r h' => h' = h ∧ post r)) ([.ref (ad 69), .int a1, .int a2] : List Value).toArray s 0 0 (MA ad)) D cA E ad 4 40 h [] [.int (if r11 = true then (1 : Int32) else (0 : Int32))] := by
        intro H locs ls hM hS hl
        exact M_zret hx hb hr hlocks hM hS ⟨_, (b2i_pick rfl rfl), ⟨rfl, hw⟩⟩ dX7_eats_40
      refine lv_if_eq (tgt := 39) hx hb dX7_eats_32 (by decide) (fun c14 => ?_) (fun c14 => ?_)
      · have c14 := b2i_f c14
        refine lv_iconst (v := (0 : Int32)) hx hb dX7_eats_39 (by decide) ?_
        have e15 : (if r11 = true then (1 : Int32) else (0 : Int32)) = (0 : Int32) := by rw [if_neg c14]
        rw [e15] at hj13
        exact hj13 _ _ ls hM hS (lv_sub hl [] rfl)
      · have c14 := b2i_t c14
        refine lv_iconst (v := (1 : Int32)) hx hb dX7_eats_35 (by decide) ?_
        refine lv_goto (tgt := 40) hx hb dX7_eats_36 (by decide) ?_
        have e16 : (if r11 = true then (1 : Int32) else (0 : Int32)) = (1 : Int32) := by rw [if_pos c14]
        rw [e16] at hj13
        exact hj13 _ _ ls hM hS (lv_sub hl [] rfl)

/-- knowsEater(II)Z -/
def wpBX7_knowsEater_2 (post : Bool → Prop) (a1 : Int32) (a2 : Int32)  (K2 : Int32 → Prop) (h : Mem)  (x3 : Int32) : Prop :=
  (vp_in a2 (mlen 11) ∧ (((h 11 (ix a2)) ≤ x3 → post false) ∧ (¬ (h 11 (ix a2)) ≤ x3 → (vp_in (((6 : Int32) * a2) + x3) (mlen 12) ∧ (((h 12 (ix (((6 : Int32) * a2) + x3))) = a1 → K2 (x3 + (1 : Int32))) ∧ (¬ (h 12 (ix (((6 : Int32) * a2) + x3))) = a1 → (wpX7_isKnown (fun r5 => ((r5 = true → post true) ∧ (¬ r5 = true → K2 (x3 + (1 : Int32))))) h a1 (h 12 (ix (((6 : Int32) * a2) + x3))))))))))
def wpLX7_knowsEater_2 (post : Bool → Prop) (a1 : Int32) (a2 : Int32)  (h : Mem)  : Nat → (Int32) → Prop := LW (fun K s => wpBX7_knowsEater_2 post a1 a2  (fun x3 => K x3) h  s)
def wpX7_knowsEater (post : Bool → Prop) (h : Mem) (a1 : Int32) (a2 : Int32) : Prop :=
  (∃ n, wpLX7_knowsEater_2 post a1 a2  h n (0 : Int32))
set_option maxHeartbeats 4000000 in
set_option maxRecDepth 100000 in
theorem metX7_knowsEater (l : Launch) (D : va_G) (cA : Nat → ClassId) (z0 : Nat) (E : Nat → Nat → Nat) (ad : Nat → Nat) (h : Mem) (a1 : Int32) (a2 : Int32) (post : Bool → Prop) (hw : wpX7_knowsEater post h a1 a2) : MeZ l D cA z0 E ad yX7_knowsEater (ws_ yX7_knowsEater cX7_knowsEater 5 (some .boolean)) ({ frames := 4, cells := 0, slots := 0, locals := 98 }) [.ref (ad 69), .int a1, .int a2] h (fun r h' => h' = h ∧ post r) := by
  refine Met.ofW (cc := cX7_knowsEater) (maxL := 5) (ret := (some .boolean)) (by decide) rfl ?_
  intro p e s m args below meth c s₁ B hml hv
  obtain ⟨rfl, hM, hK, hJ, hZ⟩ := hv
  have hx := B.exec
  have hb := B.bytes
  have hr := B.returns
  have hts := atoms_spec (ws := ws_ yX7_knowsEater cX7_knowsEater 5 (some .boolean)) B.pre
  have hts : ∀ w ∈ lw_all, w.before _ s = true := fun w h => hts w (List.mem_cons_of_mem _ h)
  have hown : s.vm.findClass RX7 = some m.cls := findClass_of_methodNamed B.named
  have hlocks := B.notSynchronized
  have hS : va_S (MA ad) s.heap s.heap [] := va_S.rf
  have hl := lv_entry ([.ref (ad 69), .int a1, .int a2]) (n := 5) (Nat.le_of_ble_eq_true rfl)
  rw [lg_entry_eq]
  generalize (lg_sl ([.ref (ad 69), .int a1, .int a2]) ++ List.replicate (5 - (lg_sl ([.ref (ad 69), .int a1, .int a2])).length) Slot.unset).toArray = ls at hl ⊢
  have hl : lv_has ls 5 [(0, .ref (ad 69)), (1, .int a1), (2, .int a2)] := hl
  have hL2 : ∀  (n2 : Nat) (x3 : Int32), wpLX7_knowsEater_2 post a1 a2  h  n2 x3 → JM p l e (headSpec (ws_ yX7_knowsEater cX7_knowsEater 5 (some .boolean)) ({ frames := 4, cells := 0, slots := 0, locals := 98 })).room s m ([.ref (ad 69), .int a1, .int a2] : List Value).toArray below meth c (MQ below (MQz D cA E ad (fun r h' => h' = h ∧ post r)) ([.ref (ad 69), .int a1, .int a2] : List Value).toArray s 0 0 (MA ad)) D cA E ad 5 2 h [(0, .ref (ad 69)), (1, .int a1), (2, .int a2), (3, .int x3)] [] := by
    intro  n2
    induction n2 with
    | zero => intro x3 hw; exact False.elim hw
    | succ n2 ih2 =>
      intro x3 hw H locs ls hM hS hl
      have hw : wpBX7_knowsEater_2 post a1 a2  (fun x3 => wpLX7_knowsEater_2 post a1 a2  h  n2 x3) h  x3 := hw
      unfold wpBX7_knowsEater_2 at hw
      refine lv_iload_n hx hb dX7_knowsEater_2 rfl (lv_at hl 3 rfl) ?_
      refine lv_aload_n hx hb dX7_knowsEater_3 rfl (lv_at hl 0 rfl) ?_
      refine M_get hx hb hts hown hK hM 11 (v := .ref (ad 11)) (by decide) (hts _ q1694) rfl dX7_knowsEater_4 ?_
      refine lv_iload_n hx hb dX7_knowsEater_7 rfl (lv_at hl 2 rfl) ?_
      obtain ⟨hb1, hw⟩ := hw
      refine M_iald hx hb hK hM 11 rfl (j := (ix a2)) rfl hb1 dX7_knowsEater_8 ?_
      refine lv_icmp_ge (tgt := 49) hx hb dX7_knowsEater_9 (by decide) (fun c2 => ?_) (fun c2 => ?_)
      · have hw := hw.1 c2
        refine lv_iconst (v := (0 : Int32)) hx hb dX7_knowsEater_49 (by decide) ?_
        exact M_zret hx hb hr hlocks hM hS ⟨_, rfl, ⟨rfl, hw⟩⟩ dX7_knowsEater_50
      · have hw := hw.2 c2
        refine lv_aload_n hx hb dX7_knowsEater_12 rfl (lv_at hl 0 rfl) ?_
        refine M_get hx hb hts hown hK hM 12 (v := .ref (ad 12)) (by decide) (hts _ q1695) rfl dX7_knowsEater_13 ?_
        refine lv_bipush (v := (6 : Int32)) hx hb dX7_knowsEater_16 (by decide) ?_
        refine lv_iload_n hx hb dX7_knowsEater_18 rfl (lv_at hl 2 rfl) ?_
        refine lv_imul hx hb dX7_knowsEater_19 ?_
        refine lv_iload_n hx hb dX7_knowsEater_20 rfl (lv_at hl 3 rfl) ?_
        refine lv_iadd hx hb dX7_knowsEater_21 ?_
        obtain ⟨hb3, hw⟩ := hw
        refine M_iald hx hb hK hM 12 rfl (j := (ix (((6 : Int32) * a2) + x3))) rfl hb3 dX7_knowsEater_22 ?_
        refine lv_istore (lv' := [(4, .int (h 12 (ix (((6 : Int32) * a2) + x3)))), (0, .ref (ad 69)), (1, .int a1), (2, .int a2), (3, .int x3)]) hx hb dX7_knowsEater_23 hl (by decide) rfl (fun ls hl => ?_)
        refine lv_iload hx hb dX7_knowsEater_25 (lv_at hl 0 rfl) ?_
        refine lv_iload_n hx hb dX7_knowsEater_27 rfl (lv_at hl 2 rfl) ?_
        refine lv_icmp_eq (tgt := 43) hx hb dX7_knowsEater_28 (by decide) (fun c4 => ?_) (fun c4 => ?_)
        · have hw := hw.1 c4
          refine lv_iinc (v := (x3 + (1 : Int32))) (lv' := [(3, .int (x3 + (1 : Int32))), (4, .int (h 12 (ix (((6 : Int32) * a2) + x3)))), (0, .ref (ad 69)), (1, .int a1), (2, .int a2)]) hx hb dX7_knowsEater_43 hl (k := 4) rfl rfl (by decide) rfl (fun ls hl => ?_)
          refine lv_goto (tgt := 2) hx hb dX7_knowsEater_46 (by decide) ?_
          exact ih2 (x3 + (1 : Int32)) hw _ _ ls hM hS (lv_sub hl [2, 3, 4, 0] rfl)
        · have hw := hw.2 c4
          refine lv_aload_n hx hb dX7_knowsEater_31 rfl (lv_at hl 1 rfl) ?_
          refine lv_iload_n hx hb dX7_knowsEater_32 rfl (lv_at hl 2 rfl) ?_
          refine lv_iload hx hb dX7_knowsEater_33 (lv_at hl 0 rfl) ?_
          refine M_callZp (As := [.int a1, .int (h 12 (ix (((6 : Int32) * a2) + x3)))]) (rest := []) ⟨hx, hb, hml, hown, hts⟩ hK hZ hM hJ hS (metX7_isKnown l D cA z0 E ad h a1 (h 12 (ix (((6 : Int32) * a2) + x3))) _ hw) (cwV 2 hts (lw_V q2039 q2041 qs68 q130 q2042) rfl rfl rfl (by decide +kernel) ⟨Nat.le_of_ble_eq_true rfl, Nat.le_of_ble_eq_true rfl⟩) rfl hl.1 rfl (Nat.le_of_ble_eq_true rfl) dX7_knowsEater_35 ⟨Nat.zero_le _, Nat.zero_le _⟩ (fun r5 H locs hw hM hS => ?_)
          refine lv_if_eq (tgt := 43) hx hb dX7_knowsEater_38 (by decide) (fun c7 => ?_) (fun c7 => ?_)
          · have c7 := b2i_f c7
            have hw := hw.2 c7
            refine lv_iinc (v := (x3 + (1 : Int32))) (lv' := [(3, .int (x3 + (1 : Int32))), (4, .int (h 12 (ix (((6 : Int32) * a2) + x3)))), (0, .ref (ad 69)), (1, .int a1), (2, .int a2)]) hx hb dX7_knowsEater_43 hl (k := 4) rfl rfl (by decide) rfl (fun ls hl => ?_)
            refine lv_goto (tgt := 2) hx hb dX7_knowsEater_46 (by decide) ?_
            exact ih2 (x3 + (1 : Int32)) hw _ _ ls hM hS (lv_sub hl [2, 3, 4, 0] rfl)
          · have c7 := b2i_t c7
            have hw := hw.1 c7
            refine lv_iconst (v := (1 : Int32)) hx hb dX7_knowsEater_41 (by decide) ?_
            exact M_zret hx hb hr hlocks hM hS ⟨_, rfl, ⟨rfl, hw⟩⟩ dX7_knowsEater_42
  unfold wpX7_knowsEater at hw
  refine lv_iconst (v := (0 : Int32)) hx hb dX7_knowsEater_0 (by decide) ?_
  refine lv_istore_n (lv' := [(3, .int (0 : Int32)), (0, .ref (ad 69)), (1, .int a1), (2, .int a2)]) hx hb dX7_knowsEater_1 rfl hl (by decide) rfl (fun ls hl => ?_)
  obtain ⟨n8, hw⟩ := hw
  exact hL2 n8 (0 : Int32) hw _ _ ls hM hS (lv_sub hl [1, 2, 3, 0] rfl)

/-- mayNow(II)I -/
def wpBX7_mayNow_89 (post : Int32 → Prop) (a1 : Int32) (a2 : Int32)  (h : Mem)   : Prop :=
  ((0 < (h 30 0) → post (5 : Int32)) ∧ (¬ 0 < (h 30 0) → (vp_in a2 (mlen 9) ∧ (vp_in a2 (mlen 10) ∧ (((h 31 0) ≤ ((h 9 (ix a2)) + (h 10 (ix a2))) → (vp_in a2 (mlen 27) ∧ post (if (h 27 (ix a2)) = (-1 : Int32) then (0 : Int32) else (6 : Int32)))) ∧ (¬ (h 31 0) ≤ ((h 9 (ix a2)) + (h 10 (ix a2))) → post (5 : Int32)))))))
def wpBX7_mayNow_13 (post : Int32 → Prop) (a1 : Int32) (a2 : Int32)  (K13 : Int32 → Prop) (h : Mem)  (x3 : Int32) : Prop :=
  (vp_in a2 (mlen 11) ∧ (((h 11 (ix a2)) ≤ x3 → (wpX7_knowsEater (fun r6 => ((r6 = true → post (3 : Int32)) ∧ (¬ r6 = true → (((h 30 0) = 0 → (vp_in a2 (mlen 9) ∧ (((h 9 (ix a2)) ≤ (h 31 0) → wpBX7_mayNow_89 post a1 a2  h ) ∧ (¬ (h 9 (ix a2)) ≤ (h 31 0) → post (4 : Int32))))) ∧ (¬ (h 30 0) = 0 → wpBX7_mayNow_89 post a1 a2  h ))))) h a1 a2)) ∧ (¬ (h 11 (ix a2)) ≤ x3 → (vp_in (((6 : Int32) * a2) + x3) (mlen 12) ∧ (vp_in (h 12 (ix (((6 : Int32) * a2) + x3))) (mlen 5) ∧ (vp_in a1 (mlen 5) ∧ (((h 5 (ix (h 12 (ix (((6 : Int32) * a2) + x3))))) = (h 5 (ix a1)) → post (2 : Int32)) ∧ (¬ (h 5 (ix (h 12 (ix (((6 : Int32) * a2) + x3))))) = (h 5 (ix a1)) → K13 (x3 + (1 : Int32))))))))))
def wpLX7_mayNow_13 (post : Int32 → Prop) (a1 : Int32) (a2 : Int32)  (h : Mem)  : Nat → (Int32) → Prop := LW (fun K s => wpBX7_mayNow_13 post a1 a2  (fun x3 => K x3) h  s)
def wpX7_mayNow (post : Int32 → Prop) (h : Mem) (a1 : Int32) (a2 : Int32) : Prop :=
  (wpX7_eats (fun r1 => ((r1 = true → post (1 : Int32)) ∧ (¬ r1 = true → (∃ n, wpLX7_mayNow_13 post a1 a2  h n (0 : Int32))))) h a1 a2)
set_option maxHeartbeats 4000000 in
set_option maxRecDepth 100000 in
theorem metX7_mayNow (l : Launch) (D : va_G) (cA : Nat → ClassId) (z0 : Nat) (E : Nat → Nat → Nat) (ad : Nat → Nat) (h : Mem) (a1 : Int32) (a2 : Int32) (post : Int32 → Prop) (hw : wpX7_mayNow post h a1 a2) : MeI l D cA z0 E ad yX7_mayNow (ws_ yX7_mayNow cX7_mayNow 4 (some .int)) ({ frames := 5, cells := 0, slots := 0, locals := 122 }) [.ref (ad 69), .int a1, .int a2] h (fun r h' => h' = h ∧ post r) := by
  refine Met.ofW (cc := cX7_mayNow) (maxL := 4) (ret := (some .int)) (by decide) rfl ?_
  intro p e s m args below meth c s₁ B hml hv
  obtain ⟨rfl, hM, hK, hJ, hZ⟩ := hv
  have hx := B.exec
  have hb := B.bytes
  have hr := B.returns
  have hts := atoms_spec (ws := ws_ yX7_mayNow cX7_mayNow 4 (some .int)) B.pre
  have hts : ∀ w ∈ lw_all, w.before _ s = true := fun w h => hts w (List.mem_cons_of_mem _ h)
  have hown : s.vm.findClass RX7 = some m.cls := findClass_of_methodNamed B.named
  have hlocks := B.notSynchronized
  have hS : va_S (MA ad) s.heap s.heap [] := va_S.rf
  have hl := lv_entry ([.ref (ad 69), .int a1, .int a2]) (n := 4) (Nat.le_of_ble_eq_true rfl)
  rw [lg_entry_eq]
  generalize (lg_sl ([.ref (ad 69), .int a1, .int a2]) ++ List.replicate (4 - (lg_sl ([.ref (ad 69), .int a1, .int a2])).length) Slot.unset).toArray = ls at hl ⊢
  have hl : lv_has ls 4 [(0, .ref (ad 69)), (1, .int a1), (2, .int a2)] := hl
  have hB89 : wpBX7_mayNow_89 post a1 a2  h  → JM p l e (headSpec (ws_ yX7_mayNow cX7_mayNow 4 (some .int)) ({ frames := 5, cells := 0, slots := 0, locals := 122 })).room s m ([.ref (ad 69), .int a1, .int a2] : List Value).toArray below meth c (MQ below (MQi D cA E ad (fun r h' => h' = h ∧ post r)) ([.ref (ad 69), .int a1, .int a2] : List Value).toArray s 0 0 (MA ad)) D cA E ad 4 89 h [(0, .ref (ad 69)), (2, .int a2)] [] := by
    intro  hw H locs ls hM hS hl
    unfold wpBX7_mayNow_89 at hw
    refine lv_aload_n hx hb dX7_mayNow_89 rfl (lv_at hl 0 rfl) ?_
    refine M_get hx hb hts hown hK hM 30 (v := .int (h 30 0)) (by decide) (hts _ q1713) rfl dX7_mayNow_90 ?_
    refine lv_if_gt (tgt := 116) hx hb dX7_mayNow_93 (by decide) (fun c10 => ?_) (fun c10 => ?_)
    · have hw := hw.1 c10
      refine lv_iconst (v := (5 : Int32)) hx hb dX7_mayNow_116 (by decide) ?_
      exact M_iret hx hb hr hlocks hM hS ⟨rfl, hw⟩ dX7_mayNow_117
    · have hw := hw.2 c10
      refine lv_aload_n hx hb dX7_mayNow_96 rfl (lv_at hl 0 rfl) ?_
      refine M_get hx hb hts hown hK hM 31 (v := .int (h 31 0)) (by decide) (hts _ q1714) rfl dX7_mayNow_97 ?_
      refine lv_aload_n hx hb dX7_mayNow_100 rfl (lv_at hl 0 rfl) ?_
      refine M_get hx hb hts hown hK hM 9 (v := .ref (ad 9)) (by decide) (hts _ q1692) rfl dX7_mayNow_101 ?_
      refine lv_iload_n hx hb dX7_mayNow_104 rfl (lv_at hl 1 rfl) ?_
      obtain ⟨hb11, hw⟩ := hw
      refine M_iald hx hb hK hM 9 rfl (j := (ix a2)) rfl hb11 dX7_mayNow_105 ?_
      refine lv_aload_n hx hb dX7_mayNow_106 rfl (lv_at hl 0 rfl) ?_
      refine M_get hx hb hts hown hK hM 10 (v := .ref (ad 10)) (by decide) (hts _ q1693) rfl dX7_mayNow_107 ?_
      refine lv_iload_n hx hb dX7_mayNow_110 rfl (lv_at hl 1 rfl) ?_
      obtain ⟨hb12, hw⟩ := hw
      refine M_iald hx hb hK hM 10 rfl (j := (ix a2)) rfl hb12 dX7_mayNow_111 ?_
      refine lv_iadd hx hb dX7_mayNow_112 ?_
      refine lv_icmp_le (tgt := 118) hx hb dX7_mayNow_113 (by decide) (fun c13 => ?_) (fun c13 => ?_)
      · have hw := hw.1 c13
        refine lv_aload_n hx hb dX7_mayNow_118 rfl (lv_at hl 0 rfl) ?_
        refine M_get hx hb hts hown hK hM 27 (v := .ref (ad 27)) (by decide) (hts _ q1710) rfl dX7_mayNow_119 ?_
        refine lv_iload_n hx hb dX7_mayNow_122 rfl (lv_at hl 1 rfl) ?_
        obtain ⟨hb14, hw⟩ := hw
        refine M_iald hx hb hK hM 27 rfl (j := (ix a2)) rfl hb14 dX7_mayNow_123 ?_
        refine lv_iconst (v := (-1 : Int32)) hx hb dX7_mayNow_124 (by decide) ?_
        have hj15 : JM p l e (headSpec (ws_ yX7_mayNow cX7_mayNow 4 (some .int)) ({ frames := 5, cells := 0, slots := 0, locals := 122 })).room s m ([.ref (ad 69), .int a1, .int a2] : List Value).toArray below meth c (MQ below (MQi D cA E ad (fun r h' => h' = h ∧ post r)) ([.ref (ad 69), .int a1, .int a2] : List Value).toArray s 0 0 (MA ad)) D cA E ad 4 134 h [] [.int (if (h 27 (ix a2)) = (-1 : Int32) then (0 : Int32) else (6 : Int32))] := by
          intro H locs ls hM hS hl
          exact M_iret hx hb hr hlocks hM hS ⟨rfl, hw⟩ dX7_mayNow_134
        refine lv_icmp_ne (tgt := 132) hx hb dX7_mayNow_125 (by decide) (fun c16 => ?_) (fun c16 => ?_)
        · refine lv_bipush (v := (6 : Int32)) hx hb dX7_mayNow_132 (by decide) ?_
          have e17 : (if (h 27 (ix a2)) = (-1 : Int32) then (0 : Int32) else (6 : Int32)) = (6 : Int32) := by rw [if_neg c16]
          rw [e17] at hj15
          exact hj15 _ _ ls hM hS (lv_sub hl [] rfl)
        · refine lv_iconst (v := (0 : Int32)) hx hb dX7_mayNow_128 (by decide) ?_
          refine lv_goto (tgt := 134) hx hb dX7_mayNow_129 (by decide) ?_
          have e18 : (if (h 27 (ix a2)) = (-1 : Int32) then (0 : Int32) else (6 : Int32)) = (0 : Int32) := by rw [if_pos c16]
          rw [e18] at hj15
          exact hj15 _ _ ls hM hS (lv_sub hl [] rfl)
      · have hw := hw.2 c13
        refine lv_iconst (v := (5 : Int32)) hx hb dX7_mayNow_116 (by decide) ?_
        exact M_iret hx hb hr hlocks hM hS ⟨rfl, hw⟩ dX7_mayNow_117
  have hL13 : ∀  (n13 : Nat) (x3 : Int32), wpLX7_mayNow_13 post a1 a2  h  n13 x3 → JM p l e (headSpec (ws_ yX7_mayNow cX7_mayNow 4 (some .int)) ({ frames := 5, cells := 0, slots := 0, locals := 122 })).room s m ([.ref (ad 69), .int a1, .int a2] : List Value).toArray below meth c (MQ below (MQi D cA E ad (fun r h' => h' = h ∧ post r)) ([.ref (ad 69), .int a1, .int a2] : List Value).toArray s 0 0 (MA ad)) D cA E ad 4 13 h [(0, .ref (ad 69)), (1, .int a1), (2, .int a2), (3, .int x3)] [] := by
    intro  n13
    induction n13 with
    | zero => intro x3 hw; exact False.elim hw
    | succ n13 ih13 =>
      intro x3 hw H locs ls hM hS hl
      have hw : wpBX7_mayNow_13 post a1 a2  (fun x3 => wpLX7_mayNow_13 post a1 a2  h  n13 x3) h  x3 := hw
      unfold wpBX7_mayNow_13 at hw
      refine lv_iload_n hx hb dX7_mayNow_13 rfl (lv_at hl 3 rfl) ?_
      refine lv_aload_n hx hb dX7_mayNow_14 rfl (lv_at hl 0 rfl) ?_
      refine M_get hx hb hts hown hK hM 11 (v := .ref (ad 11)) (by decide) (hts _ q1694) rfl dX7_mayNow_15 ?_
      refine lv_iload_n hx hb dX7_mayNow_18 rfl (lv_at hl 2 rfl) ?_
      obtain ⟨hb4, hw⟩ := hw
      refine M_iald hx hb hK hM 11 rfl (j := (ix a2)) rfl hb4 dX7_mayNow_19 ?_
      refine lv_icmp_ge (tgt := 56) hx hb dX7_mayNow_20 (by decide) (fun c5 => ?_) (fun c5 => ?_)
      · have hw := hw.1 c5
        refine lv_aload_n hx hb dX7_mayNow_56 rfl (lv_at hl 0 rfl) ?_
        refine lv_iload_n hx hb dX7_mayNow_57 rfl (lv_at hl 1 rfl) ?_
        refine lv_iload_n hx hb dX7_mayNow_58 rfl (lv_at hl 2 rfl) ?_
        refine M_callZp (As := [.int a1, .int a2]) (rest := []) ⟨hx, hb, hml, hown, hts⟩ hK hZ hM hJ hS (metX7_knowsEater l D cA z0 E ad h a1 a2 _ hw) (cwV 2 hts (lw_V q2090 q2092 qs78 q130 q2093) rfl rfl rfl (by decide +kernel) ⟨Nat.le_of_ble_eq_true rfl, Nat.le_of_ble_eq_true rfl⟩) rfl hl.1 rfl (Nat.le_of_ble_eq_true rfl) dX7_mayNow_59 ⟨Nat.zero_le _, Nat.zero_le _⟩ (fun r6 H locs hw hM hS => ?_)
        refine lv_if_eq (tgt := 67) hx hb dX7_mayNow_62 (by decide) (fun c8 => ?_) (fun c8 => ?_)
        · have c8 := b2i_f c8
          have hw := hw.2 c8
          refine lv_aload_n hx hb dX7_mayNow_67 rfl (lv_at hl 0 rfl) ?_
          refine M_get hx hb hts hown hK hM 30 (v := .int (h 30 0)) (by decide) (hts _ q1713) rfl dX7_mayNow_68 ?_
          refine lv_if_ne (tgt := 89) hx hb dX7_mayNow_71 (by decide) (fun c9 => ?_) (fun c9 => ?_)
          · have hw := hw.2 c9
            exact hB89  hw _ _ ls hM hS (lv_sub hl [0, 2] rfl)
          · have hw := hw.1 c9
            refine lv_aload_n hx hb dX7_mayNow_74 rfl (lv_at hl 0 rfl) ?_
            refine M_get hx hb hts hown hK hM 31 (v := .int (h 31 0)) (by decide) (hts _ q1714) rfl dX7_mayNow_75 ?_
            refine lv_aload_n hx hb dX7_mayNow_78 rfl (lv_at hl 0 rfl) ?_
            refine M_get hx hb hts hown hK hM 9 (v := .ref (ad 9)) (by decide) (hts _ q1692) rfl dX7_mayNow_79 ?_
            refine lv_iload_n hx hb dX7_mayNow_82 rfl (lv_at hl 2 rfl) ?_
            obtain ⟨hb19, hw⟩ := hw
            refine M_iald hx hb hK hM 9 rfl (j := (ix a2)) rfl hb19 dX7_mayNow_83 ?_
            refine lv_icmp_ge (tgt := 89) hx hb dX7_mayNow_84 (by decide) (fun c20 => ?_) (fun c20 => ?_)
            · have hw := hw.1 c20
              exact hB89  hw _ _ ls hM hS (lv_sub hl [0, 2] rfl)
            · have hw := hw.2 c20
              refine lv_iconst (v := (4 : Int32)) hx hb dX7_mayNow_87 (by decide) ?_
              exact M_iret hx hb hr hlocks hM hS ⟨rfl, hw⟩ dX7_mayNow_88
        · have c8 := b2i_t c8
          have hw := hw.1 c8
          refine lv_iconst (v := (3 : Int32)) hx hb dX7_mayNow_65 (by decide) ?_
          exact M_iret hx hb hr hlocks hM hS ⟨rfl, hw⟩ dX7_mayNow_66
      · have hw := hw.2 c5
        refine lv_aload_n hx hb dX7_mayNow_23 rfl (lv_at hl 0 rfl) ?_
        refine M_get hx hb hts hown hK hM 5 (v := .ref (ad 5)) (by decide) (hts _ q1688) rfl dX7_mayNow_24 ?_
        refine lv_aload_n hx hb dX7_mayNow_27 rfl (lv_at hl 0 rfl) ?_
        refine M_get hx hb hts hown hK hM 12 (v := .ref (ad 12)) (by decide) (hts _ q1695) rfl dX7_mayNow_28 ?_
        refine lv_bipush (v := (6 : Int32)) hx hb dX7_mayNow_31 (by decide) ?_
        refine lv_iload_n hx hb dX7_mayNow_33 rfl (lv_at hl 2 rfl) ?_
        refine lv_imul hx hb dX7_mayNow_34 ?_
        refine lv_iload_n hx hb dX7_mayNow_35 rfl (lv_at hl 3 rfl) ?_
        refine lv_iadd hx hb dX7_mayNow_36 ?_
        obtain ⟨hb21, hw⟩ := hw
        refine M_iald hx hb hK hM 12 rfl (j := (ix (((6 : Int32) * a2) + x3))) rfl hb21 dX7_mayNow_37 ?_
        obtain ⟨hb22, hw⟩ := hw
        refine M_iald hx hb hK hM 5 rfl (j := (ix (h 12 (ix (((6 : Int32) * a2) + x3))))) rfl hb22 dX7_mayNow_38 ?_
        refine lv_aload_n hx hb dX7_mayNow_39 rfl (lv_at hl 0 rfl) ?_
        refine M_get hx hb hts hown hK hM 5 (v := .ref (ad 5)) (by decide) (hts _ q1688) rfl dX7_mayNow_40 ?_
        refine lv_iload_n hx hb dX7_mayNow_43 rfl (lv_at hl 1 rfl) ?_
        obtain ⟨hb23, hw⟩ := hw
        refine M_iald hx hb hK hM 5 rfl (j := (ix a1)) rfl hb23 dX7_mayNow_44 ?_
        refine lv_icmp_ne (tgt := 50) hx hb dX7_mayNow_45 (by decide) (fun c24 => ?_) (fun c24 => ?_)
        · have hw := hw.2 c24
          refine lv_iinc (v := (x3 + (1 : Int32))) (lv' := [(3, .int (x3 + (1 : Int32))), (0, .ref (ad 69)), (1, .int a1), (2, .int a2)]) hx hb dX7_mayNow_50 hl (k := 3) rfl rfl (by decide) rfl (fun ls hl => ?_)
          refine lv_goto (tgt := 13) hx hb dX7_mayNow_53 (by decide) ?_
          exact ih13 (x3 + (1 : Int32)) hw _ _ ls hM hS (lv_sub hl [1, 2, 3, 0] rfl)
        · have hw := hw.1 c24
          refine lv_iconst (v := (2 : Int32)) hx hb dX7_mayNow_48 (by decide) ?_
          exact M_iret hx hb hr hlocks hM hS ⟨rfl, hw⟩ dX7_mayNow_49
  unfold wpX7_mayNow at hw
  refine lv_aload_n hx hb dX7_mayNow_0 rfl (lv_at hl 0 rfl) ?_
  refine lv_iload_n hx hb dX7_mayNow_1 rfl (lv_at hl 1 rfl) ?_
  refine lv_iload_n hx hb dX7_mayNow_2 rfl (lv_at hl 2 rfl) ?_
  refine M_callZp (As := [.int a1, .int a2]) (rest := []) ⟨hx, hb, hml, hown, hts⟩ hK hZ hM hJ hS (metX7_eats l D cA z0 E ad h a1 a2 _ hw) (cwV 2 hts (lw_V q2086 q2088 qs77 q130 q2089) rfl rfl rfl (by decide +kernel) ⟨Nat.le_of_ble_eq_true rfl, Nat.le_of_ble_eq_true rfl⟩) rfl hl.1 rfl (Nat.le_of_ble_eq_true rfl) dX7_mayNow_3 ⟨Nat.zero_le _, Nat.zero_le _⟩ (fun r1 H locs hw hM hS => ?_)
  refine lv_if_eq (tgt := 11) hx hb dX7_mayNow_6 (by decide) (fun c3 => ?_) (fun c3 => ?_)
  · have c3 := b2i_f c3
    have hw := hw.2 c3
    refine lv_iconst (v := (0 : Int32)) hx hb dX7_mayNow_11 (by decide) ?_
    refine lv_istore_n (lv' := [(3, .int (0 : Int32)), (0, .ref (ad 69)), (1, .int a1), (2, .int a2)]) hx hb dX7_mayNow_12 rfl hl (by decide) rfl (fun ls hl => ?_)
    obtain ⟨n25, hw⟩ := hw
    exact hL13 n25 (0 : Int32) hw _ _ ls hM hS (lv_sub hl [1, 2, 3, 0] rfl)
  · have c3 := b2i_t c3
    have hw := hw.1 c3
    refine lv_iconst (v := (1 : Int32)) hx hb dX7_mayNow_9 (by decide) ?_
    exact M_iret hx hb hr hlocks hM hS ⟨rfl, hw⟩ dX7_mayNow_10

/-- answering(II)I -/
def wpBX7_answering_5 (post : Int32 → Prop) (a1 : Int32) (a2 : Int32)  (K5 : Int32 → Int32 → Prop) (h : Mem)  (x3 : Int32) (x4 : Int32) : Prop :=
  (((h 3 0) ≤ x4 → post x3) ∧ (¬ (h 3 0) ≤ x4 → (wpX7_mayNow (fun r2 => K5 (if r2 = a2 then (x3 ||| ((1 : Int32) <<< (x4 &&& 31))) else x3) (x4 + (1 : Int32))) h x4 a1)))
def wpLX7_answering_5 (post : Int32 → Prop) (a1 : Int32) (a2 : Int32)  (h : Mem)  : Nat → (Int32 × Int32) → Prop := LW (fun K s => wpBX7_answering_5 post a1 a2  (fun x3 x4 => K (x3, x4)) h  s.1 s.2)
def wpX7_answering (post : Int32 → Prop) (h : Mem) (a1 : Int32) (a2 : Int32) : Prop :=
  (∃ n, wpLX7_answering_5 post a1 a2  h n ((0 : Int32), (0 : Int32)))
set_option maxHeartbeats 4000000 in
set_option maxRecDepth 100000 in
theorem metX7_answering (l : Launch) (D : va_G) (cA : Nat → ClassId) (z0 : Nat) (E : Nat → Nat → Nat) (ad : Nat → Nat) (h : Mem) (a1 : Int32) (a2 : Int32) (post : Int32 → Prop) (hw : wpX7_answering post h a1 a2) : MeI l D cA z0 E ad yX7_answering (ws_ yX7_answering cX7_answering 5 (some .int)) ({ frames := 6, cells := 0, slots := 0, locals := 145 }) [.ref (ad 69), .int a1, .int a2] h (fun r h' => h' = h ∧ post r) := by
  refine Met.ofW (cc := cX7_answering) (maxL := 5) (ret := (some .int)) (by decide) rfl ?_
  intro p e s m args below meth c s₁ B hml hv
  obtain ⟨rfl, hM, hK, hJ, hZ⟩ := hv
  have hx := B.exec
  have hb := B.bytes
  have hr := B.returns
  have hts := atoms_spec (ws := ws_ yX7_answering cX7_answering 5 (some .int)) B.pre
  have hts : ∀ w ∈ lw_all, w.before _ s = true := fun w h => hts w (List.mem_cons_of_mem _ h)
  have hown : s.vm.findClass RX7 = some m.cls := findClass_of_methodNamed B.named
  have hlocks := B.notSynchronized
  have hS : va_S (MA ad) s.heap s.heap [] := va_S.rf
  have hl := lv_entry ([.ref (ad 69), .int a1, .int a2]) (n := 5) (Nat.le_of_ble_eq_true rfl)
  rw [lg_entry_eq]
  generalize (lg_sl ([.ref (ad 69), .int a1, .int a2]) ++ List.replicate (5 - (lg_sl ([.ref (ad 69), .int a1, .int a2])).length) Slot.unset).toArray = ls at hl ⊢
  have hl : lv_has ls 5 [(0, .ref (ad 69)), (1, .int a1), (2, .int a2)] := hl
  have hL5 : ∀  (n5 : Nat) (x3 : Int32) (x4 : Int32), wpLX7_answering_5 post a1 a2  h  n5 (x3, x4) → JM p l e (headSpec (ws_ yX7_answering cX7_answering 5 (some .int)) ({ frames := 6, cells := 0, slots := 0, locals := 145 })).room s m ([.ref (ad 69), .int a1, .int a2] : List Value).toArray below meth c (MQ below (MQi D cA E ad (fun r h' => h' = h ∧ post r)) ([.ref (ad 69), .int a1, .int a2] : List Value).toArray s 0 0 (MA ad)) D cA E ad 5 5 h [(0, .ref (ad 69)), (1, .int a1), (2, .int a2), (3, .int x3), (4, .int x4)] [] := by
    intro  n5
    induction n5 with
    | zero => intro x3 x4 hw; exact False.elim hw
    | succ n5 ih5 =>
      intro x3 x4 hw H locs ls hM hS hl
      have hw : wpBX7_answering_5 post a1 a2  (fun x3 x4 => wpLX7_answering_5 post a1 a2  h  n5 (x3, x4)) h  x3 x4 := hw
      unfold wpBX7_answering_5 at hw
      refine lv_iload hx hb dX7_answering_5 (lv_at hl 4 rfl) ?_
      refine lv_aload_n hx hb dX7_answering_7 rfl (lv_at hl 0 rfl) ?_
      refine M_get hx hb hts hown hK hM 3 (v := .ref (ad 3)) (by decide) (hts _ q1686) rfl dX7_answering_8 ?_
      refine lv_iconst (v := (0 : Int32)) hx hb dX7_answering_11 (by decide) ?_
      refine M_iald hx hb hK hM 3 rfl (j := 0) rfl (by unfold vp_in; decide) dX7_answering_12 ?_
      refine lv_icmp_ge (tgt := 40) hx hb dX7_answering_13 (by decide) (fun c1 => ?_) (fun c1 => ?_)
      · have hw := hw.1 c1
        refine lv_iload_n hx hb dX7_answering_40 rfl (lv_at hl 3 rfl) ?_
        exact M_iret hx hb hr hlocks hM hS ⟨rfl, hw⟩ dX7_answering_41
      · have hw := hw.2 c1
        refine lv_aload_n hx hb dX7_answering_16 rfl (lv_at hl 0 rfl) ?_
        refine lv_iload hx hb dX7_answering_17 (lv_at hl 4 rfl) ?_
        refine lv_iload_n hx hb dX7_answering_19 rfl (lv_at hl 1 rfl) ?_
        refine M_callIp (As := [.int x4, .int a1]) (rest := []) ⟨hx, hb, hml, hown, hts⟩ hK hZ hM hJ hS (metX7_mayNow l D cA z0 E ad h x4 a1 _ hw) (cwV 2 hts (lw_V q2082 q2084 qs76 q130 q2085) rfl rfl rfl (by decide +kernel) ⟨Nat.le_of_ble_eq_true rfl, Nat.le_of_ble_eq_true rfl⟩) rfl hl.1 rfl (Nat.le_of_ble_eq_true rfl) dX7_answering_20 ⟨Nat.zero_le _, Nat.zero_le _⟩ (fun r2 H locs hw hM hS => ?_)
        refine lv_iload_n hx hb dX7_answering_23 rfl (lv_at hl 2 rfl) ?_
        have hj4 : JM p l e (headSpec (ws_ yX7_answering cX7_answering 5 (some .int)) ({ frames := 6, cells := 0, slots := 0, locals := 145 })).room s m ([.ref (ad 69), .int a1, .int a2] : List Value).toArray below meth c (MQ below (MQi D cA E ad (fun r h' => h' = h ∧ post r)) ([.ref (ad 69), .int a1, .int a2] : List Value).toArray s 0 0 (MA ad)) D cA E ad 5 34 h [(0, .ref (ad 69)), (1, .int a1), (2, .int a2), (3, .int (if r2 = a2 then (x3 ||| ((1 : Int32) <<< (x4 &&& 31))) else x3)), (4, .int x4)] [] := by
          intro H locs ls hM hS hl
          refine lv_iinc (v := (x4 + (1 : Int32))) (lv' := [(4, .int (x4 + (1 : Int32))), (0, .ref (ad 69)), (1, .int a1), (2, .int a2), (3, .int (if r2 = a2 then (x3 ||| ((1 : Int32) <<< (x4 &&& 31))) else x3))]) hx hb dX7_answering_34 hl (k := 4) rfl rfl (by decide) rfl (fun ls hl => ?_)
          refine lv_goto (tgt := 5) hx hb dX7_answering_37 (by decide) ?_
          exact ih5 (if r2 = a2 then (x3 ||| ((1 : Int32) <<< (x4 &&& 31))) else x3) (x4 + (1 : Int32)) hw _ _ ls hM hS (lv_sub hl [1, 2, 3, 4, 0] rfl)
        refine lv_icmp_ne (tgt := 34) hx hb dX7_answering_24 (by decide) (fun c5 => ?_) (fun c5 => ?_)
        · have e6 : (if r2 = a2 then (x3 ||| ((1 : Int32) <<< (x4 &&& 31))) else x3) = x3 := by rw [if_neg c5]
          rw [e6] at hj4
          exact hj4 _ _ ls hM hS (lv_sub hl [0, 1, 2, 3, 4] rfl)
        · refine lv_iload_n hx hb dX7_answering_27 rfl (lv_at hl 3 rfl) ?_
          refine lv_iconst (v := (1 : Int32)) hx hb dX7_answering_28 (by decide) ?_
          refine lv_iload hx hb dX7_answering_29 (lv_at hl 4 rfl) ?_
          refine lv_ishl hx hb dX7_answering_31 ?_
          refine lv_ior hx hb dX7_answering_32 ?_
          refine lv_istore_n (lv' := [(3, .int (x3 ||| ((1 : Int32) <<< (x4 &&& 31)))), (0, .ref (ad 69)), (1, .int a1), (2, .int a2), (4, .int x4)]) hx hb dX7_answering_33 rfl hl (by decide) rfl (fun ls hl => ?_)
          have e7 : (if r2 = a2 then (x3 ||| ((1 : Int32) <<< (x4 &&& 31))) else x3) = (x3 ||| ((1 : Int32) <<< (x4 &&& 31))) := by rw [if_pos c5]
          rw [e7] at hj4
          exact hj4 _ _ ls hM hS (lv_sub hl [1, 2, 3, 0, 4] rfl)
  unfold wpX7_answering at hw
  refine lv_iconst (v := (0 : Int32)) hx hb dX7_answering_0 (by decide) ?_
  refine lv_istore_n (lv' := [(3, .int (0 : Int32)), (0, .ref (ad 69)), (1, .int a1), (2, .int a2)]) hx hb dX7_answering_1 rfl hl (by decide) rfl (fun ls hl => ?_)
  refine lv_iconst (v := (0 : Int32)) hx hb dX7_answering_2 (by decide) ?_
  refine lv_istore (lv' := [(4, .int (0 : Int32)), (3, .int (0 : Int32)), (0, .ref (ad 69)), (1, .int a1), (2, .int a2)]) hx hb dX7_answering_3 hl (by decide) rfl (fun ls hl => ?_)
  obtain ⟨n8, hw⟩ := hw
  exact hL5 n8 (0 : Int32) (0 : Int32) hw _ _ ls hM hS (lv_sub hl [2, 3, 4, 1, 0] rfl)

/-- isLoaf(I)Z -/
def wpX7_isLoaf (post : Bool → Prop) (h : Mem) (a1 : Int32) : Prop :=
  (wpX7_isIn (fun r1 => post r1) h (a1).toInt64 (0 : Int64) (((h 3 1) - (1 : Int32))).toInt64)
set_option maxHeartbeats 4000000 in
set_option maxRecDepth 100000 in
theorem metX7_isLoaf (l : Launch) (D : va_G) (cA : Nat → ClassId) (z0 : Nat) (E : Nat → Nat → Nat) (ad : Nat → Nat) (h : Mem) (a1 : Int32) (post : Bool → Prop) (hw : wpX7_isLoaf post h a1) : MeZ l D cA z0 E ad yX7_isLoaf (ws_ yX7_isLoaf cX7_isLoaf 2 (some .boolean)) ({ frames := 2, cells := 0, slots := 0, locals := 55 }) [.ref (ad 69), .int a1] h (fun r h' => h' = h ∧ post r) := by
  refine Met.ofW (cc := cX7_isLoaf) (maxL := 2) (ret := (some .boolean)) (by decide) rfl ?_
  intro p e s m args below meth c s₁ B hml hv
  obtain ⟨rfl, hM, hK, hJ, hZ⟩ := hv
  have hx := B.exec
  have hb := B.bytes
  have hr := B.returns
  have hts := atoms_spec (ws := ws_ yX7_isLoaf cX7_isLoaf 2 (some .boolean)) B.pre
  have hts : ∀ w ∈ lw_all, w.before _ s = true := fun w h => hts w (List.mem_cons_of_mem _ h)
  have hown : s.vm.findClass RX7 = some m.cls := findClass_of_methodNamed B.named
  have hlocks := B.notSynchronized
  have hS : va_S (MA ad) s.heap s.heap [] := va_S.rf
  have hl := lv_entry ([.ref (ad 69), .int a1]) (n := 2) (Nat.le_of_ble_eq_true rfl)
  rw [lg_entry_eq]
  generalize (lg_sl ([.ref (ad 69), .int a1]) ++ List.replicate (2 - (lg_sl ([.ref (ad 69), .int a1])).length) Slot.unset).toArray = ls at hl ⊢
  have hl : lv_has ls 2 [(0, .ref (ad 69)), (1, .int a1)] := hl
  unfold wpX7_isLoaf at hw
  refine lv_iload_n hx hb dX7_isLoaf_0 rfl (lv_at hl 1 rfl) ?_
  refine lv_i2l (v := (a1).toInt64) hx hb dX7_isLoaf_1 rfl ?_
  refine lv_lconst (v := (0 : Int64)) hx hb dX7_isLoaf_2 (by decide) ?_
  refine lv_aload_n hx hb dX7_isLoaf_3 rfl (lv_at hl 0 rfl) ?_
  refine M_get hx hb hts hown hK hM 3 (v := .ref (ad 3)) (by decide) (hts _ q1686) rfl dX7_isLoaf_4 ?_
  refine lv_iconst (v := (1 : Int32)) hx hb dX7_isLoaf_7 (by decide) ?_
  refine M_iald hx hb hK hM 3 rfl (j := 1) rfl (by unfold vp_in; decide) dX7_isLoaf_8 ?_
  refine lv_iconst (v := (1 : Int32)) hx hb dX7_isLoaf_9 (by decide) ?_
  refine lv_isub hx hb dX7_isLoaf_10 ?_
  refine lv_i2l (v := (((h 3 1) - (1 : Int32))).toInt64) hx hb dX7_isLoaf_11 rfl ?_
  refine M_callZSp (As := [.long (a1).toInt64, .long (0 : Int64), .long (((h 3 1) - (1 : Int32))).toInt64]) (rest := []) ⟨hx, hb, hml, hown, hts⟩ hK hZ hM hJ hS (metX7_isIn l D cA z0 E ad h (a1).toInt64 (0 : Int64) (((h 3 1) - (1 : Int32))).toInt64 _ hw) (va_cwS 3 hts (lw_S q2059 q2060 q130 q2061) rfl rfl rfl (by decide +kernel) ⟨Nat.le_of_ble_eq_true rfl, Nat.le_of_ble_eq_true rfl⟩) rfl hl.1 rfl (Nat.le_of_ble_eq_true rfl) dX7_isLoaf_12 ⟨Nat.zero_le _, Nat.zero_le _⟩ (fun r1 H locs hw hM hS => ?_)
  exact M_zret hx hb hr hlocks hM hS ⟨_, rfl, ⟨rfl, hw⟩⟩ dX7_isLoaf_15

/-- tellUnits(I)V -/
def wpBX7_tellUnits_26 (post : Mem → Prop) (a1 : Int32) (K7 : Mem → Int32 → Prop) (K26 : Mem → Int32 → Prop) (x2 : Int32) (h : Mem) (x3 : Int32) : Prop :=
  (vp_in a1 (mlen 11) ∧ (((h 11 (ix a1)) ≤ x3 → (vp_in x2 (mlen 38) ∧ (((h 38 (ix x2)) = x2 → (∀ h10 : Mem, h10 = up2 h 40 0 ((h 40 0) + (1 : Int32)) → K7 h10 (x2 + (1 : Int32)))) ∧ (¬ (h 38 (ix x2)) = x2 → K7 h (x2 + (1 : Int32)))))) ∧ (¬ (h 11 (ix a1)) ≤ x3 → (vp_in (((6 : Int32) * a1) + x2) (mlen 12) ∧ (wpX7_twinOf (fun r12 => (vp_in (((6 : Int32) * a1) + x3) (mlen 12) ∧ ((r12 = (h 12 (ix (((6 : Int32) * a1) + x3))) → (vp_in x2 (mlen 38) ∧ (∀ h17 : Mem, h17 = up2 h 38 (ix x2) (mxI x2 x3) → K26 h17 (x3 + (1 : Int32))))) ∧ (¬ r12 = (h 12 (ix (((6 : Int32) * a1) + x3))) → K26 h (x3 + (1 : Int32)))))) h (h 12 (ix (((6 : Int32) * a1) + x2))))))))
def wpLX7_tellUnits_26 (post : Mem → Prop) (a1 : Int32) (K7 : Mem → Int32 → Prop) (x2 : Int32) : Nat → (Mem × Int32) → Prop := LW (fun K s => wpBX7_tellUnits_26 post a1 K7 (fun h x3 => K (h, x3)) x2 s.1 s.2)
def wpBX7_tellUnits_7 (post : Mem → Prop) (a1 : Int32)  (K7 : Mem → Int32 → Prop)  (h : Mem) (x2 : Int32) : Prop :=
  (vp_in a1 (mlen 11) ∧ (((h 11 (ix a1)) ≤ x2 → post h) ∧ (¬ (h 11 (ix a1)) ≤ x2 → (vp_in x2 (mlen 38) ∧ (∀ h5 : Mem, h5 = up2 h 38 (ix x2) x2 → (∃ n, wpLX7_tellUnits_26 post a1 K7 x2 n (h5, (0 : Int32))))))))
def wpLX7_tellUnits_7 (post : Mem → Prop) (a1 : Int32)   : Nat → (Mem × Int32) → Prop := LW (fun K s => wpBX7_tellUnits_7 post a1  (fun h x2 => K (h, x2))  s.1 s.2)
def wpX7_tellUnits (post : Mem → Prop) (h : Mem) (a1 : Int32) : Prop :=
  (∀ h1 : Mem, h1 = up2 h 40 0 (0 : Int32) → (∃ n, wpLX7_tellUnits_7 post a1   n (h1, (0 : Int32))))
set_option maxHeartbeats 4000000 in
set_option maxRecDepth 100000 in
theorem metX7_tellUnits (l : Launch) (D : va_G) (cA : Nat → ClassId) (z0 : Nat) (E : Nat → Nat → Nat) (ad : Nat → Nat) (h : Mem) (a1 : Int32) (post : Mem → Prop) (hw : wpX7_tellUnits post h a1) : MeV l D cA z0 E ad yX7_tellUnits (ws_ yX7_tellUnits cX7_tellUnits 4 none) ({ frames := 2, cells := 0, slots := 0, locals := 51 }) [.ref (ad 69), .int a1] h post := by
  refine Met.ofW (cc := cX7_tellUnits) (maxL := 4) (ret := none) (by decide) rfl ?_
  intro p e s m args below meth c s₁ B hml hv
  obtain ⟨rfl, hM, hK, hJ, hZ⟩ := hv
  have hx := B.exec
  have hb := B.bytes
  have hr := B.returns
  have hts := atoms_spec (ws := ws_ yX7_tellUnits cX7_tellUnits 4 none) B.pre
  have hts : ∀ w ∈ lw_all, w.before _ s = true := fun w h => hts w (List.mem_cons_of_mem _ h)
  have hown : s.vm.findClass RX7 = some m.cls := findClass_of_methodNamed B.named
  have hlocks := B.notSynchronized
  have hS : va_S (MA ad) s.heap s.heap [] := va_S.rf
  have hl := lv_entry ([.ref (ad 69), .int a1]) (n := 4) (Nat.le_of_ble_eq_true rfl)
  rw [lg_entry_eq]
  generalize (lg_sl ([.ref (ad 69), .int a1]) ++ List.replicate (4 - (lg_sl ([.ref (ad 69), .int a1])).length) Slot.unset).toArray = ls at hl ⊢
  have hl : lv_has ls 4 [(0, .ref (ad 69)), (1, .int a1)] := hl
  have hL7 : ∀  (n7 : Nat) (h : Mem) (x2 : Int32), wpLX7_tellUnits_7 post a1   n7 (h, x2) → JM p l e (headSpec (ws_ yX7_tellUnits cX7_tellUnits 4 none) ({ frames := 2, cells := 0, slots := 0, locals := 51 })).room s m ([.ref (ad 69), .int a1] : List Value).toArray below meth c (MQ below (MQv D cA E ad post) ([.ref (ad 69), .int a1] : List Value).toArray s 0 0 (MA ad)) D cA E ad 4 7 h [(0, .ref (ad 69)), (1, .int a1), (2, .int x2)] [] := by
    intro  n7
    induction n7 with
    | zero => intro h x2 hw; exact False.elim hw
    | succ n7 ih7 =>
      have hL26 : ∀ (x2 : Int32) (n26 : Nat) (h : Mem) (x3 : Int32), wpLX7_tellUnits_26 post a1 (fun h x2 => wpLX7_tellUnits_7 post a1   n7 (h, x2)) x2 n26 (h, x3) → JM p l e (headSpec (ws_ yX7_tellUnits cX7_tellUnits 4 none) ({ frames := 2, cells := 0, slots := 0, locals := 51 })).room s m ([.ref (ad 69), .int a1] : List Value).toArray below meth c (MQ below (MQv D cA E ad post) ([.ref (ad 69), .int a1] : List Value).toArray s 0 0 (MA ad)) D cA E ad 4 26 h [(0, .ref (ad 69)), (1, .int a1), (2, .int x2), (3, .int x3)] [] := by
        intro x2 n26
        induction n26 with
        | zero => intro h x3 hw; exact False.elim hw
        | succ n26 ih26 =>
          intro h x3 hw H locs ls hM hS hl
          have hw : wpBX7_tellUnits_26 post a1 (fun h x2 => wpLX7_tellUnits_7 post a1   n7 (h, x2)) (fun h x3 => wpLX7_tellUnits_26 post a1 (fun h x2 => wpLX7_tellUnits_7 post a1   n7 (h, x2)) x2 n26 (h, x3)) x2 h x3 := hw
          unfold wpBX7_tellUnits_26 at hw
          refine lv_iload_n hx hb dX7_tellUnits_26 rfl (lv_at hl 3 rfl) ?_
          refine lv_aload_n hx hb dX7_tellUnits_27 rfl (lv_at hl 0 rfl) ?_
          refine M_get hx hb hts hown hK hM 11 (v := .ref (ad 11)) (by decide) (hts _ q1694) rfl dX7_tellUnits_28 ?_
          refine lv_iload_n hx hb dX7_tellUnits_31 rfl (lv_at hl 1 rfl) ?_
          obtain ⟨hb6, hw⟩ := hw
          refine M_iald hx hb hK hM 11 rfl (j := (ix a1)) rfl hb6 dX7_tellUnits_32 ?_
          refine lv_icmp_ge (tgt := 82) hx hb dX7_tellUnits_33 (by decide) (fun c7 => ?_) (fun c7 => ?_)
          · have hw := hw.1 c7
            refine lv_aload_n hx hb dX7_tellUnits_82 rfl (lv_at hl 0 rfl) ?_
            refine M_get hx hb hts hown hK hM 38 (v := .ref (ad 38)) (by decide) (hts _ q1721) rfl dX7_tellUnits_83 ?_
            refine lv_iload_n hx hb dX7_tellUnits_86 rfl (lv_at hl 2 rfl) ?_
            obtain ⟨hb8, hw⟩ := hw
            refine M_iald hx hb hK hM 38 rfl (j := (ix x2)) rfl hb8 dX7_tellUnits_87 ?_
            refine lv_iload_n hx hb dX7_tellUnits_88 rfl (lv_at hl 2 rfl) ?_
            refine lv_icmp_ne (tgt := 102) hx hb dX7_tellUnits_89 (by decide) (fun c9 => ?_) (fun c9 => ?_)
            · have hw := hw.2 c9
              refine lv_iinc (v := (x2 + (1 : Int32))) (lv' := [(2, .int (x2 + (1 : Int32))), (0, .ref (ad 69)), (1, .int a1), (3, .int x3)]) hx hb dX7_tellUnits_102 hl (k := 2) rfl rfl (by decide) rfl (fun ls hl => ?_)
              refine lv_goto (tgt := 7) hx hb dX7_tellUnits_105 (by decide) ?_
              exact ih7 h (x2 + (1 : Int32)) hw _ _ ls hM hS (lv_sub hl [1, 2, 0] rfl)
            · have hw := hw.1 c9
              refine lv_aload_n hx hb dX7_tellUnits_92 rfl (lv_at hl 0 rfl) ?_
              refine lv_dup hx hb dX7_tellUnits_93 rfl ?_
              refine M_get hx hb hts hown hK hM 40 (v := .int (h 40 0)) (by decide) (hts _ q1723) rfl dX7_tellUnits_94 ?_
              refine lv_iconst (v := (1 : Int32)) hx hb dX7_tellUnits_97 (by decide) ?_
              refine lv_iadd hx hb dX7_tellUnits_98 ?_
              refine M_put hx hb hts hown hK hM hJ hS 40 rfl rfl (hts _ q1723) rfl .int (by decide +kernel) rfl rfl dX7_tellUnits_99 (fun H locs hM hS => ?_)
              obtain ⟨h10, eh10⟩ : ∃ y : Mem, y = up2 h 40 0 ((h 40 0) + (1 : Int32)) := ⟨_, rfl⟩
              rw [← eh10] at hM
              have hw := hw h10 eh10
              refine lv_iinc (v := (x2 + (1 : Int32))) (lv' := [(2, .int (x2 + (1 : Int32))), (0, .ref (ad 69)), (1, .int a1), (3, .int x3)]) hx hb dX7_tellUnits_102 hl (k := 2) rfl rfl (by decide) rfl (fun ls hl => ?_)
              refine lv_goto (tgt := 7) hx hb dX7_tellUnits_105 (by decide) ?_
              exact ih7 h10 (x2 + (1 : Int32)) hw _ _ ls hM hS (lv_sub hl [1, 2, 0] rfl)
          · have hw := hw.2 c7
            refine lv_aload_n hx hb dX7_tellUnits_36 rfl (lv_at hl 0 rfl) ?_
            refine lv_aload_n hx hb dX7_tellUnits_37 rfl (lv_at hl 0 rfl) ?_
            refine M_get hx hb hts hown hK hM 12 (v := .ref (ad 12)) (by decide) (hts _ q1695) rfl dX7_tellUnits_38 ?_
            refine lv_bipush (v := (6 : Int32)) hx hb dX7_tellUnits_41 (by decide) ?_
            refine lv_iload_n hx hb dX7_tellUnits_43 rfl (lv_at hl 1 rfl) ?_
            refine lv_imul hx hb dX7_tellUnits_44 ?_
            refine lv_iload_n hx hb dX7_tellUnits_45 rfl (lv_at hl 2 rfl) ?_
            refine lv_iadd hx hb dX7_tellUnits_46 ?_
            obtain ⟨hb11, hw⟩ := hw
            refine M_iald hx hb hK hM 12 rfl (j := (ix (((6 : Int32) * a1) + x2))) rfl hb11 dX7_tellUnits_47 ?_
            refine M_callIp (As := [.int (h 12 (ix (((6 : Int32) * a1) + x2)))]) (rest := []) ⟨hx, hb, hml, hown, hts⟩ hK hZ hM hJ hS (metX7_twinOf l D cA z0 E ad h (h 12 (ix (((6 : Int32) * a1) + x2))) _ hw) (cwV 1 hts (lw_V q2043 q2045 qs69 q130 q2046) rfl rfl rfl (by decide +kernel) ⟨Nat.le_of_ble_eq_true rfl, Nat.le_of_ble_eq_true rfl⟩) rfl hl.1 rfl (Nat.le_of_ble_eq_true rfl) dX7_tellUnits_48 ⟨Nat.zero_le _, Nat.zero_le _⟩ (fun r12 H locs hw hM hS => ?_)
            refine lv_aload_n hx hb dX7_tellUnits_51 rfl (lv_at hl 0 rfl) ?_
            refine M_get hx hb hts hown hK hM 12 (v := .ref (ad 12)) (by decide) (hts _ q1695) rfl dX7_tellUnits_52 ?_
            refine lv_bipush (v := (6 : Int32)) hx hb dX7_tellUnits_55 (by decide) ?_
            refine lv_iload_n hx hb dX7_tellUnits_57 rfl (lv_at hl 1 rfl) ?_
            refine lv_imul hx hb dX7_tellUnits_58 ?_
            refine lv_iload_n hx hb dX7_tellUnits_59 rfl (lv_at hl 3 rfl) ?_
            refine lv_iadd hx hb dX7_tellUnits_60 ?_
            obtain ⟨hb14, hw⟩ := hw
            refine M_iald hx hb hK hM 12 rfl (j := (ix (((6 : Int32) * a1) + x3))) rfl hb14 dX7_tellUnits_61 ?_
            refine lv_icmp_ne (tgt := 76) hx hb dX7_tellUnits_62 (by decide) (fun c15 => ?_) (fun c15 => ?_)
            · have hw := hw.2 c15
              refine lv_iinc (v := (x3 + (1 : Int32))) (lv' := [(3, .int (x3 + (1 : Int32))), (0, .ref (ad 69)), (1, .int a1), (2, .int x2)]) hx hb dX7_tellUnits_76 hl (k := 3) rfl rfl (by decide) rfl (fun ls hl => ?_)
              refine lv_goto (tgt := 26) hx hb dX7_tellUnits_79 (by decide) ?_
              exact ih26 h (x3 + (1 : Int32)) hw _ _ ls hM hS (lv_sub hl [1, 2, 3, 0] rfl)
            · have hw := hw.1 c15
              refine lv_aload_n hx hb dX7_tellUnits_65 rfl (lv_at hl 0 rfl) ?_
              refine M_get hx hb hts hown hK hM 38 (v := .ref (ad 38)) (by decide) (hts _ q1721) rfl dX7_tellUnits_66 ?_
              refine lv_iload_n hx hb dX7_tellUnits_69 rfl (lv_at hl 2 rfl) ?_
              refine lv_iload_n hx hb dX7_tellUnits_70 rfl (lv_at hl 2 rfl) ?_
              refine lv_iload_n hx hb dX7_tellUnits_71 rfl (lv_at hl 3 rfl) ?_
              refine J_mxI hx hb hml hl.1 hown (hts _ q2019) (hts _ q273) (hts _ q118) (hts _ q274) (Nat.le_of_ble_eq_true rfl) (Nat.le_of_ble_eq_true rfl) (Nat.zero_le _) (Nat.zero_le _) dX7_tellUnits_72 ?_
              obtain ⟨hb16, hw⟩ := hw
              refine M_iast hx hb hK hM hJ hS 38 rfl (j := (ix x2)) rfl hb16 dX7_tellUnits_75 (fun H locs hM hS => ?_)
              obtain ⟨h17, eh17⟩ : ∃ y : Mem, y = up2 h 38 (ix x2) (mxI x2 x3) := ⟨_, rfl⟩
              rw [← eh17] at hM
              have hw := hw h17 eh17
              refine lv_iinc (v := (x3 + (1 : Int32))) (lv' := [(3, .int (x3 + (1 : Int32))), (0, .ref (ad 69)), (1, .int a1), (2, .int x2)]) hx hb dX7_tellUnits_76 hl (k := 3) rfl rfl (by decide) rfl (fun ls hl => ?_)
              refine lv_goto (tgt := 26) hx hb dX7_tellUnits_79 (by decide) ?_
              exact ih26 h17 (x3 + (1 : Int32)) hw _ _ ls hM hS (lv_sub hl [1, 2, 3, 0] rfl)
      intro h x2 hw H locs ls hM hS hl
      have hw : wpBX7_tellUnits_7 post a1  (fun h x2 => wpLX7_tellUnits_7 post a1   n7 (h, x2))  h x2 := hw
      unfold wpBX7_tellUnits_7 at hw
      refine lv_iload_n hx hb dX7_tellUnits_7 rfl (lv_at hl 2 rfl) ?_
      refine lv_aload_n hx hb dX7_tellUnits_8 rfl (lv_at hl 0 rfl) ?_
      refine M_get hx hb hts hown hK hM 11 (v := .ref (ad 11)) (by decide) (hts _ q1694) rfl dX7_tellUnits_9 ?_
      refine lv_iload_n hx hb dX7_tellUnits_12 rfl (lv_at hl 1 rfl) ?_
      obtain ⟨hb2, hw⟩ := hw
      refine M_iald hx hb hK hM 11 rfl (j := (ix a1)) rfl hb2 dX7_tellUnits_13 ?_
      refine lv_icmp_ge (tgt := 108) hx hb dX7_tellUnits_14 (by decide) (fun c3 => ?_) (fun c3 => ?_)
      · have hw := hw.1 c3
        exact M_vret hx hb hr hlocks hM hS hw dX7_tellUnits_108
      · have hw := hw.2 c3
        refine lv_aload_n hx hb dX7_tellUnits_17 rfl (lv_at hl 0 rfl) ?_
        refine M_get hx hb hts hown hK hM 38 (v := .ref (ad 38)) (by decide) (hts _ q1721) rfl dX7_tellUnits_18 ?_
        refine lv_iload_n hx hb dX7_tellUnits_21 rfl (lv_at hl 2 rfl) ?_
        refine lv_iload_n hx hb dX7_tellUnits_22 rfl (lv_at hl 2 rfl) ?_
        obtain ⟨hb4, hw⟩ := hw
        refine M_iast hx hb hK hM hJ hS 38 rfl (j := (ix x2)) rfl hb4 dX7_tellUnits_23 (fun H locs hM hS => ?_)
        obtain ⟨h5, eh5⟩ : ∃ y : Mem, y = up2 h 38 (ix x2) x2 := ⟨_, rfl⟩
        rw [← eh5] at hM
        have hw := hw h5 eh5
        refine lv_iconst (v := (0 : Int32)) hx hb dX7_tellUnits_24 (by decide) ?_
        refine lv_istore_n (lv' := [(3, .int (0 : Int32)), (0, .ref (ad 69)), (1, .int a1), (2, .int x2)]) hx hb dX7_tellUnits_25 rfl hl (by decide) rfl (fun ls hl => ?_)
        obtain ⟨n18, hw⟩ := hw
        exact hL26 x2 n18 h5 (0 : Int32) hw _ _ ls hM hS (lv_sub hl [1, 2, 3, 0] rfl)
  unfold wpX7_tellUnits at hw
  refine lv_aload_n hx hb dX7_tellUnits_0 rfl (lv_at hl 0 rfl) ?_
  refine lv_iconst (v := (0 : Int32)) hx hb dX7_tellUnits_1 (by decide) ?_
  refine M_put hx hb hts hown hK hM hJ hS 40 rfl rfl (hts _ q1723) rfl .int (by decide +kernel) rfl rfl dX7_tellUnits_2 (fun H locs hM hS => ?_)
  obtain ⟨h1, eh1⟩ : ∃ y : Mem, y = up2 h 40 0 (0 : Int32) := ⟨_, rfl⟩
  rw [← eh1] at hM
  have hw := hw h1 eh1
  refine lv_iconst (v := (0 : Int32)) hx hb dX7_tellUnits_5 (by decide) ?_
  refine lv_istore_n (lv' := [(2, .int (0 : Int32)), (0, .ref (ad 69)), (1, .int a1)]) hx hb dX7_tellUnits_6 rfl hl (by decide) rfl (fun ls hl => ?_)
  obtain ⟨n19, hw⟩ := hw
  exact hL7 n19 h1 (0 : Int32) hw _ _ ls hM hS (lv_sub hl [1, 2, 0] rfl)

/-- loaf(II)I -/
def wpX7_loaf (post : Int32 → Mem → Prop) (h : Mem) (a1 : Int32) (a2 : Int32) : Prop :=
  (∀ h1 : Mem, h1 = up2 h 2 0 (0 : Int32) → (wpX7_isLoaf (fun r2 => ((r2 = true → ((a2 = (0 : Int32) → (vp_in a1 (mlen 7) ∧ post (h1 7 (ix a1)) h1)) ∧ (¬ a2 = (0 : Int32) → ((a2 = (1 : Int32) → (vp_in a1 (mlen 8) ∧ post (h1 8 (ix a1)) h1)) ∧ (¬ a2 = (1 : Int32) → ((a2 = (2 : Int32) → (vp_in a1 (mlen 9) ∧ post (h1 9 (ix a1)) h1)) ∧ (¬ a2 = (2 : Int32) → ((a2 = (3 : Int32) → (vp_in a1 (mlen 10) ∧ post (h1 10 (ix a1)) h1)) ∧ (¬ a2 = (3 : Int32) → ((a2 = (4 : Int32) → (wpX7_eatersOf (fun r9 => post r9 h1) h1 a1)) ∧ (¬ a2 = (4 : Int32) → ((a2 = (5 : Int32) → (wpX7_tellUnits (fun h12 => post (h12 40 0) h12) h1 a1)) ∧ (¬ a2 = (5 : Int32) → ((a2 = (6 : Int32) → (vp_in a1 (mlen 27) ∧ post (h1 27 (ix a1)) h1)) ∧ (¬ a2 = (6 : Int32) → ((a2 = (7 : Int32) → (wpX7_answering (fun r14 => post r14 h1) h1 a1 (0 : Int32))) ∧ (¬ a2 = (7 : Int32) → (wpX7_fail (fun r16 h17 => post r16 h17) h1 (1 : Int32))))))))))))))))))) ∧ (¬ r2 = true → (wpX7_fail (fun r18 h19 => post r18 h19) h1 (1 : Int32))))) h1 a1))
set_option maxHeartbeats 4000000 in
set_option maxRecDepth 100000 in
theorem metX7_loaf (l : Launch) (D : va_G) (cA : Nat → ClassId) (z0 : Nat) (E : Nat → Nat → Nat) (ad : Nat → Nat) (h : Mem) (a1 : Int32) (a2 : Int32) (post : Int32 → Mem → Prop) (hw : wpX7_loaf post h a1 a2) : MeI l D cA z0 E ad yX7_loaf (ws_ yX7_loaf cX7_loaf 3 (some .int)) ({ frames := 7, cells := 0, slots := 0, locals := 169 }) [.ref (ad 69), .int a1, .int a2] h post := by
  refine Met.ofW (cc := cX7_loaf) (maxL := 3) (ret := (some .int)) (by decide) rfl ?_
  intro p e s m args below meth c s₁ B hml hv
  obtain ⟨rfl, hM, hK, hJ, hZ⟩ := hv
  have hx := B.exec
  have hb := B.bytes
  have hr := B.returns
  have hts := atoms_spec (ws := ws_ yX7_loaf cX7_loaf 3 (some .int)) B.pre
  have hts : ∀ w ∈ lw_all, w.before _ s = true := fun w h => hts w (List.mem_cons_of_mem _ h)
  have hown : s.vm.findClass RX7 = some m.cls := findClass_of_methodNamed B.named
  have hlocks := B.notSynchronized
  have hS : va_S (MA ad) s.heap s.heap [] := va_S.rf
  have hl := lv_entry ([.ref (ad 69), .int a1, .int a2]) (n := 3) (Nat.le_of_ble_eq_true rfl)
  rw [lg_entry_eq]
  generalize (lg_sl ([.ref (ad 69), .int a1, .int a2]) ++ List.replicate (3 - (lg_sl ([.ref (ad 69), .int a1, .int a2])).length) Slot.unset).toArray = ls at hl ⊢
  have hl : lv_has ls 3 [(0, .ref (ad 69)), (1, .int a1), (2, .int a2)] := hl
  unfold wpX7_loaf at hw
  refine lv_aload_n hx hb dX7_loaf_0 rfl (lv_at hl 0 rfl) ?_
  refine lv_iconst (v := (0 : Int32)) hx hb dX7_loaf_1 (by decide) ?_
  refine M_put hx hb hts hown hK hM hJ hS 2 rfl rfl (hts _ q1685) rfl .int (by decide +kernel) rfl rfl dX7_loaf_2 (fun H locs hM hS => ?_)
  obtain ⟨h1, eh1⟩ : ∃ y : Mem, y = up2 h 2 0 (0 : Int32) := ⟨_, rfl⟩
  rw [← eh1] at hM
  have hw := hw h1 eh1
  refine lv_aload_n hx hb dX7_loaf_5 rfl (lv_at hl 0 rfl) ?_
  refine lv_iload_n hx hb dX7_loaf_6 rfl (lv_at hl 1 rfl) ?_
  refine M_callZp (As := [.int a1]) (rest := []) ⟨hx, hb, hml, hown, hts⟩ hK hZ hM hJ hS (metX7_isLoaf l D cA z0 E ad h1 a1 _ hw) (cwV 1 hts (lw_V q2066 q2068 qs72 q130 q2069) rfl rfl rfl (by decide +kernel) ⟨Nat.le_of_ble_eq_true rfl, Nat.le_of_ble_eq_true rfl⟩) rfl hl.1 rfl (Nat.le_of_ble_eq_true rfl) dX7_loaf_7 ⟨Nat.zero_le _, Nat.zero_le _⟩ (fun r2 H locs hw hM hS => ?_)
  refine lv_if_ne (tgt := 19) hx hb dX7_loaf_10 (by decide) (fun c4 => ?_) (fun c4 => ?_)
  · have c4 := b2i_t c4
    have hw := hw.1 c4
    refine lv_iload_n hx hb dX7_loaf_19 rfl (lv_at hl 2 rfl) ?_
    by_cases c20_0 : a2 = (0 : Int32)
    · have hw := hw.1 c20_0
      refine lv_swIn (v := (0 : Int32)) (tgt := 68) hx hb c20_0 dX7_loaf_20 (by decide) (by decide) rfl (by decide) ?_
      refine lv_aload_n hx hb dX7_loaf_68 rfl (lv_at hl 0 rfl) ?_
      refine M_get hx hb hts hown hK hM 7 (v := .ref (ad 7)) (by decide) (hts _ q1690) rfl dX7_loaf_69 ?_
      refine lv_iload_n hx hb dX7_loaf_72 rfl (lv_at hl 1 rfl) ?_
      obtain ⟨hb5, hw⟩ := hw
      refine M_iald hx hb hK hM 7 rfl (j := (ix a1)) rfl hb5 dX7_loaf_73 ?_
      exact M_iret hx hb hr hlocks hM hS hw dX7_loaf_74
    have hw := hw.2 c20_0
    by_cases c20_1 : a2 = (1 : Int32)
    · have hw := hw.1 c20_1
      refine lv_swIn (v := (1 : Int32)) (tgt := 75) hx hb c20_1 dX7_loaf_20 (by decide) (by decide) rfl (by decide) ?_
      refine lv_aload_n hx hb dX7_loaf_75 rfl (lv_at hl 0 rfl) ?_
      refine M_get hx hb hts hown hK hM 8 (v := .ref (ad 8)) (by decide) (hts _ q1691) rfl dX7_loaf_76 ?_
      refine lv_iload_n hx hb dX7_loaf_79 rfl (lv_at hl 1 rfl) ?_
      obtain ⟨hb6, hw⟩ := hw
      refine M_iald hx hb hK hM 8 rfl (j := (ix a1)) rfl hb6 dX7_loaf_80 ?_
      exact M_iret hx hb hr hlocks hM hS hw dX7_loaf_81
    have hw := hw.2 c20_1
    by_cases c20_2 : a2 = (2 : Int32)
    · have hw := hw.1 c20_2
      refine lv_swIn (v := (2 : Int32)) (tgt := 82) hx hb c20_2 dX7_loaf_20 (by decide) (by decide) rfl (by decide) ?_
      refine lv_aload_n hx hb dX7_loaf_82 rfl (lv_at hl 0 rfl) ?_
      refine M_get hx hb hts hown hK hM 9 (v := .ref (ad 9)) (by decide) (hts _ q1692) rfl dX7_loaf_83 ?_
      refine lv_iload_n hx hb dX7_loaf_86 rfl (lv_at hl 1 rfl) ?_
      obtain ⟨hb7, hw⟩ := hw
      refine M_iald hx hb hK hM 9 rfl (j := (ix a1)) rfl hb7 dX7_loaf_87 ?_
      exact M_iret hx hb hr hlocks hM hS hw dX7_loaf_88
    have hw := hw.2 c20_2
    by_cases c20_3 : a2 = (3 : Int32)
    · have hw := hw.1 c20_3
      refine lv_swIn (v := (3 : Int32)) (tgt := 89) hx hb c20_3 dX7_loaf_20 (by decide) (by decide) rfl (by decide) ?_
      refine lv_aload_n hx hb dX7_loaf_89 rfl (lv_at hl 0 rfl) ?_
      refine M_get hx hb hts hown hK hM 10 (v := .ref (ad 10)) (by decide) (hts _ q1693) rfl dX7_loaf_90 ?_
      refine lv_iload_n hx hb dX7_loaf_93 rfl (lv_at hl 1 rfl) ?_
      obtain ⟨hb8, hw⟩ := hw
      refine M_iald hx hb hK hM 10 rfl (j := (ix a1)) rfl hb8 dX7_loaf_94 ?_
      exact M_iret hx hb hr hlocks hM hS hw dX7_loaf_95
    have hw := hw.2 c20_3
    by_cases c20_4 : a2 = (4 : Int32)
    · have hw := hw.1 c20_4
      refine lv_swIn (v := (4 : Int32)) (tgt := 96) hx hb c20_4 dX7_loaf_20 (by decide) (by decide) rfl (by decide) ?_
      refine lv_aload_n hx hb dX7_loaf_96 rfl (lv_at hl 0 rfl) ?_
      refine lv_iload_n hx hb dX7_loaf_97 rfl (lv_at hl 1 rfl) ?_
      refine M_callIp (As := [.int a1]) (rest := []) ⟨hx, hb, hml, hown, hts⟩ hK hZ hM hJ hS (metX7_eatersOf l D cA z0 E ad h1 a1 _ hw) (cwV 1 hts (lw_V q2070 q2072 qs73 q130 q2073) rfl rfl rfl (by decide +kernel) ⟨Nat.le_of_ble_eq_true rfl, Nat.le_of_ble_eq_true rfl⟩) rfl hl.1 rfl (Nat.le_of_ble_eq_true rfl) dX7_loaf_98 ⟨Nat.zero_le _, Nat.zero_le _⟩ (fun r9 H locs hw hM hS => ?_)
      exact M_iret hx hb hr hlocks hM hS hw dX7_loaf_101
    have hw := hw.2 c20_4
    by_cases c20_5 : a2 = (5 : Int32)
    · have hw := hw.1 c20_5
      refine lv_swIn (v := (5 : Int32)) (tgt := 102) hx hb c20_5 dX7_loaf_20 (by decide) (by decide) rfl (by decide) ?_
      refine lv_aload_n hx hb dX7_loaf_102 rfl (lv_at hl 0 rfl) ?_
      refine lv_iload_n hx hb dX7_loaf_103 rfl (lv_at hl 1 rfl) ?_
      refine M_callV (As := [.int a1]) (rest := []) ⟨hx, hb, hml, hown, hts⟩ hK hZ hM hJ hS (metX7_tellUnits l D cA z0 E ad h1 a1 _ hw) (cwV 1 hts (lw_V q2074 q2076 qs74 q130 q2077) rfl rfl rfl (by decide +kernel) ⟨Nat.le_of_ble_eq_true rfl, Nat.le_of_ble_eq_true rfl⟩) rfl hl.1 rfl (Nat.le_of_ble_eq_true rfl) dX7_loaf_104 ⟨Nat.zero_le _, Nat.zero_le _⟩ (fun h12 H locs hw hM hS => ?_)
      refine lv_aload_n hx hb dX7_loaf_107 rfl (lv_at hl 0 rfl) ?_
      refine M_get hx hb hts hown hK hM 40 (v := .int (h12 40 0)) (by decide) (hts _ q1723) rfl dX7_loaf_108 ?_
      exact M_iret hx hb hr hlocks hM hS hw dX7_loaf_111
    have hw := hw.2 c20_5
    by_cases c20_6 : a2 = (6 : Int32)
    · have hw := hw.1 c20_6
      refine lv_swIn (v := (6 : Int32)) (tgt := 112) hx hb c20_6 dX7_loaf_20 (by decide) (by decide) rfl (by decide) ?_
      refine lv_aload_n hx hb dX7_loaf_112 rfl (lv_at hl 0 rfl) ?_
      refine M_get hx hb hts hown hK hM 27 (v := .ref (ad 27)) (by decide) (hts _ q1710) rfl dX7_loaf_113 ?_
      refine lv_iload_n hx hb dX7_loaf_116 rfl (lv_at hl 1 rfl) ?_
      obtain ⟨hb13, hw⟩ := hw
      refine M_iald hx hb hK hM 27 rfl (j := (ix a1)) rfl hb13 dX7_loaf_117 ?_
      exact M_iret hx hb hr hlocks hM hS hw dX7_loaf_118
    have hw := hw.2 c20_6
    by_cases c20_7 : a2 = (7 : Int32)
    · have hw := hw.1 c20_7
      refine lv_swIn (v := (7 : Int32)) (tgt := 119) hx hb c20_7 dX7_loaf_20 (by decide) (by decide) rfl (by decide) ?_
      refine lv_aload_n hx hb dX7_loaf_119 rfl (lv_at hl 0 rfl) ?_
      refine lv_iload_n hx hb dX7_loaf_120 rfl (lv_at hl 1 rfl) ?_
      refine lv_iconst (v := (0 : Int32)) hx hb dX7_loaf_121 (by decide) ?_
      refine M_callIp (As := [.int a1, .int (0 : Int32)]) (rest := []) ⟨hx, hb, hml, hown, hts⟩ hK hZ hM hJ hS (metX7_answering l D cA z0 E ad h1 a1 (0 : Int32) _ hw) (cwV 2 hts (lw_V q2078 q2080 qs75 q130 q2081) rfl rfl rfl (by decide +kernel) ⟨Nat.le_of_ble_eq_true rfl, Nat.le_of_ble_eq_true rfl⟩) rfl hl.1 rfl (Nat.le_of_ble_eq_true rfl) dX7_loaf_122 ⟨Nat.zero_le _, Nat.zero_le _⟩ (fun r14 H locs hw hM hS => ?_)
      exact M_iret hx hb hr hlocks hM hS hw dX7_loaf_125
    have hw := hw.2 c20_7
    have hsw : a2.toInt < (0 : Int) ∨ (7 : Int) < a2.toInt := by
      refine sw_out (fun k h1 h2 => ?_)
      rcases (show k = 0 ∨ k = 1 ∨ k = 2 ∨ k = 3 ∨ k = 4 ∨ k = 5 ∨ k = 6 ∨ k = 7 by omega) with rfl | rfl | rfl | rfl | rfl | rfl | rfl | rfl
      · exact c20_0
      · exact c20_1
      · exact c20_2
      · exact c20_3
      · exact c20_4
      · exact c20_5
      · exact c20_6
      · exact c20_7
    refine lv_tableOut (tgt := 126) hx hb dX7_loaf_20 hsw (by decide) ?_
    refine lv_aload_n hx hb dX7_loaf_126 rfl (lv_at hl 0 rfl) ?_
    refine lv_iconst (v := (1 : Int32)) hx hb dX7_loaf_127 (by decide) ?_
    refine M_callI (As := [.int (1 : Int32)]) (rest := []) ⟨hx, hb, hml, hown, hts⟩ hK hZ hM hJ hS (metX7_fail l D cA z0 E ad h1 (1 : Int32) _ hw) (cwV 1 hts (lw_V q1903 q1905 qs44 q130 q1906) rfl rfl rfl (by decide +kernel) ⟨Nat.le_of_ble_eq_true rfl, Nat.le_of_ble_eq_true rfl⟩) rfl hl.1 rfl (Nat.le_of_ble_eq_true rfl) dX7_loaf_128 ⟨Nat.zero_le _, Nat.zero_le _⟩ (fun r16 h17 H locs hw hM hS => ?_)
    exact M_iret hx hb hr hlocks hM hS hw dX7_loaf_131
  · have c4 := b2i_f c4
    have hw := hw.2 c4
    refine lv_aload_n hx hb dX7_loaf_13 rfl (lv_at hl 0 rfl) ?_
    refine lv_iconst (v := (1 : Int32)) hx hb dX7_loaf_14 (by decide) ?_
    refine M_callI (As := [.int (1 : Int32)]) (rest := []) ⟨hx, hb, hml, hown, hts⟩ hK hZ hM hJ hS (metX7_fail l D cA z0 E ad h1 (1 : Int32) _ hw) (cwV 1 hts (lw_V q1903 q1905 qs44 q130 q1906) rfl rfl rfl (by decide +kernel) ⟨Nat.le_of_ble_eq_true rfl, Nat.le_of_ble_eq_true rfl⟩) rfl hl.1 rfl (Nat.le_of_ble_eq_true rfl) dX7_loaf_15 ⟨Nat.zero_le _, Nat.zero_le _⟩ (fun r18 h19 H locs hw hM hS => ?_)
    exact M_iret hx hb hr hlocks hM hS hw dX7_loaf_18

/-- met(II)I -/
def wpBX7_met_21 (post : Int32 → Mem → Prop) (a1 : Int32) (a2 : Int32)  (h : Mem)   : Prop :=
  (wpX7_fail (fun r5 h6 => post r5 h6) h (1 : Int32))
def wpX7_met (post : Int32 → Mem → Prop) (h : Mem) (a1 : Int32) (a2 : Int32) : Prop :=
  (∀ h1 : Mem, h1 = up2 h 2 0 (0 : Int32) → (wpX7_isPerson (fun r2 => ((r2 = true → (wpX7_isPerson (fun r7 => ((r7 = true → ((a1 = a2 → (wpX7_fail (fun r16 h17 => post r16 h17) h1 (2 : Int32))) ∧ (¬ a1 = a2 → (wpX7_lastDay (fun r11 => ((r11 = (-100000 : Int32) → post (-1 : Int32) h1) ∧ (¬ r11 = (-100000 : Int32) → (wpX7_lastDay (fun r14 => post ((h1 30 0) - r14) h1) h1 a1 a2)))) h1 a1 a2)))) ∧ (¬ r7 = true → wpBX7_met_21 post a1 a2  h1 ))) h1 a2)) ∧ (¬ r2 = true → wpBX7_met_21 post a1 a2  h1 ))) h1 a1))
set_option maxHeartbeats 4000000 in
set_option maxRecDepth 100000 in
theorem metX7_met (l : Launch) (D : va_G) (cA : Nat → ClassId) (z0 : Nat) (E : Nat → Nat → Nat) (ad : Nat → Nat) (h : Mem) (a1 : Int32) (a2 : Int32) (post : Int32 → Mem → Prop) (hw : wpX7_met post h a1 a2) : MeI l D cA z0 E ad yX7_met (ws_ yX7_met cX7_met 3 (some .int)) ({ frames := 3, cells := 0, slots := 0, locals := 76 }) [.ref (ad 69), .int a1, .int a2] h post := by
  refine Met.ofW (cc := cX7_met) (maxL := 3) (ret := (some .int)) (by decide) rfl ?_
  intro p e s m args below meth c s₁ B hml hv
  obtain ⟨rfl, hM, hK, hJ, hZ⟩ := hv
  have hx := B.exec
  have hb := B.bytes
  have hr := B.returns
  have hts := atoms_spec (ws := ws_ yX7_met cX7_met 3 (some .int)) B.pre
  have hts : ∀ w ∈ lw_all, w.before _ s = true := fun w h => hts w (List.mem_cons_of_mem _ h)
  have hown : s.vm.findClass RX7 = some m.cls := findClass_of_methodNamed B.named
  have hlocks := B.notSynchronized
  have hS : va_S (MA ad) s.heap s.heap [] := va_S.rf
  have hl := lv_entry ([.ref (ad 69), .int a1, .int a2]) (n := 3) (Nat.le_of_ble_eq_true rfl)
  rw [lg_entry_eq]
  generalize (lg_sl ([.ref (ad 69), .int a1, .int a2]) ++ List.replicate (3 - (lg_sl ([.ref (ad 69), .int a1, .int a2])).length) Slot.unset).toArray = ls at hl ⊢
  have hl : lv_has ls 3 [(0, .ref (ad 69)), (1, .int a1), (2, .int a2)] := hl
  have hB21 : ∀ (h : Mem), wpBX7_met_21 post a1 a2  h  → JM p l e (headSpec (ws_ yX7_met cX7_met 3 (some .int)) ({ frames := 3, cells := 0, slots := 0, locals := 76 })).room s m ([.ref (ad 69), .int a1, .int a2] : List Value).toArray below meth c (MQ below (MQi D cA E ad post) ([.ref (ad 69), .int a1, .int a2] : List Value).toArray s 0 0 (MA ad)) D cA E ad 3 21 h [(0, .ref (ad 69))] [] := by
    intro h hw H locs ls hM hS hl
    unfold wpBX7_met_21 at hw
    refine lv_aload_n hx hb dX7_met_21 rfl (lv_at hl 0 rfl) ?_
    refine lv_iconst (v := (1 : Int32)) hx hb dX7_met_22 (by decide) ?_
    refine M_callI (As := [.int (1 : Int32)]) (rest := []) ⟨hx, hb, hml, hown, hts⟩ hK hZ hM hJ hS (metX7_fail l D cA z0 E ad h (1 : Int32) _ hw) (cwV 1 hts (lw_V q1903 q1905 qs44 q130 q1906) rfl rfl rfl (by decide +kernel) ⟨Nat.le_of_ble_eq_true rfl, Nat.le_of_ble_eq_true rfl⟩) rfl hl.1 rfl (Nat.le_of_ble_eq_true rfl) dX7_met_23 ⟨Nat.zero_le _, Nat.zero_le _⟩ (fun r5 h6 H locs hw hM hS => ?_)
    exact M_iret hx hb hr hlocks hM hS hw dX7_met_26
  unfold wpX7_met at hw
  refine lv_aload_n hx hb dX7_met_0 rfl (lv_at hl 0 rfl) ?_
  refine lv_iconst (v := (0 : Int32)) hx hb dX7_met_1 (by decide) ?_
  refine M_put hx hb hts hown hK hM hJ hS 2 rfl rfl (hts _ q1685) rfl .int (by decide +kernel) rfl rfl dX7_met_2 (fun H locs hM hS => ?_)
  obtain ⟨h1, eh1⟩ : ∃ y : Mem, y = up2 h 2 0 (0 : Int32) := ⟨_, rfl⟩
  rw [← eh1] at hM
  have hw := hw h1 eh1
  refine lv_aload_n hx hb dX7_met_5 rfl (lv_at hl 0 rfl) ?_
  refine lv_iload_n hx hb dX7_met_6 rfl (lv_at hl 1 rfl) ?_
  refine M_callZp (As := [.int a1]) (rest := []) ⟨hx, hb, hml, hown, hts⟩ hK hZ hM hJ hS (metX7_isPerson l D cA z0 E ad h1 a1 _ hw) (cwV 1 hts (lw_V q2055 q2057 qs71 q130 q2058) rfl rfl rfl (by decide +kernel) ⟨Nat.le_of_ble_eq_true rfl, Nat.le_of_ble_eq_true rfl⟩) rfl hl.1 rfl (Nat.le_of_ble_eq_true rfl) dX7_met_7 ⟨Nat.zero_le _, Nat.zero_le _⟩ (fun r2 H locs hw hM hS => ?_)
  refine lv_if_eq (tgt := 21) hx hb dX7_met_10 (by decide) (fun c4 => ?_) (fun c4 => ?_)
  · have c4 := b2i_f c4
    have hw := hw.2 c4
    exact hB21 h1 hw _ _ ls hM hS (lv_sub hl [0] rfl)
  · have c4 := b2i_t c4
    have hw := hw.1 c4
    refine lv_aload_n hx hb dX7_met_13 rfl (lv_at hl 0 rfl) ?_
    refine lv_iload_n hx hb dX7_met_14 rfl (lv_at hl 2 rfl) ?_
    refine M_callZp (As := [.int a2]) (rest := []) ⟨hx, hb, hml, hown, hts⟩ hK hZ hM hJ hS (metX7_isPerson l D cA z0 E ad h1 a2 _ hw) (cwV 1 hts (lw_V q2055 q2057 qs71 q130 q2058) rfl rfl rfl (by decide +kernel) ⟨Nat.le_of_ble_eq_true rfl, Nat.le_of_ble_eq_true rfl⟩) rfl hl.1 rfl (Nat.le_of_ble_eq_true rfl) dX7_met_15 ⟨Nat.zero_le _, Nat.zero_le _⟩ (fun r7 H locs hw hM hS => ?_)
    refine lv_if_ne (tgt := 27) hx hb dX7_met_18 (by decide) (fun c9 => ?_) (fun c9 => ?_)
    · have c9 := b2i_t c9
      have hw := hw.1 c9
      refine lv_iload_n hx hb dX7_met_27 rfl (lv_at hl 1 rfl) ?_
      refine lv_iload_n hx hb dX7_met_28 rfl (lv_at hl 2 rfl) ?_
      refine lv_icmp_ne (tgt := 38) hx hb dX7_met_29 (by decide) (fun c10 => ?_) (fun c10 => ?_)
      · have hw := hw.2 c10
        refine lv_aload_n hx hb dX7_met_38 rfl (lv_at hl 0 rfl) ?_
        refine lv_iload_n hx hb dX7_met_39 rfl (lv_at hl 1 rfl) ?_
        refine lv_iload_n hx hb dX7_met_40 rfl (lv_at hl 2 rfl) ?_
        refine M_callIp (As := [.int a1, .int a2]) (rest := []) ⟨hx, hb, hml, hown, hts⟩ hK hZ hM hJ hS (metX7_lastDay l D cA z0 E ad h1 a1 a2 _ hw) (cwV 2 hts (lw_V q2047 q2049 qs70 q130 q2050) rfl rfl rfl (by decide +kernel) ⟨Nat.le_of_ble_eq_true rfl, Nat.le_of_ble_eq_true rfl⟩) rfl hl.1 rfl (Nat.le_of_ble_eq_true rfl) dX7_met_41 ⟨Nat.zero_le _, Nat.zero_le _⟩ (fun r11 H locs hw hM hS => ?_)
        refine lv_ldcw hx hb hown (hts _ q1907) dX7_met_44 ?_
        refine lv_icmp_ne (tgt := 54) hx hb dX7_met_47 (by decide) (fun c13 => ?_) (fun c13 => ?_)
        · have hw := hw.2 c13
          refine lv_aload_n hx hb dX7_met_54 rfl (lv_at hl 0 rfl) ?_
          refine M_get hx hb hts hown hK hM 30 (v := .int (h1 30 0)) (by decide) (hts _ q1713) rfl dX7_met_55 ?_
          refine lv_aload_n hx hb dX7_met_58 rfl (lv_at hl 0 rfl) ?_
          refine lv_iload_n hx hb dX7_met_59 rfl (lv_at hl 1 rfl) ?_
          refine lv_iload_n hx hb dX7_met_60 rfl (lv_at hl 2 rfl) ?_
          refine M_callIp (As := [.int a1, .int a2]) (rest := [.int (h1 30 0)]) ⟨hx, hb, hml, hown, hts⟩ hK hZ hM hJ hS (metX7_lastDay l D cA z0 E ad h1 a1 a2 _ hw) (cwV 2 hts (lw_V q2047 q2049 qs70 q130 q2050) rfl rfl rfl (by decide +kernel) ⟨Nat.le_of_ble_eq_true rfl, Nat.le_of_ble_eq_true rfl⟩) rfl hl.1 rfl (Nat.le_of_ble_eq_true rfl) dX7_met_61 ⟨Nat.zero_le _, Nat.zero_le _⟩ (fun r14 H locs hw hM hS => ?_)
          refine lv_isub hx hb dX7_met_64 ?_
          exact M_iret hx hb hr hlocks hM hS hw dX7_met_65
        · have hw := hw.1 c13
          refine lv_iconst (v := (-1 : Int32)) hx hb dX7_met_50 (by decide) ?_
          refine lv_goto (tgt := 65) hx hb dX7_met_51 (by decide) ?_
          exact M_iret hx hb hr hlocks hM hS hw dX7_met_65
      · have hw := hw.1 c10
        refine lv_aload_n hx hb dX7_met_32 rfl (lv_at hl 0 rfl) ?_
        refine lv_iconst (v := (2 : Int32)) hx hb dX7_met_33 (by decide) ?_
        refine M_callI (As := [.int (2 : Int32)]) (rest := []) ⟨hx, hb, hml, hown, hts⟩ hK hZ hM hJ hS (metX7_fail l D cA z0 E ad h1 (2 : Int32) _ hw) (cwV 1 hts (lw_V q1903 q1905 qs44 q130 q1906) rfl rfl rfl (by decide +kernel) ⟨Nat.le_of_ble_eq_true rfl, Nat.le_of_ble_eq_true rfl⟩) rfl hl.1 rfl (Nat.le_of_ble_eq_true rfl) dX7_met_34 ⟨Nat.zero_le _, Nat.zero_le _⟩ (fun r16 h17 H locs hw hM hS => ?_)
        exact M_iret hx hb hr hlocks hM hS hw dX7_met_37
    · have c9 := b2i_f c9
      have hw := hw.2 c9
      exact hB21 h1 hw _ _ ls hM hS (lv_sub hl [0] rfl)

/-- failing(I)Z -/
def wpX7_failing (post : Bool → Mem → Prop) (h : Mem) (a1 : Int32) : Prop :=
  (∀ h1 : Mem, h1 = up2 h 2 0 a1 → post false h1)
set_option maxHeartbeats 4000000 in
set_option maxRecDepth 100000 in
theorem metX7_failing (l : Launch) (D : va_G) (cA : Nat → ClassId) (z0 : Nat) (E : Nat → Nat → Nat) (ad : Nat → Nat) (h : Mem) (a1 : Int32) (post : Bool → Mem → Prop) (hw : wpX7_failing post h a1) : MeZ l D cA z0 E ad yX7_failing (ws_ yX7_failing cX7_failing 2 (some .boolean)) ({ frames := 1, cells := 0, slots := 0, locals := 30 }) [.ref (ad 69), .int a1] h post := by
  refine Met.ofW (cc := cX7_failing) (maxL := 2) (ret := (some .boolean)) (by decide) rfl ?_
  intro p e s m args below meth c s₁ B hml hv
  obtain ⟨rfl, hM, hK, hJ, hZ⟩ := hv
  have hx := B.exec
  have hb := B.bytes
  have hr := B.returns
  have hts := atoms_spec (ws := ws_ yX7_failing cX7_failing 2 (some .boolean)) B.pre
  have hts : ∀ w ∈ lw_all, w.before _ s = true := fun w h => hts w (List.mem_cons_of_mem _ h)
  have hown : s.vm.findClass RX7 = some m.cls := findClass_of_methodNamed B.named
  have hlocks := B.notSynchronized
  have hS : va_S (MA ad) s.heap s.heap [] := va_S.rf
  have hl := lv_entry ([.ref (ad 69), .int a1]) (n := 2) (Nat.le_of_ble_eq_true rfl)
  rw [lg_entry_eq]
  generalize (lg_sl ([.ref (ad 69), .int a1]) ++ List.replicate (2 - (lg_sl ([.ref (ad 69), .int a1])).length) Slot.unset).toArray = ls at hl ⊢
  have hl : lv_has ls 2 [(0, .ref (ad 69)), (1, .int a1)] := hl
  unfold wpX7_failing at hw
  refine lv_aload_n hx hb dX7_failing_0 rfl (lv_at hl 0 rfl) ?_
  refine lv_iload_n hx hb dX7_failing_1 rfl (lv_at hl 1 rfl) ?_
  refine M_put hx hb hts hown hK hM hJ hS 2 rfl rfl (hts _ q1685) rfl .int (by decide +kernel) rfl rfl dX7_failing_2 (fun H locs hM hS => ?_)
  obtain ⟨h1, eh1⟩ : ∃ y : Mem, y = up2 h 2 0 a1 := ⟨_, rfl⟩
  rw [← eh1] at hM
  have hw := hw h1 eh1
  refine lv_iconst (v := (0 : Int32)) hx hb dX7_failing_5 (by decide) ?_
  exact M_zret hx hb hr hlocks hM hS ⟨_, rfl, hw⟩ dX7_failing_6

/-- knows(II)Z -/
def wpBX7_knows_30 (post : Bool → Mem → Prop) (a1 : Int32) (a2 : Int32)  (h : Mem)   : Prop :=
  (wpX7_failing (fun r5 h6 => post r5 h6) h (1 : Int32))
def wpX7_knows (post : Bool → Mem → Prop) (h : Mem) (a1 : Int32) (a2 : Int32) : Prop :=
  (∀ h1 : Mem, h1 = up2 h 2 0 (0 : Int32) → (wpX7_isPerson (fun r2 => ((r2 = true → (wpX7_isPerson (fun r7 => ((r7 = true → (wpX7_isKnown (fun r10 => post r10 h1) h1 a1 a2)) ∧ (¬ r7 = true → wpBX7_knows_30 post a1 a2  h1 ))) h1 a2)) ∧ (¬ r2 = true → wpBX7_knows_30 post a1 a2  h1 ))) h1 a1))
set_option maxHeartbeats 4000000 in
set_option maxRecDepth 100000 in
theorem metX7_knows (l : Launch) (D : va_G) (cA : Nat → ClassId) (z0 : Nat) (E : Nat → Nat → Nat) (ad : Nat → Nat) (h : Mem) (a1 : Int32) (a2 : Int32) (post : Bool → Mem → Prop) (hw : wpX7_knows post h a1 a2) : MeZ l D cA z0 E ad yX7_knows (ws_ yX7_knows cX7_knows 3 (some .boolean)) ({ frames := 4, cells := 0, slots := 0, locals := 98 }) [.ref (ad 69), .int a1, .int a2] h post := by
  refine Met.ofW (cc := cX7_knows) (maxL := 3) (ret := (some .boolean)) (by decide) rfl ?_
  intro p e s m args below meth c s₁ B hml hv
  obtain ⟨rfl, hM, hK, hJ, hZ⟩ := hv
  have hx := B.exec
  have hb := B.bytes
  have hr := B.returns
  have hts := atoms_spec (ws := ws_ yX7_knows cX7_knows 3 (some .boolean)) B.pre
  have hts : ∀ w ∈ lw_all, w.before _ s = true := fun w h => hts w (List.mem_cons_of_mem _ h)
  have hown : s.vm.findClass RX7 = some m.cls := findClass_of_methodNamed B.named
  have hlocks := B.notSynchronized
  have hS : va_S (MA ad) s.heap s.heap [] := va_S.rf
  have hl := lv_entry ([.ref (ad 69), .int a1, .int a2]) (n := 3) (Nat.le_of_ble_eq_true rfl)
  rw [lg_entry_eq]
  generalize (lg_sl ([.ref (ad 69), .int a1, .int a2]) ++ List.replicate (3 - (lg_sl ([.ref (ad 69), .int a1, .int a2])).length) Slot.unset).toArray = ls at hl ⊢
  have hl : lv_has ls 3 [(0, .ref (ad 69)), (1, .int a1), (2, .int a2)] := hl
  have hB30 : ∀ (h : Mem), wpBX7_knows_30 post a1 a2  h  → JM p l e (headSpec (ws_ yX7_knows cX7_knows 3 (some .boolean)) ({ frames := 4, cells := 0, slots := 0, locals := 98 })).room s m ([.ref (ad 69), .int a1, .int a2] : List Value).toArray below meth c (MQ below (MQz D cA E ad post) ([.ref (ad 69), .int a1, .int a2] : List Value).toArray s 0 0 (MA ad)) D cA E ad 3 30 h [(0, .ref (ad 69))] [] := by
    intro h hw H locs ls hM hS hl
    unfold wpBX7_knows_30 at hw
    refine lv_aload_n hx hb dX7_knows_30 rfl (lv_at hl 0 rfl) ?_
    refine lv_iconst (v := (1 : Int32)) hx hb dX7_knows_31 (by decide) ?_
    refine M_callZ (As := [.int (1 : Int32)]) (rest := []) ⟨hx, hb, hml, hown, hts⟩ hK hZ hM hJ hS (metX7_failing l D cA z0 E ad h (1 : Int32) _ hw) (cwV 1 hts (lw_V q2102 q2104 qs79 q130 q2105) rfl rfl rfl (by decide +kernel) ⟨Nat.le_of_ble_eq_true rfl, Nat.le_of_ble_eq_true rfl⟩) rfl hl.1 rfl (Nat.le_of_ble_eq_true rfl) dX7_knows_32 ⟨Nat.zero_le _, Nat.zero_le _⟩ (fun r5 h6 H locs hw hM hS => ?_)
    exact M_zret hx hb hr hlocks hM hS ⟨_, rfl, hw⟩ dX7_knows_35
  unfold wpX7_knows at hw
  refine lv_aload_n hx hb dX7_knows_0 rfl (lv_at hl 0 rfl) ?_
  refine lv_iconst (v := (0 : Int32)) hx hb dX7_knows_1 (by decide) ?_
  refine M_put hx hb hts hown hK hM hJ hS 2 rfl rfl (hts _ q1685) rfl .int (by decide +kernel) rfl rfl dX7_knows_2 (fun H locs hM hS => ?_)
  obtain ⟨h1, eh1⟩ : ∃ y : Mem, y = up2 h 2 0 (0 : Int32) := ⟨_, rfl⟩
  rw [← eh1] at hM
  have hw := hw h1 eh1
  refine lv_aload_n hx hb dX7_knows_5 rfl (lv_at hl 0 rfl) ?_
  refine lv_iload_n hx hb dX7_knows_6 rfl (lv_at hl 1 rfl) ?_
  refine M_callZp (As := [.int a1]) (rest := []) ⟨hx, hb, hml, hown, hts⟩ hK hZ hM hJ hS (metX7_isPerson l D cA z0 E ad h1 a1 _ hw) (cwV 1 hts (lw_V q2055 q2057 qs71 q130 q2058) rfl rfl rfl (by decide +kernel) ⟨Nat.le_of_ble_eq_true rfl, Nat.le_of_ble_eq_true rfl⟩) rfl hl.1 rfl (Nat.le_of_ble_eq_true rfl) dX7_knows_7 ⟨Nat.zero_le _, Nat.zero_le _⟩ (fun r2 H locs hw hM hS => ?_)
  refine lv_if_eq (tgt := 30) hx hb dX7_knows_10 (by decide) (fun c4 => ?_) (fun c4 => ?_)
  · have c4 := b2i_f c4
    have hw := hw.2 c4
    exact hB30 h1 hw _ _ ls hM hS (lv_sub hl [0] rfl)
  · have c4 := b2i_t c4
    have hw := hw.1 c4
    refine lv_aload_n hx hb dX7_knows_13 rfl (lv_at hl 0 rfl) ?_
    refine lv_iload_n hx hb dX7_knows_14 rfl (lv_at hl 2 rfl) ?_
    refine M_callZp (As := [.int a2]) (rest := []) ⟨hx, hb, hml, hown, hts⟩ hK hZ hM hJ hS (metX7_isPerson l D cA z0 E ad h1 a2 _ hw) (cwV 1 hts (lw_V q2055 q2057 qs71 q130 q2058) rfl rfl rfl (by decide +kernel) ⟨Nat.le_of_ble_eq_true rfl, Nat.le_of_ble_eq_true rfl⟩) rfl hl.1 rfl (Nat.le_of_ble_eq_true rfl) dX7_knows_15 ⟨Nat.zero_le _, Nat.zero_le _⟩ (fun r7 H locs hw hM hS => ?_)
    refine lv_if_eq (tgt := 30) hx hb dX7_knows_18 (by decide) (fun c9 => ?_) (fun c9 => ?_)
    · have c9 := b2i_f c9
      have hw := hw.2 c9
      exact hB30 h1 hw _ _ ls hM hS (lv_sub hl [0] rfl)
    · have c9 := b2i_t c9
      have hw := hw.1 c9
      refine lv_aload_n hx hb dX7_knows_21 rfl (lv_at hl 0 rfl) ?_
      refine lv_iload_n hx hb dX7_knows_22 rfl (lv_at hl 1 rfl) ?_
      refine lv_iload_n hx hb dX7_knows_23 rfl (lv_at hl 2 rfl) ?_
      refine M_callZp (As := [.int a1, .int a2]) (rest := []) ⟨hx, hb, hml, hown, hts⟩ hK hZ hM hJ hS (metX7_isKnown l D cA z0 E ad h1 a1 a2 _ hw) (cwV 2 hts (lw_V q2039 q2041 qs68 q130 q2042) rfl rfl rfl (by decide +kernel) ⟨Nat.le_of_ble_eq_true rfl, Nat.le_of_ble_eq_true rfl⟩) rfl hl.1 rfl (Nat.le_of_ble_eq_true rfl) dX7_knows_24 ⟨Nat.zero_le _, Nat.zero_le _⟩ (fun r10 H locs hw hM hS => ?_)
      refine lv_goto (tgt := 35) hx hb dX7_knows_27 (by decide) ?_
      exact M_zret hx hb hr hlocks hM hS ⟨_, rfl, hw⟩ dX7_knows_35

/-- may(II)I -/
def wpBX7_may_30 (post : Int32 → Mem → Prop) (a1 : Int32) (a2 : Int32)  (h : Mem)   : Prop :=
  (wpX7_fail (fun r5 h6 => post r5 h6) h (1 : Int32))
def wpX7_may (post : Int32 → Mem → Prop) (h : Mem) (a1 : Int32) (a2 : Int32) : Prop :=
  (∀ h1 : Mem, h1 = up2 h 2 0 (0 : Int32) → (wpX7_isPerson (fun r2 => ((r2 = true → (wpX7_isLoaf (fun r7 => ((r7 = true → (wpX7_mayNow (fun r10 => post r10 h1) h1 a1 a2)) ∧ (¬ r7 = true → wpBX7_may_30 post a1 a2  h1 ))) h1 a2)) ∧ (¬ r2 = true → wpBX7_may_30 post a1 a2  h1 ))) h1 a1))
set_option maxHeartbeats 4000000 in
set_option maxRecDepth 100000 in
theorem metX7_may (l : Launch) (D : va_G) (cA : Nat → ClassId) (z0 : Nat) (E : Nat → Nat → Nat) (ad : Nat → Nat) (h : Mem) (a1 : Int32) (a2 : Int32) (post : Int32 → Mem → Prop) (hw : wpX7_may post h a1 a2) : MeI l D cA z0 E ad yX7_may (ws_ yX7_may cX7_may 3 (some .int)) ({ frames := 6, cells := 0, slots := 0, locals := 145 }) [.ref (ad 69), .int a1, .int a2] h post := by
  refine Met.ofW (cc := cX7_may) (maxL := 3) (ret := (some .int)) (by decide) rfl ?_
  intro p e s m args below meth c s₁ B hml hv
  obtain ⟨rfl, hM, hK, hJ, hZ⟩ := hv
  have hx := B.exec
  have hb := B.bytes
  have hr := B.returns
  have hts := atoms_spec (ws := ws_ yX7_may cX7_may 3 (some .int)) B.pre
  have hts : ∀ w ∈ lw_all, w.before _ s = true := fun w h => hts w (List.mem_cons_of_mem _ h)
  have hown : s.vm.findClass RX7 = some m.cls := findClass_of_methodNamed B.named
  have hlocks := B.notSynchronized
  have hS : va_S (MA ad) s.heap s.heap [] := va_S.rf
  have hl := lv_entry ([.ref (ad 69), .int a1, .int a2]) (n := 3) (Nat.le_of_ble_eq_true rfl)
  rw [lg_entry_eq]
  generalize (lg_sl ([.ref (ad 69), .int a1, .int a2]) ++ List.replicate (3 - (lg_sl ([.ref (ad 69), .int a1, .int a2])).length) Slot.unset).toArray = ls at hl ⊢
  have hl : lv_has ls 3 [(0, .ref (ad 69)), (1, .int a1), (2, .int a2)] := hl
  have hB30 : ∀ (h : Mem), wpBX7_may_30 post a1 a2  h  → JM p l e (headSpec (ws_ yX7_may cX7_may 3 (some .int)) ({ frames := 6, cells := 0, slots := 0, locals := 145 })).room s m ([.ref (ad 69), .int a1, .int a2] : List Value).toArray below meth c (MQ below (MQi D cA E ad post) ([.ref (ad 69), .int a1, .int a2] : List Value).toArray s 0 0 (MA ad)) D cA E ad 3 30 h [(0, .ref (ad 69))] [] := by
    intro h hw H locs ls hM hS hl
    unfold wpBX7_may_30 at hw
    refine lv_aload_n hx hb dX7_may_30 rfl (lv_at hl 0 rfl) ?_
    refine lv_iconst (v := (1 : Int32)) hx hb dX7_may_31 (by decide) ?_
    refine M_callI (As := [.int (1 : Int32)]) (rest := []) ⟨hx, hb, hml, hown, hts⟩ hK hZ hM hJ hS (metX7_fail l D cA z0 E ad h (1 : Int32) _ hw) (cwV 1 hts (lw_V q1903 q1905 qs44 q130 q1906) rfl rfl rfl (by decide +kernel) ⟨Nat.le_of_ble_eq_true rfl, Nat.le_of_ble_eq_true rfl⟩) rfl hl.1 rfl (Nat.le_of_ble_eq_true rfl) dX7_may_32 ⟨Nat.zero_le _, Nat.zero_le _⟩ (fun r5 h6 H locs hw hM hS => ?_)
    exact M_iret hx hb hr hlocks hM hS hw dX7_may_35
  unfold wpX7_may at hw
  refine lv_aload_n hx hb dX7_may_0 rfl (lv_at hl 0 rfl) ?_
  refine lv_iconst (v := (0 : Int32)) hx hb dX7_may_1 (by decide) ?_
  refine M_put hx hb hts hown hK hM hJ hS 2 rfl rfl (hts _ q1685) rfl .int (by decide +kernel) rfl rfl dX7_may_2 (fun H locs hM hS => ?_)
  obtain ⟨h1, eh1⟩ : ∃ y : Mem, y = up2 h 2 0 (0 : Int32) := ⟨_, rfl⟩
  rw [← eh1] at hM
  have hw := hw h1 eh1
  refine lv_aload_n hx hb dX7_may_5 rfl (lv_at hl 0 rfl) ?_
  refine lv_iload_n hx hb dX7_may_6 rfl (lv_at hl 1 rfl) ?_
  refine M_callZp (As := [.int a1]) (rest := []) ⟨hx, hb, hml, hown, hts⟩ hK hZ hM hJ hS (metX7_isPerson l D cA z0 E ad h1 a1 _ hw) (cwV 1 hts (lw_V q2055 q2057 qs71 q130 q2058) rfl rfl rfl (by decide +kernel) ⟨Nat.le_of_ble_eq_true rfl, Nat.le_of_ble_eq_true rfl⟩) rfl hl.1 rfl (Nat.le_of_ble_eq_true rfl) dX7_may_7 ⟨Nat.zero_le _, Nat.zero_le _⟩ (fun r2 H locs hw hM hS => ?_)
  refine lv_if_eq (tgt := 30) hx hb dX7_may_10 (by decide) (fun c4 => ?_) (fun c4 => ?_)
  · have c4 := b2i_f c4
    have hw := hw.2 c4
    exact hB30 h1 hw _ _ ls hM hS (lv_sub hl [0] rfl)
  · have c4 := b2i_t c4
    have hw := hw.1 c4
    refine lv_aload_n hx hb dX7_may_13 rfl (lv_at hl 0 rfl) ?_
    refine lv_iload_n hx hb dX7_may_14 rfl (lv_at hl 2 rfl) ?_
    refine M_callZp (As := [.int a2]) (rest := []) ⟨hx, hb, hml, hown, hts⟩ hK hZ hM hJ hS (metX7_isLoaf l D cA z0 E ad h1 a2 _ hw) (cwV 1 hts (lw_V q2066 q2068 qs72 q130 q2069) rfl rfl rfl (by decide +kernel) ⟨Nat.le_of_ble_eq_true rfl, Nat.le_of_ble_eq_true rfl⟩) rfl hl.1 rfl (Nat.le_of_ble_eq_true rfl) dX7_may_15 ⟨Nat.zero_le _, Nat.zero_le _⟩ (fun r7 H locs hw hM hS => ?_)
    refine lv_if_eq (tgt := 30) hx hb dX7_may_18 (by decide) (fun c9 => ?_) (fun c9 => ?_)
    · have c9 := b2i_f c9
      have hw := hw.2 c9
      exact hB30 h1 hw _ _ ls hM hS (lv_sub hl [0] rfl)
    · have c9 := b2i_t c9
      have hw := hw.1 c9
      refine lv_aload_n hx hb dX7_may_21 rfl (lv_at hl 0 rfl) ?_
      refine lv_iload_n hx hb dX7_may_22 rfl (lv_at hl 1 rfl) ?_
      refine lv_iload_n hx hb dX7_may_23 rfl (lv_at hl 2 rfl) ?_
      refine M_callIp (As := [.int a1, .int a2]) (rest := []) ⟨hx, hb, hml, hown, hts⟩ hK hZ hM hJ hS (metX7_mayNow l D cA z0 E ad h1 a1 a2 _ hw) (cwV 2 hts (lw_V q2082 q2084 qs76 q130 q2085) rfl rfl rfl (by decide +kernel) ⟨Nat.le_of_ble_eq_true rfl, Nat.le_of_ble_eq_true rfl⟩) rfl hl.1 rfl (Nat.le_of_ble_eq_true rfl) dX7_may_24 ⟨Nat.zero_le _, Nat.zero_le _⟩ (fun r10 H locs hw hM hS => ?_)
      refine lv_goto (tgt := 35) hx hb dX7_may_27 (by decide) ?_
      exact M_iret hx hb hr hlocks hM hS hw dX7_may_35

/-- reckon(III)I -/
def wpX7_reckon (post : Int32 → Prop) (h : Mem) (a0 : Int32) (a1 : Int32) (a2 : Int32) : Prop :=
  ((a0 = (-26 : Int32) → post (if a1 = 0 then (0 : Int32) else (if a2 = 0 then (0 : Int32) else (1 : Int32)))) ∧ (¬ a0 = (-26 : Int32) → ((a0 = (-25 : Int32) → post (if a1 = a2 then (1 : Int32) else (0 : Int32))) ∧ (¬ a0 = (-25 : Int32) → ((a0 = (-24 : Int32) → post (if a2 ≤ a1 then (0 : Int32) else (1 : Int32))) ∧ (¬ a0 = (-24 : Int32) → ((a0 = (-23 : Int32) → ((a2 = 0 → post (0 : Int32)) ∧ (¬ a2 = 0 → (¬ a2 = 0 ∧ post (a1 / a2))))) ∧ (¬ a0 = (-23 : Int32) → ((a0 = (-22 : Int32) → post (a1 * a2)) ∧ (¬ a0 = (-22 : Int32) → ((a0 = (-21 : Int32) → post (a1 - a2)) ∧ (¬ a0 = (-21 : Int32) → ((a0 = (-20 : Int32) → post (a1 + a2)) ∧ (¬ a0 = (-20 : Int32) → post (if a1 = 0 then (if a2 = 0 then (0 : Int32) else (1 : Int32)) else (1 : Int32))))))))))))))))
set_option maxHeartbeats 4000000 in
set_option maxRecDepth 100000 in
theorem metX7_reckon (l : Launch) (D : va_G) (cA : Nat → ClassId) (z0 : Nat) (E : Nat → Nat → Nat) (ad : Nat → Nat) (h : Mem) (a0 : Int32) (a1 : Int32) (a2 : Int32) (post : Int32 → Prop) (hw : wpX7_reckon post h a0 a1 a2) : MeI l D cA z0 E ad yX7_reckon (ws_ yX7_reckon cX7_reckon 3 (some .int)) ({ frames := 1, cells := 0, slots := 0, locals := 30 }) [.int a0, .int a1, .int a2] h (fun r h' => h' = h ∧ post r) := by
  refine Met.ofW (cc := cX7_reckon) (maxL := 3) (ret := (some .int)) (by decide) rfl ?_
  intro p e s m args below meth c s₁ B hml hv
  obtain ⟨rfl, hM, hK, hJ, hZ⟩ := hv
  have hx := B.exec
  have hb := B.bytes
  have hr := B.returns
  have hts := atoms_spec (ws := ws_ yX7_reckon cX7_reckon 3 (some .int)) B.pre
  have hts : ∀ w ∈ lw_all, w.before _ s = true := fun w h => hts w (List.mem_cons_of_mem _ h)
  have hown : s.vm.findClass RX7 = some m.cls := findClass_of_methodNamed B.named
  have hlocks := B.notSynchronized
  have hS : va_S (MA ad) s.heap s.heap [] := va_S.rf
  have hl := lv_entry ([.int a0, .int a1, .int a2]) (n := 3) (Nat.le_of_ble_eq_true rfl)
  rw [lg_entry_eq]
  generalize (lg_sl ([.int a0, .int a1, .int a2]) ++ List.replicate (3 - (lg_sl ([.int a0, .int a1, .int a2])).length) Slot.unset).toArray = ls at hl ⊢
  have hl : lv_has ls 3 [(0, .int a0), (1, .int a1), (2, .int a2)] := hl
  unfold wpX7_reckon at hw
  refine lv_iload_n hx hb dX7_reckon_0 rfl (lv_at hl 0 rfl) ?_
  by_cases c1_m26 : a0 = (-26 : Int32)
  · have hw := hw.1 c1_m26
    refine lv_swIn (v := (-26 : Int32)) (tgt := 90) hx hb c1_m26 dX7_reckon_1 (by decide) (by decide) rfl (by decide) ?_
    refine lv_iload_n hx hb dX7_reckon_90 rfl (lv_at hl 1 rfl) ?_
    have hj1 : JM p l e (headSpec (ws_ yX7_reckon cX7_reckon 3 (some .int)) ({ frames := 1, cells := 0, slots := 0, locals := 30 })).room s m ([.int a0, .int a1, .int a2] : List Value).toArray below meth c (MQ below (MQi D cA E ad (fun r h' => h' = h ∧ post r)) ([.int a0, .int a1, .int a2] : List Value).toArray s 0 0 (MA ad)) D cA E ad 3 103 h [] [.int (if a1 = 0 then (0 : Int32) else (if a2 = 0 then (0 : Int32) else (1 : Int32)))] := by
      intro H locs ls hM hS hl
      exact M_iret hx hb hr hlocks hM hS ⟨rfl, hw⟩ dX7_reckon_103
    refine lv_if_eq (tgt := 102) hx hb dX7_reckon_91 (by decide) (fun c2 => ?_) (fun c2 => ?_)
    · refine lv_iconst (v := (0 : Int32)) hx hb dX7_reckon_102 (by decide) ?_
      have e3 : (if a1 = 0 then (0 : Int32) else (if a2 = 0 then (0 : Int32) else (1 : Int32))) = (0 : Int32) := by rw [if_pos c2]
      rw [e3] at hj1
      exact hj1 _ _ ls hM hS (lv_sub hl [] rfl)
    · refine lv_iload_n hx hb dX7_reckon_94 rfl (lv_at hl 2 rfl) ?_
      refine lv_if_eq (tgt := 102) hx hb dX7_reckon_95 (by decide) (fun c4 => ?_) (fun c4 => ?_)
      · refine lv_iconst (v := (0 : Int32)) hx hb dX7_reckon_102 (by decide) ?_
        have e5 : (if a1 = 0 then (0 : Int32) else (if a2 = 0 then (0 : Int32) else (1 : Int32))) = (0 : Int32) := by rw [if_neg c2, if_pos c4]
        rw [e5] at hj1
        exact hj1 _ _ ls hM hS (lv_sub hl [] rfl)
      · refine lv_iconst (v := (1 : Int32)) hx hb dX7_reckon_98 (by decide) ?_
        refine lv_goto (tgt := 103) hx hb dX7_reckon_99 (by decide) ?_
        have e6 : (if a1 = 0 then (0 : Int32) else (if a2 = 0 then (0 : Int32) else (1 : Int32))) = (1 : Int32) := by rw [if_neg c2, if_neg c4]
        rw [e6] at hj1
        exact hj1 _ _ ls hM hS (lv_sub hl [] rfl)
  have hw := hw.2 c1_m26
  by_cases c1_m25 : a0 = (-25 : Int32)
  · have hw := hw.1 c1_m25
    refine lv_swIn (v := (-25 : Int32)) (tgt := 79) hx hb c1_m25 dX7_reckon_1 (by decide) (by decide) rfl (by decide) ?_
    refine lv_iload_n hx hb dX7_reckon_79 rfl (lv_at hl 1 rfl) ?_
    refine lv_iload_n hx hb dX7_reckon_80 rfl (lv_at hl 2 rfl) ?_
    have hj7 : JM p l e (headSpec (ws_ yX7_reckon cX7_reckon 3 (some .int)) ({ frames := 1, cells := 0, slots := 0, locals := 30 })).room s m ([.int a0, .int a1, .int a2] : List Value).toArray below meth c (MQ below (MQi D cA E ad (fun r h' => h' = h ∧ post r)) ([.int a0, .int a1, .int a2] : List Value).toArray s 0 0 (MA ad)) D cA E ad 3 89 h [] [.int (if a1 = a2 then (1 : Int32) else (0 : Int32))] := by
      intro H locs ls hM hS hl
      exact M_iret hx hb hr hlocks hM hS ⟨rfl, hw⟩ dX7_reckon_89
    refine lv_icmp_ne (tgt := 88) hx hb dX7_reckon_81 (by decide) (fun c8 => ?_) (fun c8 => ?_)
    · refine lv_iconst (v := (0 : Int32)) hx hb dX7_reckon_88 (by decide) ?_
      have e9 : (if a1 = a2 then (1 : Int32) else (0 : Int32)) = (0 : Int32) := by rw [if_neg c8]
      rw [e9] at hj7
      exact hj7 _ _ ls hM hS (lv_sub hl [] rfl)
    · refine lv_iconst (v := (1 : Int32)) hx hb dX7_reckon_84 (by decide) ?_
      refine lv_goto (tgt := 89) hx hb dX7_reckon_85 (by decide) ?_
      have e10 : (if a1 = a2 then (1 : Int32) else (0 : Int32)) = (1 : Int32) := by rw [if_pos c8]
      rw [e10] at hj7
      exact hj7 _ _ ls hM hS (lv_sub hl [] rfl)
  have hw := hw.2 c1_m25
  by_cases c1_m24 : a0 = (-24 : Int32)
  · have hw := hw.1 c1_m24
    refine lv_swIn (v := (-24 : Int32)) (tgt := 68) hx hb c1_m24 dX7_reckon_1 (by decide) (by decide) rfl (by decide) ?_
    refine lv_iload_n hx hb dX7_reckon_68 rfl (lv_at hl 1 rfl) ?_
    refine lv_iload_n hx hb dX7_reckon_69 rfl (lv_at hl 2 rfl) ?_
    have hj11 : JM p l e (headSpec (ws_ yX7_reckon cX7_reckon 3 (some .int)) ({ frames := 1, cells := 0, slots := 0, locals := 30 })).room s m ([.int a0, .int a1, .int a2] : List Value).toArray below meth c (MQ below (MQi D cA E ad (fun r h' => h' = h ∧ post r)) ([.int a0, .int a1, .int a2] : List Value).toArray s 0 0 (MA ad)) D cA E ad 3 78 h [] [.int (if a2 ≤ a1 then (0 : Int32) else (1 : Int32))] := by
      intro H locs ls hM hS hl
      exact M_iret hx hb hr hlocks hM hS ⟨rfl, hw⟩ dX7_reckon_78
    refine lv_icmp_ge (tgt := 77) hx hb dX7_reckon_70 (by decide) (fun c12 => ?_) (fun c12 => ?_)
    · refine lv_iconst (v := (0 : Int32)) hx hb dX7_reckon_77 (by decide) ?_
      have e13 : (if a2 ≤ a1 then (0 : Int32) else (1 : Int32)) = (0 : Int32) := by rw [if_pos c12]
      rw [e13] at hj11
      exact hj11 _ _ ls hM hS (lv_sub hl [] rfl)
    · refine lv_iconst (v := (1 : Int32)) hx hb dX7_reckon_73 (by decide) ?_
      refine lv_goto (tgt := 78) hx hb dX7_reckon_74 (by decide) ?_
      have e14 : (if a2 ≤ a1 then (0 : Int32) else (1 : Int32)) = (1 : Int32) := by rw [if_neg c12]
      rw [e14] at hj11
      exact hj11 _ _ ls hM hS (lv_sub hl [] rfl)
  have hw := hw.2 c1_m24
  by_cases c1_m23 : a0 = (-23 : Int32)
  · have hw := hw.1 c1_m23
    refine lv_swIn (v := (-23 : Int32)) (tgt := 56) hx hb c1_m23 dX7_reckon_1 (by decide) (by decide) rfl (by decide) ?_
    refine lv_iload_n hx hb dX7_reckon_56 rfl (lv_at hl 2 rfl) ?_
    refine lv_if_ne (tgt := 64) hx hb dX7_reckon_57 (by decide) (fun c15 => ?_) (fun c15 => ?_)
    · have hw := hw.2 c15
      refine lv_iload_n hx hb dX7_reckon_64 rfl (lv_at hl 1 rfl) ?_
      refine lv_iload_n hx hb dX7_reckon_65 rfl (lv_at hl 2 rfl) ?_
      obtain ⟨hne, hw⟩ := hw
      refine lv_idiv hx hb dX7_reckon_66 hne ?_
      exact M_iret hx hb hr hlocks hM hS ⟨rfl, hw⟩ dX7_reckon_67
    · have hw := hw.1 c15
      refine lv_iconst (v := (0 : Int32)) hx hb dX7_reckon_60 (by decide) ?_
      refine lv_goto (tgt := 67) hx hb dX7_reckon_61 (by decide) ?_
      exact M_iret hx hb hr hlocks hM hS ⟨rfl, hw⟩ dX7_reckon_67
  have hw := hw.2 c1_m23
  by_cases c1_m22 : a0 = (-22 : Int32)
  · have hw := hw.1 c1_m22
    refine lv_swIn (v := (-22 : Int32)) (tgt := 52) hx hb c1_m22 dX7_reckon_1 (by decide) (by decide) rfl (by decide) ?_
    refine lv_iload_n hx hb dX7_reckon_52 rfl (lv_at hl 1 rfl) ?_
    refine lv_iload_n hx hb dX7_reckon_53 rfl (lv_at hl 2 rfl) ?_
    refine lv_imul hx hb dX7_reckon_54 ?_
    exact M_iret hx hb hr hlocks hM hS ⟨rfl, hw⟩ dX7_reckon_55
  have hw := hw.2 c1_m22
  by_cases c1_m21 : a0 = (-21 : Int32)
  · have hw := hw.1 c1_m21
    refine lv_swIn (v := (-21 : Int32)) (tgt := 48) hx hb c1_m21 dX7_reckon_1 (by decide) (by decide) rfl (by decide) ?_
    refine lv_iload_n hx hb dX7_reckon_48 rfl (lv_at hl 1 rfl) ?_
    refine lv_iload_n hx hb dX7_reckon_49 rfl (lv_at hl 2 rfl) ?_
    refine lv_isub hx hb dX7_reckon_50 ?_
    exact M_iret hx hb hr hlocks hM hS ⟨rfl, hw⟩ dX7_reckon_51
  have hw := hw.2 c1_m21
  by_cases c1_m20 : a0 = (-20 : Int32)
  · have hw := hw.1 c1_m20
    refine lv_swIn (v := (-20 : Int32)) (tgt := 44) hx hb c1_m20 dX7_reckon_1 (by decide) (by decide) rfl (by decide) ?_
    refine lv_iload_n hx hb dX7_reckon_44 rfl (lv_at hl 1 rfl) ?_
    refine lv_iload_n hx hb dX7_reckon_45 rfl (lv_at hl 2 rfl) ?_
    refine lv_iadd hx hb dX7_reckon_46 ?_
    exact M_iret hx hb hr hlocks hM hS ⟨rfl, hw⟩ dX7_reckon_47
  have hw := hw.2 c1_m20
  have hsw : a0.toInt < (-26 : Int) ∨ (-20 : Int) < a0.toInt := by
    refine sw_out (fun k h1 h2 => ?_)
    rcases (show k = -26 ∨ k = -25 ∨ k = -24 ∨ k = -23 ∨ k = -22 ∨ k = -21 ∨ k = -20 by omega) with rfl | rfl | rfl | rfl | rfl | rfl | rfl
    · exact c1_m26
    · exact c1_m25
    · exact c1_m24
    · exact c1_m23
    · exact c1_m22
    · exact c1_m21
    · exact c1_m20
  refine lv_tableOut (tgt := 104) hx hb dX7_reckon_1 hsw (by decide) ?_
  refine lv_iload_n hx hb dX7_reckon_104 rfl (lv_at hl 1 rfl) ?_
  have hj16 : JM p l e (headSpec (ws_ yX7_reckon cX7_reckon 3 (some .int)) ({ frames := 1, cells := 0, slots := 0, locals := 30 })).room s m ([.int a0, .int a1, .int a2] : List Value).toArray below meth c (MQ below (MQi D cA E ad (fun r h' => h' = h ∧ post r)) ([.int a0, .int a1, .int a2] : List Value).toArray s 0 0 (MA ad)) D cA E ad 3 117 h [] [.int (if a1 = 0 then (if a2 = 0 then (0 : Int32) else (1 : Int32)) else (1 : Int32))] := by
    intro H locs ls hM hS hl
    exact M_iret hx hb hr hlocks hM hS ⟨rfl, hw⟩ dX7_reckon_117
  refine lv_if_ne (tgt := 112) hx hb dX7_reckon_105 (by decide) (fun c17 => ?_) (fun c17 => ?_)
  · refine lv_iconst (v := (1 : Int32)) hx hb dX7_reckon_112 (by decide) ?_
    refine lv_goto (tgt := 117) hx hb dX7_reckon_113 (by decide) ?_
    have e18 : (if a1 = 0 then (if a2 = 0 then (0 : Int32) else (1 : Int32)) else (1 : Int32)) = (1 : Int32) := by rw [if_neg c17]
    rw [e18] at hj16
    exact hj16 _ _ ls hM hS (lv_sub hl [] rfl)
  · refine lv_iload_n hx hb dX7_reckon_108 rfl (lv_at hl 2 rfl) ?_
    refine lv_if_eq (tgt := 116) hx hb dX7_reckon_109 (by decide) (fun c19 => ?_) (fun c19 => ?_)
    · refine lv_iconst (v := (0 : Int32)) hx hb dX7_reckon_116 (by decide) ?_
      have e20 : (if a1 = 0 then (if a2 = 0 then (0 : Int32) else (1 : Int32)) else (1 : Int32)) = (0 : Int32) := by rw [if_pos c17, if_pos c19]
      rw [e20] at hj16
      exact hj16 _ _ ls hM hS (lv_sub hl [] rfl)
    · refine lv_iconst (v := (1 : Int32)) hx hb dX7_reckon_112 (by decide) ?_
      refine lv_goto (tgt := 117) hx hb dX7_reckon_113 (by decide) ?_
      have e21 : (if a1 = 0 then (if a2 = 0 then (0 : Int32) else (1 : Int32)) else (1 : Int32)) = (1 : Int32) := by rw [if_pos c17, if_neg c19]
      rw [e21] at hj16
      exact hj16 _ _ ls hM hS (lv_sub hl [] rfl)

/-- valueNow()I -/
def wpBX7_valueNow_84 (post : Int32 → Mem → Prop)  (K4 : Mem → Int32 → Int32 → Prop) (h : Mem) (x1 : Int32) (x2 : Int32) (s0 : Int32) (s1 : Int32) : Prop :=
  (vp_in s1 (mlen 36) ∧ (∀ h13 : Mem, h13 = up2 h 36 (ix s1) s0 → K4 h13 x1 (x2 + (1 : Int32))))
def wpBX7_valueNow_48 (post : Int32 → Mem → Prop)  (K4 : Mem → Int32 → Int32 → Prop) (h : Mem) (x1 : Int32) (x2 : Int32) (s0 : Int32) (s1 : Int32) : Prop :=
  (vp_in s1 (mlen 36) ∧ (∀ h20 : Mem, h20 = up2 h 36 (ix s1) s0 → K4 h20 (x1 + (1 : Int32)) (x2 + (1 : Int32))))
def wpBX7_valueNow_4 (post : Int32 → Mem → Prop)   (K4 : Mem → Int32 → Int32 → Prop)  (h : Mem) (x1 : Int32) (x2 : Int32) : Prop :=
  (((h 3 5) ≤ x2 → post (h 36 0) h) ∧ (¬ (h 3 5) ≤ x2 → (vp_in x2 (mlen 14) ∧ (((h 14 (ix x2)) ≤ (-20 : Int32) → (((h 14 (ix x2)) = (-28 : Int32) → (vp_in (x1 - (1 : Int32)) (mlen 36) ∧ wpBX7_valueNow_84 post  K4 h x1 x2 (if (h 36 (ix (x1 - (1 : Int32)))) = 0 then (1 : Int32) else (0 : Int32)) (x1 - (1 : Int32)))) ∧ (¬ (h 14 (ix x2)) = (-28 : Int32) → (vp_in ((x1 + (-1 : Int32)) - (1 : Int32)) (mlen 36) ∧ (vp_in (x1 + (-1 : Int32)) (mlen 36) ∧ (wpX7_reckon (fun r7 => (∀ h9 : Mem, h9 = up2 h 36 (ix ((x1 + (-1 : Int32)) - (1 : Int32))) r7 → K4 h9 (x1 + (-1 : Int32)) (x2 + (1 : Int32)))) h (h 14 (ix x2)) (h 36 (ix ((x1 + (-1 : Int32)) - (1 : Int32)))) (h 36 (ix (x1 + (-1 : Int32)))))))))) ∧ (¬ (h 14 (ix x2)) ≤ (-20 : Int32) → (((h 14 (ix x2)) < 0 → (vp_in ((-1 : Int32) - (h 14 (ix x2))) (mlen 35) ∧ wpBX7_valueNow_48 post  K4 h x1 x2 (h 35 (ix ((-1 : Int32) - (h 14 (ix x2))))) x1)) ∧ (¬ (h 14 (ix x2)) < 0 → wpBX7_valueNow_48 post  K4 h x1 x2 (h 14 (ix x2)) x1)))))))
def wpLX7_valueNow_4 (post : Int32 → Mem → Prop)    : Nat → (Mem × Int32 × Int32) → Prop := LW (fun K s => wpBX7_valueNow_4 post   (fun h x1 x2 => K (h, x1, x2))  s.1 s.2.1 s.2.2)
def wpX7_valueNow (post : Int32 → Mem → Prop) (h : Mem)  : Prop :=
  (∃ n, wpLX7_valueNow_4 post    n (h, (0 : Int32), (0 : Int32)))
set_option maxHeartbeats 4000000 in
set_option maxRecDepth 100000 in
theorem metX7_valueNow (l : Launch) (D : va_G) (cA : Nat → ClassId) (z0 : Nat) (E : Nat → Nat → Nat) (ad : Nat → Nat) (h : Mem)  (post : Int32 → Mem → Prop) (hw : wpX7_valueNow post h ) : MeI l D cA z0 E ad yX7_valueNow (ws_ yX7_valueNow cX7_valueNow 4 (some .int)) ({ frames := 2, cells := 0, slots := 0, locals := 52 }) [.ref (ad 69)] h post := by
  refine Met.ofW (cc := cX7_valueNow) (maxL := 4) (ret := (some .int)) (by decide) rfl ?_
  intro p e s m args below meth c s₁ B hml hv
  obtain ⟨rfl, hM, hK, hJ, hZ⟩ := hv
  have hx := B.exec
  have hb := B.bytes
  have hr := B.returns
  have hts := atoms_spec (ws := ws_ yX7_valueNow cX7_valueNow 4 (some .int)) B.pre
  have hts : ∀ w ∈ lw_all, w.before _ s = true := fun w h => hts w (List.mem_cons_of_mem _ h)
  have hown : s.vm.findClass RX7 = some m.cls := findClass_of_methodNamed B.named
  have hlocks := B.notSynchronized
  have hS : va_S (MA ad) s.heap s.heap [] := va_S.rf
  have hl := lv_entry ([.ref (ad 69)]) (n := 4) (Nat.le_of_ble_eq_true rfl)
  rw [lg_entry_eq]
  generalize (lg_sl ([.ref (ad 69)]) ++ List.replicate (4 - (lg_sl ([.ref (ad 69)])).length) Slot.unset).toArray = ls at hl ⊢
  have hl : lv_has ls 4 [(0, .ref (ad 69))] := hl
  have hL4 : ∀  (n4 : Nat) (h : Mem) (x1 : Int32) (x2 : Int32), wpLX7_valueNow_4 post    n4 (h, x1, x2) → JM p l e (headSpec (ws_ yX7_valueNow cX7_valueNow 4 (some .int)) ({ frames := 2, cells := 0, slots := 0, locals := 52 })).room s m ([.ref (ad 69)] : List Value).toArray below meth c (MQ below (MQi D cA E ad post) ([.ref (ad 69)] : List Value).toArray s 0 0 (MA ad)) D cA E ad 4 4 h [(0, .ref (ad 69)), (1, .int x1), (2, .int x2)] [] := by
    intro  n4
    induction n4 with
    | zero => intro h x1 x2 hw; exact False.elim hw
    | succ n4 ih4 =>
      have hB84 : ∀ (h : Mem) (x1 : Int32) (x2 : Int32) (s0 : Int32) (s1 : Int32), wpBX7_valueNow_84 post  (fun h x1 x2 => wpLX7_valueNow_4 post    n4 (h, x1, x2)) h x1 x2 s0 s1 → JM p l e (headSpec (ws_ yX7_valueNow cX7_valueNow 4 (some .int)) ({ frames := 2, cells := 0, slots := 0, locals := 52 })).room s m ([.ref (ad 69)] : List Value).toArray below meth c (MQ below (MQi D cA E ad post) ([.ref (ad 69)] : List Value).toArray s 0 0 (MA ad)) D cA E ad 4 84 h [(0, .ref (ad 69)), (1, .int x1), (2, .int x2)] [.int s0, .int s1, .ref (ad 36)] := by
        intro h x1 x2 s0 s1 hw H locs ls hM hS hl
        unfold wpBX7_valueNow_84 at hw
        obtain ⟨hb12, hw⟩ := hw
        refine M_iast hx hb hK hM hJ hS 36 rfl (j := (ix s1)) rfl hb12 dX7_valueNow_84 (fun H locs hM hS => ?_)
        obtain ⟨h13, eh13⟩ : ∃ y : Mem, y = up2 h 36 (ix s1) s0 := ⟨_, rfl⟩
        rw [← eh13] at hM
        have hw := hw h13 eh13
        refine lv_goto (tgt := 117) hx hb dX7_valueNow_85 (by decide) ?_
        refine lv_iinc (v := (x2 + (1 : Int32))) (lv' := [(2, .int (x2 + (1 : Int32))), (0, .ref (ad 69)), (1, .int x1)]) hx hb dX7_valueNow_117 hl (k := 2) rfl rfl (by decide) rfl (fun ls hl => ?_)
        refine lv_goto (tgt := 4) hx hb dX7_valueNow_120 (by decide) ?_
        exact ih4 h13 x1 (x2 + (1 : Int32)) hw _ _ ls hM hS (lv_sub hl [1, 2, 0] rfl)
      have hB48 : ∀ (h : Mem) (x1 : Int32) (x2 : Int32) (s0 : Int32) (s1 : Int32), wpBX7_valueNow_48 post  (fun h x1 x2 => wpLX7_valueNow_4 post    n4 (h, x1, x2)) h x1 x2 s0 s1 → JM p l e (headSpec (ws_ yX7_valueNow cX7_valueNow 4 (some .int)) ({ frames := 2, cells := 0, slots := 0, locals := 52 })).room s m ([.ref (ad 69)] : List Value).toArray below meth c (MQ below (MQi D cA E ad post) ([.ref (ad 69)] : List Value).toArray s 0 0 (MA ad)) D cA E ad 4 48 h [(0, .ref (ad 69)), (1, .int x1), (2, .int x2)] [.int s0, .int s1, .ref (ad 36)] := by
        intro h x1 x2 s0 s1 hw H locs ls hM hS hl
        unfold wpBX7_valueNow_48 at hw
        obtain ⟨hb19, hw⟩ := hw
        refine M_iast hx hb hK hM hJ hS 36 rfl (j := (ix s1)) rfl hb19 dX7_valueNow_48 (fun H locs hM hS => ?_)
        obtain ⟨h20, eh20⟩ : ∃ y : Mem, y = up2 h 36 (ix s1) s0 := ⟨_, rfl⟩
        rw [← eh20] at hM
        have hw := hw h20 eh20
        refine lv_iinc (v := (x1 + (1 : Int32))) (lv' := [(1, .int (x1 + (1 : Int32))), (0, .ref (ad 69)), (2, .int x2)]) hx hb dX7_valueNow_49 hl (k := 1) rfl rfl (by decide) rfl (fun ls hl => ?_)
        refine lv_goto (tgt := 117) hx hb dX7_valueNow_52 (by decide) ?_
        refine lv_iinc (v := (x2 + (1 : Int32))) (lv' := [(2, .int (x2 + (1 : Int32))), (1, .int (x1 + (1 : Int32))), (0, .ref (ad 69))]) hx hb dX7_valueNow_117 hl (k := 2) rfl rfl (by decide) rfl (fun ls hl => ?_)
        refine lv_goto (tgt := 4) hx hb dX7_valueNow_120 (by decide) ?_
        exact ih4 h20 (x1 + (1 : Int32)) (x2 + (1 : Int32)) hw _ _ ls hM hS (lv_sub hl [2, 1, 0] rfl)
      intro h x1 x2 hw H locs ls hM hS hl
      have hw : wpBX7_valueNow_4 post   (fun h x1 x2 => wpLX7_valueNow_4 post    n4 (h, x1, x2))  h x1 x2 := hw
      unfold wpBX7_valueNow_4 at hw
      refine lv_iload_n hx hb dX7_valueNow_4 rfl (lv_at hl 2 rfl) ?_
      refine lv_aload_n hx hb dX7_valueNow_5 rfl (lv_at hl 0 rfl) ?_
      refine M_get hx hb hts hown hK hM 3 (v := .ref (ad 3)) (by decide) (hts _ q1686) rfl dX7_valueNow_6 ?_
      refine lv_iconst (v := (5 : Int32)) hx hb dX7_valueNow_9 (by decide) ?_
      refine M_iald hx hb hK hM 3 rfl (j := 5) rfl (by unfold vp_in; decide) dX7_valueNow_10 ?_
      refine lv_icmp_ge (tgt := 123) hx hb dX7_valueNow_11 (by decide) (fun c1 => ?_) (fun c1 => ?_)
      · have hw := hw.1 c1
        refine lv_aload_n hx hb dX7_valueNow_123 rfl (lv_at hl 0 rfl) ?_
        refine M_get hx hb hts hown hK hM 36 (v := .ref (ad 36)) (by decide) (hts _ q1719) rfl dX7_valueNow_124 ?_
        refine lv_iconst (v := (0 : Int32)) hx hb dX7_valueNow_127 (by decide) ?_
        refine M_iald hx hb hK hM 36 rfl (j := 0) rfl (by unfold vp_in; decide) dX7_valueNow_128 ?_
        exact M_iret hx hb hr hlocks hM hS hw dX7_valueNow_129
      · have hw := hw.2 c1
        refine lv_aload_n hx hb dX7_valueNow_14 rfl (lv_at hl 0 rfl) ?_
        refine M_get hx hb hts hown hK hM 14 (v := .ref (ad 14)) (by decide) (hts _ q1697) rfl dX7_valueNow_15 ?_
        refine lv_iload_n hx hb dX7_valueNow_18 rfl (lv_at hl 2 rfl) ?_
        obtain ⟨hb2, hw⟩ := hw
        refine M_iald hx hb hK hM 14 rfl (j := (ix x2)) rfl hb2 dX7_valueNow_19 ?_
        refine lv_istore_n (lv' := [(3, .int (h 14 (ix x2))), (0, .ref (ad 69)), (1, .int x1), (2, .int x2)]) hx hb dX7_valueNow_20 rfl hl (by decide) rfl (fun ls hl => ?_)
        refine lv_iload_n hx hb dX7_valueNow_21 rfl (lv_at hl 0 rfl) ?_
        refine lv_bipush (v := (-20 : Int32)) hx hb dX7_valueNow_22 (by decide) ?_
        refine lv_icmp_le (tgt := 55) hx hb dX7_valueNow_24 (by decide) (fun c3 => ?_) (fun c3 => ?_)
        · have hw := hw.1 c3
          refine lv_iload_n hx hb dX7_valueNow_55 rfl (lv_at hl 0 rfl) ?_
          refine lv_bipush (v := (-28 : Int32)) hx hb dX7_valueNow_56 (by decide) ?_
          refine lv_icmp_ne (tgt := 88) hx hb dX7_valueNow_58 (by decide) (fun c4 => ?_) (fun c4 => ?_)
          · have hw := hw.2 c4
            refine lv_iinc (v := (x1 + (-1 : Int32))) (lv' := [(1, .int (x1 + (-1 : Int32))), (3, .int (h 14 (ix x2))), (0, .ref (ad 69)), (2, .int x2)]) hx hb dX7_valueNow_88 hl (k := 2) rfl rfl (by decide) rfl (fun ls hl => ?_)
            refine lv_aload_n hx hb dX7_valueNow_91 rfl (lv_at hl 2 rfl) ?_
            refine M_get hx hb hts hown hK hM 36 (v := .ref (ad 36)) (by decide) (hts _ q1719) rfl dX7_valueNow_92 ?_
            refine lv_iload_n hx hb dX7_valueNow_95 rfl (lv_at hl 0 rfl) ?_
            refine lv_iconst (v := (1 : Int32)) hx hb dX7_valueNow_96 (by decide) ?_
            refine lv_isub hx hb dX7_valueNow_97 ?_
            refine lv_iload_n hx hb dX7_valueNow_98 rfl (lv_at hl 1 rfl) ?_
            refine lv_aload_n hx hb dX7_valueNow_99 rfl (lv_at hl 2 rfl) ?_
            refine M_get hx hb hts hown hK hM 36 (v := .ref (ad 36)) (by decide) (hts _ q1719) rfl dX7_valueNow_100 ?_
            refine lv_iload_n hx hb dX7_valueNow_103 rfl (lv_at hl 0 rfl) ?_
            refine lv_iconst (v := (1 : Int32)) hx hb dX7_valueNow_104 (by decide) ?_
            refine lv_isub hx hb dX7_valueNow_105 ?_
            obtain ⟨hb5, hw⟩ := hw
            refine M_iald hx hb hK hM 36 rfl (j := (ix ((x1 + (-1 : Int32)) - (1 : Int32)))) rfl hb5 dX7_valueNow_106 ?_
            refine lv_aload_n hx hb dX7_valueNow_107 rfl (lv_at hl 2 rfl) ?_
            refine M_get hx hb hts hown hK hM 36 (v := .ref (ad 36)) (by decide) (hts _ q1719) rfl dX7_valueNow_108 ?_
            refine lv_iload_n hx hb dX7_valueNow_111 rfl (lv_at hl 0 rfl) ?_
            obtain ⟨hb6, hw⟩ := hw
            refine M_iald hx hb hK hM 36 rfl (j := (ix (x1 + (-1 : Int32)))) rfl hb6 dX7_valueNow_112 ?_
            refine M_callISp (As := [.int (h 14 (ix x2)), .int (h 36 (ix ((x1 + (-1 : Int32)) - (1 : Int32)))), .int (h 36 (ix (x1 + (-1 : Int32))))]) (rest := [.int ((x1 + (-1 : Int32)) - (1 : Int32)), .ref (ad 36)]) ⟨hx, hb, hml, hown, hts⟩ hK hZ hM hJ hS (metX7_reckon l D cA z0 E ad h (h 14 (ix x2)) (h 36 (ix ((x1 + (-1 : Int32)) - (1 : Int32)))) (h 36 (ix (x1 + (-1 : Int32)))) _ hw) (va_cwS 3 hts (lw_S q2127 q2128 q130 q2129) rfl rfl rfl (by decide +kernel) ⟨Nat.le_of_ble_eq_true rfl, Nat.le_of_ble_eq_true rfl⟩) rfl hl.1 rfl (Nat.le_of_ble_eq_true rfl) dX7_valueNow_113 ⟨Nat.zero_le _, Nat.zero_le _⟩ (fun r7 H locs hw hM hS => ?_)
            refine M_iast hx hb hK hM hJ hS 36 rfl (j := (ix ((x1 + (-1 : Int32)) - (1 : Int32)))) rfl hb5 dX7_valueNow_116 (fun H locs hM hS => ?_)
            obtain ⟨h9, eh9⟩ : ∃ y : Mem, y = up2 h 36 (ix ((x1 + (-1 : Int32)) - (1 : Int32))) r7 := ⟨_, rfl⟩
            rw [← eh9] at hM
            have hw := hw h9 eh9
            refine lv_iinc (v := (x2 + (1 : Int32))) (lv' := [(2, .int (x2 + (1 : Int32))), (1, .int (x1 + (-1 : Int32))), (3, .int (h 14 (ix x2))), (0, .ref (ad 69))]) hx hb dX7_valueNow_117 hl (k := 3) rfl rfl (by decide) rfl (fun ls hl => ?_)
            refine lv_goto (tgt := 4) hx hb dX7_valueNow_120 (by decide) ?_
            exact ih4 h9 (x1 + (-1 : Int32)) (x2 + (1 : Int32)) hw _ _ ls hM hS (lv_sub hl [3, 1, 0] rfl)
          · have hw := hw.1 c4
            refine lv_aload_n hx hb dX7_valueNow_61 rfl (lv_at hl 1 rfl) ?_
            refine M_get hx hb hts hown hK hM 36 (v := .ref (ad 36)) (by decide) (hts _ q1719) rfl dX7_valueNow_62 ?_
            refine lv_iload_n hx hb dX7_valueNow_65 rfl (lv_at hl 2 rfl) ?_
            refine lv_iconst (v := (1 : Int32)) hx hb dX7_valueNow_66 (by decide) ?_
            refine lv_isub hx hb dX7_valueNow_67 ?_
            refine lv_aload_n hx hb dX7_valueNow_68 rfl (lv_at hl 1 rfl) ?_
            refine M_get hx hb hts hown hK hM 36 (v := .ref (ad 36)) (by decide) (hts _ q1719) rfl dX7_valueNow_69 ?_
            refine lv_iload_n hx hb dX7_valueNow_72 rfl (lv_at hl 2 rfl) ?_
            refine lv_iconst (v := (1 : Int32)) hx hb dX7_valueNow_73 (by decide) ?_
            refine lv_isub hx hb dX7_valueNow_74 ?_
            obtain ⟨hb10, hw⟩ := hw
            refine M_iald hx hb hK hM 36 rfl (j := (ix (x1 - (1 : Int32)))) rfl hb10 dX7_valueNow_75 ?_
            have hj11 : JM p l e (headSpec (ws_ yX7_valueNow cX7_valueNow 4 (some .int)) ({ frames := 2, cells := 0, slots := 0, locals := 52 })).room s m ([.ref (ad 69)] : List Value).toArray below meth c (MQ below (MQi D cA E ad post) ([.ref (ad 69)] : List Value).toArray s 0 0 (MA ad)) D cA E ad 4 84 h [(0, .ref (ad 69)), (1, .int x1), (2, .int x2)] [.int (if (h 36 (ix (x1 - (1 : Int32)))) = 0 then (1 : Int32) else (0 : Int32)), .int (x1 - (1 : Int32)), .ref (ad 36)] := by
              intro H locs ls hM hS hl
              exact hB84 h x1 x2 (if (h 36 (ix (x1 - (1 : Int32)))) = 0 then (1 : Int32) else (0 : Int32)) (x1 - (1 : Int32)) hw _ _ ls hM hS (lv_sub hl [0, 1, 2] rfl)
            refine lv_if_eq (tgt := 83) hx hb dX7_valueNow_76 (by decide) (fun c14 => ?_) (fun c14 => ?_)
            · refine lv_iconst (v := (1 : Int32)) hx hb dX7_valueNow_83 (by decide) ?_
              have e15 : (if (h 36 (ix (x1 - (1 : Int32)))) = 0 then (1 : Int32) else (0 : Int32)) = (1 : Int32) := by rw [if_pos c14]
              rw [e15] at hj11
              exact hj11 _ _ ls hM hS (lv_sub hl [1, 2, 3] rfl)
            · refine lv_iconst (v := (0 : Int32)) hx hb dX7_valueNow_79 (by decide) ?_
              refine lv_goto (tgt := 84) hx hb dX7_valueNow_80 (by decide) ?_
              have e16 : (if (h 36 (ix (x1 - (1 : Int32)))) = 0 then (1 : Int32) else (0 : Int32)) = (0 : Int32) := by rw [if_neg c14]
              rw [e16] at hj11
              exact hj11 _ _ ls hM hS (lv_sub hl [1, 2, 3] rfl)
        · have hw := hw.2 c3
          refine lv_aload_n hx hb dX7_valueNow_27 rfl (lv_at hl 1 rfl) ?_
          refine M_get hx hb hts hown hK hM 36 (v := .ref (ad 36)) (by decide) (hts _ q1719) rfl dX7_valueNow_28 ?_
          refine lv_iload_n hx hb dX7_valueNow_31 rfl (lv_at hl 2 rfl) ?_
          refine lv_iload_n hx hb dX7_valueNow_32 rfl (lv_at hl 0 rfl) ?_
          refine lv_if_lt (tgt := 40) hx hb dX7_valueNow_33 (by decide) (fun c17 => ?_) (fun c17 => ?_)
          · have hw := hw.1 c17
            refine lv_aload_n hx hb dX7_valueNow_40 rfl (lv_at hl 1 rfl) ?_
            refine M_get hx hb hts hown hK hM 35 (v := .ref (ad 35)) (by decide) (hts _ q1718) rfl dX7_valueNow_41 ?_
            refine lv_iconst (v := (-1 : Int32)) hx hb dX7_valueNow_44 (by decide) ?_
            refine lv_iload_n hx hb dX7_valueNow_45 rfl (lv_at hl 0 rfl) ?_
            refine lv_isub hx hb dX7_valueNow_46 ?_
            obtain ⟨hb18, hw⟩ := hw
            refine M_iald hx hb hK hM 35 rfl (j := (ix ((-1 : Int32) - (h 14 (ix x2))))) rfl hb18 dX7_valueNow_47 ?_
            exact hB48 h x1 x2 (h 35 (ix ((-1 : Int32) - (h 14 (ix x2))))) x1 hw _ _ ls hM hS (lv_sub hl [1, 2, 3] rfl)
          · have hw := hw.2 c17
            refine lv_iload_n hx hb dX7_valueNow_36 rfl (lv_at hl 0 rfl) ?_
            refine lv_goto (tgt := 48) hx hb dX7_valueNow_37 (by decide) ?_
            exact hB48 h x1 x2 (h 14 (ix x2)) x1 hw _ _ ls hM hS (lv_sub hl [1, 2, 3] rfl)
  unfold wpX7_valueNow at hw
  refine lv_iconst (v := (0 : Int32)) hx hb dX7_valueNow_0 (by decide) ?_
  refine lv_istore_n (lv' := [(1, .int (0 : Int32)), (0, .ref (ad 69))]) hx hb dX7_valueNow_1 rfl hl (by decide) rfl (fun ls hl => ?_)
  refine lv_iconst (v := (0 : Int32)) hx hb dX7_valueNow_2 (by decide) ?_
  refine lv_istore_n (lv' := [(2, .int (0 : Int32)), (1, .int (0 : Int32)), (0, .ref (ad 69))]) hx hb dX7_valueNow_3 rfl hl (by decide) rfl (fun ls hl => ?_)
  obtain ⟨n21, hw⟩ := hw
  exact hL4 n21 h (0 : Int32) (0 : Int32) hw _ _ ls hM hS (lv_sub hl [2, 1, 0] rfl)

/-- shareOf(III)I -/
def wpBX7_shareOf_48 (post : Int32 → Mem → Prop) (a1 : Int32) (a2 : Int32) (a3 : Int32)  (h : Mem)  (s0 : Int32) : Prop :=
  (∀ h5 : Mem, h5 = up2 h 35 0 s0 → (∀ h6 : Mem, h6 = up2 h5 35 1 (h5 40 0) → (vp_in a2 (mlen 8) ∧ (∀ h8 : Mem, h8 = up2 h6 35 2 (h6 8 (ix a2)) → (vp_in a1 (mlen 4) ∧ (∀ h10 : Mem, h10 = up2 h8 35 3 (h8 4 (ix a1)) → (vp_in a1 (mlen 6) ∧ (∀ h12 : Mem, h12 = up2 h10 35 4 (h10 6 (ix a1)) → (vp_in a1 (mlen 28) ∧ (∀ h14 : Mem, h14 = up2 h12 35 5 (h12 28 (ix a1)) → (wpX7_valueNow (fun r15 h16 => post (mxI (1 : Int32) (mnI (99 : Int32) r15)) h16) h14 )))))))))))
def wpX7_shareOf (post : Int32 → Mem → Prop) (h : Mem) (a1 : Int32) (a2 : Int32) (a3 : Int32) : Prop :=
  (((h 3 5) = 0 → post (1 : Int32) h) ∧ (¬ (h 3 5) = 0 → (vp_in a1 (mlen 4) ∧ (((h 4 (ix a1)) = (2 : Int32) → post (1 : Int32) h) ∧ (¬ (h 4 (ix a1)) = (2 : Int32) → wpBX7_shareOf_48 post a1 a2 a3  h (if (h 4 (ix a1)) = (1 : Int32) then (((h 40 0) - (1 : Int32)) - a3) else a3))))))
set_option maxHeartbeats 4000000 in
set_option maxRecDepth 100000 in
theorem metX7_shareOf (l : Launch) (D : va_G) (cA : Nat → ClassId) (z0 : Nat) (E : Nat → Nat → Nat) (ad : Nat → Nat) (h : Mem) (a1 : Int32) (a2 : Int32) (a3 : Int32) (post : Int32 → Mem → Prop) (hw : wpX7_shareOf post h a1 a2 a3) : MeI l D cA z0 E ad yX7_shareOf (ws_ yX7_shareOf cX7_shareOf 4 (some .int)) ({ frames := 3, cells := 0, slots := 0, locals := 75 }) [.ref (ad 69), .int a1, .int a2, .int a3] h post := by
  refine Met.ofW (cc := cX7_shareOf) (maxL := 4) (ret := (some .int)) (by decide) rfl ?_
  intro p e s m args below meth c s₁ B hml hv
  obtain ⟨rfl, hM, hK, hJ, hZ⟩ := hv
  have hx := B.exec
  have hb := B.bytes
  have hr := B.returns
  have hts := atoms_spec (ws := ws_ yX7_shareOf cX7_shareOf 4 (some .int)) B.pre
  have hts : ∀ w ∈ lw_all, w.before _ s = true := fun w h => hts w (List.mem_cons_of_mem _ h)
  have hown : s.vm.findClass RX7 = some m.cls := findClass_of_methodNamed B.named
  have hlocks := B.notSynchronized
  have hS : va_S (MA ad) s.heap s.heap [] := va_S.rf
  have hl := lv_entry ([.ref (ad 69), .int a1, .int a2, .int a3]) (n := 4) (Nat.le_of_ble_eq_true rfl)
  rw [lg_entry_eq]
  generalize (lg_sl ([.ref (ad 69), .int a1, .int a2, .int a3]) ++ List.replicate (4 - (lg_sl ([.ref (ad 69), .int a1, .int a2, .int a3])).length) Slot.unset).toArray = ls at hl ⊢
  have hl : lv_has ls 4 [(0, .ref (ad 69)), (1, .int a1), (2, .int a2), (3, .int a3)] := hl
  have hB48 : ∀ (h : Mem)  (s0 : Int32), wpBX7_shareOf_48 post a1 a2 a3  h s0 → JM p l e (headSpec (ws_ yX7_shareOf cX7_shareOf 4 (some .int)) ({ frames := 3, cells := 0, slots := 0, locals := 75 })).room s m ([.ref (ad 69), .int a1, .int a2, .int a3] : List Value).toArray below meth c (MQ below (MQi D cA E ad post) ([.ref (ad 69), .int a1, .int a2, .int a3] : List Value).toArray s 0 0 (MA ad)) D cA E ad 4 48 h [(0, .ref (ad 69)), (1, .int a1), (2, .int a2)] [.int s0, .int (0 : Int32), .ref (ad 35)] := by
    intro h s0 hw H locs ls hM hS hl
    unfold wpBX7_shareOf_48 at hw
    refine M_iast hx hb hK hM hJ hS 35 rfl (j := 0) rfl (by unfold vp_in; decide) dX7_shareOf_48 (fun H locs hM hS => ?_)
    obtain ⟨h5, eh5⟩ : ∃ y : Mem, y = up2 h 35 0 s0 := ⟨_, rfl⟩
    rw [← eh5] at hM
    have hw := hw h5 eh5
    refine lv_aload_n hx hb dX7_shareOf_49 rfl (lv_at hl 0 rfl) ?_
    refine M_get hx hb hts hown hK hM 35 (v := .ref (ad 35)) (by decide) (hts _ q1718) rfl dX7_shareOf_50 ?_
    refine lv_iconst (v := (1 : Int32)) hx hb dX7_shareOf_53 (by decide) ?_
    refine lv_aload_n hx hb dX7_shareOf_54 rfl (lv_at hl 0 rfl) ?_
    refine M_get hx hb hts hown hK hM 40 (v := .int (h5 40 0)) (by decide) (hts _ q1723) rfl dX7_shareOf_55 ?_
    refine M_iast hx hb hK hM hJ hS 35 rfl (j := 1) rfl (by unfold vp_in; decide) dX7_shareOf_58 (fun H locs hM hS => ?_)
    obtain ⟨h6, eh6⟩ : ∃ y : Mem, y = up2 h5 35 1 (h5 40 0) := ⟨_, rfl⟩
    rw [← eh6] at hM
    have hw := hw h6 eh6
    refine lv_aload_n hx hb dX7_shareOf_59 rfl (lv_at hl 0 rfl) ?_
    refine M_get hx hb hts hown hK hM 35 (v := .ref (ad 35)) (by decide) (hts _ q1718) rfl dX7_shareOf_60 ?_
    refine lv_iconst (v := (2 : Int32)) hx hb dX7_shareOf_63 (by decide) ?_
    refine lv_aload_n hx hb dX7_shareOf_64 rfl (lv_at hl 0 rfl) ?_
    refine M_get hx hb hts hown hK hM 8 (v := .ref (ad 8)) (by decide) (hts _ q1691) rfl dX7_shareOf_65 ?_
    refine lv_iload_n hx hb dX7_shareOf_68 rfl (lv_at hl 2 rfl) ?_
    obtain ⟨hb7, hw⟩ := hw
    refine M_iald hx hb hK hM 8 rfl (j := (ix a2)) rfl hb7 dX7_shareOf_69 ?_
    refine M_iast hx hb hK hM hJ hS 35 rfl (j := 2) rfl (by unfold vp_in; decide) dX7_shareOf_70 (fun H locs hM hS => ?_)
    obtain ⟨h8, eh8⟩ : ∃ y : Mem, y = up2 h6 35 2 (h6 8 (ix a2)) := ⟨_, rfl⟩
    rw [← eh8] at hM
    have hw := hw h8 eh8
    refine lv_aload_n hx hb dX7_shareOf_71 rfl (lv_at hl 0 rfl) ?_
    refine M_get hx hb hts hown hK hM 35 (v := .ref (ad 35)) (by decide) (hts _ q1718) rfl dX7_shareOf_72 ?_
    refine lv_iconst (v := (3 : Int32)) hx hb dX7_shareOf_75 (by decide) ?_
    refine lv_aload_n hx hb dX7_shareOf_76 rfl (lv_at hl 0 rfl) ?_
    refine M_get hx hb hts hown hK hM 4 (v := .ref (ad 4)) (by decide) (hts _ q1687) rfl dX7_shareOf_77 ?_
    refine lv_iload_n hx hb dX7_shareOf_80 rfl (lv_at hl 1 rfl) ?_
    obtain ⟨hb9, hw⟩ := hw
    refine M_iald hx hb hK hM 4 rfl (j := (ix a1)) rfl hb9 dX7_shareOf_81 ?_
    refine M_iast hx hb hK hM hJ hS 35 rfl (j := 3) rfl (by unfold vp_in; decide) dX7_shareOf_82 (fun H locs hM hS => ?_)
    obtain ⟨h10, eh10⟩ : ∃ y : Mem, y = up2 h8 35 3 (h8 4 (ix a1)) := ⟨_, rfl⟩
    rw [← eh10] at hM
    have hw := hw h10 eh10
    refine lv_aload_n hx hb dX7_shareOf_83 rfl (lv_at hl 0 rfl) ?_
    refine M_get hx hb hts hown hK hM 35 (v := .ref (ad 35)) (by decide) (hts _ q1718) rfl dX7_shareOf_84 ?_
    refine lv_iconst (v := (4 : Int32)) hx hb dX7_shareOf_87 (by decide) ?_
    refine lv_aload_n hx hb dX7_shareOf_88 rfl (lv_at hl 0 rfl) ?_
    refine M_get hx hb hts hown hK hM 6 (v := .ref (ad 6)) (by decide) (hts _ q1689) rfl dX7_shareOf_89 ?_
    refine lv_iload_n hx hb dX7_shareOf_92 rfl (lv_at hl 1 rfl) ?_
    obtain ⟨hb11, hw⟩ := hw
    refine M_iald hx hb hK hM 6 rfl (j := (ix a1)) rfl hb11 dX7_shareOf_93 ?_
    refine M_iast hx hb hK hM hJ hS 35 rfl (j := 4) rfl (by unfold vp_in; decide) dX7_shareOf_94 (fun H locs hM hS => ?_)
    obtain ⟨h12, eh12⟩ : ∃ y : Mem, y = up2 h10 35 4 (h10 6 (ix a1)) := ⟨_, rfl⟩
    rw [← eh12] at hM
    have hw := hw h12 eh12
    refine lv_aload_n hx hb dX7_shareOf_95 rfl (lv_at hl 0 rfl) ?_
    refine M_get hx hb hts hown hK hM 35 (v := .ref (ad 35)) (by decide) (hts _ q1718) rfl dX7_shareOf_96 ?_
    refine lv_iconst (v := (5 : Int32)) hx hb dX7_shareOf_99 (by decide) ?_
    refine lv_aload_n hx hb dX7_shareOf_100 rfl (lv_at hl 0 rfl) ?_
    refine M_get hx hb hts hown hK hM 28 (v := .ref (ad 28)) (by decide) (hts _ q1711) rfl dX7_shareOf_101 ?_
    refine lv_iload_n hx hb dX7_shareOf_104 rfl (lv_at hl 1 rfl) ?_
    obtain ⟨hb13, hw⟩ := hw
    refine M_iald hx hb hK hM 28 rfl (j := (ix a1)) rfl hb13 dX7_shareOf_105 ?_
    refine M_iast hx hb hK hM hJ hS 35 rfl (j := 5) rfl (by unfold vp_in; decide) dX7_shareOf_106 (fun H locs hM hS => ?_)
    obtain ⟨h14, eh14⟩ : ∃ y : Mem, y = up2 h12 35 5 (h12 28 (ix a1)) := ⟨_, rfl⟩
    rw [← eh14] at hM
    have hw := hw h14 eh14
    refine lv_iconst (v := (1 : Int32)) hx hb dX7_shareOf_107 (by decide) ?_
    refine lv_bipush (v := (99 : Int32)) hx hb dX7_shareOf_108 (by decide) ?_
    refine lv_aload_n hx hb dX7_shareOf_110 rfl (lv_at hl 0 rfl) ?_
    refine M_callI (As := []) (rest := [.int (99 : Int32), .int (1 : Int32)]) ⟨hx, hb, hml, hown, hts⟩ hK hZ hM hJ hS (metX7_valueNow l D cA z0 E ad h14  _ hw) (cwV 0 hts (lw_V q2123 q2125 qs82 q130 q2126) rfl rfl rfl (by decide +kernel) ⟨Nat.le_of_ble_eq_true rfl, Nat.le_of_ble_eq_true rfl⟩) rfl hl.1 rfl (Nat.le_of_ble_eq_true rfl) dX7_shareOf_111 ⟨Nat.zero_le _, Nat.zero_le _⟩ (fun r15 h16 H locs hw hM hS => ?_)
    refine J_mnI hx hb hml hl.1 hown (hts _ q1923) (hts _ q291) (hts _ q118) (hts _ q292) (Nat.le_of_ble_eq_true rfl) (Nat.le_of_ble_eq_true rfl) (Nat.zero_le _) (Nat.zero_le _) dX7_shareOf_114 ?_
    refine J_mxI hx hb hml hl.1 hown (hts _ q2019) (hts _ q273) (hts _ q118) (hts _ q274) (Nat.le_of_ble_eq_true rfl) (Nat.le_of_ble_eq_true rfl) (Nat.zero_le _) (Nat.zero_le _) dX7_shareOf_117 ?_
    exact M_iret hx hb hr hlocks hM hS hw dX7_shareOf_120
  unfold wpX7_shareOf at hw
  refine lv_aload_n hx hb dX7_shareOf_0 rfl (lv_at hl 0 rfl) ?_
  refine M_get hx hb hts hown hK hM 3 (v := .ref (ad 3)) (by decide) (hts _ q1686) rfl dX7_shareOf_1 ?_
  refine lv_iconst (v := (5 : Int32)) hx hb dX7_shareOf_4 (by decide) ?_
  refine M_iald hx hb hK hM 3 rfl (j := 5) rfl (by unfold vp_in; decide) dX7_shareOf_5 ?_
  refine lv_if_eq (tgt := 19) hx hb dX7_shareOf_6 (by decide) (fun c1 => ?_) (fun c1 => ?_)
  · have hw := hw.1 c1
    refine lv_iconst (v := (1 : Int32)) hx hb dX7_shareOf_19 (by decide) ?_
    exact M_iret hx hb hr hlocks hM hS hw dX7_shareOf_20
  · have hw := hw.2 c1
    refine lv_aload_n hx hb dX7_shareOf_9 rfl (lv_at hl 0 rfl) ?_
    refine M_get hx hb hts hown hK hM 4 (v := .ref (ad 4)) (by decide) (hts _ q1687) rfl dX7_shareOf_10 ?_
    refine lv_iload_n hx hb dX7_shareOf_13 rfl (lv_at hl 1 rfl) ?_
    obtain ⟨hb2, hw⟩ := hw
    refine M_iald hx hb hK hM 4 rfl (j := (ix a1)) rfl hb2 dX7_shareOf_14 ?_
    refine lv_iconst (v := (2 : Int32)) hx hb dX7_shareOf_15 (by decide) ?_
    refine lv_icmp_ne (tgt := 21) hx hb dX7_shareOf_16 (by decide) (fun c3 => ?_) (fun c3 => ?_)
    · have hw := hw.2 c3
      refine lv_aload_n hx hb dX7_shareOf_21 rfl (lv_at hl 0 rfl) ?_
      refine M_get hx hb hts hown hK hM 35 (v := .ref (ad 35)) (by decide) (hts _ q1718) rfl dX7_shareOf_22 ?_
      refine lv_iconst (v := (0 : Int32)) hx hb dX7_shareOf_25 (by decide) ?_
      refine lv_aload_n hx hb dX7_shareOf_26 rfl (lv_at hl 0 rfl) ?_
      refine M_get hx hb hts hown hK hM 4 (v := .ref (ad 4)) (by decide) (hts _ q1687) rfl dX7_shareOf_27 ?_
      refine lv_iload_n hx hb dX7_shareOf_30 rfl (lv_at hl 1 rfl) ?_
      refine M_iald hx hb hK hM 4 rfl (j := (ix a1)) rfl hb2 dX7_shareOf_31 ?_
      refine lv_iconst (v := (1 : Int32)) hx hb dX7_shareOf_32 (by decide) ?_
      have hj4 : JM p l e (headSpec (ws_ yX7_shareOf cX7_shareOf 4 (some .int)) ({ frames := 3, cells := 0, slots := 0, locals := 75 })).room s m ([.ref (ad 69), .int a1, .int a2, .int a3] : List Value).toArray below meth c (MQ below (MQi D cA E ad post) ([.ref (ad 69), .int a1, .int a2, .int a3] : List Value).toArray s 0 0 (MA ad)) D cA E ad 4 48 h [(0, .ref (ad 69)), (1, .int a1), (2, .int a2)] [.int (if (h 4 (ix a1)) = (1 : Int32) then (((h 40 0) - (1 : Int32)) - a3) else a3), .int (0 : Int32), .ref (ad 35)] := by
        intro H locs ls hM hS hl
        exact hB48 h (if (h 4 (ix a1)) = (1 : Int32) then (((h 40 0) - (1 : Int32)) - a3) else a3) hw _ _ ls hM hS (lv_sub hl [0, 1, 2] rfl)
      refine lv_icmp_ne (tgt := 47) hx hb dX7_shareOf_33 (by decide) (fun c17 => ?_) (fun c17 => ?_)
      · refine lv_iload_n hx hb dX7_shareOf_47 rfl (lv_at hl 3 rfl) ?_
        have e18 : (if (h 4 (ix a1)) = (1 : Int32) then (((h 40 0) - (1 : Int32)) - a3) else a3) = a3 := by rw [if_neg c17]
        rw [e18] at hj4
        exact hj4 _ _ ls hM hS (lv_sub hl [0, 1, 2] rfl)
      · refine lv_aload_n hx hb dX7_shareOf_36 rfl (lv_at hl 0 rfl) ?_
        refine M_get hx hb hts hown hK hM 40 (v := .int (h 40 0)) (by decide) (hts _ q1723) rfl dX7_shareOf_37 ?_
        refine lv_iconst (v := (1 : Int32)) hx hb dX7_shareOf_40 (by decide) ?_
        refine lv_isub hx hb dX7_shareOf_41 ?_
        refine lv_iload_n hx hb dX7_shareOf_42 rfl (lv_at hl 3 rfl) ?_
        refine lv_isub hx hb dX7_shareOf_43 ?_
        refine lv_goto (tgt := 48) hx hb dX7_shareOf_44 (by decide) ?_
        have e19 : (if (h 4 (ix a1)) = (1 : Int32) then (((h 40 0) - (1 : Int32)) - a3) else a3) = (((h 40 0) - (1 : Int32)) - a3) := by rw [if_pos c17]
        rw [e19] at hj4
        exact hj4 _ _ ls hM hS (lv_sub hl [0, 1, 2] rfl)
    · have hw := hw.1 c3
      refine lv_iconst (v := (1 : Int32)) hx hb dX7_shareOf_19 (by decide) ?_
      exact M_iret hx hb hr hlocks hM hS hw dX7_shareOf_20

/-- tellSlices(II)V -/
def wpBX7_tellSlices_217 (post : Mem → Prop) (a1 : Int32) (a2 : Int32) (K130 : Mem → Int32 → Int32 → Prop) (K175 : Int32 → Int32 → Prop) (h : Mem) (x4 : Int32) (x5 : Int32) (x7 : Int32)  : Prop :=
  K175 x7 (x7 + (1 : Int32))
def wpBX7_tellSlices_175 (post : Mem → Prop) (a1 : Int32) (a2 : Int32) (K130 : Mem → Int32 → Int32 → Prop) (K175 : Int32 → Int32 → Prop) (h : Mem) (x4 : Int32) (x5 : Int32) (x6 : Int32) (x7 : Int32) : Prop :=
  (((h 40 0) ≤ x7 → (vp_in x6 (mlen 37) ∧ (vp_in x5 (mlen 39) ∧ (∀ h14 : Mem, h14 = up2 h 39 (ix x5) (h 37 (ix x6)) → K130 h14 (x4 ||| ((1 : Int32) <<< (x6 &&& 31))) (x5 + (-1 : Int32)))))) ∧ (¬ (h 40 0) ≤ x7 → (wpX7_isOf (fun r15 => ((r15 = true → K175 x6 (x7 + (1 : Int32))) ∧ (¬ r15 = true → ((x6 = (-1 : Int32) → wpBX7_tellSlices_217 post a1 a2 K130 K175 h x4 x5 x7) ∧ (¬ x6 = (-1 : Int32) → (vp_in x7 (mlen 37) ∧ (vp_in x6 (mlen 37) ∧ K175 (if (h 37 (ix x7)) ≤ (h 37 (ix x6)) then x6 else x7) (x7 + (1 : Int32))))))))) h x4 x7)))
def wpLX7_tellSlices_175 (post : Mem → Prop) (a1 : Int32) (a2 : Int32) (K130 : Mem → Int32 → Int32 → Prop) (h : Mem) (x4 : Int32) (x5 : Int32) : Nat → (Int32 × Int32) → Prop := LW (fun K s => wpBX7_tellSlices_175 post a1 a2 K130 (fun x6 x7 => K (x6, x7)) h x4 x5 s.1 s.2)
def wpBX7_tellSlices_130 (post : Mem → Prop) (a1 : Int32) (a2 : Int32)  (K130 : Mem → Int32 → Int32 → Prop)  (h : Mem) (x4 : Int32) (x5 : Int32) : Prop :=
  ((x5 < 0 → post h) ∧ (¬ x5 < 0 → (vp_in x5 (mlen 38) ∧ (((h 38 (ix x5)) = x5 → (∃ n, wpLX7_tellSlices_175 post a1 a2 K130 h x4 x5 n ((-1 : Int32), (0 : Int32)))) ∧ (¬ (h 38 (ix x5)) = x5 → (vp_in (h 38 (ix x5)) (mlen 39) ∧ (vp_in x5 (mlen 39) ∧ (∀ h28 : Mem, h28 = up2 h 39 (ix x5) (h 39 (ix (h 38 (ix x5)))) → K130 h28 x4 (x5 + (-1 : Int32))))))))))
def wpLX7_tellSlices_130 (post : Mem → Prop) (a1 : Int32) (a2 : Int32)   : Nat → (Mem × Int32 × Int32) → Prop := LW (fun K s => wpBX7_tellSlices_130 post a1 a2  (fun h x4 x5 => K (h, x4, x5))  s.1 s.2.1 s.2.2)
def wpBX7_tellSlices_63 (post : Mem → Prop) (a1 : Int32) (a2 : Int32)  (K63 : Mem → Int32 → Prop) (x3 : Int32) (h : Mem) (x4 : Int32) : Prop :=
  (((h 40 0) ≤ x4 → (vp_in a2 (mlen 11) ∧ (∃ n, wpLX7_tellSlices_130 post a1 a2   n (h, (0 : Int32), ((h 11 (ix a2)) - (1 : Int32)))))) ∧ (¬ (h 40 0) ≤ x4 → (vp_in a2 (mlen 8) ∧ (vp_in x4 (mlen 37) ∧ (¬ x3 = 0 ∧ (∀ h32 : Mem, h32 = up2 h 37 (ix x4) (((h 8 (ix a2)) * (h 37 (ix x4))) / x3) → (∀ h33 : Mem, h33 = up2 h32 41 0 ((h32 41 0) - (h32 37 (ix x4))) → K63 h33 (x4 + (1 : Int32)))))))))
def wpLX7_tellSlices_63 (post : Mem → Prop) (a1 : Int32) (a2 : Int32)  (x3 : Int32) : Nat → (Mem × Int32) → Prop := LW (fun K s => wpBX7_tellSlices_63 post a1 a2  (fun h x4 => K (h, x4)) x3 s.1 s.2)
def wpBX7_tellSlices_10 (post : Mem → Prop) (a1 : Int32) (a2 : Int32)  (K10 : Mem → Int32 → Int32 → Prop)  (h : Mem) (x3 : Int32) (x4 : Int32) : Prop :=
  (((h 40 0) ≤ x4 → (vp_in a2 (mlen 8) ∧ (∀ h5 : Mem, h5 = up2 h 41 0 (h 8 (ix a2)) → (∃ n, wpLX7_tellSlices_63 post a1 a2  x3 n (h5, (0 : Int32)))))) ∧ (¬ (h 40 0) ≤ x4 → (wpX7_shareOf (fun r35 h36 => (vp_in x4 (mlen 37) ∧ (∀ h38 : Mem, h38 = up2 h36 37 (ix x4) r35 → K10 h38 (x3 + (h38 37 (ix x4))) (x4 + (1 : Int32))))) h a1 a2 x4)))
def wpLX7_tellSlices_10 (post : Mem → Prop) (a1 : Int32) (a2 : Int32)   : Nat → (Mem × Int32 × Int32) → Prop := LW (fun K s => wpBX7_tellSlices_10 post a1 a2  (fun h x3 x4 => K (h, x3, x4))  s.1 s.2.1 s.2.2)
def wpX7_tellSlices (post : Mem → Prop) (h : Mem) (a1 : Int32) (a2 : Int32) : Prop :=
  (wpX7_tellUnits (fun h2 => (∃ n, wpLX7_tellSlices_10 post a1 a2   n (h2, (0 : Int32), (0 : Int32)))) h a2)
set_option maxHeartbeats 4000000 in
set_option maxRecDepth 100000 in
theorem metX7_tellSlices (l : Launch) (D : va_G) (cA : Nat → ClassId) (z0 : Nat) (E : Nat → Nat → Nat) (ad : Nat → Nat) (h : Mem) (a1 : Int32) (a2 : Int32) (post : Mem → Prop) (hw : wpX7_tellSlices post h a1 a2) : MeV l D cA z0 E ad yX7_tellSlices (ws_ yX7_tellSlices cX7_tellSlices 8 none) ({ frames := 4, cells := 0, slots := 0, locals := 98 }) [.ref (ad 69), .int a1, .int a2] h post := by
  refine Met.ofW (cc := cX7_tellSlices) (maxL := 8) (ret := none) (by decide) rfl ?_
  intro p e s m args below meth c s₁ B hml hv
  obtain ⟨rfl, hM, hK, hJ, hZ⟩ := hv
  have hx := B.exec
  have hb := B.bytes
  have hr := B.returns
  have hts := atoms_spec (ws := ws_ yX7_tellSlices cX7_tellSlices 8 none) B.pre
  have hts : ∀ w ∈ lw_all, w.before _ s = true := fun w h => hts w (List.mem_cons_of_mem _ h)
  have hown : s.vm.findClass RX7 = some m.cls := findClass_of_methodNamed B.named
  have hlocks := B.notSynchronized
  have hS : va_S (MA ad) s.heap s.heap [] := va_S.rf
  have hl := lv_entry ([.ref (ad 69), .int a1, .int a2]) (n := 8) (Nat.le_of_ble_eq_true rfl)
  rw [lg_entry_eq]
  generalize (lg_sl ([.ref (ad 69), .int a1, .int a2]) ++ List.replicate (8 - (lg_sl ([.ref (ad 69), .int a1, .int a2])).length) Slot.unset).toArray = ls at hl ⊢
  have hl : lv_has ls 8 [(0, .ref (ad 69)), (1, .int a1), (2, .int a2)] := hl
  have hL130 : ∀  (n130 : Nat) (h : Mem) (x4 : Int32) (x5 : Int32), wpLX7_tellSlices_130 post a1 a2   n130 (h, x4, x5) → JM p l e (headSpec (ws_ yX7_tellSlices cX7_tellSlices 8 none) ({ frames := 4, cells := 0, slots := 0, locals := 98 })).room s m ([.ref (ad 69), .int a1, .int a2] : List Value).toArray below meth c (MQ below (MQv D cA E ad post) ([.ref (ad 69), .int a1, .int a2] : List Value).toArray s 0 0 (MA ad)) D cA E ad 8 130 h [(0, .ref (ad 69)), (4, .int x4), (5, .int x5)] [] := by
    intro  n130
    induction n130 with
    | zero => intro h x4 x5 hw; exact False.elim hw
    | succ n130 ih130 =>
      have hL175 : ∀ (h : Mem) (x4 : Int32) (x5 : Int32) (n175 : Nat) (x6 : Int32) (x7 : Int32), wpLX7_tellSlices_175 post a1 a2 (fun h x4 x5 => wpLX7_tellSlices_130 post a1 a2   n130 (h, x4, x5)) h x4 x5 n175 (x6, x7) → JM p l e (headSpec (ws_ yX7_tellSlices cX7_tellSlices 8 none) ({ frames := 4, cells := 0, slots := 0, locals := 98 })).room s m ([.ref (ad 69), .int a1, .int a2] : List Value).toArray below meth c (MQ below (MQv D cA E ad post) ([.ref (ad 69), .int a1, .int a2] : List Value).toArray s 0 0 (MA ad)) D cA E ad 8 175 h [(0, .ref (ad 69)), (4, .int x4), (5, .int x5), (6, .int x6), (7, .int x7)] [] := by
        intro h x4 x5 n175
        induction n175 with
        | zero => intro x6 x7 hw; exact False.elim hw
        | succ n175 ih175 =>
          have hB217 : ∀ (x7 : Int32), wpBX7_tellSlices_217 post a1 a2 (fun h x4 x5 => wpLX7_tellSlices_130 post a1 a2   n130 (h, x4, x5)) (fun x6 x7 => wpLX7_tellSlices_175 post a1 a2 (fun h x4 x5 => wpLX7_tellSlices_130 post a1 a2   n130 (h, x4, x5)) h x4 x5 n175 (x6, x7)) h x4 x5 x7 → JM p l e (headSpec (ws_ yX7_tellSlices cX7_tellSlices 8 none) ({ frames := 4, cells := 0, slots := 0, locals := 98 })).room s m ([.ref (ad 69), .int a1, .int a2] : List Value).toArray below meth c (MQ below (MQv D cA E ad post) ([.ref (ad 69), .int a1, .int a2] : List Value).toArray s 0 0 (MA ad)) D cA E ad 8 217 h [(0, .ref (ad 69)), (4, .int x4), (5, .int x5), (7, .int x7)] [] := by
            intro x7 hw H locs ls hM hS hl
            unfold wpBX7_tellSlices_217 at hw
            refine lv_iload hx hb dX7_tellSlices_217 (lv_at hl 3 rfl) ?_
            refine lv_istore (lv' := [(6, .int x7), (0, .ref (ad 69)), (4, .int x4), (5, .int x5), (7, .int x7)]) hx hb dX7_tellSlices_219 hl (by decide) rfl (fun ls hl => ?_)
            refine lv_iinc (v := (x7 + (1 : Int32))) (lv' := [(7, .int (x7 + (1 : Int32))), (6, .int x7), (0, .ref (ad 69)), (4, .int x4), (5, .int x5)]) hx hb dX7_tellSlices_221 hl (k := 4) rfl rfl (by decide) rfl (fun ls hl => ?_)
            refine lv_goto (tgt := 175) hx hb dX7_tellSlices_224 (by decide) ?_
            exact ih175 x7 (x7 + (1 : Int32)) hw _ _ ls hM hS (lv_sub hl [2, 3, 4, 1, 0] rfl)
          intro x6 x7 hw H locs ls hM hS hl
          have hw : wpBX7_tellSlices_175 post a1 a2 (fun h x4 x5 => wpLX7_tellSlices_130 post a1 a2   n130 (h, x4, x5)) (fun x6 x7 => wpLX7_tellSlices_175 post a1 a2 (fun h x4 x5 => wpLX7_tellSlices_130 post a1 a2   n130 (h, x4, x5)) h x4 x5 n175 (x6, x7)) h x4 x5 x6 x7 := hw
          unfold wpBX7_tellSlices_175 at hw
          refine lv_iload hx hb dX7_tellSlices_175 (lv_at hl 4 rfl) ?_
          refine lv_aload_n hx hb dX7_tellSlices_177 rfl (lv_at hl 0 rfl) ?_
          refine M_get hx hb hts hown hK hM 40 (v := .int (h 40 0)) (by decide) (hts _ q1723) rfl dX7_tellSlices_178 ?_
          refine lv_icmp_ge (tgt := 227) hx hb dX7_tellSlices_181 (by decide) (fun c11 => ?_) (fun c11 => ?_)
          · have hw := hw.1 c11
            refine lv_iload hx hb dX7_tellSlices_227 (lv_at hl 1 rfl) ?_
            refine lv_iconst (v := (1 : Int32)) hx hb dX7_tellSlices_229 (by decide) ?_
            refine lv_iload hx hb dX7_tellSlices_230 (lv_at hl 3 rfl) ?_
            refine lv_ishl hx hb dX7_tellSlices_232 ?_
            refine lv_ior hx hb dX7_tellSlices_233 ?_
            refine lv_istore (lv' := [(4, .int (x4 ||| ((1 : Int32) <<< (x6 &&& 31)))), (0, .ref (ad 69)), (5, .int x5), (6, .int x6), (7, .int x7)]) hx hb dX7_tellSlices_234 hl (by decide) rfl (fun ls hl => ?_)
            refine lv_aload_n hx hb dX7_tellSlices_236 rfl (lv_at hl 1 rfl) ?_
            refine M_get hx hb hts hown hK hM 39 (v := .ref (ad 39)) (by decide) (hts _ q1722) rfl dX7_tellSlices_237 ?_
            refine lv_iload hx hb dX7_tellSlices_240 (lv_at hl 2 rfl) ?_
            refine lv_aload_n hx hb dX7_tellSlices_242 rfl (lv_at hl 1 rfl) ?_
            refine M_get hx hb hts hown hK hM 37 (v := .ref (ad 37)) (by decide) (hts _ q1720) rfl dX7_tellSlices_243 ?_
            refine lv_iload hx hb dX7_tellSlices_246 (lv_at hl 3 rfl) ?_
            obtain ⟨hb12, hw⟩ := hw
            refine M_iald hx hb hK hM 37 rfl (j := (ix x6)) rfl hb12 dX7_tellSlices_248 ?_
            obtain ⟨hb13, hw⟩ := hw
            refine M_iast hx hb hK hM hJ hS 39 rfl (j := (ix x5)) rfl hb13 dX7_tellSlices_249 (fun H locs hM hS => ?_)
            obtain ⟨h14, eh14⟩ : ∃ y : Mem, y = up2 h 39 (ix x5) (h 37 (ix x6)) := ⟨_, rfl⟩
            rw [← eh14] at hM
            have hw := hw h14 eh14
            refine lv_iinc (v := (x5 + (-1 : Int32))) (lv' := [(5, .int (x5 + (-1 : Int32))), (4, .int (x4 ||| ((1 : Int32) <<< (x6 &&& 31)))), (0, .ref (ad 69)), (6, .int x6), (7, .int x7)]) hx hb dX7_tellSlices_250 hl (k := 2) rfl rfl (by decide) rfl (fun ls hl => ?_)
            refine lv_goto (tgt := 130) hx hb dX7_tellSlices_253 (by decide) ?_
            exact ih130 h14 (x4 ||| ((1 : Int32) <<< (x6 &&& 31))) (x5 + (-1 : Int32)) hw _ _ ls hM hS (lv_sub hl [2, 1, 0] rfl)
          · have hw := hw.2 c11
            refine lv_iload hx hb dX7_tellSlices_184 (lv_at hl 1 rfl) ?_
            refine lv_iload hx hb dX7_tellSlices_186 (lv_at hl 4 rfl) ?_
            refine M_callZSp (As := [.int x4, .int x7]) (rest := []) ⟨hx, hb, hml, hown, hts⟩ hK hZ hM hJ hS (metX7_isOf l D cA z0 E ad h x4 x7 _ hw) (va_cwS 2 hts (lw_S q2008 q2009 q130 q2010) rfl rfl rfl (by decide +kernel) ⟨Nat.le_of_ble_eq_true rfl, Nat.le_of_ble_eq_true rfl⟩) rfl hl.1 rfl (Nat.le_of_ble_eq_true rfl) dX7_tellSlices_188 ⟨Nat.zero_le _, Nat.zero_le _⟩ (fun r15 H locs hw hM hS => ?_)
            refine lv_if_ne (tgt := 221) hx hb dX7_tellSlices_191 (by decide) (fun c17 => ?_) (fun c17 => ?_)
            · have c17 := b2i_t c17
              have hw := hw.1 c17
              refine lv_iinc (v := (x7 + (1 : Int32))) (lv' := [(7, .int (x7 + (1 : Int32))), (0, .ref (ad 69)), (4, .int x4), (5, .int x5), (6, .int x6)]) hx hb dX7_tellSlices_221 hl (k := 4) rfl rfl (by decide) rfl (fun ls hl => ?_)
              refine lv_goto (tgt := 175) hx hb dX7_tellSlices_224 (by decide) ?_
              exact ih175 x6 (x7 + (1 : Int32)) hw _ _ ls hM hS (lv_sub hl [1, 2, 3, 4, 0] rfl)
            · have c17 := b2i_f c17
              have hw := hw.2 c17
              refine lv_iload hx hb dX7_tellSlices_194 (lv_at hl 3 rfl) ?_
              refine lv_iconst (v := (-1 : Int32)) hx hb dX7_tellSlices_196 (by decide) ?_
              refine lv_icmp_eq (tgt := 217) hx hb dX7_tellSlices_197 (by decide) (fun c18 => ?_) (fun c18 => ?_)
              · have hw := hw.1 c18
                exact hB217 x7 hw _ _ ls hM hS (lv_sub hl [0, 1, 2, 4] rfl)
              · have hw := hw.2 c18
                refine lv_aload_n hx hb dX7_tellSlices_200 rfl (lv_at hl 0 rfl) ?_
                refine M_get hx hb hts hown hK hM 37 (v := .ref (ad 37)) (by decide) (hts _ q1720) rfl dX7_tellSlices_201 ?_
                refine lv_iload hx hb dX7_tellSlices_204 (lv_at hl 4 rfl) ?_
                obtain ⟨hb19, hw⟩ := hw
                refine M_iald hx hb hK hM 37 rfl (j := (ix x7)) rfl hb19 dX7_tellSlices_206 ?_
                refine lv_aload_n hx hb dX7_tellSlices_207 rfl (lv_at hl 0 rfl) ?_
                refine M_get hx hb hts hown hK hM 37 (v := .ref (ad 37)) (by decide) (hts _ q1720) rfl dX7_tellSlices_208 ?_
                refine lv_iload hx hb dX7_tellSlices_211 (lv_at hl 3 rfl) ?_
                obtain ⟨hb20, hw⟩ := hw
                refine M_iald hx hb hK hM 37 rfl (j := (ix x6)) rfl hb20 dX7_tellSlices_213 ?_
                have hj21 : JM p l e (headSpec (ws_ yX7_tellSlices cX7_tellSlices 8 none) ({ frames := 4, cells := 0, slots := 0, locals := 98 })).room s m ([.ref (ad 69), .int a1, .int a2] : List Value).toArray below meth c (MQ below (MQv D cA E ad post) ([.ref (ad 69), .int a1, .int a2] : List Value).toArray s 0 0 (MA ad)) D cA E ad 8 221 h [(0, .ref (ad 69)), (4, .int x4), (5, .int x5), (6, .int (if (h 37 (ix x7)) ≤ (h 37 (ix x6)) then x6 else x7)), (7, .int x7)] [] := by
                  intro H locs ls hM hS hl
                  refine lv_iinc (v := (x7 + (1 : Int32))) (lv' := [(7, .int (x7 + (1 : Int32))), (0, .ref (ad 69)), (4, .int x4), (5, .int x5), (6, .int (if (h 37 (ix x7)) ≤ (h 37 (ix x6)) then x6 else x7))]) hx hb dX7_tellSlices_221 hl (k := 4) rfl rfl (by decide) rfl (fun ls hl => ?_)
                  refine lv_goto (tgt := 175) hx hb dX7_tellSlices_224 (by decide) ?_
                  exact ih175 (if (h 37 (ix x7)) ≤ (h 37 (ix x6)) then x6 else x7) (x7 + (1 : Int32)) hw _ _ ls hM hS (lv_sub hl [1, 2, 3, 4, 0] rfl)
                refine lv_icmp_le (tgt := 221) hx hb dX7_tellSlices_214 (by decide) (fun c22 => ?_) (fun c22 => ?_)
                · have e23 : (if (h 37 (ix x7)) ≤ (h 37 (ix x6)) then x6 else x7) = x6 := by rw [if_pos c22]
                  rw [e23] at hj21
                  exact hj21 _ _ ls hM hS (lv_sub hl [0, 1, 2, 3, 4] rfl)
                · refine lv_iload hx hb dX7_tellSlices_217 (lv_at hl 4 rfl) ?_
                  refine lv_istore (lv' := [(6, .int x7), (0, .ref (ad 69)), (4, .int x4), (5, .int x5), (7, .int x7)]) hx hb dX7_tellSlices_219 hl (by decide) rfl (fun ls hl => ?_)
                  have e24 : (if (h 37 (ix x7)) ≤ (h 37 (ix x6)) then x6 else x7) = x7 := by rw [if_neg c22]
                  rw [e24] at hj21
                  exact hj21 _ _ ls hM hS (lv_sub hl [1, 2, 3, 0, 4] rfl)
      intro h x4 x5 hw H locs ls hM hS hl
      have hw : wpBX7_tellSlices_130 post a1 a2  (fun h x4 x5 => wpLX7_tellSlices_130 post a1 a2   n130 (h, x4, x5))  h x4 x5 := hw
      unfold wpBX7_tellSlices_130 at hw
      refine lv_iload hx hb dX7_tellSlices_130 (lv_at hl 2 rfl) ?_
      refine lv_if_lt (tgt := 256) hx hb dX7_tellSlices_132 (by decide) (fun c8 => ?_) (fun c8 => ?_)
      · have hw := hw.1 c8
        exact M_vret hx hb hr hlocks hM hS hw dX7_tellSlices_256
      · have hw := hw.2 c8
        refine lv_aload_n hx hb dX7_tellSlices_135 rfl (lv_at hl 0 rfl) ?_
        refine M_get hx hb hts hown hK hM 38 (v := .ref (ad 38)) (by decide) (hts _ q1721) rfl dX7_tellSlices_136 ?_
        refine lv_iload hx hb dX7_tellSlices_139 (lv_at hl 2 rfl) ?_
        obtain ⟨hb9, hw⟩ := hw
        refine M_iald hx hb hK hM 38 rfl (j := (ix x5)) rfl hb9 dX7_tellSlices_141 ?_
        refine lv_iload hx hb dX7_tellSlices_142 (lv_at hl 2 rfl) ?_
        refine lv_icmp_eq (tgt := 169) hx hb dX7_tellSlices_144 (by decide) (fun c10 => ?_) (fun c10 => ?_)
        · have hw := hw.1 c10
          refine lv_iconst (v := (-1 : Int32)) hx hb dX7_tellSlices_169 (by decide) ?_
          refine lv_istore (lv' := [(6, .int (-1 : Int32)), (0, .ref (ad 69)), (4, .int x4), (5, .int x5)]) hx hb dX7_tellSlices_170 hl (by decide) rfl (fun ls hl => ?_)
          refine lv_iconst (v := (0 : Int32)) hx hb dX7_tellSlices_172 (by decide) ?_
          refine lv_istore (lv' := [(7, .int (0 : Int32)), (6, .int (-1 : Int32)), (0, .ref (ad 69)), (4, .int x4), (5, .int x5)]) hx hb dX7_tellSlices_173 hl (by decide) rfl (fun ls hl => ?_)
          obtain ⟨n25, hw⟩ := hw
          exact hL175 h x4 x5 n25 (-1 : Int32) (0 : Int32) hw _ _ ls hM hS (lv_sub hl [2, 3, 4, 1, 0] rfl)
        · have hw := hw.2 c10
          refine lv_aload_n hx hb dX7_tellSlices_147 rfl (lv_at hl 0 rfl) ?_
          refine M_get hx hb hts hown hK hM 39 (v := .ref (ad 39)) (by decide) (hts _ q1722) rfl dX7_tellSlices_148 ?_
          refine lv_iload hx hb dX7_tellSlices_151 (lv_at hl 2 rfl) ?_
          refine lv_aload_n hx hb dX7_tellSlices_153 rfl (lv_at hl 0 rfl) ?_
          refine M_get hx hb hts hown hK hM 39 (v := .ref (ad 39)) (by decide) (hts _ q1722) rfl dX7_tellSlices_154 ?_
          refine lv_aload_n hx hb dX7_tellSlices_157 rfl (lv_at hl 0 rfl) ?_
          refine M_get hx hb hts hown hK hM 38 (v := .ref (ad 38)) (by decide) (hts _ q1721) rfl dX7_tellSlices_158 ?_
          refine lv_iload hx hb dX7_tellSlices_161 (lv_at hl 2 rfl) ?_
          refine M_iald hx hb hK hM 38 rfl (j := (ix x5)) rfl hb9 dX7_tellSlices_163 ?_
          obtain ⟨hb26, hw⟩ := hw
          refine M_iald hx hb hK hM 39 rfl (j := (ix (h 38 (ix x5)))) rfl hb26 dX7_tellSlices_164 ?_
          obtain ⟨hb27, hw⟩ := hw
          refine M_iast hx hb hK hM hJ hS 39 rfl (j := (ix x5)) rfl hb27 dX7_tellSlices_165 (fun H locs hM hS => ?_)
          obtain ⟨h28, eh28⟩ : ∃ y : Mem, y = up2 h 39 (ix x5) (h 39 (ix (h 38 (ix x5)))) := ⟨_, rfl⟩
          rw [← eh28] at hM
          have hw := hw h28 eh28
          refine lv_goto (tgt := 250) hx hb dX7_tellSlices_166 (by decide) ?_
          refine lv_iinc (v := (x5 + (-1 : Int32))) (lv' := [(5, .int (x5 + (-1 : Int32))), (0, .ref (ad 69)), (4, .int x4)]) hx hb dX7_tellSlices_250 hl (k := 2) rfl rfl (by decide) rfl (fun ls hl => ?_)
          refine lv_goto (tgt := 130) hx hb dX7_tellSlices_253 (by decide) ?_
          exact ih130 h28 x4 (x5 + (-1 : Int32)) hw _ _ ls hM hS (lv_sub hl [1, 2, 0] rfl)
  have hL63 : ∀ (x3 : Int32) (n63 : Nat) (h : Mem) (x4 : Int32), wpLX7_tellSlices_63 post a1 a2  x3 n63 (h, x4) → JM p l e (headSpec (ws_ yX7_tellSlices cX7_tellSlices 8 none) ({ frames := 4, cells := 0, slots := 0, locals := 98 })).room s m ([.ref (ad 69), .int a1, .int a2] : List Value).toArray below meth c (MQ below (MQv D cA E ad post) ([.ref (ad 69), .int a1, .int a2] : List Value).toArray s 0 0 (MA ad)) D cA E ad 8 63 h [(0, .ref (ad 69)), (2, .int a2), (3, .int x3), (4, .int x4)] [] := by
    intro x3 n63
    induction n63 with
    | zero => intro h x4 hw; exact False.elim hw
    | succ n63 ih63 =>
      intro h x4 hw H locs ls hM hS hl
      have hw : wpBX7_tellSlices_63 post a1 a2  (fun h x4 => wpLX7_tellSlices_63 post a1 a2  x3 n63 (h, x4)) x3 h x4 := hw
      unfold wpBX7_tellSlices_63 at hw
      refine lv_iload hx hb dX7_tellSlices_63 (lv_at hl 3 rfl) ?_
      refine lv_aload_n hx hb dX7_tellSlices_65 rfl (lv_at hl 0 rfl) ?_
      refine M_get hx hb hts hown hK hM 40 (v := .int (h 40 0)) (by decide) (hts _ q1723) rfl dX7_tellSlices_66 ?_
      refine lv_icmp_ge (tgt := 117) hx hb dX7_tellSlices_69 (by decide) (fun c6 => ?_) (fun c6 => ?_)
      · have hw := hw.1 c6
        refine lv_iconst (v := (0 : Int32)) hx hb dX7_tellSlices_117 (by decide) ?_
        refine lv_istore (lv' := [(4, .int (0 : Int32)), (0, .ref (ad 69)), (2, .int a2), (3, .int x3)]) hx hb dX7_tellSlices_118 hl (by decide) rfl (fun ls hl => ?_)
        refine lv_aload_n hx hb dX7_tellSlices_120 rfl (lv_at hl 1 rfl) ?_
        refine M_get hx hb hts hown hK hM 11 (v := .ref (ad 11)) (by decide) (hts _ q1694) rfl dX7_tellSlices_121 ?_
        refine lv_iload_n hx hb dX7_tellSlices_124 rfl (lv_at hl 2 rfl) ?_
        obtain ⟨hb7, hw⟩ := hw
        refine M_iald hx hb hK hM 11 rfl (j := (ix a2)) rfl hb7 dX7_tellSlices_125 ?_
        refine lv_iconst (v := (1 : Int32)) hx hb dX7_tellSlices_126 (by decide) ?_
        refine lv_isub hx hb dX7_tellSlices_127 ?_
        refine lv_istore (lv' := [(5, .int ((h 11 (ix a2)) - (1 : Int32))), (4, .int (0 : Int32)), (0, .ref (ad 69)), (2, .int a2), (3, .int x3)]) hx hb dX7_tellSlices_128 hl (by decide) rfl (fun ls hl => ?_)
        obtain ⟨n29, hw⟩ := hw
        exact hL130 n29 h (0 : Int32) ((h 11 (ix a2)) - (1 : Int32)) hw _ _ ls hM hS (lv_sub hl [2, 1, 0] rfl)
      · have hw := hw.2 c6
        refine lv_aload_n hx hb dX7_tellSlices_72 rfl (lv_at hl 0 rfl) ?_
        refine M_get hx hb hts hown hK hM 37 (v := .ref (ad 37)) (by decide) (hts _ q1720) rfl dX7_tellSlices_73 ?_
        refine lv_iload hx hb dX7_tellSlices_76 (lv_at hl 3 rfl) ?_
        refine lv_aload_n hx hb dX7_tellSlices_78 rfl (lv_at hl 0 rfl) ?_
        refine M_get hx hb hts hown hK hM 8 (v := .ref (ad 8)) (by decide) (hts _ q1691) rfl dX7_tellSlices_79 ?_
        refine lv_iload_n hx hb dX7_tellSlices_82 rfl (lv_at hl 1 rfl) ?_
        obtain ⟨hb30, hw⟩ := hw
        refine M_iald hx hb hK hM 8 rfl (j := (ix a2)) rfl hb30 dX7_tellSlices_83 ?_
        refine lv_aload_n hx hb dX7_tellSlices_84 rfl (lv_at hl 0 rfl) ?_
        refine M_get hx hb hts hown hK hM 37 (v := .ref (ad 37)) (by decide) (hts _ q1720) rfl dX7_tellSlices_85 ?_
        refine lv_iload hx hb dX7_tellSlices_88 (lv_at hl 3 rfl) ?_
        obtain ⟨hb31, hw⟩ := hw
        refine M_iald hx hb hK hM 37 rfl (j := (ix x4)) rfl hb31 dX7_tellSlices_90 ?_
        refine lv_imul hx hb dX7_tellSlices_91 ?_
        refine lv_iload_n hx hb dX7_tellSlices_92 rfl (lv_at hl 2 rfl) ?_
        obtain ⟨hne, hw⟩ := hw
        refine lv_idiv hx hb dX7_tellSlices_93 hne ?_
        refine M_iast hx hb hK hM hJ hS 37 rfl (j := (ix x4)) rfl hb31 dX7_tellSlices_94 (fun H locs hM hS => ?_)
        obtain ⟨h32, eh32⟩ : ∃ y : Mem, y = up2 h 37 (ix x4) (((h 8 (ix a2)) * (h 37 (ix x4))) / x3) := ⟨_, rfl⟩
        rw [← eh32] at hM
        have hw := hw h32 eh32
        refine lv_aload_n hx hb dX7_tellSlices_95 rfl (lv_at hl 0 rfl) ?_
        refine lv_dup hx hb dX7_tellSlices_96 rfl ?_
        refine M_get hx hb hts hown hK hM 41 (v := .int (h32 41 0)) (by decide) (hts _ q1724) rfl dX7_tellSlices_97 ?_
        refine lv_aload_n hx hb dX7_tellSlices_100 rfl (lv_at hl 0 rfl) ?_
        refine M_get hx hb hts hown hK hM 37 (v := .ref (ad 37)) (by decide) (hts _ q1720) rfl dX7_tellSlices_101 ?_
        refine lv_iload hx hb dX7_tellSlices_104 (lv_at hl 3 rfl) ?_
        refine M_iald hx hb hK hM 37 rfl (j := (ix x4)) rfl hb31 dX7_tellSlices_106 ?_
        refine lv_isub hx hb dX7_tellSlices_107 ?_
        refine M_put hx hb hts hown hK hM hJ hS 41 rfl rfl (hts _ q1724) rfl .int (by decide +kernel) rfl rfl dX7_tellSlices_108 (fun H locs hM hS => ?_)
        obtain ⟨h33, eh33⟩ : ∃ y : Mem, y = up2 h32 41 0 ((h32 41 0) - (h32 37 (ix x4))) := ⟨_, rfl⟩
        rw [← eh33] at hM
        have hw := hw h33 eh33
        refine lv_iinc (v := (x4 + (1 : Int32))) (lv' := [(4, .int (x4 + (1 : Int32))), (0, .ref (ad 69)), (2, .int a2), (3, .int x3)]) hx hb dX7_tellSlices_111 hl (k := 3) rfl rfl (by decide) rfl (fun ls hl => ?_)
        refine lv_goto (tgt := 63) hx hb dX7_tellSlices_114 (by decide) ?_
        exact ih63 h33 (x4 + (1 : Int32)) hw _ _ ls hM hS (lv_sub hl [1, 2, 3, 0] rfl)
  have hL10 : ∀  (n10 : Nat) (h : Mem) (x3 : Int32) (x4 : Int32), wpLX7_tellSlices_10 post a1 a2   n10 (h, x3, x4) → JM p l e (headSpec (ws_ yX7_tellSlices cX7_tellSlices 8 none) ({ frames := 4, cells := 0, slots := 0, locals := 98 })).room s m ([.ref (ad 69), .int a1, .int a2] : List Value).toArray below meth c (MQ below (MQv D cA E ad post) ([.ref (ad 69), .int a1, .int a2] : List Value).toArray s 0 0 (MA ad)) D cA E ad 8 10 h [(0, .ref (ad 69)), (1, .int a1), (2, .int a2), (3, .int x3), (4, .int x4)] [] := by
    intro  n10
    induction n10 with
    | zero => intro h x3 x4 hw; exact False.elim hw
    | succ n10 ih10 =>
      intro h x3 x4 hw H locs ls hM hS hl
      have hw : wpBX7_tellSlices_10 post a1 a2  (fun h x3 x4 => wpLX7_tellSlices_10 post a1 a2   n10 (h, x3, x4))  h x3 x4 := hw
      unfold wpBX7_tellSlices_10 at hw
      refine lv_iload hx hb dX7_tellSlices_10 (lv_at hl 4 rfl) ?_
      refine lv_aload_n hx hb dX7_tellSlices_12 rfl (lv_at hl 0 rfl) ?_
      refine M_get hx hb hts hown hK hM 40 (v := .int (h 40 0)) (by decide) (hts _ q1723) rfl dX7_tellSlices_13 ?_
      refine lv_icmp_ge (tgt := 50) hx hb dX7_tellSlices_16 (by decide) (fun c3 => ?_) (fun c3 => ?_)
      · have hw := hw.1 c3
        refine lv_aload_n hx hb dX7_tellSlices_50 rfl (lv_at hl 0 rfl) ?_
        refine lv_aload_n hx hb dX7_tellSlices_51 rfl (lv_at hl 0 rfl) ?_
        refine M_get hx hb hts hown hK hM 8 (v := .ref (ad 8)) (by decide) (hts _ q1691) rfl dX7_tellSlices_52 ?_
        refine lv_iload_n hx hb dX7_tellSlices_55 rfl (lv_at hl 2 rfl) ?_
        obtain ⟨hb4, hw⟩ := hw
        refine M_iald hx hb hK hM 8 rfl (j := (ix a2)) rfl hb4 dX7_tellSlices_56 ?_
        refine M_put hx hb hts hown hK hM hJ hS 41 rfl rfl (hts _ q1724) rfl .int (by decide +kernel) rfl rfl dX7_tellSlices_57 (fun H locs hM hS => ?_)
        obtain ⟨h5, eh5⟩ : ∃ y : Mem, y = up2 h 41 0 (h 8 (ix a2)) := ⟨_, rfl⟩
        rw [← eh5] at hM
        have hw := hw h5 eh5
        refine lv_iconst (v := (0 : Int32)) hx hb dX7_tellSlices_60 (by decide) ?_
        refine lv_istore (lv' := [(4, .int (0 : Int32)), (0, .ref (ad 69)), (1, .int a1), (2, .int a2), (3, .int x3)]) hx hb dX7_tellSlices_61 hl (by decide) rfl (fun ls hl => ?_)
        obtain ⟨n34, hw⟩ := hw
        exact hL63 x3 n34 h5 (0 : Int32) hw _ _ ls hM hS (lv_sub hl [1, 3, 4, 0] rfl)
      · have hw := hw.2 c3
        refine lv_aload_n hx hb dX7_tellSlices_19 rfl (lv_at hl 0 rfl) ?_
        refine M_get hx hb hts hown hK hM 37 (v := .ref (ad 37)) (by decide) (hts _ q1720) rfl dX7_tellSlices_20 ?_
        refine lv_iload hx hb dX7_tellSlices_23 (lv_at hl 4 rfl) ?_
        refine lv_aload_n hx hb dX7_tellSlices_25 rfl (lv_at hl 0 rfl) ?_
        refine lv_iload_n hx hb dX7_tellSlices_26 rfl (lv_at hl 1 rfl) ?_
        refine lv_iload_n hx hb dX7_tellSlices_27 rfl (lv_at hl 2 rfl) ?_
        refine lv_iload hx hb dX7_tellSlices_28 (lv_at hl 4 rfl) ?_
        refine M_callI (As := [.int a1, .int a2, .int x4]) (rest := [.int x4, .ref (ad 37)]) ⟨hx, hb, hml, hown, hts⟩ hK hZ hM hJ hS (metX7_shareOf l D cA z0 E ad h a1 a2 x4 _ hw) (cwV 3 hts (lw_V q2119 q2121 qs81 q130 q2122) rfl rfl rfl (by decide +kernel) ⟨Nat.le_of_ble_eq_true rfl, Nat.le_of_ble_eq_true rfl⟩) rfl hl.1 rfl (Nat.le_of_ble_eq_true rfl) dX7_tellSlices_30 ⟨Nat.zero_le _, Nat.zero_le _⟩ (fun r35 h36 H locs hw hM hS => ?_)
        obtain ⟨hb37, hw⟩ := hw
        refine M_iast hx hb hK hM hJ hS 37 rfl (j := (ix x4)) rfl hb37 dX7_tellSlices_33 (fun H locs hM hS => ?_)
        obtain ⟨h38, eh38⟩ : ∃ y : Mem, y = up2 h36 37 (ix x4) r35 := ⟨_, rfl⟩
        rw [← eh38] at hM
        have hw := hw h38 eh38
        refine lv_iload_n hx hb dX7_tellSlices_34 rfl (lv_at hl 3 rfl) ?_
        refine lv_aload_n hx hb dX7_tellSlices_35 rfl (lv_at hl 0 rfl) ?_
        refine M_get hx hb hts hown hK hM 37 (v := .ref (ad 37)) (by decide) (hts _ q1720) rfl dX7_tellSlices_36 ?_
        refine lv_iload hx hb dX7_tellSlices_39 (lv_at hl 4 rfl) ?_
        refine M_iald hx hb hK hM 37 rfl (j := (ix x4)) rfl hb37 dX7_tellSlices_41 ?_
        refine lv_iadd hx hb dX7_tellSlices_42 ?_
        refine lv_istore_n (lv' := [(3, .int (x3 + (h38 37 (ix x4)))), (0, .ref (ad 69)), (1, .int a1), (2, .int a2), (4, .int x4)]) hx hb dX7_tellSlices_43 rfl hl (by decide) rfl (fun ls hl => ?_)
        refine lv_iinc (v := (x4 + (1 : Int32))) (lv' := [(4, .int (x4 + (1 : Int32))), (3, .int (x3 + (h38 37 (ix x4)))), (0, .ref (ad 69)), (1, .int a1), (2, .int a2)]) hx hb dX7_tellSlices_44 hl (k := 4) rfl rfl (by decide) rfl (fun ls hl => ?_)
        refine lv_goto (tgt := 10) hx hb dX7_tellSlices_47 (by decide) ?_
        exact ih10 h38 (x3 + (h38 37 (ix x4))) (x4 + (1 : Int32)) hw _ _ ls hM hS (lv_sub hl [2, 3, 4, 1, 0] rfl)
  unfold wpX7_tellSlices at hw
  refine lv_aload_n hx hb dX7_tellSlices_0 rfl (lv_at hl 0 rfl) ?_
  refine lv_iload_n hx hb dX7_tellSlices_1 rfl (lv_at hl 2 rfl) ?_
  refine M_callV (As := [.int a2]) (rest := []) ⟨hx, hb, hml, hown, hts⟩ hK hZ hM hJ hS (metX7_tellUnits l D cA z0 E ad h a2 _ hw) (cwV 1 hts (lw_V q2074 q2076 qs74 q130 q2077) rfl rfl rfl (by decide +kernel) ⟨Nat.le_of_ble_eq_true rfl, Nat.le_of_ble_eq_true rfl⟩) rfl hl.1 rfl (Nat.le_of_ble_eq_true rfl) dX7_tellSlices_2 ⟨Nat.zero_le _, Nat.zero_le _⟩ (fun h2 H locs hw hM hS => ?_)
  refine lv_iconst (v := (0 : Int32)) hx hb dX7_tellSlices_5 (by decide) ?_
  refine lv_istore_n (lv' := [(3, .int (0 : Int32)), (0, .ref (ad 69)), (1, .int a1), (2, .int a2)]) hx hb dX7_tellSlices_6 rfl hl (by decide) rfl (fun ls hl => ?_)
  refine lv_iconst (v := (0 : Int32)) hx hb dX7_tellSlices_7 (by decide) ?_
  refine lv_istore (lv' := [(4, .int (0 : Int32)), (3, .int (0 : Int32)), (0, .ref (ad 69)), (1, .int a1), (2, .int a2)]) hx hb dX7_tellSlices_8 hl (by decide) rfl (fun ls hl => ?_)
  obtain ⟨n39, hw⟩ := hw
  exact hL10 n39 h2 (0 : Int32) (0 : Int32) hw _ _ ls hM hS (lv_sub hl [2, 3, 4, 1, 0] rfl)
