/-! the walks of the component's writers, printed by tools/genw.py: X6_pair X6_meet X6_fair X6_begins X1_lay X1_refuses X1_forget X1_draw X1_feed X1_shares X1_unfair X1_chooses X1_noon X1_safe -/
/-- StrangeKnives$State.pair(LStrangeKnives$Town;III)V -/
def wpX6_pair (post : Mem → Prop) (h : Mem) (T : TT) (a2 : Int32) (a3 : Int32) (a4 : Int32) : Prop :=
  ((a2 = (-1 : Int32) → post h) ∧ (¬ a2 = (-1 : Int32) → ((a3 = (-1 : Int32) → post h) ∧ (¬ a3 = (-1 : Int32) → ((a2 = a3 → post h) ∧ (¬ a2 = a3 → (vp_in a2 (8) ∧ (((twI T (ix a2)) = a3 → post h) ∧ (¬ (twI T (ix a2)) = a3 → (vp_in (((8 : Int32) * a2) + a3) (Slen 0) ∧ (∀ h7 : Mem, h7 = up2 h 0 (ix (((8 : Int32) * a2) + a3)) (mxI (h 0 (ix (((8 : Int32) * a2) + a3))) a4) → (vp_in (((8 : Int32) * a3) + a2) (Slen 0) ∧ (∀ h9 : Mem, h9 = up2 h7 0 (ix (((8 : Int32) * a3) + a2)) (h7 0 (ix (((8 : Int32) * a2) + a3))) → post h9)))))))))))))
set_option maxHeartbeats 4000000 in
set_option maxRecDepth 100000 in
theorem metX6_pair (l : Launch) (D : va_G) (cA : Nat → ClassId) (z0 : Nat) (E : Nat → Nat → Nat) (tw : Nat → Nat) (N : Nat → Prop) (vo : Nat) (sa : Nat → Nat) (h : Mem) (T : TT) (a2 : Int32) (a3 : Int32) (a4 : Int32) (post : Mem → Prop) (hw : wpX6_pair post h T a2 a3 a4) : MeSV l D cA z0 E T tw vo N sa yX6_pair (ws_ yX6_pair cX6_pair 5 none) ({ frames := 2, cells := 0, slots := 0, locals := 40 }) [.ref (sa 5), .ref (tw 9), .int a2, .int a3, .int a4] h post := by
  refine Met.ofW (cc := cX6_pair) (maxL := 5) (ret := none) (by decide) rfl ?_
  intro p e s m args below meth c s₁ B hml hv
  obtain ⟨rfl, hv⟩ := hv
  have hx := B.exec
  have hb := B.bytes
  have hr := B.returns
  have hts := atoms_spec (ws := ws_ yX6_pair cX6_pair 5 none) B.pre
  have hts : ∀ w ∈ lw_all, w.before _ s = true := fun w h => hts w (List.mem_cons_of_mem _ h)
  have hown : s.vm.findClass RX6 = some m.cls := findClass_of_methodNamed B.named
  have hlocks := B.notSynchronized
  have hl := lv_entry ([.ref (sa 5), .ref (tw 9), .int a2, .int a3, .int a4]) (n := 5) (Nat.le_of_ble_eq_true rfl)
  rw [lg_entry_eq]
  generalize (lg_sl ([.ref (sa 5), .ref (tw 9), .int a2, .int a3, .int a4]) ++ List.replicate (5 - (lg_sl ([.ref (sa 5), .ref (tw 9), .int a2, .int a3, .int a4])).length) Slot.unset).toArray = ls at hl ⊢
  have hl : lv_has ls 5 [(0, .ref (sa 5)), (1, .ref (tw 9)), (2, .int a2), (3, .int a3), (4, .int a4)] := hl
  obtain ⟨hM, hJ, hN, hT, hK, hZ⟩ := hv
  have hNA : ∀ q, N q → q < s.heap.size → ¬ SA sa q := fun q h _ => hN q h
  have hS : va_S (SA sa) s.heap s.heap [] := va_S.rf
  unfold wpX6_pair at hw
  refine lv_iload_n hx hb dX6_pair_0 rfl (lv_at hl 2 rfl) ?_
  refine lv_iconst (v := (-1 : Int32)) hx hb dX6_pair_1 (by decide) ?_
  refine lv_icmp_eq (tgt := 25) hx hb dX6_pair_2 (by decide) (fun c1 => ?_) (fun c1 => ?_)
  · have hw := hw.1 c1
    exact S_vret hx hb hr hlocks hM hS hw dX6_pair_25
  · have hw := hw.2 c1
    refine lv_iload_n hx hb dX6_pair_5 rfl (lv_at hl 3 rfl) ?_
    refine lv_iconst (v := (-1 : Int32)) hx hb dX6_pair_6 (by decide) ?_
    refine lv_icmp_eq (tgt := 25) hx hb dX6_pair_7 (by decide) (fun c2 => ?_) (fun c2 => ?_)
    · have hw := hw.1 c2
      exact S_vret hx hb hr hlocks hM hS hw dX6_pair_25
    · have hw := hw.2 c2
      refine lv_iload_n hx hb dX6_pair_10 rfl (lv_at hl 2 rfl) ?_
      refine lv_iload_n hx hb dX6_pair_11 rfl (lv_at hl 3 rfl) ?_
      refine lv_icmp_eq (tgt := 25) hx hb dX6_pair_12 (by decide) (fun c3 => ?_) (fun c3 => ?_)
      · have hw := hw.1 c3
        exact S_vret hx hb hr hlocks hM hS hw dX6_pair_25
      · have hw := hw.2 c3
        refine lv_aload_n hx hb dX6_pair_15 rfl (lv_at hl 1 rfl) ?_
        refine T_fldN hx hb hts hown hK (hT.at hS hNA) 5 (v := .ref (tw 4)) (by decide) (hZ.2.1.nF 39 rfl) (fun _ _ => rfl) dX6_pair_16 ?_
        refine lv_iload_n hx hb dX6_pair_19 rfl (lv_at hl 2 rfl) ?_
        obtain ⟨hv4, hw⟩ := hw
        refine T_twin hx hb hK (hT.at hS hNA) hv4 dX6_pair_20 ?_
        refine lv_iload_n hx hb dX6_pair_21 rfl (lv_at hl 3 rfl) ?_
        refine lv_icmp_ne (tgt := 26) hx hb dX6_pair_22 (by decide) (fun c5 => ?_) (fun c5 => ?_)
        · have hw := hw.2 c5
          refine lv_aload_n hx hb dX6_pair_26 rfl (lv_at hl 0 rfl) ?_
          refine S_get5 hx hb hts hown hK hM 0 (v := .ref (sa 0)) (by decide) (hts _ q580) rfl dX6_pair_27 ?_
          refine lv_bipush (v := (8 : Int32)) hx hb dX6_pair_30 (by decide) ?_
          refine lv_iload_n hx hb dX6_pair_32 rfl (lv_at hl 2 rfl) ?_
          refine lv_imul hx hb dX6_pair_33 ?_
          refine lv_iload_n hx hb dX6_pair_34 rfl (lv_at hl 3 rfl) ?_
          refine lv_iadd hx hb dX6_pair_35 ?_
          refine lv_aload_n hx hb dX6_pair_36 rfl (lv_at hl 0 rfl) ?_
          refine S_get5 hx hb hts hown hK hM 0 (v := .ref (sa 0)) (by decide) (hts _ q580) rfl dX6_pair_37 ?_
          refine lv_bipush (v := (8 : Int32)) hx hb dX6_pair_40 (by decide) ?_
          refine lv_iload_n hx hb dX6_pair_42 rfl (lv_at hl 2 rfl) ?_
          refine lv_imul hx hb dX6_pair_43 ?_
          refine lv_iload_n hx hb dX6_pair_44 rfl (lv_at hl 3 rfl) ?_
          refine lv_iadd hx hb dX6_pair_45 ?_
          obtain ⟨hv6, hw⟩ := hw
          refine S_iald hx hb hK hM 0 rfl (j := (ix (((8 : Int32) * a2) + a3))) rfl hv6 dX6_pair_46 ?_
          refine lv_iload hx hb dX6_pair_47 (lv_at hl 4 rfl) ?_
          refine J_mxI hx hb hml hl.1 hown (hts _ q723) (hts _ q273) (hts _ q118) (hts _ q274) (Nat.le_of_ble_eq_true rfl) (Nat.le_of_ble_eq_true rfl) (Nat.zero_le _) (Nat.zero_le _) dX6_pair_49 ?_
          refine S_iast hx hb hK hM hJ (fun _ h => h) hS 0 rfl (j := (ix (((8 : Int32) * a2) + a3))) rfl hv6 dX6_pair_52 (fun H locs hM hS => ?_)
          obtain ⟨h7, eh7⟩ : ∃ y : Mem, y = up2 h 0 (ix (((8 : Int32) * a2) + a3)) (mxI (h 0 (ix (((8 : Int32) * a2) + a3))) a4) := ⟨_, rfl⟩
          rw [← eh7] at hM
          have hw := hw h7 eh7
          refine lv_aload_n hx hb dX6_pair_53 rfl (lv_at hl 0 rfl) ?_
          refine S_get5 hx hb hts hown hK hM 0 (v := .ref (sa 0)) (by decide) (hts _ q580) rfl dX6_pair_54 ?_
          refine lv_bipush (v := (8 : Int32)) hx hb dX6_pair_57 (by decide) ?_
          refine lv_iload_n hx hb dX6_pair_59 rfl (lv_at hl 3 rfl) ?_
          refine lv_imul hx hb dX6_pair_60 ?_
          refine lv_iload_n hx hb dX6_pair_61 rfl (lv_at hl 2 rfl) ?_
          refine lv_iadd hx hb dX6_pair_62 ?_
          refine lv_aload_n hx hb dX6_pair_63 rfl (lv_at hl 0 rfl) ?_
          refine S_get5 hx hb hts hown hK hM 0 (v := .ref (sa 0)) (by decide) (hts _ q580) rfl dX6_pair_64 ?_
          refine lv_bipush (v := (8 : Int32)) hx hb dX6_pair_67 (by decide) ?_
          refine lv_iload_n hx hb dX6_pair_69 rfl (lv_at hl 2 rfl) ?_
          refine lv_imul hx hb dX6_pair_70 ?_
          refine lv_iload_n hx hb dX6_pair_71 rfl (lv_at hl 3 rfl) ?_
          refine lv_iadd hx hb dX6_pair_72 ?_
          refine S_iald hx hb hK hM 0 rfl (j := (ix (((8 : Int32) * a2) + a3))) rfl hv6 dX6_pair_73 ?_
          obtain ⟨hv8, hw⟩ := hw
          refine S_iast hx hb hK hM hJ (fun _ h => h) hS 0 rfl (j := (ix (((8 : Int32) * a3) + a2))) rfl hv8 dX6_pair_74 (fun H locs hM hS => ?_)
          obtain ⟨h9, eh9⟩ : ∃ y : Mem, y = up2 h7 0 (ix (((8 : Int32) * a3) + a2)) (h7 0 (ix (((8 : Int32) * a2) + a3))) := ⟨_, rfl⟩
          rw [← eh9] at hM
          have hw := hw h9 eh9
          exact S_vret hx hb hr hlocks hM hS hw dX6_pair_75
        · have hw := hw.1 c5
          exact S_vret hx hb hr hlocks hM hS hw dX6_pair_25

/-- StrangeKnives$State.meet(LStrangeKnives$Town;III)V -/
def wpX6_meet (post : Mem → Prop) (h : Mem) (T : TT) (a2 : Int32) (a3 : Int32) (a4 : Int32) : Prop :=
  (wpX6_pair (fun h1 => (vp_in a2 (8) ∧ (wpX6_pair (fun h3 => (vp_in a3 (8) ∧ (wpX6_pair (fun h5 => (wpX6_pair (fun h6 => post h6) h5 T (twI T (ix a2)) (twI T (ix a3)) a4)) h3 T a2 (twI T (ix a3)) a4))) h1 T (twI T (ix a2)) a3 a4))) h T a2 a3 a4)
set_option maxHeartbeats 4000000 in
set_option maxRecDepth 100000 in
theorem metX6_meet (l : Launch) (D : va_G) (cA : Nat → ClassId) (z0 : Nat) (E : Nat → Nat → Nat) (tw : Nat → Nat) (N : Nat → Prop) (vo : Nat) (sa : Nat → Nat) (h : Mem) (T : TT) (a2 : Int32) (a3 : Int32) (a4 : Int32) (post : Mem → Prop) (hw : wpX6_meet post h T a2 a3 a4) : MeSV l D cA z0 E T tw vo N sa yX6_meet (ws_ yX6_meet cX6_meet 5 none) ({ frames := 3, cells := 0, slots := 0, locals := 64 }) [.ref (sa 5), .ref (tw 9), .int a2, .int a3, .int a4] h post := by
  refine Met.ofW (cc := cX6_meet) (maxL := 5) (ret := none) (by decide) rfl ?_
  intro p e s m args below meth c s₁ B hml hv
  obtain ⟨rfl, hv⟩ := hv
  have hx := B.exec
  have hb := B.bytes
  have hr := B.returns
  have hts := atoms_spec (ws := ws_ yX6_meet cX6_meet 5 none) B.pre
  have hts : ∀ w ∈ lw_all, w.before _ s = true := fun w h => hts w (List.mem_cons_of_mem _ h)
  have hown : s.vm.findClass RX6 = some m.cls := findClass_of_methodNamed B.named
  have hlocks := B.notSynchronized
  have hl := lv_entry ([.ref (sa 5), .ref (tw 9), .int a2, .int a3, .int a4]) (n := 5) (Nat.le_of_ble_eq_true rfl)
  rw [lg_entry_eq]
  generalize (lg_sl ([.ref (sa 5), .ref (tw 9), .int a2, .int a3, .int a4]) ++ List.replicate (5 - (lg_sl ([.ref (sa 5), .ref (tw 9), .int a2, .int a3, .int a4])).length) Slot.unset).toArray = ls at hl ⊢
  have hl : lv_has ls 5 [(0, .ref (sa 5)), (1, .ref (tw 9)), (2, .int a2), (3, .int a3), (4, .int a4)] := hl
  obtain ⟨hM, hJ, hN, hT, hK, hZ⟩ := hv
  have hNA : ∀ q, N q → q < s.heap.size → ¬ SA sa q := fun q h _ => hN q h
  have hS : va_S (SA sa) s.heap s.heap [] := va_S.rf
  unfold wpX6_meet at hw
  refine lv_aload_n hx hb dX6_meet_0 rfl (lv_at hl 0 rfl) ?_
  refine lv_aload_n hx hb dX6_meet_1 rfl (lv_at hl 1 rfl) ?_
  refine lv_iload_n hx hb dX6_meet_2 rfl (lv_at hl 2 rfl) ?_
  refine lv_iload_n hx hb dX6_meet_3 rfl (lv_at hl 3 rfl) ?_
  refine lv_iload hx hb dX6_meet_4 (lv_at hl 4 rfl) ?_
  refine SS_callV (As := [.ref (tw 9), .int a2, .int a3, .int a4]) (rest := []) ⟨hx, hb, hml, hown, hts⟩ hK hZ hT hN hM hJ hS (metX6_pair l D cA z0 E tw N vo sa h T a2 a3 a4 _ hw) (cwV 4 hts (lw_V q719 q721 qs4 q129 q722) rfl rfl rfl (by decide +kernel) ⟨Nat.le_of_ble_eq_true rfl, Nat.le_of_ble_eq_true rfl⟩) rfl hl.1 rfl (Nat.le_of_ble_eq_true rfl) dX6_meet_6 ⟨Nat.zero_le _, Nat.zero_le _⟩ (fun h1 H locs hw hM hS => ?_)
  refine lv_aload_n hx hb dX6_meet_9 rfl (lv_at hl 0 rfl) ?_
  refine lv_aload_n hx hb dX6_meet_10 rfl (lv_at hl 1 rfl) ?_
  refine lv_aload_n hx hb dX6_meet_11 rfl (lv_at hl 1 rfl) ?_
  refine T_fldN hx hb hts hown hK (hT.at hS hNA) 5 (v := .ref (tw 4)) (by decide) (hZ.2.1.nF 39 rfl) (fun _ _ => rfl) dX6_meet_12 ?_
  refine lv_iload_n hx hb dX6_meet_15 rfl (lv_at hl 2 rfl) ?_
  obtain ⟨hv2, hw⟩ := hw
  refine T_twin hx hb hK (hT.at hS hNA) hv2 dX6_meet_16 ?_
  refine lv_iload_n hx hb dX6_meet_17 rfl (lv_at hl 3 rfl) ?_
  refine lv_iload hx hb dX6_meet_18 (lv_at hl 4 rfl) ?_
  refine SS_callV (As := [.ref (tw 9), .int (twI T (ix a2)), .int a3, .int a4]) (rest := []) ⟨hx, hb, hml, hown, hts⟩ hK hZ hT hN hM hJ hS (metX6_pair l D cA z0 E tw N vo sa h1 T (twI T (ix a2)) a3 a4 _ hw) (cwV 4 hts (lw_V q719 q721 qs4 q129 q722) rfl rfl rfl (by decide +kernel) ⟨Nat.le_of_ble_eq_true rfl, Nat.le_of_ble_eq_true rfl⟩) rfl hl.1 rfl (Nat.le_of_ble_eq_true rfl) dX6_meet_20 ⟨Nat.zero_le _, Nat.zero_le _⟩ (fun h3 H locs hw hM hS => ?_)
  refine lv_aload_n hx hb dX6_meet_23 rfl (lv_at hl 0 rfl) ?_
  refine lv_aload_n hx hb dX6_meet_24 rfl (lv_at hl 1 rfl) ?_
  refine lv_iload_n hx hb dX6_meet_25 rfl (lv_at hl 2 rfl) ?_
  refine lv_aload_n hx hb dX6_meet_26 rfl (lv_at hl 1 rfl) ?_
  refine T_fldN hx hb hts hown hK (hT.at hS hNA) 5 (v := .ref (tw 4)) (by decide) (hZ.2.1.nF 39 rfl) (fun _ _ => rfl) dX6_meet_27 ?_
  refine lv_iload_n hx hb dX6_meet_30 rfl (lv_at hl 3 rfl) ?_
  obtain ⟨hv4, hw⟩ := hw
  refine T_twin hx hb hK (hT.at hS hNA) hv4 dX6_meet_31 ?_
  refine lv_iload hx hb dX6_meet_32 (lv_at hl 4 rfl) ?_
  refine SS_callV (As := [.ref (tw 9), .int a2, .int (twI T (ix a3)), .int a4]) (rest := []) ⟨hx, hb, hml, hown, hts⟩ hK hZ hT hN hM hJ hS (metX6_pair l D cA z0 E tw N vo sa h3 T a2 (twI T (ix a3)) a4 _ hw) (cwV 4 hts (lw_V q719 q721 qs4 q129 q722) rfl rfl rfl (by decide +kernel) ⟨Nat.le_of_ble_eq_true rfl, Nat.le_of_ble_eq_true rfl⟩) rfl hl.1 rfl (Nat.le_of_ble_eq_true rfl) dX6_meet_34 ⟨Nat.zero_le _, Nat.zero_le _⟩ (fun h5 H locs hw hM hS => ?_)
  refine lv_aload_n hx hb dX6_meet_37 rfl (lv_at hl 0 rfl) ?_
  refine lv_aload_n hx hb dX6_meet_38 rfl (lv_at hl 1 rfl) ?_
  refine lv_aload_n hx hb dX6_meet_39 rfl (lv_at hl 1 rfl) ?_
  refine T_fldN hx hb hts hown hK (hT.at hS hNA) 5 (v := .ref (tw 4)) (by decide) (hZ.2.1.nF 39 rfl) (fun _ _ => rfl) dX6_meet_40 ?_
  refine lv_iload_n hx hb dX6_meet_43 rfl (lv_at hl 2 rfl) ?_
  refine T_twin hx hb hK (hT.at hS hNA) hv2 dX6_meet_44 ?_
  refine lv_aload_n hx hb dX6_meet_45 rfl (lv_at hl 1 rfl) ?_
  refine T_fldN hx hb hts hown hK (hT.at hS hNA) 5 (v := .ref (tw 4)) (by decide) (hZ.2.1.nF 39 rfl) (fun _ _ => rfl) dX6_meet_46 ?_
  refine lv_iload_n hx hb dX6_meet_49 rfl (lv_at hl 3 rfl) ?_
  refine T_twin hx hb hK (hT.at hS hNA) hv4 dX6_meet_50 ?_
  refine lv_iload hx hb dX6_meet_51 (lv_at hl 4 rfl) ?_
  refine SS_callV (As := [.ref (tw 9), .int (twI T (ix a2)), .int (twI T (ix a3)), .int a4]) (rest := []) ⟨hx, hb, hml, hown, hts⟩ hK hZ hT hN hM hJ hS (metX6_pair l D cA z0 E tw N vo sa h5 T (twI T (ix a2)) (twI T (ix a3)) a4 _ hw) (cwV 4 hts (lw_V q719 q721 qs4 q129 q722) rfl rfl rfl (by decide +kernel) ⟨Nat.le_of_ble_eq_true rfl, Nat.le_of_ble_eq_true rfl⟩) rfl hl.1 rfl (Nat.le_of_ble_eq_true rfl) dX6_meet_53 ⟨Nat.zero_le _, Nat.zero_le _⟩ (fun h6 H locs hw hM hS => ?_)
  exact S_vret hx hb hr hlocks hM hS hw dX6_meet_56

/-- StrangeKnives$State.fair(LStrangeKnives$Town;I)V -/
def wpBX6_fair_18 (post : Mem → Prop) (T : TT) (a2 : Int32) (K2 : Mem → Int32 → Prop) (K18 : Mem → Int32 → Prop) (x3 : Int32) (h : Mem) (x4 : Int32) : Prop :=
  (((nI (T 0 0)) ≤ x4 → K2 h (x3 + (1 : Int32))) ∧ (¬ (nI (T 0 0)) ≤ x4 → ((((a2 >>> (x3 &&& 31)) &&& (1 : Int32)) = (1 : Int32) → ((((a2 >>> (x4 &&& 31)) &&& (1 : Int32)) = (1 : Int32) → (wpX6_meet (fun h5 => K18 h5 (x4 + (1 : Int32))) h T x3 x4 (h 3 0))) ∧ (¬ ((a2 >>> (x4 &&& 31)) &&& (1 : Int32)) = (1 : Int32) → K18 h (x4 + (1 : Int32))))) ∧ (¬ ((a2 >>> (x3 &&& 31)) &&& (1 : Int32)) = (1 : Int32) → K18 h (x4 + (1 : Int32))))))
def wpLX6_fair_18 (post : Mem → Prop) (T : TT) (a2 : Int32) (K2 : Mem → Int32 → Prop) (x3 : Int32) : Nat → (Mem × Int32) → Prop := LW (fun K s => wpBX6_fair_18 post T a2 K2 (fun h x4 => K (h, x4)) x3 s.1 s.2)
def wpBX6_fair_2 (post : Mem → Prop) (T : TT) (a2 : Int32)  (K2 : Mem → Int32 → Prop)  (h : Mem) (x3 : Int32) : Prop :=
  (((nI (T 0 0)) ≤ x3 → post h) ∧ (¬ (nI (T 0 0)) ≤ x3 → (∃ n, wpLX6_fair_18 post T a2 K2 x3 n (h, (x3 + (1 : Int32))))))
def wpLX6_fair_2 (post : Mem → Prop) (T : TT) (a2 : Int32)   : Nat → (Mem × Int32) → Prop := LW (fun K s => wpBX6_fair_2 post T a2  (fun h x3 => K (h, x3))  s.1 s.2)
def wpX6_fair (post : Mem → Prop) (h : Mem) (T : TT) (a2 : Int32) : Prop :=
  (∃ n, wpLX6_fair_2 post T a2   n (h, (0 : Int32)))
set_option maxHeartbeats 4000000 in
set_option maxRecDepth 100000 in
theorem metX6_fair (l : Launch) (D : va_G) (cA : Nat → ClassId) (z0 : Nat) (E : Nat → Nat → Nat) (tw : Nat → Nat) (N : Nat → Prop) (vo : Nat) (sa : Nat → Nat) (h : Mem) (T : TT) (a2 : Int32) (post : Mem → Prop) (hw : wpX6_fair post h T a2) : MeSV l D cA z0 E T tw vo N sa yX6_fair (ws_ yX6_fair cX6_fair 5 none) ({ frames := 4, cells := 0, slots := 0, locals := 88 }) [.ref (sa 5), .ref (tw 9), .int a2] h post := by
  refine Met.ofW (cc := cX6_fair) (maxL := 5) (ret := none) (by decide) rfl ?_
  intro p e s m args below meth c s₁ B hml hv
  obtain ⟨rfl, hv⟩ := hv
  have hx := B.exec
  have hb := B.bytes
  have hr := B.returns
  have hts := atoms_spec (ws := ws_ yX6_fair cX6_fair 5 none) B.pre
  have hts : ∀ w ∈ lw_all, w.before _ s = true := fun w h => hts w (List.mem_cons_of_mem _ h)
  have hown : s.vm.findClass RX6 = some m.cls := findClass_of_methodNamed B.named
  have hlocks := B.notSynchronized
  have hl := lv_entry ([.ref (sa 5), .ref (tw 9), .int a2]) (n := 5) (Nat.le_of_ble_eq_true rfl)
  rw [lg_entry_eq]
  generalize (lg_sl ([.ref (sa 5), .ref (tw 9), .int a2]) ++ List.replicate (5 - (lg_sl ([.ref (sa 5), .ref (tw 9), .int a2])).length) Slot.unset).toArray = ls at hl ⊢
  have hl : lv_has ls 5 [(0, .ref (sa 5)), (1, .ref (tw 9)), (2, .int a2)] := hl
  obtain ⟨hM, hJ, hN, hT, hK, hZ⟩ := hv
  have hNA : ∀ q, N q → q < s.heap.size → ¬ SA sa q := fun q h _ => hN q h
  have hS : va_S (SA sa) s.heap s.heap [] := va_S.rf
  have hL2 : ∀  (n2 : Nat) (h : Mem) (x3 : Int32), wpLX6_fair_2 post T a2   n2 (h, x3) → JS p l e (headSpec (ws_ yX6_fair cX6_fair 5 none) ({ frames := 4, cells := 0, slots := 0, locals := 88 })).room s m ([.ref (sa 5), .ref (tw 9), .int a2] : List Value).toArray below meth c (MQ below (va_Qv post (fun h' t => SW D cA sa h' t.heap) (SA sa)) ([.ref (sa 5), .ref (tw 9), .int a2] : List Value).toArray s 0 0 (SA sa)) D cA sa 5 2 h [(0, .ref (sa 5)), (1, .ref (tw 9)), (2, .int a2), (3, .int x3)] [] := by
    intro  n2
    induction n2 with
    | zero => intro h x3 hw; exact False.elim hw
    | succ n2 ih2 =>
      have hL18 : ∀ (x3 : Int32) (n18 : Nat) (h : Mem) (x4 : Int32), wpLX6_fair_18 post T a2 (fun h x3 => wpLX6_fair_2 post T a2   n2 (h, x3)) x3 n18 (h, x4) → JS p l e (headSpec (ws_ yX6_fair cX6_fair 5 none) ({ frames := 4, cells := 0, slots := 0, locals := 88 })).room s m ([.ref (sa 5), .ref (tw 9), .int a2] : List Value).toArray below meth c (MQ below (va_Qv post (fun h' t => SW D cA sa h' t.heap) (SA sa)) ([.ref (sa 5), .ref (tw 9), .int a2] : List Value).toArray s 0 0 (SA sa)) D cA sa 5 18 h [(0, .ref (sa 5)), (1, .ref (tw 9)), (2, .int a2), (3, .int x3), (4, .int x4)] [] := by
        intro x3 n18
        induction n18 with
        | zero => intro h x4 hw; exact False.elim hw
        | succ n18 ih18 =>
          intro h x4 hw H locs ls hM hS hl
          have hw : wpBX6_fair_18 post T a2 (fun h x3 => wpLX6_fair_2 post T a2   n2 (h, x3)) (fun h x4 => wpLX6_fair_18 post T a2 (fun h x3 => wpLX6_fair_2 post T a2   n2 (h, x3)) x3 n18 (h, x4)) x3 h x4 := hw
          unfold wpBX6_fair_18 at hw
          refine lv_iload hx hb dX6_fair_18 (lv_at hl 4 rfl) ?_
          refine lv_aload_n hx hb dX6_fair_20 rfl (lv_at hl 1 rfl) ?_
          refine T_fldN hx hb hts hown hK (hT.at hS hNA) 3 (v := .ref (tw 0)) (by decide) (hZ.2.1.nF 37 rfl) (fun _ _ => rfl) dX6_fair_21 ?_
          refine T_psize ⟨hx, hb, hml, hown, hts⟩ hS hK (hT.at hS hNA) q711 ⟨Nat.le_of_ble_eq_true rfl, Nat.le_of_ble_eq_true rfl⟩ hl.1 (Nat.le_of_ble_eq_true rfl) dX6_fair_24 ⟨Nat.zero_le _, Nat.zero_le _⟩ (fun H locs hk hS => ?_)
          have hM := hM.kept hk
          refine lv_icmp_ge (tgt := 67) hx hb dX6_fair_27 (by decide) (fun c2 => ?_) (fun c2 => ?_)
          · have hw := hw.1 c2
            refine lv_iinc (v := (x3 + (1 : Int32))) (lv' := [(3, .int (x3 + (1 : Int32))), (0, .ref (sa 5)), (1, .ref (tw 9)), (2, .int a2), (4, .int x4)]) hx hb dX6_fair_67 hl (k := 3) rfl rfl (by decide) rfl (fun ls hl => ?_)
            refine lv_goto (tgt := 2) hx hb dX6_fair_70 (by decide) ?_
            exact ih2 h (x3 + (1 : Int32)) hw _ _ ls hM hS (lv_sub hl [1, 2, 3, 0] rfl)
          · have hw := hw.2 c2
            refine lv_iload_n hx hb dX6_fair_30 rfl (lv_at hl 2 rfl) ?_
            refine lv_iload_n hx hb dX6_fair_31 rfl (lv_at hl 3 rfl) ?_
            refine lv_ishr hx hb dX6_fair_32 ?_
            refine lv_iconst (v := (1 : Int32)) hx hb dX6_fair_33 (by decide) ?_
            refine lv_iand hx hb dX6_fair_34 ?_
            refine lv_iconst (v := (1 : Int32)) hx hb dX6_fair_35 (by decide) ?_
            refine lv_icmp_ne (tgt := 61) hx hb dX6_fair_36 (by decide) (fun c3 => ?_) (fun c3 => ?_)
            · have hw := hw.2 c3
              refine lv_iinc (v := (x4 + (1 : Int32))) (lv' := [(4, .int (x4 + (1 : Int32))), (0, .ref (sa 5)), (1, .ref (tw 9)), (2, .int a2), (3, .int x3)]) hx hb dX6_fair_61 hl (k := 4) rfl rfl (by decide) rfl (fun ls hl => ?_)
              refine lv_goto (tgt := 18) hx hb dX6_fair_64 (by decide) ?_
              exact ih18 h (x4 + (1 : Int32)) hw _ _ ls hM hS (lv_sub hl [1, 2, 3, 4, 0] rfl)
            · have hw := hw.1 c3
              refine lv_iload_n hx hb dX6_fair_39 rfl (lv_at hl 2 rfl) ?_
              refine lv_iload hx hb dX6_fair_40 (lv_at hl 4 rfl) ?_
              refine lv_ishr hx hb dX6_fair_42 ?_
              refine lv_iconst (v := (1 : Int32)) hx hb dX6_fair_43 (by decide) ?_
              refine lv_iand hx hb dX6_fair_44 ?_
              refine lv_iconst (v := (1 : Int32)) hx hb dX6_fair_45 (by decide) ?_
              refine lv_icmp_ne (tgt := 61) hx hb dX6_fair_46 (by decide) (fun c4 => ?_) (fun c4 => ?_)
              · have hw := hw.2 c4
                refine lv_iinc (v := (x4 + (1 : Int32))) (lv' := [(4, .int (x4 + (1 : Int32))), (0, .ref (sa 5)), (1, .ref (tw 9)), (2, .int a2), (3, .int x3)]) hx hb dX6_fair_61 hl (k := 4) rfl rfl (by decide) rfl (fun ls hl => ?_)
                refine lv_goto (tgt := 18) hx hb dX6_fair_64 (by decide) ?_
                exact ih18 h (x4 + (1 : Int32)) hw _ _ ls hM hS (lv_sub hl [1, 2, 3, 4, 0] rfl)
              · have hw := hw.1 c4
                refine lv_aload_n hx hb dX6_fair_49 rfl (lv_at hl 0 rfl) ?_
                refine lv_aload_n hx hb dX6_fair_50 rfl (lv_at hl 1 rfl) ?_
                refine lv_iload_n hx hb dX6_fair_51 rfl (lv_at hl 3 rfl) ?_
                refine lv_iload hx hb dX6_fair_52 (lv_at hl 4 rfl) ?_
                refine lv_aload_n hx hb dX6_fair_54 rfl (lv_at hl 0 rfl) ?_
                refine S_get5 hx hb hts hown hK hM 3 (v := .int (h 3 0)) (by decide) (hts _ q586) rfl dX6_fair_55 ?_
                refine SS_callV (As := [.ref (tw 9), .int x3, .int x4, .int (h 3 0)]) (rest := []) ⟨hx, hb, hml, hown, hts⟩ hK hZ hT hN hM hJ hS (metX6_meet l D cA z0 E tw N vo sa h T x3 x4 (h 3 0) _ hw) (cwV 4 hts (lw_V q715 q716 q717 q129 q718) rfl rfl rfl (by decide +kernel) ⟨Nat.le_of_ble_eq_true rfl, Nat.le_of_ble_eq_true rfl⟩) rfl hl.1 rfl (Nat.le_of_ble_eq_true rfl) dX6_fair_58 ⟨Nat.zero_le _, Nat.zero_le _⟩ (fun h5 H locs hw hM hS => ?_)
                refine lv_iinc (v := (x4 + (1 : Int32))) (lv' := [(4, .int (x4 + (1 : Int32))), (0, .ref (sa 5)), (1, .ref (tw 9)), (2, .int a2), (3, .int x3)]) hx hb dX6_fair_61 hl (k := 4) rfl rfl (by decide) rfl (fun ls hl => ?_)
                refine lv_goto (tgt := 18) hx hb dX6_fair_64 (by decide) ?_
                exact ih18 h5 (x4 + (1 : Int32)) hw _ _ ls hM hS (lv_sub hl [1, 2, 3, 4, 0] rfl)
      intro h x3 hw H locs ls hM hS hl
      have hw : wpBX6_fair_2 post T a2  (fun h x3 => wpLX6_fair_2 post T a2   n2 (h, x3))  h x3 := hw
      unfold wpBX6_fair_2 at hw
      refine lv_iload_n hx hb dX6_fair_2 rfl (lv_at hl 3 rfl) ?_
      refine lv_aload_n hx hb dX6_fair_3 rfl (lv_at hl 1 rfl) ?_
      refine T_fldN hx hb hts hown hK (hT.at hS hNA) 3 (v := .ref (tw 0)) (by decide) (hZ.2.1.nF 37 rfl) (fun _ _ => rfl) dX6_fair_4 ?_
      refine T_psize ⟨hx, hb, hml, hown, hts⟩ hS hK (hT.at hS hNA) q711 ⟨Nat.le_of_ble_eq_true rfl, Nat.le_of_ble_eq_true rfl⟩ hl.1 (Nat.le_of_ble_eq_true rfl) dX6_fair_7 ⟨Nat.zero_le _, Nat.zero_le _⟩ (fun H locs hk hS => ?_)
      have hM := hM.kept hk
      refine lv_icmp_ge (tgt := 73) hx hb dX6_fair_10 (by decide) (fun c1 => ?_) (fun c1 => ?_)
      · have hw := hw.1 c1
        exact S_vret hx hb hr hlocks hM hS hw dX6_fair_73
      · have hw := hw.2 c1
        refine lv_iload_n hx hb dX6_fair_13 rfl (lv_at hl 3 rfl) ?_
        refine lv_iconst (v := (1 : Int32)) hx hb dX6_fair_14 (by decide) ?_
        refine lv_iadd hx hb dX6_fair_15 ?_
        refine lv_istore (lv' := [(4, .int (x3 + (1 : Int32))), (0, .ref (sa 5)), (1, .ref (tw 9)), (2, .int a2), (3, .int x3)]) hx hb dX6_fair_16 hl (by decide) rfl (fun ls hl => ?_)
        obtain ⟨n6, hw⟩ := hw
        exact hL18 x3 n6 h (x3 + (1 : Int32)) hw _ _ ls hM hS (lv_sub hl [1, 2, 3, 4, 0] rfl)
  unfold wpX6_fair at hw
  refine lv_iconst (v := (0 : Int32)) hx hb dX6_fair_0 (by decide) ?_
  refine lv_istore_n (lv' := [(3, .int (0 : Int32)), (0, .ref (sa 5)), (1, .ref (tw 9)), (2, .int a2)]) hx hb dX6_fair_1 rfl hl (by decide) rfl (fun ls hl => ?_)
  obtain ⟨n7, hw⟩ := hw
  exact hL2 n7 h (0 : Int32) hw _ _ ls hM hS (lv_sub hl [1, 2, 3, 0] rfl)

/-- StrangeKnives$State.begins(LStrangeKnives$Town;)V -/
def wpBX6_begins_94 (post : Mem → Prop) (T : TT) (K79 : Mem → Int32 → Prop) (K94 : Mem → Int32 → Prop) (x2 : Int32) (h : Mem) (x3 : Int32) : Prop :=
  (((nI (T 0 0)) ≤ x3 → K79 h (x2 + (1 : Int32))) ∧ (¬ (nI (T 0 0)) ≤ x3 → (vp_in (((8 : Int32) * x2) + x3) (64) ∧ (((agI T (ix (((8 : Int32) * x2) + x3))) = (-1 : Int32) → K94 h (x3 + (1 : Int32))) ∧ (¬ (agI T (ix (((8 : Int32) * x2) + x3))) = (-1 : Int32) → (wpX6_meet (fun h10 => K94 h10 (x3 + (1 : Int32))) h T x2 x3 (-(agI T (ix (((8 : Int32) * x2) + x3))))))))))
def wpLX6_begins_94 (post : Mem → Prop) (T : TT) (K79 : Mem → Int32 → Prop) (x2 : Int32) : Nat → (Mem × Int32) → Prop := LW (fun K s => wpBX6_begins_94 post T K79 (fun h x3 => K (h, x3)) x2 s.1 s.2)
def wpBX6_begins_79 (post : Mem → Prop) (T : TT)  (K79 : Mem → Int32 → Prop)  (h : Mem) (x2 : Int32) : Prop :=
  (((nI (T 0 0)) ≤ x2 → post h) ∧ (¬ (nI (T 0 0)) ≤ x2 → (∃ n, wpLX6_begins_94 post T K79 x2 n (h, (x2 + (1 : Int32))))))
def wpLX6_begins_79 (post : Mem → Prop) (T : TT)   : Nat → (Mem × Int32) → Prop := LW (fun K s => wpBX6_begins_79 post T  (fun h x2 => K (h, x2))  s.1 s.2)
def wpBX6_begins_58 (post : Mem → Prop) (T : TT)  (K58 : Mem → Int32 → Prop)  (h : Mem) (x2 : Int32) : Prop :=
  (((8 : Int32) ≤ x2 → (∃ n, wpLX6_begins_79 post T   n (h, (0 : Int32)))) ∧ (¬ (8 : Int32) ≤ x2 → (vp_in x2 (Slen 2) ∧ (∀ h14 : Mem, h14 = up2 h 2 (ix x2) (0 : Int32) → K58 h14 (x2 + (1 : Int32))))))
def wpLX6_begins_58 (post : Mem → Prop) (T : TT)   : Nat → (Mem × Int32) → Prop := LW (fun K s => wpBX6_begins_58 post T  (fun h x2 => K (h, x2))  s.1 s.2)
def wpBX6_begins_37 (post : Mem → Prop) (T : TT)  (K37 : Mem → Int32 → Prop)  (h : Mem) (x2 : Int32) : Prop :=
  (((6 : Int32) ≤ x2 → (∃ n, wpLX6_begins_58 post T   n (h, (0 : Int32)))) ∧ (¬ (6 : Int32) ≤ x2 → (vp_in x2 (Slen 1) ∧ (∀ h17 : Mem, h17 = up2 h 1 (ix x2) (-1 : Int32) → K37 h17 (x2 + (1 : Int32))))))
def wpLX6_begins_37 (post : Mem → Prop) (T : TT)   : Nat → (Mem × Int32) → Prop := LW (fun K s => wpBX6_begins_37 post T  (fun h x2 => K (h, x2))  s.1 s.2)
def wpBX6_begins_12 (post : Mem → Prop) (T : TT)  (K12 : Mem → Int32 → Prop)  (h : Mem) (x2 : Int32) : Prop :=
  (((nI (Slen 0)) ≤ x2 → (∃ n, wpLX6_begins_37 post T   n (h, (0 : Int32)))) ∧ (¬ (nI (Slen 0)) ≤ x2 → (vp_in x2 (Slen 0) ∧ (∀ h20 : Mem, h20 = up2 h 0 (ix x2) (-100000 : Int32) → K12 h20 (x2 + (1 : Int32))))))
def wpLX6_begins_12 (post : Mem → Prop) (T : TT)   : Nat → (Mem × Int32) → Prop := LW (fun K s => wpBX6_begins_12 post T  (fun h x2 => K (h, x2))  s.1 s.2)
def wpX6_begins (post : Mem → Prop) (h : Mem) (T : TT) : Prop :=
  (∀ h1 : Mem, h1 = up2 h 3 0 (0 : Int32) → (∀ h2 : Mem, h2 = up2 h1 4 0 (0 : Int32) → (∃ n, wpLX6_begins_12 post T   n (h2, (0 : Int32)))))
set_option maxHeartbeats 4000000 in
set_option maxRecDepth 100000 in
theorem metX6_begins (l : Launch) (D : va_G) (cA : Nat → ClassId) (z0 : Nat) (E : Nat → Nat → Nat) (tw : Nat → Nat) (N : Nat → Prop) (vo : Nat) (sa : Nat → Nat) (h : Mem) (T : TT) (post : Mem → Prop) (hw : wpX6_begins post h T) : MeSV l D cA z0 E T tw vo N sa yX6_begins (ws_ yX6_begins cX6_begins 4 none) ({ frames := 4, cells := 0, slots := 0, locals := 88 }) [.ref (sa 5), .ref (tw 9)] h post := by
  refine Met.ofW (cc := cX6_begins) (maxL := 4) (ret := none) (by decide) rfl ?_
  intro p e s m args below meth c s₁ B hml hv
  obtain ⟨rfl, hv⟩ := hv
  have hx := B.exec
  have hb := B.bytes
  have hr := B.returns
  have hts := atoms_spec (ws := ws_ yX6_begins cX6_begins 4 none) B.pre
  have hts : ∀ w ∈ lw_all, w.before _ s = true := fun w h => hts w (List.mem_cons_of_mem _ h)
  have hown : s.vm.findClass RX6 = some m.cls := findClass_of_methodNamed B.named
  have hlocks := B.notSynchronized
  have hl := lv_entry ([.ref (sa 5), .ref (tw 9)]) (n := 4) (Nat.le_of_ble_eq_true rfl)
  rw [lg_entry_eq]
  generalize (lg_sl ([.ref (sa 5), .ref (tw 9)]) ++ List.replicate (4 - (lg_sl ([.ref (sa 5), .ref (tw 9)])).length) Slot.unset).toArray = ls at hl ⊢
  have hl : lv_has ls 4 [(0, .ref (sa 5)), (1, .ref (tw 9))] := hl
  obtain ⟨hM, hJ, hN, hT, hK, hZ⟩ := hv
  have hNA : ∀ q, N q → q < s.heap.size → ¬ SA sa q := fun q h _ => hN q h
  have hS : va_S (SA sa) s.heap s.heap [] := va_S.rf
  have hL79 : ∀  (n79 : Nat) (h : Mem) (x2 : Int32), wpLX6_begins_79 post T   n79 (h, x2) → JS p l e (headSpec (ws_ yX6_begins cX6_begins 4 none) ({ frames := 4, cells := 0, slots := 0, locals := 88 })).room s m ([.ref (sa 5), .ref (tw 9)] : List Value).toArray below meth c (MQ below (va_Qv post (fun h' t => SW D cA sa h' t.heap) (SA sa)) ([.ref (sa 5), .ref (tw 9)] : List Value).toArray s 0 0 (SA sa)) D cA sa 4 79 h [(0, .ref (sa 5)), (1, .ref (tw 9)), (2, .int x2)] [] := by
    intro  n79
    induction n79 with
    | zero => intro h x2 hw; exact False.elim hw
    | succ n79 ih79 =>
      have hL94 : ∀ (x2 : Int32) (n94 : Nat) (h : Mem) (x3 : Int32), wpLX6_begins_94 post T (fun h x2 => wpLX6_begins_79 post T   n79 (h, x2)) x2 n94 (h, x3) → JS p l e (headSpec (ws_ yX6_begins cX6_begins 4 none) ({ frames := 4, cells := 0, slots := 0, locals := 88 })).room s m ([.ref (sa 5), .ref (tw 9)] : List Value).toArray below meth c (MQ below (va_Qv post (fun h' t => SW D cA sa h' t.heap) (SA sa)) ([.ref (sa 5), .ref (tw 9)] : List Value).toArray s 0 0 (SA sa)) D cA sa 4 94 h [(0, .ref (sa 5)), (1, .ref (tw 9)), (2, .int x2), (3, .int x3)] [] := by
        intro x2 n94
        induction n94 with
        | zero => intro h x3 hw; exact False.elim hw
        | succ n94 ih94 =>
          intro h x3 hw H locs ls hM hS hl
          have hw : wpBX6_begins_94 post T (fun h x2 => wpLX6_begins_79 post T   n79 (h, x2)) (fun h x3 => wpLX6_begins_94 post T (fun h x2 => wpLX6_begins_79 post T   n79 (h, x2)) x2 n94 (h, x3)) x2 h x3 := hw
          unfold wpBX6_begins_94 at hw
          refine lv_iload_n hx hb dX6_begins_94 rfl (lv_at hl 3 rfl) ?_
          refine lv_aload_n hx hb dX6_begins_95 rfl (lv_at hl 1 rfl) ?_
          refine T_fldN hx hb hts hown hK (hT.at hS hNA) 3 (v := .ref (tw 0)) (by decide) (hZ.2.1.nF 37 rfl) (fun _ _ => rfl) dX6_begins_96 ?_
          refine T_psize ⟨hx, hb, hml, hown, hts⟩ hS hK (hT.at hS hNA) q711 ⟨Nat.le_of_ble_eq_true rfl, Nat.le_of_ble_eq_true rfl⟩ hl.1 (Nat.le_of_ble_eq_true rfl) dX6_begins_99 ⟨Nat.zero_le _, Nat.zero_le _⟩ (fun H locs hk hS => ?_)
          have hM := hM.kept hk
          refine lv_icmp_ge (tgt := 145) hx hb dX6_begins_102 (by decide) (fun c7 => ?_) (fun c7 => ?_)
          · have hw := hw.1 c7
            refine lv_iinc (v := (x2 + (1 : Int32))) (lv' := [(2, .int (x2 + (1 : Int32))), (0, .ref (sa 5)), (1, .ref (tw 9)), (3, .int x3)]) hx hb dX6_begins_145 hl (k := 2) rfl rfl (by decide) rfl (fun ls hl => ?_)
            refine lv_goto (tgt := 79) hx hb dX6_begins_148 (by decide) ?_
            exact ih79 h (x2 + (1 : Int32)) hw _ _ ls hM hS (lv_sub hl [1, 2, 0] rfl)
          · have hw := hw.2 c7
            refine lv_aload_n hx hb dX6_begins_105 rfl (lv_at hl 1 rfl) ?_
            refine T_fldN hx hb hts hown hK (hT.at hS hNA) 6 (v := .ref (tw 5)) (by decide) (hZ.2.1.nF 38 rfl) (fun _ _ => rfl) dX6_begins_106 ?_
            refine lv_bipush (v := (8 : Int32)) hx hb dX6_begins_109 (by decide) ?_
            refine lv_iload_n hx hb dX6_begins_111 rfl (lv_at hl 2 rfl) ?_
            refine lv_imul hx hb dX6_begins_112 ?_
            refine lv_iload_n hx hb dX6_begins_113 rfl (lv_at hl 3 rfl) ?_
            refine lv_iadd hx hb dX6_begins_114 ?_
            obtain ⟨hv8, hw⟩ := hw
            refine T_ago hx hb hK (hT.at hS hNA) hv8 dX6_begins_115 ?_
            refine lv_iconst (v := (-1 : Int32)) hx hb dX6_begins_116 (by decide) ?_
            refine lv_icmp_eq (tgt := 139) hx hb dX6_begins_117 (by decide) (fun c9 => ?_) (fun c9 => ?_)
            · have hw := hw.1 c9
              refine lv_iinc (v := (x3 + (1 : Int32))) (lv' := [(3, .int (x3 + (1 : Int32))), (0, .ref (sa 5)), (1, .ref (tw 9)), (2, .int x2)]) hx hb dX6_begins_139 hl (k := 3) rfl rfl (by decide) rfl (fun ls hl => ?_)
              refine lv_goto (tgt := 94) hx hb dX6_begins_142 (by decide) ?_
              exact ih94 h (x3 + (1 : Int32)) hw _ _ ls hM hS (lv_sub hl [1, 2, 3, 0] rfl)
            · have hw := hw.2 c9
              refine lv_aload_n hx hb dX6_begins_120 rfl (lv_at hl 0 rfl) ?_
              refine lv_aload_n hx hb dX6_begins_121 rfl (lv_at hl 1 rfl) ?_
              refine lv_iload_n hx hb dX6_begins_122 rfl (lv_at hl 2 rfl) ?_
              refine lv_iload_n hx hb dX6_begins_123 rfl (lv_at hl 3 rfl) ?_
              refine lv_aload_n hx hb dX6_begins_124 rfl (lv_at hl 1 rfl) ?_
              refine T_fldN hx hb hts hown hK (hT.at hS hNA) 6 (v := .ref (tw 5)) (by decide) (hZ.2.1.nF 38 rfl) (fun _ _ => rfl) dX6_begins_125 ?_
              refine lv_bipush (v := (8 : Int32)) hx hb dX6_begins_128 (by decide) ?_
              refine lv_iload_n hx hb dX6_begins_130 rfl (lv_at hl 2 rfl) ?_
              refine lv_imul hx hb dX6_begins_131 ?_
              refine lv_iload_n hx hb dX6_begins_132 rfl (lv_at hl 3 rfl) ?_
              refine lv_iadd hx hb dX6_begins_133 ?_
              refine T_ago hx hb hK (hT.at hS hNA) hv8 dX6_begins_134 ?_
              refine lv_ineg hx hb dX6_begins_135 ?_
              refine SS_callV (As := [.ref (tw 9), .int x2, .int x3, .int (-(agI T (ix (((8 : Int32) * x2) + x3))))]) (rest := []) ⟨hx, hb, hml, hown, hts⟩ hK hZ hT hN hM hJ hS (metX6_meet l D cA z0 E tw N vo sa h T x2 x3 (-(agI T (ix (((8 : Int32) * x2) + x3)))) _ hw) (cwV 4 hts (lw_V q715 q716 q717 q129 q718) rfl rfl rfl (by decide +kernel) ⟨Nat.le_of_ble_eq_true rfl, Nat.le_of_ble_eq_true rfl⟩) rfl hl.1 rfl (Nat.le_of_ble_eq_true rfl) dX6_begins_136 ⟨Nat.zero_le _, Nat.zero_le _⟩ (fun h10 H locs hw hM hS => ?_)
              refine lv_iinc (v := (x3 + (1 : Int32))) (lv' := [(3, .int (x3 + (1 : Int32))), (0, .ref (sa 5)), (1, .ref (tw 9)), (2, .int x2)]) hx hb dX6_begins_139 hl (k := 3) rfl rfl (by decide) rfl (fun ls hl => ?_)
              refine lv_goto (tgt := 94) hx hb dX6_begins_142 (by decide) ?_
              exact ih94 h10 (x3 + (1 : Int32)) hw _ _ ls hM hS (lv_sub hl [1, 2, 3, 0] rfl)
      intro h x2 hw H locs ls hM hS hl
      have hw : wpBX6_begins_79 post T  (fun h x2 => wpLX6_begins_79 post T   n79 (h, x2))  h x2 := hw
      unfold wpBX6_begins_79 at hw
      refine lv_iload_n hx hb dX6_begins_79 rfl (lv_at hl 2 rfl) ?_
      refine lv_aload_n hx hb dX6_begins_80 rfl (lv_at hl 1 rfl) ?_
      refine T_fldN hx hb hts hown hK (hT.at hS hNA) 3 (v := .ref (tw 0)) (by decide) (hZ.2.1.nF 37 rfl) (fun _ _ => rfl) dX6_begins_81 ?_
      refine T_psize ⟨hx, hb, hml, hown, hts⟩ hS hK (hT.at hS hNA) q711 ⟨Nat.le_of_ble_eq_true rfl, Nat.le_of_ble_eq_true rfl⟩ hl.1 (Nat.le_of_ble_eq_true rfl) dX6_begins_84 ⟨Nat.zero_le _, Nat.zero_le _⟩ (fun H locs hk hS => ?_)
      have hM := hM.kept hk
      refine lv_icmp_ge (tgt := 151) hx hb dX6_begins_87 (by decide) (fun c6 => ?_) (fun c6 => ?_)
      · have hw := hw.1 c6
        exact S_vret hx hb hr hlocks hM hS hw dX6_begins_151
      · have hw := hw.2 c6
        refine lv_iload_n hx hb dX6_begins_90 rfl (lv_at hl 2 rfl) ?_
        refine lv_iconst (v := (1 : Int32)) hx hb dX6_begins_91 (by decide) ?_
        refine lv_iadd hx hb dX6_begins_92 ?_
        refine lv_istore_n (lv' := [(3, .int (x2 + (1 : Int32))), (0, .ref (sa 5)), (1, .ref (tw 9)), (2, .int x2)]) hx hb dX6_begins_93 rfl hl (by decide) rfl (fun ls hl => ?_)
        obtain ⟨n11, hw⟩ := hw
        exact hL94 x2 n11 h (x2 + (1 : Int32)) hw _ _ ls hM hS (lv_sub hl [1, 2, 3, 0] rfl)
  have hL58 : ∀  (n58 : Nat) (h : Mem) (x2 : Int32), wpLX6_begins_58 post T   n58 (h, x2) → JS p l e (headSpec (ws_ yX6_begins cX6_begins 4 none) ({ frames := 4, cells := 0, slots := 0, locals := 88 })).room s m ([.ref (sa 5), .ref (tw 9)] : List Value).toArray below meth c (MQ below (va_Qv post (fun h' t => SW D cA sa h' t.heap) (SA sa)) ([.ref (sa 5), .ref (tw 9)] : List Value).toArray s 0 0 (SA sa)) D cA sa 4 58 h [(0, .ref (sa 5)), (1, .ref (tw 9)), (2, .int x2)] [] := by
    intro  n58
    induction n58 with
    | zero => intro h x2 hw; exact False.elim hw
    | succ n58 ih58 =>
      intro h x2 hw H locs ls hM hS hl
      have hw : wpBX6_begins_58 post T  (fun h x2 => wpLX6_begins_58 post T   n58 (h, x2))  h x2 := hw
      unfold wpBX6_begins_58 at hw
      refine lv_iload_n hx hb dX6_begins_58 rfl (lv_at hl 2 rfl) ?_
      refine lv_bipush (v := (8 : Int32)) hx hb dX6_begins_59 (by decide) ?_
      refine lv_icmp_ge (tgt := 77) hx hb dX6_begins_61 (by decide) (fun c5 => ?_) (fun c5 => ?_)
      · have hw := hw.1 c5
        refine lv_iconst (v := (0 : Int32)) hx hb dX6_begins_77 (by decide) ?_
        refine lv_istore_n (lv' := [(2, .int (0 : Int32)), (0, .ref (sa 5)), (1, .ref (tw 9))]) hx hb dX6_begins_78 rfl hl (by decide) rfl (fun ls hl => ?_)
        obtain ⟨n12, hw⟩ := hw
        exact hL79 n12 h (0 : Int32) hw _ _ ls hM hS (lv_sub hl [1, 2, 0] rfl)
      · have hw := hw.2 c5
        refine lv_aload_n hx hb dX6_begins_64 rfl (lv_at hl 0 rfl) ?_
        refine S_get5 hx hb hts hown hK hM 2 (v := .ref (sa 2)) (by decide) (hts _ q584) rfl dX6_begins_65 ?_
        refine lv_iload_n hx hb dX6_begins_68 rfl (lv_at hl 2 rfl) ?_
        refine lv_iconst (v := (0 : Int32)) hx hb dX6_begins_69 (by decide) ?_
        obtain ⟨hv13, hw⟩ := hw
        refine S_iast hx hb hK hM hJ (fun _ h => h) hS 2 rfl (j := (ix x2)) rfl hv13 dX6_begins_70 (fun H locs hM hS => ?_)
        obtain ⟨h14, eh14⟩ : ∃ y : Mem, y = up2 h 2 (ix x2) (0 : Int32) := ⟨_, rfl⟩
        rw [← eh14] at hM
        have hw := hw h14 eh14
        refine lv_iinc (v := (x2 + (1 : Int32))) (lv' := [(2, .int (x2 + (1 : Int32))), (0, .ref (sa 5)), (1, .ref (tw 9))]) hx hb dX6_begins_71 hl (k := 2) rfl rfl (by decide) rfl (fun ls hl => ?_)
        refine lv_goto (tgt := 58) hx hb dX6_begins_74 (by decide) ?_
        exact ih58 h14 (x2 + (1 : Int32)) hw _ _ ls hM hS (lv_sub hl [1, 2, 0] rfl)
  have hL37 : ∀  (n37 : Nat) (h : Mem) (x2 : Int32), wpLX6_begins_37 post T   n37 (h, x2) → JS p l e (headSpec (ws_ yX6_begins cX6_begins 4 none) ({ frames := 4, cells := 0, slots := 0, locals := 88 })).room s m ([.ref (sa 5), .ref (tw 9)] : List Value).toArray below meth c (MQ below (va_Qv post (fun h' t => SW D cA sa h' t.heap) (SA sa)) ([.ref (sa 5), .ref (tw 9)] : List Value).toArray s 0 0 (SA sa)) D cA sa 4 37 h [(0, .ref (sa 5)), (1, .ref (tw 9)), (2, .int x2)] [] := by
    intro  n37
    induction n37 with
    | zero => intro h x2 hw; exact False.elim hw
    | succ n37 ih37 =>
      intro h x2 hw H locs ls hM hS hl
      have hw : wpBX6_begins_37 post T  (fun h x2 => wpLX6_begins_37 post T   n37 (h, x2))  h x2 := hw
      unfold wpBX6_begins_37 at hw
      refine lv_iload_n hx hb dX6_begins_37 rfl (lv_at hl 2 rfl) ?_
      refine lv_bipush (v := (6 : Int32)) hx hb dX6_begins_38 (by decide) ?_
      refine lv_icmp_ge (tgt := 56) hx hb dX6_begins_40 (by decide) (fun c4 => ?_) (fun c4 => ?_)
      · have hw := hw.1 c4
        refine lv_iconst (v := (0 : Int32)) hx hb dX6_begins_56 (by decide) ?_
        refine lv_istore_n (lv' := [(2, .int (0 : Int32)), (0, .ref (sa 5)), (1, .ref (tw 9))]) hx hb dX6_begins_57 rfl hl (by decide) rfl (fun ls hl => ?_)
        obtain ⟨n15, hw⟩ := hw
        exact hL58 n15 h (0 : Int32) hw _ _ ls hM hS (lv_sub hl [1, 2, 0] rfl)
      · have hw := hw.2 c4
        refine lv_aload_n hx hb dX6_begins_43 rfl (lv_at hl 0 rfl) ?_
        refine S_get5 hx hb hts hown hK hM 1 (v := .ref (sa 1)) (by decide) (hts _ q582) rfl dX6_begins_44 ?_
        refine lv_iload_n hx hb dX6_begins_47 rfl (lv_at hl 2 rfl) ?_
        refine lv_iconst (v := (-1 : Int32)) hx hb dX6_begins_48 (by decide) ?_
        obtain ⟨hv16, hw⟩ := hw
        refine S_iast hx hb hK hM hJ (fun _ h => h) hS 1 rfl (j := (ix x2)) rfl hv16 dX6_begins_49 (fun H locs hM hS => ?_)
        obtain ⟨h17, eh17⟩ : ∃ y : Mem, y = up2 h 1 (ix x2) (-1 : Int32) := ⟨_, rfl⟩
        rw [← eh17] at hM
        have hw := hw h17 eh17
        refine lv_iinc (v := (x2 + (1 : Int32))) (lv' := [(2, .int (x2 + (1 : Int32))), (0, .ref (sa 5)), (1, .ref (tw 9))]) hx hb dX6_begins_50 hl (k := 2) rfl rfl (by decide) rfl (fun ls hl => ?_)
        refine lv_goto (tgt := 37) hx hb dX6_begins_53 (by decide) ?_
        exact ih37 h17 (x2 + (1 : Int32)) hw _ _ ls hM hS (lv_sub hl [1, 2, 0] rfl)
  have hL12 : ∀  (n12 : Nat) (h : Mem) (x2 : Int32), wpLX6_begins_12 post T   n12 (h, x2) → JS p l e (headSpec (ws_ yX6_begins cX6_begins 4 none) ({ frames := 4, cells := 0, slots := 0, locals := 88 })).room s m ([.ref (sa 5), .ref (tw 9)] : List Value).toArray below meth c (MQ below (va_Qv post (fun h' t => SW D cA sa h' t.heap) (SA sa)) ([.ref (sa 5), .ref (tw 9)] : List Value).toArray s 0 0 (SA sa)) D cA sa 4 12 h [(0, .ref (sa 5)), (1, .ref (tw 9)), (2, .int x2)] [] := by
    intro  n12
    induction n12 with
    | zero => intro h x2 hw; exact False.elim hw
    | succ n12 ih12 =>
      intro h x2 hw H locs ls hM hS hl
      have hw : wpBX6_begins_12 post T  (fun h x2 => wpLX6_begins_12 post T   n12 (h, x2))  h x2 := hw
      unfold wpBX6_begins_12 at hw
      refine lv_iload_n hx hb dX6_begins_12 rfl (lv_at hl 2 rfl) ?_
      refine lv_aload_n hx hb dX6_begins_13 rfl (lv_at hl 0 rfl) ?_
      refine S_get5 hx hb hts hown hK hM 0 (v := .ref (sa 0)) (by decide) (hts _ q580) rfl dX6_begins_14 ?_
      refine S_alen hx hb hK hM 0 rfl dX6_begins_17 ?_
      refine lv_icmp_ge (tgt := 35) hx hb dX6_begins_18 (by decide) (fun c3 => ?_) (fun c3 => ?_)
      · have hw := hw.1 c3
        refine lv_iconst (v := (0 : Int32)) hx hb dX6_begins_35 (by decide) ?_
        refine lv_istore_n (lv' := [(2, .int (0 : Int32)), (0, .ref (sa 5)), (1, .ref (tw 9))]) hx hb dX6_begins_36 rfl hl (by decide) rfl (fun ls hl => ?_)
        obtain ⟨n18, hw⟩ := hw
        exact hL37 n18 h (0 : Int32) hw _ _ ls hM hS (lv_sub hl [1, 2, 0] rfl)
      · have hw := hw.2 c3
        refine lv_aload_n hx hb dX6_begins_21 rfl (lv_at hl 0 rfl) ?_
        refine S_get5 hx hb hts hown hK hM 0 (v := .ref (sa 0)) (by decide) (hts _ q580) rfl dX6_begins_22 ?_
        refine lv_iload_n hx hb dX6_begins_25 rfl (lv_at hl 2 rfl) ?_
        refine lv_ldc hx hb hown (hts _ q710) dX6_begins_26 ?_
        obtain ⟨hv19, hw⟩ := hw
        refine S_iast hx hb hK hM hJ (fun _ h => h) hS 0 rfl (j := (ix x2)) rfl hv19 dX6_begins_28 (fun H locs hM hS => ?_)
        obtain ⟨h20, eh20⟩ : ∃ y : Mem, y = up2 h 0 (ix x2) (-100000 : Int32) := ⟨_, rfl⟩
        rw [← eh20] at hM
        have hw := hw h20 eh20
        refine lv_iinc (v := (x2 + (1 : Int32))) (lv' := [(2, .int (x2 + (1 : Int32))), (0, .ref (sa 5)), (1, .ref (tw 9))]) hx hb dX6_begins_29 hl (k := 2) rfl rfl (by decide) rfl (fun ls hl => ?_)
        refine lv_goto (tgt := 12) hx hb dX6_begins_32 (by decide) ?_
        exact ih12 h20 (x2 + (1 : Int32)) hw _ _ ls hM hS (lv_sub hl [1, 2, 0] rfl)
  unfold wpX6_begins at hw
  refine lv_aload_n hx hb dX6_begins_0 rfl (lv_at hl 0 rfl) ?_
  refine lv_iconst (v := (0 : Int32)) hx hb dX6_begins_1 (by decide) ?_
  refine S_put3 hx hb hts hown hK hM hJ (fun _ h => h) hS (hts _ q586) .int (by decide +kernel) rfl rfl dX6_begins_2 (fun H locs hM hS => ?_)
  obtain ⟨h1, eh1⟩ : ∃ y : Mem, y = up2 h 3 0 (0 : Int32) := ⟨_, rfl⟩
  rw [← eh1] at hM
  have hw := hw h1 eh1
  refine lv_aload_n hx hb dX6_begins_5 rfl (lv_at hl 0 rfl) ?_
  refine lv_iconst (v := (0 : Int32)) hx hb dX6_begins_6 (by decide) ?_
  refine S_put4 hx hb hts hown hK hM hJ (fun _ h => h) hS (hts _ q588) .int (by decide +kernel) rfl rfl dX6_begins_7 (fun H locs hM hS => ?_)
  obtain ⟨h2, eh2⟩ : ∃ y : Mem, y = up2 h1 4 0 (0 : Int32) := ⟨_, rfl⟩
  rw [← eh2] at hM
  have hw := hw h2 eh2
  refine lv_iconst (v := (0 : Int32)) hx hb dX6_begins_10 (by decide) ?_
  refine lv_istore_n (lv' := [(2, .int (0 : Int32)), (0, .ref (sa 5)), (1, .ref (tw 9))]) hx hb dX6_begins_11 rfl hl (by decide) rfl (fun ls hl => ?_)
  obtain ⟨n21, hw⟩ := hw
  exact hL12 n21 h2 (0 : Int32) hw _ _ ls hM hS (lv_sub hl [1, 2, 0] rfl)

/-- StrangeKnives.lay(I)V -/
def wpBX1_lay_3 (post : Mem → Prop) (T : TT) (a1 : Int32)  (K3 : Mem → Int32 → Prop)  (h : Mem) (x2 : Int32) : Prop :=
  ((x2 < 0 → post h) ∧ (¬ x2 < 0 → (vp_in (h 7 0) (600) ∧ (∀ h3 : Mem, h3 = up2 h 6 (ix (h 7 0)) (vp_nar .byte ((a1 >>> (x2 &&& 31)).toInt8.toInt32)) → (∀ h4 : Mem, h4 = up2 h3 7 0 ((h3 7 0) + (1 : Int32)) → K3 h4 (x2 + (-8 : Int32)))))))
def wpLX1_lay_3 (post : Mem → Prop) (T : TT) (a1 : Int32)   : Nat → (Mem × Int32) → Prop := LW (fun K s => wpBX1_lay_3 post T a1  (fun h x2 => K (h, x2))  s.1 s.2)
def wpX1_lay (post : Mem → Prop) (h : Mem) (T : TT) (a1 : Int32) : Prop :=
  (∃ n, wpLX1_lay_3 post T a1   n (h, (24 : Int32)))
set_option maxHeartbeats 4000000 in
set_option maxRecDepth 100000 in
theorem metX1_lay (l : Launch) (D : va_G) (cA : Nat → ClassId) (z0 : Nat) (E : Nat → Nat → Nat) (tw : Nat → Nat) (N : Nat → Prop) (ad : Nat → Nat) (h : Mem) (T : TT) (a1 : Int32) (post : Mem → Prop) (hw : wpX1_lay post h T a1) : MeXV l D cA z0 E T tw N ad yX1_lay (ws_ yX1_lay cX1_lay 3 none) ({ frames := 1, cells := 0, slots := 0, locals := 40 }) [.ref (ad 17), .int a1] h post := by
  refine Met.ofW (cc := cX1_lay) (maxL := 3) (ret := none) (by decide) rfl ?_
  intro p e s m args below meth c s₁ B hml hv
  obtain ⟨rfl, hv⟩ := hv
  have hx := B.exec
  have hb := B.bytes
  have hr := B.returns
  have hts := atoms_spec (ws := ws_ yX1_lay cX1_lay 3 none) B.pre
  have hts : ∀ w ∈ lw_all, w.before _ s = true := fun w h => hts w (List.mem_cons_of_mem _ h)
  have hown : s.vm.findClass RX1 = some m.cls := findClass_of_methodNamed B.named
  have hlocks := B.notSynchronized
  have hl := lv_entry ([.ref (ad 17), .int a1]) (n := 3) (Nat.le_of_ble_eq_true rfl)
  rw [lg_entry_eq]
  generalize (lg_sl ([.ref (ad 17), .int a1]) ++ List.replicate (3 - (lg_sl ([.ref (ad 17), .int a1])).length) Slot.unset).toArray = ls at hl ⊢
  have hl : lv_has ls 3 [(0, .ref (ad 17)), (1, .int a1)] := hl
  obtain ⟨hM, hJ, hN, hT, hK, hZ⟩ := hv
  have hNA : ∀ q, N q → q < s.heap.size → ¬ XA ad q := fun q h _ => hN q h
  have hS : va_S (XA ad) s.heap s.heap [] := va_S.rf
  have hL3 : ∀  (n3 : Nat) (h : Mem) (x2 : Int32), wpLX1_lay_3 post T a1   n3 (h, x2) → JX p l e (headSpec (ws_ yX1_lay cX1_lay 3 none) ({ frames := 1, cells := 0, slots := 0, locals := 40 })).room s m ([.ref (ad 17), .int a1] : List Value).toArray below meth c (MQ below (XQv D cA tw ad post) ([.ref (ad 17), .int a1] : List Value).toArray s 0 0 (XA ad)) D cA tw ad 3 3 h [(0, .ref (ad 17)), (1, .int a1), (2, .int x2)] [] := by
    intro  n3
    induction n3 with
    | zero => intro h x2 hw; exact False.elim hw
    | succ n3 ih3 =>
      intro h x2 hw H locs ls hM hS hl
      have hw : wpBX1_lay_3 post T a1  (fun h x2 => wpLX1_lay_3 post T a1   n3 (h, x2))  h x2 := hw
      unfold wpBX1_lay_3 at hw
      refine lv_iload_n hx hb dX1_lay_3 rfl (lv_at hl 2 rfl) ?_
      refine lv_if_lt (tgt := 36) hx hb dX1_lay_4 (by decide) (fun c1 => ?_) (fun c1 => ?_)
      · have hw := hw.1 c1
        exact X_vret hx hb hr hlocks hM hS hw dX1_lay_36
      · have hw := hw.2 c1
        refine lv_aload_n hx hb dX1_lay_7 rfl (lv_at hl 0 rfl) ?_
        refine X_get17 hx hb hts hown hK hM 6 (v := .ref (ad 6)) (by decide) (hts _ q730) rfl dX1_lay_8 ?_
        refine lv_aload_n hx hb dX1_lay_11 rfl (lv_at hl 0 rfl) ?_
        refine X_get17 hx hb hts hown hK hM 7 (v := .int (h 7 0)) (by decide) (hts _ q731) rfl dX1_lay_12 ?_
        refine lv_iload_n hx hb dX1_lay_15 rfl (lv_at hl 1 rfl) ?_
        refine lv_iload_n hx hb dX1_lay_16 rfl (lv_at hl 2 rfl) ?_
        refine lv_ishr hx hb dX1_lay_17 ?_
        refine lv_i2b (v := ((a1 >>> (x2 &&& 31)).toInt8.toInt32)) hx hb dX1_lay_18 rfl ?_
        obtain ⟨hv2, hw⟩ := hw
        refine X_bast6 hx hb hK hM hJ (fun _ h => h) hS (j := (ix (h 7 0))) rfl hv2 dX1_lay_19 (fun H locs hM hS => ?_)
        obtain ⟨h3, eh3⟩ : ∃ y : Mem, y = up2 h 6 (ix (h 7 0)) (vp_nar .byte ((a1 >>> (x2 &&& 31)).toInt8.toInt32)) := ⟨_, rfl⟩
        rw [← eh3] at hM
        have hw := hw h3 eh3
        refine lv_aload_n hx hb dX1_lay_20 rfl (lv_at hl 0 rfl) ?_
        refine lv_dup hx hb dX1_lay_21 rfl ?_
        refine X_get17 hx hb hts hown hK hM 7 (v := .int (h3 7 0)) (by decide) (hts _ q731) rfl dX1_lay_22 ?_
        refine lv_iconst (v := (1 : Int32)) hx hb dX1_lay_25 (by decide) ?_
        refine lv_iadd hx hb dX1_lay_26 ?_
        refine X_put7 hx hb hts hown hK hM hJ (fun _ h => h) hS (hts _ q731) .int (by decide +kernel) rfl rfl dX1_lay_27 (fun H locs hM hS => ?_)
        obtain ⟨h4, eh4⟩ : ∃ y : Mem, y = up2 h3 7 0 ((h3 7 0) + (1 : Int32)) := ⟨_, rfl⟩
        rw [← eh4] at hM
        have hw := hw h4 eh4
        refine lv_iinc (v := (x2 + (-8 : Int32))) (lv' := [(2, .int (x2 + (-8 : Int32))), (0, .ref (ad 17)), (1, .int a1)]) hx hb dX1_lay_30 hl (k := 2) rfl rfl (by decide) rfl (fun ls hl => ?_)
        refine lv_goto (tgt := 3) hx hb dX1_lay_33 (by decide) ?_
        exact ih3 h4 (x2 + (-8 : Int32)) hw _ _ ls hM hS (lv_sub hl [1, 2, 0] rfl)
  unfold wpX1_lay at hw
  refine lv_bipush (v := (24 : Int32)) hx hb dX1_lay_0 (by decide) ?_
  refine lv_istore_n (lv' := [(2, .int (24 : Int32)), (0, .ref (ad 17)), (1, .int a1)]) hx hb dX1_lay_2 rfl hl (by decide) rfl (fun ls hl => ?_)
  obtain ⟨n5, hw⟩ := hw
  exact hL3 n5 h (24 : Int32) hw _ _ ls hM hS (lv_sub hl [1, 2, 0] rfl)

/-- StrangeKnives.refuses(I)I -/
def wpX1_refuses (post : Int32 → Mem → Prop) (h : Mem) (T : TT) (a1 : Int32) : Prop :=
  (vp_in a1 (Xlen 27) ∧ (∀ h2 : Mem, h2 = up2 h 27 (ix a1) ((h 27 (ix a1)) + (1 : Int32)) → post (-1 : Int32) h2))
set_option maxHeartbeats 4000000 in
set_option maxRecDepth 100000 in
theorem metX1_refuses (l : Launch) (D : va_G) (cA : Nat → ClassId) (z0 : Nat) (E : Nat → Nat → Nat) (tw : Nat → Nat) (N : Nat → Prop) (ad : Nat → Nat) (h : Mem) (T : TT) (a1 : Int32) (post : Int32 → Mem → Prop) (hw : wpX1_refuses post h T a1) : MeXI l D cA z0 E T tw N ad yX1_refuses (ws_ yX1_refuses cX1_refuses 2 (some .int)) ({ frames := 1, cells := 0, slots := 0, locals := 40 }) [.ref (ad 17), .int a1] h post := by
  refine Met.ofW (cc := cX1_refuses) (maxL := 2) (ret := (some .int)) (by decide) rfl ?_
  intro p e s m args below meth c s₁ B hml hv
  obtain ⟨rfl, hv⟩ := hv
  have hx := B.exec
  have hb := B.bytes
  have hr := B.returns
  have hts := atoms_spec (ws := ws_ yX1_refuses cX1_refuses 2 (some .int)) B.pre
  have hts : ∀ w ∈ lw_all, w.before _ s = true := fun w h => hts w (List.mem_cons_of_mem _ h)
  have hown : s.vm.findClass RX1 = some m.cls := findClass_of_methodNamed B.named
  have hlocks := B.notSynchronized
  have hl := lv_entry ([.ref (ad 17), .int a1]) (n := 2) (Nat.le_of_ble_eq_true rfl)
  rw [lg_entry_eq]
  generalize (lg_sl ([.ref (ad 17), .int a1]) ++ List.replicate (2 - (lg_sl ([.ref (ad 17), .int a1])).length) Slot.unset).toArray = ls at hl ⊢
  have hl : lv_has ls 2 [(0, .ref (ad 17)), (1, .int a1)] := hl
  obtain ⟨hM, hJ, hN, hT, hK, hZ⟩ := hv
  have hNA : ∀ q, N q → q < s.heap.size → ¬ XA ad q := fun q h _ => hN q h
  have hS : va_S (XA ad) s.heap s.heap [] := va_S.rf
  unfold wpX1_refuses at hw
  refine lv_aload_n hx hb dX1_refuses_0 rfl (lv_at hl 0 rfl) ?_
  refine X_get17 hx hb hts hown hK hM 1 (v := .ref (ad 31)) (by decide) (hts _ q725) rfl dX1_refuses_1 ?_
  refine X_get31N hx hb hts hown hK hM 7 (v := .ref (ad 27)) (by decide) (hZ.2.1.nF 4 rfl) rfl dX1_refuses_4 ?_
  refine lv_iload_n hx hb dX1_refuses_7 rfl (lv_at hl 1 rfl) ?_
  refine lv_dup2_11 hx hb dX1_refuses_8 rfl rfl ?_
  obtain ⟨hv1, hw⟩ := hw
  refine X_iald hx hb hK hM 27 rfl (j := (ix a1)) rfl hv1 dX1_refuses_9 ?_
  refine lv_iconst (v := (1 : Int32)) hx hb dX1_refuses_10 (by decide) ?_
  refine lv_iadd hx hb dX1_refuses_11 ?_
  refine X_iast hx hb hK hM hJ (fun _ h => h) hS 27 rfl (j := (ix a1)) rfl hv1 dX1_refuses_12 (fun H locs hM hS => ?_)
  obtain ⟨h2, eh2⟩ : ∃ y : Mem, y = up2 h 27 (ix a1) ((h 27 (ix a1)) + (1 : Int32)) := ⟨_, rfl⟩
  rw [← eh2] at hM
  have hw := hw h2 eh2
  refine lv_iconst (v := (-1 : Int32)) hx hb dX1_refuses_13 (by decide) ?_
  exact X_iret hx hb hr hlocks hM hS hw dX1_refuses_14

/-- StrangeKnives.forget()V -/
def wpX1_forget (post : Mem → Prop) (h : Mem) (T : TT) : Prop :=
  (∀ h1 : Mem, h1 = up2 h 29 0 (0 : Int32) → (∀ h2 : Mem, h2 = up2 h1 30 0 (0 : Int32) → post h2))
set_option maxHeartbeats 4000000 in
set_option maxRecDepth 100000 in
theorem metX1_forget (l : Launch) (D : va_G) (cA : Nat → ClassId) (z0 : Nat) (E : Nat → Nat → Nat) (tw : Nat → Nat) (N : Nat → Prop) (ad : Nat → Nat) (h : Mem) (T : TT) (post : Mem → Prop) (hw : wpX1_forget post h T) : MeXV l D cA z0 E T tw N ad yX1_forget (ws_ yX1_forget cX1_forget 1 none) ({ frames := 1, cells := 0, slots := 0, locals := 40 }) [.ref (ad 17)] h post := by
  refine Met.ofW (cc := cX1_forget) (maxL := 1) (ret := none) (by decide) rfl ?_
  intro p e s m args below meth c s₁ B hml hv
  obtain ⟨rfl, hv⟩ := hv
  have hx := B.exec
  have hb := B.bytes
  have hr := B.returns
  have hts := atoms_spec (ws := ws_ yX1_forget cX1_forget 1 none) B.pre
  have hts : ∀ w ∈ lw_all, w.before _ s = true := fun w h => hts w (List.mem_cons_of_mem _ h)
  have hown : s.vm.findClass RX1 = some m.cls := findClass_of_methodNamed B.named
  have hlocks := B.notSynchronized
  have hl := lv_entry ([.ref (ad 17)]) (n := 1) (Nat.le_of_ble_eq_true rfl)
  rw [lg_entry_eq]
  generalize (lg_sl ([.ref (ad 17)]) ++ List.replicate (1 - (lg_sl ([.ref (ad 17)])).length) Slot.unset).toArray = ls at hl ⊢
  have hl : lv_has ls 1 [(0, .ref (ad 17))] := hl
  obtain ⟨hM, hJ, hN, hT, hK, hZ⟩ := hv
  have hNA : ∀ q, N q → q < s.heap.size → ¬ XA ad q := fun q h _ => hN q h
  have hS : va_S (XA ad) s.heap s.heap [] := va_S.rf
  unfold wpX1_forget at hw
  refine lv_aload_n hx hb dX1_forget_0 rfl (lv_at hl 0 rfl) ?_
  refine X_get17 hx hb hts hown hK hM 1 (v := .ref (ad 31)) (by decide) (hts _ q725) rfl dX1_forget_1 ?_
  refine lv_iconst (v := (0 : Int32)) hx hb dX1_forget_4 (by decide) ?_
  refine X_put29N hx hb hts hown hK hM hJ (fun _ h => h) hS (hZ.2.1.nF 7 rfl) .int (by decide +kernel) rfl rfl dX1_forget_5 (fun H locs hM hS => ?_)
  obtain ⟨h1, eh1⟩ : ∃ y : Mem, y = up2 h 29 0 (0 : Int32) := ⟨_, rfl⟩
  rw [← eh1] at hM
  have hw := hw h1 eh1
  refine lv_aload_n hx hb dX1_forget_8 rfl (lv_at hl 0 rfl) ?_
  refine X_get17 hx hb hts hown hK hM 1 (v := .ref (ad 31)) (by decide) (hts _ q725) rfl dX1_forget_9 ?_
  refine lv_iconst (v := (0 : Int32)) hx hb dX1_forget_12 (by decide) ?_
  refine X_put30N hx hb hts hown hK hM hJ (fun _ h => h) hS (hZ.2.1.nF 8 rfl) .int (by decide +kernel) rfl rfl dX1_forget_13 (fun H locs hM hS => ?_)
  obtain ⟨h2, eh2⟩ : ∃ y : Mem, y = up2 h1 30 0 (0 : Int32) := ⟨_, rfl⟩
  rw [← eh2] at hM
  have hw := hw h2 eh2
  exact X_vret hx hb hr hlocks hM hS hw dX1_forget_16

/-- StrangeKnives.draw(I)I -/
def wpX1_draw (post : Int32 → Mem → Prop) (h : Mem) (T : TT) (a1 : Int32) : Prop :=
  (∀ h1 : Mem, h1 = up2 h 16 0 (((h 16 0) * (1103515245 : Int32)) + (12345 : Int32)) → (¬ a1 = 0 ∧ post ((((h1 16 0) >>> ((16 : Int32) &&& 31)) &&& (32767 : Int32)) - (((h1 16 0) >>> ((16 : Int32) &&& 31)) &&& (32767 : Int32)) / a1 * a1) h1))
set_option maxHeartbeats 4000000 in
set_option maxRecDepth 100000 in
theorem metX1_draw (l : Launch) (D : va_G) (cA : Nat → ClassId) (z0 : Nat) (E : Nat → Nat → Nat) (tw : Nat → Nat) (N : Nat → Prop) (ad : Nat → Nat) (h : Mem) (T : TT) (a1 : Int32) (post : Int32 → Mem → Prop) (hw : wpX1_draw post h T a1) : MeXI l D cA z0 E T tw N ad yX1_draw (ws_ yX1_draw cX1_draw 2 (some .int)) ({ frames := 1, cells := 0, slots := 0, locals := 40 }) [.ref (ad 17), .int a1] h post := by
  refine Met.ofW (cc := cX1_draw) (maxL := 2) (ret := (some .int)) (by decide) rfl ?_
  intro p e s m args below meth c s₁ B hml hv
  obtain ⟨rfl, hv⟩ := hv
  have hx := B.exec
  have hb := B.bytes
  have hr := B.returns
  have hts := atoms_spec (ws := ws_ yX1_draw cX1_draw 2 (some .int)) B.pre
  have hts : ∀ w ∈ lw_all, w.before _ s = true := fun w h => hts w (List.mem_cons_of_mem _ h)
  have hown : s.vm.findClass RX1 = some m.cls := findClass_of_methodNamed B.named
  have hlocks := B.notSynchronized
  have hl := lv_entry ([.ref (ad 17), .int a1]) (n := 2) (Nat.le_of_ble_eq_true rfl)
  rw [lg_entry_eq]
  generalize (lg_sl ([.ref (ad 17), .int a1]) ++ List.replicate (2 - (lg_sl ([.ref (ad 17), .int a1])).length) Slot.unset).toArray = ls at hl ⊢
  have hl : lv_has ls 2 [(0, .ref (ad 17)), (1, .int a1)] := hl
  obtain ⟨hM, hJ, hN, hT, hK, hZ⟩ := hv
  have hNA : ∀ q, N q → q < s.heap.size → ¬ XA ad q := fun q h _ => hN q h
  have hS : va_S (XA ad) s.heap s.heap [] := va_S.rf
  unfold wpX1_draw at hw
  refine lv_aload_n hx hb dX1_draw_0 rfl (lv_at hl 0 rfl) ?_
  refine lv_aload_n hx hb dX1_draw_1 rfl (lv_at hl 0 rfl) ?_
  refine X_get17 hx hb hts hown hK hM 16 (v := .int (h 16 0)) (by decide) (hts _ q740) rfl dX1_draw_2 ?_
  refine lv_ldcw hx hb hown (hts _ q1664) dX1_draw_5 ?_
  refine lv_imul hx hb dX1_draw_8 ?_
  refine lv_sipush (v := (12345 : Int32)) hx hb dX1_draw_9 (by decide) ?_
  refine lv_iadd hx hb dX1_draw_12 ?_
  refine X_put16 hx hb hts hown hK hM hJ (fun _ h => h) hS (hts _ q740) .int (by decide +kernel) rfl rfl dX1_draw_13 (fun H locs hM hS => ?_)
  obtain ⟨h1, eh1⟩ : ∃ y : Mem, y = up2 h 16 0 (((h 16 0) * (1103515245 : Int32)) + (12345 : Int32)) := ⟨_, rfl⟩
  rw [← eh1] at hM
  have hw := hw h1 eh1
  refine lv_aload_n hx hb dX1_draw_16 rfl (lv_at hl 0 rfl) ?_
  refine X_get17 hx hb hts hown hK hM 16 (v := .int (h1 16 0)) (by decide) (hts _ q740) rfl dX1_draw_17 ?_
  refine lv_bipush (v := (16 : Int32)) hx hb dX1_draw_20 (by decide) ?_
  refine lv_ishr hx hb dX1_draw_22 ?_
  refine lv_sipush (v := (32767 : Int32)) hx hb dX1_draw_23 (by decide) ?_
  refine lv_iand hx hb dX1_draw_26 ?_
  refine lv_iload_n hx hb dX1_draw_27 rfl (lv_at hl 1 rfl) ?_
  obtain ⟨hne, hw⟩ := hw
  refine lv_irem hx hb dX1_draw_28 hne ?_
  exact X_iret hx hb hr hlocks hM hS hw dX1_draw_29

/-- StrangeKnives.feed(IIIII)I -/
def wpX1_feed (post : Int32 → Mem → Prop) (h : Mem) (T : TT) (a1 : Int32) (a2 : Int32) (a3 : Int32) (a4 : Int32) (a5 : Int32) : Prop :=
  ((((h 7 0) + (20 : Int32)) ≤ (600 : Int32) → (wpX1_lay (fun h2 => (wpX1_lay (fun h4 => (wpX1_lay (fun h6 => (wpX1_lay (fun h8 => (wpX1_lay (fun h10 => post (h10 7 0) h10) h8 T a5)) h6 T a4)) h4 T a3)) h2 T a2)) h T a1)) ∧ (¬ ((h 7 0) + (20 : Int32)) ≤ (600 : Int32) → post (-1 : Int32) h))
set_option maxHeartbeats 4000000 in
set_option maxRecDepth 100000 in
theorem metX1_feed (l : Launch) (D : va_G) (cA : Nat → ClassId) (z0 : Nat) (E : Nat → Nat → Nat) (tw : Nat → Nat) (N : Nat → Prop) (ad : Nat → Nat) (h : Mem) (T : TT) (a1 : Int32) (a2 : Int32) (a3 : Int32) (a4 : Int32) (a5 : Int32) (post : Int32 → Mem → Prop) (hw : wpX1_feed post h T a1 a2 a3 a4 a5) : MeXI l D cA z0 E T tw N ad yX1_feed (ws_ yX1_feed cX1_feed 6 (some .int)) ({ frames := 2, cells := 0, slots := 0, locals := 62 }) [.ref (ad 17), .int a1, .int a2, .int a3, .int a4, .int a5] h post := by
  refine Met.ofW (cc := cX1_feed) (maxL := 6) (ret := (some .int)) (by decide) rfl ?_
  intro p e s m args below meth c s₁ B hml hv
  obtain ⟨rfl, hv⟩ := hv
  have hx := B.exec
  have hb := B.bytes
  have hr := B.returns
  have hts := atoms_spec (ws := ws_ yX1_feed cX1_feed 6 (some .int)) B.pre
  have hts : ∀ w ∈ lw_all, w.before _ s = true := fun w h => hts w (List.mem_cons_of_mem _ h)
  have hown : s.vm.findClass RX1 = some m.cls := findClass_of_methodNamed B.named
  have hlocks := B.notSynchronized
  have hl := lv_entry ([.ref (ad 17), .int a1, .int a2, .int a3, .int a4, .int a5]) (n := 6) (Nat.le_of_ble_eq_true rfl)
  rw [lg_entry_eq]
  generalize (lg_sl ([.ref (ad 17), .int a1, .int a2, .int a3, .int a4, .int a5]) ++ List.replicate (6 - (lg_sl ([.ref (ad 17), .int a1, .int a2, .int a3, .int a4, .int a5])).length) Slot.unset).toArray = ls at hl ⊢
  have hl : lv_has ls 6 [(0, .ref (ad 17)), (1, .int a1), (2, .int a2), (3, .int a3), (4, .int a4), (5, .int a5)] := hl
  obtain ⟨hM, hJ, hN, hT, hK, hZ⟩ := hv
  have hNA : ∀ q, N q → q < s.heap.size → ¬ XA ad q := fun q h _ => hN q h
  have hS : va_S (XA ad) s.heap s.heap [] := va_S.rf
  unfold wpX1_feed at hw
  refine lv_aload_n hx hb dX1_feed_0 rfl (lv_at hl 0 rfl) ?_
  refine X_get17 hx hb hts hown hK hM 7 (v := .int (h 7 0)) (by decide) (hts _ q731) rfl dX1_feed_1 ?_
  refine lv_bipush (v := (20 : Int32)) hx hb dX1_feed_4 (by decide) ?_
  refine lv_iadd hx hb dX1_feed_6 ?_
  refine lv_sipush (v := (600 : Int32)) hx hb dX1_feed_7 (by decide) ?_
  refine lv_icmp_le (tgt := 15) hx hb dX1_feed_10 (by decide) (fun c1 => ?_) (fun c1 => ?_)
  · have hw := hw.1 c1
    refine lv_aload_n hx hb dX1_feed_15 rfl (lv_at hl 0 rfl) ?_
    refine lv_iload_n hx hb dX1_feed_16 rfl (lv_at hl 1 rfl) ?_
    refine XX_callV (As := [.int a1]) (rest := []) ⟨hx, hb, hml, hown, hts⟩ hK hZ (hT.at hS hNA) hN (fun _ h => h) hJ.z hM hJ hS (metX1_lay l D cA z0 E tw N ad h T a1 _ hw) (cwV 1 hts (lw_V q780 q782 qs5 q104 q783) rfl rfl rfl (by decide +kernel) ⟨Nat.le_of_ble_eq_true rfl, Nat.le_of_ble_eq_true rfl⟩) rfl hl.1 rfl (Nat.le_of_ble_eq_true rfl) dX1_feed_17 ⟨Nat.zero_le _, Nat.zero_le _⟩ (fun h2 H locs hw hM hS => ?_)
    refine lv_aload_n hx hb dX1_feed_20 rfl (lv_at hl 0 rfl) ?_
    refine lv_iload_n hx hb dX1_feed_21 rfl (lv_at hl 2 rfl) ?_
    refine XX_callV (As := [.int a2]) (rest := []) ⟨hx, hb, hml, hown, hts⟩ hK hZ (hT.at hS hNA) hN (fun _ h => h) hJ.z hM hJ hS (metX1_lay l D cA z0 E tw N ad h2 T a2 _ hw) (cwV 1 hts (lw_V q780 q782 qs5 q104 q783) rfl rfl rfl (by decide +kernel) ⟨Nat.le_of_ble_eq_true rfl, Nat.le_of_ble_eq_true rfl⟩) rfl hl.1 rfl (Nat.le_of_ble_eq_true rfl) dX1_feed_22 ⟨Nat.zero_le _, Nat.zero_le _⟩ (fun h4 H locs hw hM hS => ?_)
    refine lv_aload_n hx hb dX1_feed_25 rfl (lv_at hl 0 rfl) ?_
    refine lv_iload_n hx hb dX1_feed_26 rfl (lv_at hl 3 rfl) ?_
    refine XX_callV (As := [.int a3]) (rest := []) ⟨hx, hb, hml, hown, hts⟩ hK hZ (hT.at hS hNA) hN (fun _ h => h) hJ.z hM hJ hS (metX1_lay l D cA z0 E tw N ad h4 T a3 _ hw) (cwV 1 hts (lw_V q780 q782 qs5 q104 q783) rfl rfl rfl (by decide +kernel) ⟨Nat.le_of_ble_eq_true rfl, Nat.le_of_ble_eq_true rfl⟩) rfl hl.1 rfl (Nat.le_of_ble_eq_true rfl) dX1_feed_27 ⟨Nat.zero_le _, Nat.zero_le _⟩ (fun h6 H locs hw hM hS => ?_)
    refine lv_aload_n hx hb dX1_feed_30 rfl (lv_at hl 0 rfl) ?_
    refine lv_iload hx hb dX1_feed_31 (lv_at hl 4 rfl) ?_
    refine XX_callV (As := [.int a4]) (rest := []) ⟨hx, hb, hml, hown, hts⟩ hK hZ (hT.at hS hNA) hN (fun _ h => h) hJ.z hM hJ hS (metX1_lay l D cA z0 E tw N ad h6 T a4 _ hw) (cwV 1 hts (lw_V q780 q782 qs5 q104 q783) rfl rfl rfl (by decide +kernel) ⟨Nat.le_of_ble_eq_true rfl, Nat.le_of_ble_eq_true rfl⟩) rfl hl.1 rfl (Nat.le_of_ble_eq_true rfl) dX1_feed_33 ⟨Nat.zero_le _, Nat.zero_le _⟩ (fun h8 H locs hw hM hS => ?_)
    refine lv_aload_n hx hb dX1_feed_36 rfl (lv_at hl 0 rfl) ?_
    refine lv_iload hx hb dX1_feed_37 (lv_at hl 5 rfl) ?_
    refine XX_callV (As := [.int a5]) (rest := []) ⟨hx, hb, hml, hown, hts⟩ hK hZ (hT.at hS hNA) hN (fun _ h => h) hJ.z hM hJ hS (metX1_lay l D cA z0 E tw N ad h8 T a5 _ hw) (cwV 1 hts (lw_V q780 q782 qs5 q104 q783) rfl rfl rfl (by decide +kernel) ⟨Nat.le_of_ble_eq_true rfl, Nat.le_of_ble_eq_true rfl⟩) rfl hl.1 rfl (Nat.le_of_ble_eq_true rfl) dX1_feed_39 ⟨Nat.zero_le _, Nat.zero_le _⟩ (fun h10 H locs hw hM hS => ?_)
    refine lv_aload_n hx hb dX1_feed_42 rfl (lv_at hl 0 rfl) ?_
    refine X_get17 hx hb hts hown hK hM 7 (v := .int (h10 7 0)) (by decide) (hts _ q731) rfl dX1_feed_43 ?_
    exact X_iret hx hb hr hlocks hM hS hw dX1_feed_46
  · have hw := hw.2 c1
    refine lv_iconst (v := (-1 : Int32)) hx hb dX1_feed_13 (by decide) ?_
    exact X_iret hx hb hr hlocks hM hS hw dX1_feed_14

/-- StrangeKnives.shares(ILStrangeKnives$Loaf;)I -/
def wpBX1_shares_271 (post : Int32 → Mem → Prop) (T : TT) (a1 : Int32) (b2 : Nat) (K239 : Mem → Int32 → Prop) (K271 : Mem → Int32 → Prop) (x5 : Int32) (x6 : Int32) (h : Mem) (x7 : Int32) : Prop :=
  (((nI (T 8 b2)) ≤ x7 → K239 h (x6 + (1 : Int32))) ∧ (¬ (nI (T 8 b2)) ≤ x7 → (vp_in x6 (T 8 b2) ∧ (vp_in (nI (T 9 (6 * b2 + ix x6))) (8) ∧ (vp_in x7 (T 8 b2) ∧ (((twI T (ix (nI (T 9 (6 * b2 + ix x6))))) = (nI (T 9 (6 * b2 + ix x7))) → (vp_in x7 (Xlen 10) ∧ (vp_in x6 (Xlen 10) ∧ (∀ h15 : Mem, h15 = up2 h 10 (ix x6) (h 10 (ix x7)) → K271 h15 (x7 + (1 : Int32)))))) ∧ (¬ (twI T (ix (nI (T 9 (6 * b2 + ix x6))))) = (nI (T 9 (6 * b2 + ix x7))) → K271 h (x7 + (1 : Int32)))))))))
def wpLX1_shares_271 (post : Int32 → Mem → Prop) (T : TT) (a1 : Int32) (b2 : Nat) (K239 : Mem → Int32 → Prop) (x5 : Int32) (x6 : Int32) : Nat → (Mem × Int32) → Prop := LW (fun K s => wpBX1_shares_271 post T a1 b2 K239 (fun h x7 => K (h, x7)) x5 x6 s.1 s.2)
def wpBX1_shares_239 (post : Int32 → Mem → Prop) (T : TT) (a1 : Int32) (b2 : Nat)  (K239 : Mem → Int32 → Prop) (x5 : Int32) (h : Mem) (x6 : Int32) : Prop :=
  (((nI (T 8 b2)) ≤ x6 → post x5 h) ∧ (¬ (nI (T 8 b2)) ≤ x6 → (wpX2_isLater (fun r6 => ((r6 = true → K239 h (x6 + (1 : Int32))) ∧ (¬ r6 = true → (∃ n, wpLX1_shares_271 post T a1 b2 K239 x5 x6 n (h, (x6 + (1 : Int32))))))) h T b2 x6)))
def wpLX1_shares_239 (post : Int32 → Mem → Prop) (T : TT) (a1 : Int32) (b2 : Nat)  (x5 : Int32) : Nat → (Mem × Int32) → Prop := LW (fun K s => wpBX1_shares_239 post T a1 b2  (fun h x6 => K (h, x6)) x5 s.1 s.2)
def wpBX1_shares_198 (post : Int32 → Mem → Prop) (T : TT) (a1 : Int32) (b2 : Nat) (K131 : Mem → Int32 → Prop) (K158 : Int32 → Int32 → Prop) (h : Mem) (x3 : Int32) (x5 : Int32) (x6 : Int32) (x8 : Int32)  : Prop :=
  K158 x8 (x8 + (1 : Int32))
def wpBX1_shares_158 (post : Int32 → Mem → Prop) (T : TT) (a1 : Int32) (b2 : Nat) (K131 : Mem → Int32 → Prop) (K158 : Int32 → Int32 → Prop) (h : Mem) (x3 : Int32) (x5 : Int32) (x6 : Int32) (x7 : Int32) (x8 : Int32) : Prop :=
  ((x3 ≤ x8 → (vp_in x7 (Xlen 9) ∧ (vp_in x6 (Xlen 10) ∧ (∀ h23 : Mem, h23 = up2 h 10 (ix x6) (h 9 (ix x7)) → (∀ h24 : Mem, h24 = up2 h23 9 (ix x7) (-1 : Int32) → K131 h24 (x6 + (-1 : Int32))))))) ∧ (¬ x3 ≤ x8 → (vp_in x8 (Xlen 9) ∧ (((h 9 (ix x8)) = (-1 : Int32) → K158 x7 (x8 + (1 : Int32))) ∧ (¬ (h 9 (ix x8)) = (-1 : Int32) → ((x7 = (-1 : Int32) → wpBX1_shares_198 post T a1 b2 K131 K158 h x3 x5 x6 x8) ∧ (¬ x7 = (-1 : Int32) → (vp_in x7 (Xlen 9) ∧ K158 (if (h 9 (ix x8)) ≤ (h 9 (ix x7)) then x7 else x8) (x8 + (1 : Int32))))))))))
def wpLX1_shares_158 (post : Int32 → Mem → Prop) (T : TT) (a1 : Int32) (b2 : Nat) (K131 : Mem → Int32 → Prop) (h : Mem) (x3 : Int32) (x5 : Int32) (x6 : Int32) : Nat → (Int32 × Int32) → Prop := LW (fun K s => wpBX1_shares_158 post T a1 b2 K131 (fun x7 x8 => K (x7, x8)) h x3 x5 x6 s.1 s.2)
def wpBX1_shares_131 (post : Int32 → Mem → Prop) (T : TT) (a1 : Int32) (b2 : Nat)  (K131 : Mem → Int32 → Prop) (x3 : Int32) (x5 : Int32) (h : Mem) (x6 : Int32) : Prop :=
  ((x6 < 0 → (∃ n, wpLX1_shares_239 post T a1 b2  x5 n (h, (0 : Int32)))) ∧ (¬ x6 < 0 → (wpX2_isLater (fun r18 => ((r18 = true → (∃ n, wpLX1_shares_158 post T a1 b2 K131 h x3 x5 x6 n ((-1 : Int32), (0 : Int32)))) ∧ (¬ r18 = true → K131 h (x6 + (-1 : Int32))))) h T b2 x6)))
def wpLX1_shares_131 (post : Int32 → Mem → Prop) (T : TT) (a1 : Int32) (b2 : Nat)  (x3 : Int32) (x5 : Int32) : Nat → (Mem × Int32) → Prop := LW (fun K s => wpBX1_shares_131 post T a1 b2  (fun h x6 => K (h, x6)) x3 x5 s.1 s.2)
def wpBX1_shares_62 (post : Int32 → Mem → Prop) (T : TT) (a1 : Int32) (b2 : Nat)  (K62 : Mem → Int32 → Int32 → Prop) (x3 : Int32) (x4 : Int32) (h : Mem) (x5 : Int32) (x6 : Int32) : Prop :=
  ((x3 ≤ x6 → (∃ n, wpLX1_shares_131 post T a1 b2  x3 x5 n (h, ((nI (T 8 b2)) - (1 : Int32))))) ∧ (¬ x3 ≤ x6 → (vp_in a1 (Xlen 42) ∧ (∃ p36 : Nat, a1 = nI p36 ∧ p36 < T 0 0 ∧ (∀ (w37 : Nat → Int32) (h38 : Mem), h38 = setp h 70 w37 → (¬ x4 = 0 ∧ (vp_in x6 (Xlen 9) ∧ (∀ h40 : Mem, h40 = up2 h38 9 (ix x6) (((nI (T 5 b2)) * (wgt T p36 b2 (h 42 (ix a1)) x6 x3)) / x4) → K62 h40 (x5 - (h40 9 (ix x6))) (x6 + (1 : Int32))))))))))
def wpLX1_shares_62 (post : Int32 → Mem → Prop) (T : TT) (a1 : Int32) (b2 : Nat)  (x3 : Int32) (x4 : Int32) : Nat → (Mem × Int32 × Int32) → Prop := LW (fun K s => wpBX1_shares_62 post T a1 b2  (fun h x5 x6 => K (h, x5, x6)) x3 x4 s.1 s.2.1 s.2.2)
def wpBX1_shares_15 (post : Int32 → Mem → Prop) (T : TT) (a1 : Int32) (b2 : Nat)  (K15 : Mem → Int32 → Int32 → Prop) (x3 : Int32) (h : Mem) (x4 : Int32) (x5 : Int32) : Prop :=
  ((x3 ≤ x5 → (∃ n, wpLX1_shares_62 post T a1 b2  x3 x4 n (h, (nI (T 5 b2)), (0 : Int32)))) ∧ (¬ x3 ≤ x5 → (vp_in a1 (Xlen 42) ∧ (∃ p43 : Nat, a1 = nI p43 ∧ p43 < T 0 0 ∧ (∀ (w44 : Nat → Int32) (h45 : Mem), h45 = setp h 70 w44 → K15 h45 (x4 + (wgt T p43 b2 (h 42 (ix a1)) x5 x3)) (x5 + (1 : Int32)))))))
def wpLX1_shares_15 (post : Int32 → Mem → Prop) (T : TT) (a1 : Int32) (b2 : Nat)  (x3 : Int32) : Nat → (Mem × Int32 × Int32) → Prop := LW (fun K s => wpBX1_shares_15 post T a1 b2  (fun h x4 x5 => K (h, x4, x5)) x3 s.1 s.2.1 s.2.2)
def wpX1_shares (post : Int32 → Mem → Prop) (h : Mem) (T : TT) (a1 : Int32) (b2 : Nat) : Prop :=
  (wpX2_slices (fun r1 => (∃ n, wpLX1_shares_15 post T a1 b2  r1 n (h, (0 : Int32), (0 : Int32)))) h T b2)
set_option maxHeartbeats 4000000 in
set_option maxRecDepth 100000 in
theorem metX1_shares (l : Launch) (D : va_G) (cA : Nat → ClassId) (z0 : Nat) (E : Nat → Nat → Nat) (tw : Nat → Nat) (N : Nat → Prop) (ad : Nat → Nat) (h : Mem) (T : TT) (a1 : Int32) (b2 : Nat) (post : Int32 → Mem → Prop) (hb2 : b2 < T 0 1) (hw : wpX1_shares post h T a1 b2) : MeXI l D cA z0 E T tw N ad yX1_shares (ws_ yX1_shares cX1_shares 9 (some .int)) ({ frames := 721, cells := 0, slots := 0, locals := 40026 }) [.ref (ad 17), .int a1, .ref (tw (200 + b2))] h post := by
  refine Met.ofW (cc := cX1_shares) (maxL := 9) (ret := (some .int)) (by decide) rfl ?_
  intro p e s m args below meth c s₁ B hml hv
  obtain ⟨rfl, hv⟩ := hv
  have hx := B.exec
  have hb := B.bytes
  have hr := B.returns
  have hts := atoms_spec (ws := ws_ yX1_shares cX1_shares 9 (some .int)) B.pre
  have hts : ∀ w ∈ lw_all, w.before _ s = true := fun w h => hts w (List.mem_cons_of_mem _ h)
  have hown : s.vm.findClass RX1 = some m.cls := findClass_of_methodNamed B.named
  have hlocks := B.notSynchronized
  have hl := lv_entry ([.ref (ad 17), .int a1, .ref (tw (200 + b2))]) (n := 9) (Nat.le_of_ble_eq_true rfl)
  rw [lg_entry_eq]
  generalize (lg_sl ([.ref (ad 17), .int a1, .ref (tw (200 + b2))]) ++ List.replicate (9 - (lg_sl ([.ref (ad 17), .int a1, .ref (tw (200 + b2))])).length) Slot.unset).toArray = ls at hl ⊢
  have hl : lv_has ls 9 [(0, .ref (ad 17)), (1, .int a1), (2, .ref (tw (200 + b2)))] := hl
  obtain ⟨hM, hJ, hN, hT, hK, hZ⟩ := hv
  have hNA : ∀ q, N q → q < s.heap.size → ¬ XA ad q := fun q h _ => hN q h
  have hS : va_S (XA ad) s.heap s.heap [] := va_S.rf
  have hL239 : ∀ (x5 : Int32) (n239 : Nat) (h : Mem) (x6 : Int32), wpLX1_shares_239 post T a1 b2  x5 n239 (h, x6) → JX p l e (headSpec (ws_ yX1_shares cX1_shares 9 (some .int)) ({ frames := 721, cells := 0, slots := 0, locals := 40026 })).room s m ([.ref (ad 17), .int a1, .ref (tw (200 + b2))] : List Value).toArray below meth c (MQ below (XQi D cA tw ad post) ([.ref (ad 17), .int a1, .ref (tw (200 + b2))] : List Value).toArray s 0 0 (XA ad)) D cA tw ad 9 239 h [(0, .ref (ad 17)), (2, .ref (tw (200 + b2))), (5, .int x5), (6, .int x6)] [] := by
    intro x5 n239
    induction n239 with
    | zero => intro h x6 hw; exact False.elim hw
    | succ n239 ih239 =>
      have hL271 : ∀ (x6 : Int32) (n271 : Nat) (h : Mem) (x7 : Int32), wpLX1_shares_271 post T a1 b2 (fun h x6 => wpLX1_shares_239 post T a1 b2  x5 n239 (h, x6)) x5 x6 n271 (h, x7) → JX p l e (headSpec (ws_ yX1_shares cX1_shares 9 (some .int)) ({ frames := 721, cells := 0, slots := 0, locals := 40026 })).room s m ([.ref (ad 17), .int a1, .ref (tw (200 + b2))] : List Value).toArray below meth c (MQ below (XQi D cA tw ad post) ([.ref (ad 17), .int a1, .ref (tw (200 + b2))] : List Value).toArray s 0 0 (XA ad)) D cA tw ad 9 271 h [(0, .ref (ad 17)), (2, .ref (tw (200 + b2))), (5, .int x5), (6, .int x6), (7, .int x7)] [] := by
        intro x6 n271
        induction n271 with
        | zero => intro h x7 hw; exact False.elim hw
        | succ n271 ih271 =>
          intro h x7 hw H locs ls hM hS hl
          have hw : wpBX1_shares_271 post T a1 b2 (fun h x6 => wpLX1_shares_239 post T a1 b2  x5 n239 (h, x6)) (fun h x7 => wpLX1_shares_271 post T a1 b2 (fun h x6 => wpLX1_shares_239 post T a1 b2  x5 n239 (h, x6)) x5 x6 n271 (h, x7)) x5 x6 h x7 := hw
          unfold wpBX1_shares_271 at hw
          refine lv_iload hx hb dX1_shares_271 (lv_at hl 4 rfl) ?_
          refine lv_aload_n hx hb dX1_shares_273 rfl (lv_at hl 1 rfl) ?_
          refine L_fldN hx hb hts hown hK (hT.at hS hNA) b2 hb2 4 (v := .ref (tw (300 + b2))) (by decide) (hZ.2.1.nF 20 rfl) rfl dX1_shares_274 ?_
          refine L_alen hx hb hK (hT.at hS hNA) b2 hb2 dX1_shares_277 ?_
          refine lv_icmp_ge (tgt := 326) hx hb dX1_shares_278 (by decide) (fun c8 => ?_) (fun c8 => ?_)
          · have hw := hw.1 c8
            refine lv_iinc (v := (x6 + (1 : Int32))) (lv' := [(6, .int (x6 + (1 : Int32))), (0, .ref (ad 17)), (2, .ref (tw (200 + b2))), (5, .int x5), (7, .int x7)]) hx hb dX1_shares_326 hl (k := 3) rfl rfl (by decide) rfl (fun ls hl => ?_)
            refine lv_goto (tgt := 239) hx hb dX1_shares_329 (by decide) ?_
            exact ih239 h (x6 + (1 : Int32)) hw _ _ ls hM hS (lv_sub hl [1, 2, 3, 0] rfl)
          · have hw := hw.2 c8
            refine lv_aload_n hx hb dX1_shares_281 rfl (lv_at hl 0 rfl) ?_
            refine X_get17 hx hb hts hown hK hM 0 (v := .ref (tw 9)) (by decide) (hts _ q724) rfl dX1_shares_282 ?_
            refine T_fldN hx hb hts hown hK (hT.at hS hNA) 5 (v := .ref (tw 4)) (by decide) (hZ.2.1.nF 14 rfl) (fun _ _ => rfl) dX1_shares_285 ?_
            refine lv_aload_n hx hb dX1_shares_288 rfl (lv_at hl 1 rfl) ?_
            refine L_fldN hx hb hts hown hK (hT.at hS hNA) b2 hb2 4 (v := .ref (tw (300 + b2))) (by decide) (hZ.2.1.nF 20 rfl) rfl dX1_shares_289 ?_
            refine lv_iload hx hb dX1_shares_292 (lv_at hl 3 rfl) ?_
            obtain ⟨hv9, hw⟩ := hw
            refine L_iald hx hb hK (hT.at hS hNA) b2 hb2 hv9 dX1_shares_294 ?_
            obtain ⟨hv10, hw⟩ := hw
            refine T_twin hx hb hK (hT.at hS hNA) hv10 dX1_shares_295 ?_
            refine lv_aload_n hx hb dX1_shares_296 rfl (lv_at hl 1 rfl) ?_
            refine L_fldN hx hb hts hown hK (hT.at hS hNA) b2 hb2 4 (v := .ref (tw (300 + b2))) (by decide) (hZ.2.1.nF 20 rfl) rfl dX1_shares_297 ?_
            refine lv_iload hx hb dX1_shares_300 (lv_at hl 4 rfl) ?_
            obtain ⟨hv11, hw⟩ := hw
            refine L_iald hx hb hK (hT.at hS hNA) b2 hb2 hv11 dX1_shares_302 ?_
            refine lv_icmp_ne (tgt := 320) hx hb dX1_shares_303 (by decide) (fun c12 => ?_) (fun c12 => ?_)
            · have hw := hw.2 c12
              refine lv_iinc (v := (x7 + (1 : Int32))) (lv' := [(7, .int (x7 + (1 : Int32))), (0, .ref (ad 17)), (2, .ref (tw (200 + b2))), (5, .int x5), (6, .int x6)]) hx hb dX1_shares_320 hl (k := 4) rfl rfl (by decide) rfl (fun ls hl => ?_)
              refine lv_goto (tgt := 271) hx hb dX1_shares_323 (by decide) ?_
              exact ih271 h (x7 + (1 : Int32)) hw _ _ ls hM hS (lv_sub hl [1, 2, 3, 4, 0] rfl)
            · have hw := hw.1 c12
              refine lv_aload_n hx hb dX1_shares_306 rfl (lv_at hl 0 rfl) ?_
              refine X_get17 hx hb hts hown hK hM 10 (v := .ref (ad 10)) (by decide) (hts _ q734) rfl dX1_shares_307 ?_
              refine lv_iload hx hb dX1_shares_310 (lv_at hl 3 rfl) ?_
              refine lv_aload_n hx hb dX1_shares_312 rfl (lv_at hl 0 rfl) ?_
              refine X_get17 hx hb hts hown hK hM 10 (v := .ref (ad 10)) (by decide) (hts _ q734) rfl dX1_shares_313 ?_
              refine lv_iload hx hb dX1_shares_316 (lv_at hl 4 rfl) ?_
              obtain ⟨hv13, hw⟩ := hw
              refine X_iald hx hb hK hM 10 rfl (j := (ix x7)) rfl hv13 dX1_shares_318 ?_
              obtain ⟨hv14, hw⟩ := hw
              refine X_iast hx hb hK hM hJ (fun _ h => h) hS 10 rfl (j := (ix x6)) rfl hv14 dX1_shares_319 (fun H locs hM hS => ?_)
              obtain ⟨h15, eh15⟩ : ∃ y : Mem, y = up2 h 10 (ix x6) (h 10 (ix x7)) := ⟨_, rfl⟩
              rw [← eh15] at hM
              have hw := hw h15 eh15
              refine lv_iinc (v := (x7 + (1 : Int32))) (lv' := [(7, .int (x7 + (1 : Int32))), (0, .ref (ad 17)), (2, .ref (tw (200 + b2))), (5, .int x5), (6, .int x6)]) hx hb dX1_shares_320 hl (k := 4) rfl rfl (by decide) rfl (fun ls hl => ?_)
              refine lv_goto (tgt := 271) hx hb dX1_shares_323 (by decide) ?_
              exact ih271 h15 (x7 + (1 : Int32)) hw _ _ ls hM hS (lv_sub hl [1, 2, 3, 4, 0] rfl)
      intro h x6 hw H locs ls hM hS hl
      have hw : wpBX1_shares_239 post T a1 b2  (fun h x6 => wpLX1_shares_239 post T a1 b2  x5 n239 (h, x6)) x5 h x6 := hw
      unfold wpBX1_shares_239 at hw
      refine lv_iload hx hb dX1_shares_239 (lv_at hl 3 rfl) ?_
      refine lv_aload_n hx hb dX1_shares_241 rfl (lv_at hl 1 rfl) ?_
      refine L_fldN hx hb hts hown hK (hT.at hS hNA) b2 hb2 4 (v := .ref (tw (300 + b2))) (by decide) (hZ.2.1.nF 20 rfl) rfl dX1_shares_242 ?_
      refine L_alen hx hb hK (hT.at hS hNA) b2 hb2 dX1_shares_245 ?_
      refine lv_icmp_ge (tgt := 332) hx hb dX1_shares_246 (by decide) (fun c5 => ?_) (fun c5 => ?_)
      · have hw := hw.1 c5
        refine lv_iload hx hb dX1_shares_332 (lv_at hl 2 rfl) ?_
        exact X_iret hx hb hr hlocks hM hS hw dX1_shares_334
      · have hw := hw.2 c5
        refine lv_aload_n hx hb dX1_shares_249 rfl (lv_at hl 0 rfl) ?_
        refine X_get17 hx hb hts hown hK hM 0 (v := .ref (tw 9)) (by decide) (hts _ q724) rfl dX1_shares_250 ?_
        refine lv_aload_n hx hb dX1_shares_253 rfl (lv_at hl 1 rfl) ?_
        refine lv_iload hx hb dX1_shares_254 (lv_at hl 3 rfl) ?_
        refine RT_callZ (As := [.ref (tw (200 + b2)), .int x6]) (rest := []) ⟨hx, hb, hml, hown, hts⟩ hS hJ.z hK hZ (hT.at hS hNA) (metX2_isLater l D cA z0 E tw N (ad 70) h T b2 x6 _ hb2 hw) (cwV 2 hts (lw_V q1568 q1465 q1466 q105 q1467) rfl rfl rfl (by decide +kernel) ⟨Nat.le_of_ble_eq_true rfl, Nat.le_of_ble_eq_true rfl⟩) rfl hl.1 rfl (Nat.le_of_ble_eq_true rfl) dX1_shares_256 ⟨Nat.zero_le _, Nat.zero_le _⟩ (fun r6 H locs hw hk hS => ?_)
        have hM := hM.kept hk
        refine lv_if_eq (tgt := 265) hx hb dX1_shares_259 (by decide) (fun c7 => ?_) (fun c7 => ?_)
        · have c7 := b2i_f c7
          have hw := hw.2 c7
          refine lv_iload hx hb dX1_shares_265 (lv_at hl 3 rfl) ?_
          refine lv_iconst (v := (1 : Int32)) hx hb dX1_shares_267 (by decide) ?_
          refine lv_iadd hx hb dX1_shares_268 ?_
          refine lv_istore (lv' := [(7, .int (x6 + (1 : Int32))), (0, .ref (ad 17)), (2, .ref (tw (200 + b2))), (5, .int x5), (6, .int x6)]) hx hb dX1_shares_269 hl (by decide) rfl (fun ls hl => ?_)
          obtain ⟨n16, hw⟩ := hw
          exact hL271 x6 n16 h (x6 + (1 : Int32)) hw _ _ ls hM hS (lv_sub hl [1, 2, 3, 4, 0] rfl)
        · have c7 := b2i_t c7
          have hw := hw.1 c7
          refine lv_goto (tgt := 326) hx hb dX1_shares_262 (by decide) ?_
          refine lv_iinc (v := (x6 + (1 : Int32))) (lv' := [(6, .int (x6 + (1 : Int32))), (0, .ref (ad 17)), (2, .ref (tw (200 + b2))), (5, .int x5)]) hx hb dX1_shares_326 hl (k := 3) rfl rfl (by decide) rfl (fun ls hl => ?_)
          refine lv_goto (tgt := 239) hx hb dX1_shares_329 (by decide) ?_
          exact ih239 h (x6 + (1 : Int32)) hw _ _ ls hM hS (lv_sub hl [1, 2, 3, 0] rfl)
  have hL131 : ∀ (x3 : Int32) (x5 : Int32) (n131 : Nat) (h : Mem) (x6 : Int32), wpLX1_shares_131 post T a1 b2  x3 x5 n131 (h, x6) → JX p l e (headSpec (ws_ yX1_shares cX1_shares 9 (some .int)) ({ frames := 721, cells := 0, slots := 0, locals := 40026 })).room s m ([.ref (ad 17), .int a1, .ref (tw (200 + b2))] : List Value).toArray below meth c (MQ below (XQi D cA tw ad post) ([.ref (ad 17), .int a1, .ref (tw (200 + b2))] : List Value).toArray s 0 0 (XA ad)) D cA tw ad 9 131 h [(0, .ref (ad 17)), (2, .ref (tw (200 + b2))), (3, .int x3), (5, .int x5), (6, .int x6)] [] := by
    intro x3 x5 n131
    induction n131 with
    | zero => intro h x6 hw; exact False.elim hw
    | succ n131 ih131 =>
      have hL158 : ∀ (h : Mem) (x6 : Int32) (n158 : Nat) (x7 : Int32) (x8 : Int32), wpLX1_shares_158 post T a1 b2 (fun h x6 => wpLX1_shares_131 post T a1 b2  x3 x5 n131 (h, x6)) h x3 x5 x6 n158 (x7, x8) → JX p l e (headSpec (ws_ yX1_shares cX1_shares 9 (some .int)) ({ frames := 721, cells := 0, slots := 0, locals := 40026 })).room s m ([.ref (ad 17), .int a1, .ref (tw (200 + b2))] : List Value).toArray below meth c (MQ below (XQi D cA tw ad post) ([.ref (ad 17), .int a1, .ref (tw (200 + b2))] : List Value).toArray s 0 0 (XA ad)) D cA tw ad 9 158 h [(0, .ref (ad 17)), (2, .ref (tw (200 + b2))), (3, .int x3), (5, .int x5), (6, .int x6), (7, .int x7), (8, .int x8)] [] := by
        intro h x6 n158
        induction n158 with
        | zero => intro x7 x8 hw; exact False.elim hw
        | succ n158 ih158 =>
          have hB198 : ∀ (x8 : Int32), wpBX1_shares_198 post T a1 b2 (fun h x6 => wpLX1_shares_131 post T a1 b2  x3 x5 n131 (h, x6)) (fun x7 x8 => wpLX1_shares_158 post T a1 b2 (fun h x6 => wpLX1_shares_131 post T a1 b2  x3 x5 n131 (h, x6)) h x3 x5 x6 n158 (x7, x8)) h x3 x5 x6 x8 → JX p l e (headSpec (ws_ yX1_shares cX1_shares 9 (some .int)) ({ frames := 721, cells := 0, slots := 0, locals := 40026 })).room s m ([.ref (ad 17), .int a1, .ref (tw (200 + b2))] : List Value).toArray below meth c (MQ below (XQi D cA tw ad post) ([.ref (ad 17), .int a1, .ref (tw (200 + b2))] : List Value).toArray s 0 0 (XA ad)) D cA tw ad 9 198 h [(0, .ref (ad 17)), (2, .ref (tw (200 + b2))), (3, .int x3), (5, .int x5), (6, .int x6), (8, .int x8)] [] := by
            intro x8 hw H locs ls hM hS hl
            unfold wpBX1_shares_198 at hw
            refine lv_iload hx hb dX1_shares_198 (lv_at hl 5 rfl) ?_
            refine lv_istore (lv' := [(7, .int x8), (0, .ref (ad 17)), (2, .ref (tw (200 + b2))), (3, .int x3), (5, .int x5), (6, .int x6), (8, .int x8)]) hx hb dX1_shares_200 hl (by decide) rfl (fun ls hl => ?_)
            refine lv_iinc (v := (x8 + (1 : Int32))) (lv' := [(8, .int (x8 + (1 : Int32))), (7, .int x8), (0, .ref (ad 17)), (2, .ref (tw (200 + b2))), (3, .int x3), (5, .int x5), (6, .int x6)]) hx hb dX1_shares_202 hl (k := 6) rfl rfl (by decide) rfl (fun ls hl => ?_)
            refine lv_goto (tgt := 158) hx hb dX1_shares_205 (by decide) ?_
            exact ih158 x8 (x8 + (1 : Int32)) hw _ _ ls hM hS (lv_sub hl [2, 3, 4, 5, 6, 1, 0] rfl)
          intro x7 x8 hw H locs ls hM hS hl
          have hw : wpBX1_shares_158 post T a1 b2 (fun h x6 => wpLX1_shares_131 post T a1 b2  x3 x5 n131 (h, x6)) (fun x7 x8 => wpLX1_shares_158 post T a1 b2 (fun h x6 => wpLX1_shares_131 post T a1 b2  x3 x5 n131 (h, x6)) h x3 x5 x6 n158 (x7, x8)) h x3 x5 x6 x7 x8 := hw
          unfold wpBX1_shares_158 at hw
          refine lv_iload hx hb dX1_shares_158 (lv_at hl 6 rfl) ?_
          refine lv_iload_n hx hb dX1_shares_160 rfl (lv_at hl 2 rfl) ?_
          refine lv_icmp_ge (tgt := 208) hx hb dX1_shares_161 (by decide) (fun c20 => ?_) (fun c20 => ?_)
          · have hw := hw.1 c20
            refine lv_aload_n hx hb dX1_shares_208 rfl (lv_at hl 0 rfl) ?_
            refine X_get17 hx hb hts hown hK hM 10 (v := .ref (ad 10)) (by decide) (hts _ q734) rfl dX1_shares_209 ?_
            refine lv_iload hx hb dX1_shares_212 (lv_at hl 4 rfl) ?_
            refine lv_aload_n hx hb dX1_shares_214 rfl (lv_at hl 0 rfl) ?_
            refine X_get17 hx hb hts hown hK hM 9 (v := .ref (ad 9)) (by decide) (hts _ q733) rfl dX1_shares_215 ?_
            refine lv_iload hx hb dX1_shares_218 (lv_at hl 5 rfl) ?_
            obtain ⟨hv21, hw⟩ := hw
            refine X_iald hx hb hK hM 9 rfl (j := (ix x7)) rfl hv21 dX1_shares_220 ?_
            obtain ⟨hv22, hw⟩ := hw
            refine X_iast hx hb hK hM hJ (fun _ h => h) hS 10 rfl (j := (ix x6)) rfl hv22 dX1_shares_221 (fun H locs hM hS => ?_)
            obtain ⟨h23, eh23⟩ : ∃ y : Mem, y = up2 h 10 (ix x6) (h 9 (ix x7)) := ⟨_, rfl⟩
            rw [← eh23] at hM
            have hw := hw h23 eh23
            refine lv_aload_n hx hb dX1_shares_222 rfl (lv_at hl 0 rfl) ?_
            refine X_get17 hx hb hts hown hK hM 9 (v := .ref (ad 9)) (by decide) (hts _ q733) rfl dX1_shares_223 ?_
            refine lv_iload hx hb dX1_shares_226 (lv_at hl 5 rfl) ?_
            refine lv_iconst (v := (-1 : Int32)) hx hb dX1_shares_228 (by decide) ?_
            refine X_iast hx hb hK hM hJ (fun _ h => h) hS 9 rfl (j := (ix x7)) rfl hv21 dX1_shares_229 (fun H locs hM hS => ?_)
            obtain ⟨h24, eh24⟩ : ∃ y : Mem, y = up2 h23 9 (ix x7) (-1 : Int32) := ⟨_, rfl⟩
            rw [← eh24] at hM
            have hw := hw h24 eh24
            refine lv_iinc (v := (x6 + (-1 : Int32))) (lv' := [(6, .int (x6 + (-1 : Int32))), (0, .ref (ad 17)), (2, .ref (tw (200 + b2))), (3, .int x3), (5, .int x5), (7, .int x7), (8, .int x8)]) hx hb dX1_shares_230 hl (k := 4) rfl rfl (by decide) rfl (fun ls hl => ?_)
            refine lv_goto (tgt := 131) hx hb dX1_shares_233 (by decide) ?_
            exact ih131 h24 (x6 + (-1 : Int32)) hw _ _ ls hM hS (lv_sub hl [1, 2, 3, 4, 0] rfl)
          · have hw := hw.2 c20
            refine lv_aload_n hx hb dX1_shares_164 rfl (lv_at hl 0 rfl) ?_
            refine X_get17 hx hb hts hown hK hM 9 (v := .ref (ad 9)) (by decide) (hts _ q733) rfl dX1_shares_165 ?_
            refine lv_iload hx hb dX1_shares_168 (lv_at hl 6 rfl) ?_
            obtain ⟨hv25, hw⟩ := hw
            refine X_iald hx hb hK hM 9 rfl (j := (ix x8)) rfl hv25 dX1_shares_170 ?_
            refine lv_iconst (v := (-1 : Int32)) hx hb dX1_shares_171 (by decide) ?_
            refine lv_icmp_eq (tgt := 202) hx hb dX1_shares_172 (by decide) (fun c26 => ?_) (fun c26 => ?_)
            · have hw := hw.1 c26
              refine lv_iinc (v := (x8 + (1 : Int32))) (lv' := [(8, .int (x8 + (1 : Int32))), (0, .ref (ad 17)), (2, .ref (tw (200 + b2))), (3, .int x3), (5, .int x5), (6, .int x6), (7, .int x7)]) hx hb dX1_shares_202 hl (k := 6) rfl rfl (by decide) rfl (fun ls hl => ?_)
              refine lv_goto (tgt := 158) hx hb dX1_shares_205 (by decide) ?_
              exact ih158 x7 (x8 + (1 : Int32)) hw _ _ ls hM hS (lv_sub hl [1, 2, 3, 4, 5, 6, 0] rfl)
            · have hw := hw.2 c26
              refine lv_iload hx hb dX1_shares_175 (lv_at hl 5 rfl) ?_
              refine lv_iconst (v := (-1 : Int32)) hx hb dX1_shares_177 (by decide) ?_
              refine lv_icmp_eq (tgt := 198) hx hb dX1_shares_178 (by decide) (fun c27 => ?_) (fun c27 => ?_)
              · have hw := hw.1 c27
                exact hB198 x8 hw _ _ ls hM hS (lv_sub hl [0, 1, 2, 3, 4, 6] rfl)
              · have hw := hw.2 c27
                refine lv_aload_n hx hb dX1_shares_181 rfl (lv_at hl 0 rfl) ?_
                refine X_get17 hx hb hts hown hK hM 9 (v := .ref (ad 9)) (by decide) (hts _ q733) rfl dX1_shares_182 ?_
                refine lv_iload hx hb dX1_shares_185 (lv_at hl 6 rfl) ?_
                refine X_iald hx hb hK hM 9 rfl (j := (ix x8)) rfl hv25 dX1_shares_187 ?_
                refine lv_aload_n hx hb dX1_shares_188 rfl (lv_at hl 0 rfl) ?_
                refine X_get17 hx hb hts hown hK hM 9 (v := .ref (ad 9)) (by decide) (hts _ q733) rfl dX1_shares_189 ?_
                refine lv_iload hx hb dX1_shares_192 (lv_at hl 5 rfl) ?_
                obtain ⟨hv28, hw⟩ := hw
                refine X_iald hx hb hK hM 9 rfl (j := (ix x7)) rfl hv28 dX1_shares_194 ?_
                have hj29 : JX p l e (headSpec (ws_ yX1_shares cX1_shares 9 (some .int)) ({ frames := 721, cells := 0, slots := 0, locals := 40026 })).room s m ([.ref (ad 17), .int a1, .ref (tw (200 + b2))] : List Value).toArray below meth c (MQ below (XQi D cA tw ad post) ([.ref (ad 17), .int a1, .ref (tw (200 + b2))] : List Value).toArray s 0 0 (XA ad)) D cA tw ad 9 202 h [(0, .ref (ad 17)), (2, .ref (tw (200 + b2))), (3, .int x3), (5, .int x5), (6, .int x6), (7, .int (if (h 9 (ix x8)) ≤ (h 9 (ix x7)) then x7 else x8)), (8, .int x8)] [] := by
                  intro H locs ls hM hS hl
                  refine lv_iinc (v := (x8 + (1 : Int32))) (lv' := [(8, .int (x8 + (1 : Int32))), (0, .ref (ad 17)), (2, .ref (tw (200 + b2))), (3, .int x3), (5, .int x5), (6, .int x6), (7, .int (if (h 9 (ix x8)) ≤ (h 9 (ix x7)) then x7 else x8))]) hx hb dX1_shares_202 hl (k := 6) rfl rfl (by decide) rfl (fun ls hl => ?_)
                  refine lv_goto (tgt := 158) hx hb dX1_shares_205 (by decide) ?_
                  exact ih158 (if (h 9 (ix x8)) ≤ (h 9 (ix x7)) then x7 else x8) (x8 + (1 : Int32)) hw _ _ ls hM hS (lv_sub hl [1, 2, 3, 4, 5, 6, 0] rfl)
                refine lv_icmp_le (tgt := 202) hx hb dX1_shares_195 (by decide) (fun c30 => ?_) (fun c30 => ?_)
                · have e31 : (if (h 9 (ix x8)) ≤ (h 9 (ix x7)) then x7 else x8) = x7 := by rw [if_pos c30]
                  rw [e31] at hj29
                  exact hj29 _ _ ls hM hS (lv_sub hl [0, 1, 2, 3, 4, 5, 6] rfl)
                · refine lv_iload hx hb dX1_shares_198 (lv_at hl 6 rfl) ?_
                  refine lv_istore (lv' := [(7, .int x8), (0, .ref (ad 17)), (2, .ref (tw (200 + b2))), (3, .int x3), (5, .int x5), (6, .int x6), (8, .int x8)]) hx hb dX1_shares_200 hl (by decide) rfl (fun ls hl => ?_)
                  have e32 : (if (h 9 (ix x8)) ≤ (h 9 (ix x7)) then x7 else x8) = x8 := by rw [if_neg c30]
                  rw [e32] at hj29
                  exact hj29 _ _ ls hM hS (lv_sub hl [1, 2, 3, 4, 5, 0, 6] rfl)
      intro h x6 hw H locs ls hM hS hl
      have hw : wpBX1_shares_131 post T a1 b2  (fun h x6 => wpLX1_shares_131 post T a1 b2  x3 x5 n131 (h, x6)) x3 x5 h x6 := hw
      unfold wpBX1_shares_131 at hw
      refine lv_iload hx hb dX1_shares_131 (lv_at hl 4 rfl) ?_
      refine lv_if_lt (tgt := 236) hx hb dX1_shares_133 (by decide) (fun c4 => ?_) (fun c4 => ?_)
      · have hw := hw.1 c4
        refine lv_iconst (v := (0 : Int32)) hx hb dX1_shares_236 (by decide) ?_
        refine lv_istore (lv' := [(6, .int (0 : Int32)), (0, .ref (ad 17)), (2, .ref (tw (200 + b2))), (3, .int x3), (5, .int x5)]) hx hb dX1_shares_237 hl (by decide) rfl (fun ls hl => ?_)
        obtain ⟨n17, hw⟩ := hw
        exact hL239 x5 n17 h (0 : Int32) hw _ _ ls hM hS (lv_sub hl [1, 2, 4, 0] rfl)
      · have hw := hw.2 c4
        refine lv_aload_n hx hb dX1_shares_136 rfl (lv_at hl 0 rfl) ?_
        refine X_get17 hx hb hts hown hK hM 0 (v := .ref (tw 9)) (by decide) (hts _ q724) rfl dX1_shares_137 ?_
        refine lv_aload_n hx hb dX1_shares_140 rfl (lv_at hl 1 rfl) ?_
        refine lv_iload hx hb dX1_shares_141 (lv_at hl 4 rfl) ?_
        refine RT_callZ (As := [.ref (tw (200 + b2)), .int x6]) (rest := []) ⟨hx, hb, hml, hown, hts⟩ hS hJ.z hK hZ (hT.at hS hNA) (metX2_isLater l D cA z0 E tw N (ad 70) h T b2 x6 _ hb2 hw) (cwV 2 hts (lw_V q1568 q1465 q1466 q105 q1467) rfl rfl rfl (by decide +kernel) ⟨Nat.le_of_ble_eq_true rfl, Nat.le_of_ble_eq_true rfl⟩) rfl hl.1 rfl (Nat.le_of_ble_eq_true rfl) dX1_shares_143 ⟨Nat.zero_le _, Nat.zero_le _⟩ (fun r18 H locs hw hk hS => ?_)
        have hM := hM.kept hk
        refine lv_if_ne (tgt := 152) hx hb dX1_shares_146 (by decide) (fun c19 => ?_) (fun c19 => ?_)
        · have c19 := b2i_t c19
          have hw := hw.1 c19
          refine lv_iconst (v := (-1 : Int32)) hx hb dX1_shares_152 (by decide) ?_
          refine lv_istore (lv' := [(7, .int (-1 : Int32)), (0, .ref (ad 17)), (2, .ref (tw (200 + b2))), (3, .int x3), (5, .int x5), (6, .int x6)]) hx hb dX1_shares_153 hl (by decide) rfl (fun ls hl => ?_)
          refine lv_iconst (v := (0 : Int32)) hx hb dX1_shares_155 (by decide) ?_
          refine lv_istore (lv' := [(8, .int (0 : Int32)), (7, .int (-1 : Int32)), (0, .ref (ad 17)), (2, .ref (tw (200 + b2))), (3, .int x3), (5, .int x5), (6, .int x6)]) hx hb dX1_shares_156 hl (by decide) rfl (fun ls hl => ?_)
          obtain ⟨n33, hw⟩ := hw
          exact hL158 h x6 n33 (-1 : Int32) (0 : Int32) hw _ _ ls hM hS (lv_sub hl [2, 3, 4, 5, 6, 1, 0] rfl)
        · have c19 := b2i_f c19
          have hw := hw.2 c19
          refine lv_goto (tgt := 230) hx hb dX1_shares_149 (by decide) ?_
          refine lv_iinc (v := (x6 + (-1 : Int32))) (lv' := [(6, .int (x6 + (-1 : Int32))), (0, .ref (ad 17)), (2, .ref (tw (200 + b2))), (3, .int x3), (5, .int x5)]) hx hb dX1_shares_230 hl (k := 4) rfl rfl (by decide) rfl (fun ls hl => ?_)
          refine lv_goto (tgt := 131) hx hb dX1_shares_233 (by decide) ?_
          exact ih131 h (x6 + (-1 : Int32)) hw _ _ ls hM hS (lv_sub hl [1, 2, 3, 4, 0] rfl)
  have hL62 : ∀ (x3 : Int32) (x4 : Int32) (n62 : Nat) (h : Mem) (x5 : Int32) (x6 : Int32), wpLX1_shares_62 post T a1 b2  x3 x4 n62 (h, x5, x6) → JX p l e (headSpec (ws_ yX1_shares cX1_shares 9 (some .int)) ({ frames := 721, cells := 0, slots := 0, locals := 40026 })).room s m ([.ref (ad 17), .int a1, .ref (tw (200 + b2))] : List Value).toArray below meth c (MQ below (XQi D cA tw ad post) ([.ref (ad 17), .int a1, .ref (tw (200 + b2))] : List Value).toArray s 0 0 (XA ad)) D cA tw ad 9 62 h [(0, .ref (ad 17)), (1, .int a1), (2, .ref (tw (200 + b2))), (3, .int x3), (4, .int x4), (5, .int x5), (6, .int x6)] [] := by
    intro x3 x4 n62
    induction n62 with
    | zero => intro h x5 x6 hw; exact False.elim hw
    | succ n62 ih62 =>
      intro h x5 x6 hw H locs ls hM hS hl
      have hw : wpBX1_shares_62 post T a1 b2  (fun h x5 x6 => wpLX1_shares_62 post T a1 b2  x3 x4 n62 (h, x5, x6)) x3 x4 h x5 x6 := hw
      unfold wpBX1_shares_62 at hw
      refine lv_iload hx hb dX1_shares_62 (lv_at hl 6 rfl) ?_
      refine lv_iload_n hx hb dX1_shares_64 rfl (lv_at hl 3 rfl) ?_
      refine lv_icmp_ge (tgt := 122) hx hb dX1_shares_65 (by decide) (fun c3 => ?_) (fun c3 => ?_)
      · have hw := hw.1 c3
        refine lv_aload_n hx hb dX1_shares_122 rfl (lv_at hl 2 rfl) ?_
        refine L_fldN hx hb hts hown hK (hT.at hS hNA) b2 hb2 4 (v := .ref (tw (300 + b2))) (by decide) (hZ.2.1.nF 20 rfl) rfl dX1_shares_123 ?_
        refine L_alen hx hb hK (hT.at hS hNA) b2 hb2 dX1_shares_126 ?_
        refine lv_iconst (v := (1 : Int32)) hx hb dX1_shares_127 (by decide) ?_
        refine lv_isub hx hb dX1_shares_128 ?_
        refine lv_istore (lv' := [(6, .int ((nI (T 8 b2)) - (1 : Int32))), (0, .ref (ad 17)), (1, .int a1), (2, .ref (tw (200 + b2))), (3, .int x3), (4, .int x4), (5, .int x5)]) hx hb dX1_shares_129 hl (by decide) rfl (fun ls hl => ?_)
        obtain ⟨n34, hw⟩ := hw
        exact hL131 x3 x5 n34 h ((nI (T 8 b2)) - (1 : Int32)) hw _ _ ls hM hS (lv_sub hl [1, 3, 4, 6, 0] rfl)
      · have hw := hw.2 c3
        refine lv_aload_n hx hb dX1_shares_68 rfl (lv_at hl 0 rfl) ?_
        refine X_get17 hx hb hts hown hK hM 9 (v := .ref (ad 9)) (by decide) (hts _ q733) rfl dX1_shares_69 ?_
        refine lv_iload hx hb dX1_shares_72 (lv_at hl 6 rfl) ?_
        refine lv_aload_n hx hb dX1_shares_74 rfl (lv_at hl 2 rfl) ?_
        refine L_fldN hx hb hts hown hK (hT.at hS hNA) b2 hb2 1 (v := .int (nI (T 5 b2))) (by decide) (hZ.2.1.nF 17 rfl) rfl dX1_shares_75 ?_
        refine lv_aload_n hx hb dX1_shares_78 rfl (lv_at hl 0 rfl) ?_
        refine X_get17 hx hb hts hown hK hM 0 (v := .ref (tw 9)) (by decide) (hts _ q724) rfl dX1_shares_79 ?_
        refine lv_iload_n hx hb dX1_shares_82 rfl (lv_at hl 1 rfl) ?_
        refine lv_aload_n hx hb dX1_shares_83 rfl (lv_at hl 2 rfl) ?_
        refine lv_aload_n hx hb dX1_shares_84 rfl (lv_at hl 0 rfl) ?_
        refine X_get17 hx hb hts hown hK hM 3 (v := .ref (ad 45)) (by decide) (hts _ q727) rfl dX1_shares_85 ?_
        refine X_get45N hx hb hts hown hK hM 2 (v := .ref (ad 42)) (by decide) (hZ.2.1.nF 15 rfl) rfl dX1_shares_88 ?_
        refine lv_iload_n hx hb dX1_shares_91 rfl (lv_at hl 1 rfl) ?_
        obtain ⟨hv35, hw⟩ := hw
        refine X_iald hx hb hK hM 42 rfl (j := (ix a1)) rfl hv35 dX1_shares_92 ?_
        refine lv_iload hx hb dX1_shares_93 (lv_at hl 6 rfl) ?_
        refine lv_iload_n hx hb dX1_shares_95 rfl (lv_at hl 3 rfl) ?_
        obtain ⟨p36, ep36, hp36, hw⟩ := hw
        refine X_weight ⟨hx, hb, hml, hown, hts⟩ hK hZ (hT.at hS hNA) hN hM hJ hS p36 hp36 ep36 b2 hb2 (cwV 5 hts (lw_V q1505 q1506 q1507 q105 q1508) rfl rfl rfl (by decide +kernel) ⟨Nat.le_of_ble_eq_true rfl, Nat.le_of_ble_eq_true rfl⟩) hl.1 (Nat.le_of_ble_eq_true rfl) dX1_shares_96 ⟨Nat.zero_le _, Nat.zero_le _⟩ (fun w37 H locs hM hS => ?_)
        obtain ⟨h38, eh38⟩ : ∃ y : Mem, y = setp h 70 w37 := ⟨_, rfl⟩
        rw [← eh38] at hM
        have hw := hw w37 h38 eh38
        refine lv_imul hx hb dX1_shares_99 ?_
        refine lv_iload hx hb dX1_shares_100 (lv_at hl 4 rfl) ?_
        obtain ⟨hne, hw⟩ := hw
        refine lv_idiv hx hb dX1_shares_102 hne ?_
        obtain ⟨hv39, hw⟩ := hw
        refine X_iast hx hb hK hM hJ (fun _ h => h) hS 9 rfl (j := (ix x6)) rfl hv39 dX1_shares_103 (fun H locs hM hS => ?_)
        obtain ⟨h40, eh40⟩ : ∃ y : Mem, y = up2 h38 9 (ix x6) (((nI (T 5 b2)) * (wgt T p36 b2 (h 42 (ix a1)) x6 x3)) / x4) := ⟨_, rfl⟩
        rw [← eh40] at hM
        have hw := hw h40 eh40
        refine lv_iload hx hb dX1_shares_104 (lv_at hl 5 rfl) ?_
        refine lv_aload_n hx hb dX1_shares_106 rfl (lv_at hl 0 rfl) ?_
        refine X_get17 hx hb hts hown hK hM 9 (v := .ref (ad 9)) (by decide) (hts _ q733) rfl dX1_shares_107 ?_
        refine lv_iload hx hb dX1_shares_110 (lv_at hl 6 rfl) ?_
        refine X_iald hx hb hK hM 9 rfl (j := (ix x6)) rfl hv39 dX1_shares_112 ?_
        refine lv_isub hx hb dX1_shares_113 ?_
        refine lv_istore (lv' := [(5, .int (x5 - (h40 9 (ix x6)))), (0, .ref (ad 17)), (1, .int a1), (2, .ref (tw (200 + b2))), (3, .int x3), (4, .int x4), (6, .int x6)]) hx hb dX1_shares_114 hl (by decide) rfl (fun ls hl => ?_)
        refine lv_iinc (v := (x6 + (1 : Int32))) (lv' := [(6, .int (x6 + (1 : Int32))), (5, .int (x5 - (h40 9 (ix x6)))), (0, .ref (ad 17)), (1, .int a1), (2, .ref (tw (200 + b2))), (3, .int x3), (4, .int x4)]) hx hb dX1_shares_116 hl (k := 6) rfl rfl (by decide) rfl (fun ls hl => ?_)
        refine lv_goto (tgt := 62) hx hb dX1_shares_119 (by decide) ?_
        exact ih62 h40 (x5 - (h40 9 (ix x6))) (x6 + (1 : Int32)) hw _ _ ls hM hS (lv_sub hl [2, 3, 4, 5, 6, 1, 0] rfl)
  have hL15 : ∀ (x3 : Int32) (n15 : Nat) (h : Mem) (x4 : Int32) (x5 : Int32), wpLX1_shares_15 post T a1 b2  x3 n15 (h, x4, x5) → JX p l e (headSpec (ws_ yX1_shares cX1_shares 9 (some .int)) ({ frames := 721, cells := 0, slots := 0, locals := 40026 })).room s m ([.ref (ad 17), .int a1, .ref (tw (200 + b2))] : List Value).toArray below meth c (MQ below (XQi D cA tw ad post) ([.ref (ad 17), .int a1, .ref (tw (200 + b2))] : List Value).toArray s 0 0 (XA ad)) D cA tw ad 9 15 h [(0, .ref (ad 17)), (1, .int a1), (2, .ref (tw (200 + b2))), (3, .int x3), (4, .int x4), (5, .int x5)] [] := by
    intro x3 n15
    induction n15 with
    | zero => intro h x4 x5 hw; exact False.elim hw
    | succ n15 ih15 =>
      intro h x4 x5 hw H locs ls hM hS hl
      have hw : wpBX1_shares_15 post T a1 b2  (fun h x4 x5 => wpLX1_shares_15 post T a1 b2  x3 n15 (h, x4, x5)) x3 h x4 x5 := hw
      unfold wpBX1_shares_15 at hw
      refine lv_iload hx hb dX1_shares_15 (lv_at hl 5 rfl) ?_
      refine lv_iload_n hx hb dX1_shares_17 rfl (lv_at hl 3 rfl) ?_
      refine lv_icmp_ge (tgt := 53) hx hb dX1_shares_18 (by decide) (fun c2 => ?_) (fun c2 => ?_)
      · have hw := hw.1 c2
        refine lv_aload_n hx hb dX1_shares_53 rfl (lv_at hl 2 rfl) ?_
        refine L_fldN hx hb hts hown hK (hT.at hS hNA) b2 hb2 1 (v := .int (nI (T 5 b2))) (by decide) (hZ.2.1.nF 17 rfl) rfl dX1_shares_54 ?_
        refine lv_istore (lv' := [(5, .int (nI (T 5 b2))), (0, .ref (ad 17)), (1, .int a1), (2, .ref (tw (200 + b2))), (3, .int x3), (4, .int x4)]) hx hb dX1_shares_57 hl (by decide) rfl (fun ls hl => ?_)
        refine lv_iconst (v := (0 : Int32)) hx hb dX1_shares_59 (by decide) ?_
        refine lv_istore (lv' := [(6, .int (0 : Int32)), (5, .int (nI (T 5 b2))), (0, .ref (ad 17)), (1, .int a1), (2, .ref (tw (200 + b2))), (3, .int x3), (4, .int x4)]) hx hb dX1_shares_60 hl (by decide) rfl (fun ls hl => ?_)
        obtain ⟨n41, hw⟩ := hw
        exact hL62 x3 x4 n41 h (nI (T 5 b2)) (0 : Int32) hw _ _ ls hM hS (lv_sub hl [2, 3, 4, 5, 6, 1, 0] rfl)
      · have hw := hw.2 c2
        refine lv_iload hx hb dX1_shares_21 (lv_at hl 4 rfl) ?_
        refine lv_aload_n hx hb dX1_shares_23 rfl (lv_at hl 0 rfl) ?_
        refine X_get17 hx hb hts hown hK hM 0 (v := .ref (tw 9)) (by decide) (hts _ q724) rfl dX1_shares_24 ?_
        refine lv_iload_n hx hb dX1_shares_27 rfl (lv_at hl 1 rfl) ?_
        refine lv_aload_n hx hb dX1_shares_28 rfl (lv_at hl 2 rfl) ?_
        refine lv_aload_n hx hb dX1_shares_29 rfl (lv_at hl 0 rfl) ?_
        refine X_get17 hx hb hts hown hK hM 3 (v := .ref (ad 45)) (by decide) (hts _ q727) rfl dX1_shares_30 ?_
        refine X_get45N hx hb hts hown hK hM 2 (v := .ref (ad 42)) (by decide) (hZ.2.1.nF 15 rfl) rfl dX1_shares_33 ?_
        refine lv_iload_n hx hb dX1_shares_36 rfl (lv_at hl 1 rfl) ?_
        obtain ⟨hv42, hw⟩ := hw
        refine X_iald hx hb hK hM 42 rfl (j := (ix a1)) rfl hv42 dX1_shares_37 ?_
        refine lv_iload hx hb dX1_shares_38 (lv_at hl 5 rfl) ?_
        refine lv_iload_n hx hb dX1_shares_40 rfl (lv_at hl 3 rfl) ?_
        obtain ⟨p43, ep43, hp43, hw⟩ := hw
        refine X_weight ⟨hx, hb, hml, hown, hts⟩ hK hZ (hT.at hS hNA) hN hM hJ hS p43 hp43 ep43 b2 hb2 (cwV 5 hts (lw_V q1505 q1506 q1507 q105 q1508) rfl rfl rfl (by decide +kernel) ⟨Nat.le_of_ble_eq_true rfl, Nat.le_of_ble_eq_true rfl⟩) hl.1 (Nat.le_of_ble_eq_true rfl) dX1_shares_41 ⟨Nat.zero_le _, Nat.zero_le _⟩ (fun w44 H locs hM hS => ?_)
        obtain ⟨h45, eh45⟩ : ∃ y : Mem, y = setp h 70 w44 := ⟨_, rfl⟩
        rw [← eh45] at hM
        have hw := hw w44 h45 eh45
        refine lv_iadd hx hb dX1_shares_44 ?_
        refine lv_istore (lv' := [(4, .int (x4 + (wgt T p43 b2 (h 42 (ix a1)) x5 x3))), (0, .ref (ad 17)), (1, .int a1), (2, .ref (tw (200 + b2))), (3, .int x3), (5, .int x5)]) hx hb dX1_shares_45 hl (by decide) rfl (fun ls hl => ?_)
        refine lv_iinc (v := (x5 + (1 : Int32))) (lv' := [(5, .int (x5 + (1 : Int32))), (4, .int (x4 + (wgt T p43 b2 (h 42 (ix a1)) x5 x3))), (0, .ref (ad 17)), (1, .int a1), (2, .ref (tw (200 + b2))), (3, .int x3)]) hx hb dX1_shares_47 hl (k := 5) rfl rfl (by decide) rfl (fun ls hl => ?_)
        refine lv_goto (tgt := 15) hx hb dX1_shares_50 (by decide) ?_
        exact ih15 h45 (x4 + (wgt T p43 b2 (h 42 (ix a1)) x5 x3)) (x5 + (1 : Int32)) hw _ _ ls hM hS (lv_sub hl [2, 3, 4, 5, 1, 0] rfl)
  unfold wpX1_shares at hw
  refine lv_aload_n hx hb dX1_shares_0 rfl (lv_at hl 0 rfl) ?_
  refine X_get17 hx hb hts hown hK hM 0 (v := .ref (tw 9)) (by decide) (hts _ q724) rfl dX1_shares_1 ?_
  refine lv_aload_n hx hb dX1_shares_4 rfl (lv_at hl 2 rfl) ?_
  refine RT_callI (As := [.ref (tw (200 + b2))]) (rest := []) ⟨hx, hb, hml, hown, hts⟩ hS hJ.z hK hZ (hT.at hS hNA) (metX2_slices l D cA z0 E tw N (ad 70) h T b2 _ hb2 hw) (cwV 1 hts (lw_V q1460 q1461 q1462 q105 q1463) rfl rfl rfl (by decide +kernel) ⟨Nat.le_of_ble_eq_true rfl, Nat.le_of_ble_eq_true rfl⟩) rfl hl.1 rfl (Nat.le_of_ble_eq_true rfl) dX1_shares_5 ⟨Nat.zero_le _, Nat.zero_le _⟩ (fun r1 H locs hw hk hS => ?_)
  have hM := hM.kept hk
  refine lv_istore_n (lv' := [(3, .int r1), (0, .ref (ad 17)), (1, .int a1), (2, .ref (tw (200 + b2)))]) hx hb dX1_shares_8 rfl hl (by decide) rfl (fun ls hl => ?_)
  refine lv_iconst (v := (0 : Int32)) hx hb dX1_shares_9 (by decide) ?_
  refine lv_istore (lv' := [(4, .int (0 : Int32)), (3, .int r1), (0, .ref (ad 17)), (1, .int a1), (2, .ref (tw (200 + b2)))]) hx hb dX1_shares_10 hl (by decide) rfl (fun ls hl => ?_)
  refine lv_iconst (v := (0 : Int32)) hx hb dX1_shares_12 (by decide) ?_
  refine lv_istore (lv' := [(5, .int (0 : Int32)), (4, .int (0 : Int32)), (3, .int r1), (0, .ref (ad 17)), (1, .int a1), (2, .ref (tw (200 + b2)))]) hx hb dX1_shares_13 hl (by decide) rfl (fun ls hl => ?_)
  obtain ⟨n46, hw⟩ := hw
  exact hL15 r1 n46 h (0 : Int32) (0 : Int32) hw _ _ ls hM hS (lv_sub hl [3, 4, 5, 2, 1, 0] rfl)

/-- StrangeKnives.unfair(ILStrangeKnives$Loaf;)I -/
def wpBX1_unfair_25 (post : Int32 → Mem → Prop) (T : TT) (a1 : Int32) (b2 : Nat)  (K25 : Int32 → Int32 → Int32 → Prop) (h : Mem)  (x3 : Int32) (x4 : Int32) (x5 : Int32) : Prop :=
  (((nI (T 8 b2)) ≤ x5 → post (x3 - x4) h) ∧ (¬ (nI (T 8 b2)) ≤ x5 → (vp_in x5 (Xlen 10) ∧ K25 (mxI x3 (h 10 (ix x5))) (mnI x4 (h 10 (ix x5))) (x5 + (1 : Int32)))))
def wpLX1_unfair_25 (post : Int32 → Mem → Prop) (T : TT) (a1 : Int32) (b2 : Nat)  (h : Mem)  : Nat → (Int32 × Int32 × Int32) → Prop := LW (fun K s => wpBX1_unfair_25 post T a1 b2  (fun x3 x4 x5 => K (x3, x4, x5)) h  s.1 s.2.1 s.2.2)
def wpX1_unfair (post : Int32 → Mem → Prop) (h : Mem) (T : TT) (a1 : Int32) (b2 : Nat) : Prop :=
  (wpX1_shares (fun r2 h1 => (∃ n, wpLX1_unfair_25 post T a1 b2  h1 n ((h1 10 0), (h1 10 0), (1 : Int32)))) h T a1 b2)
set_option maxHeartbeats 4000000 in
set_option maxRecDepth 100000 in
theorem metX1_unfair (l : Launch) (D : va_G) (cA : Nat → ClassId) (z0 : Nat) (E : Nat → Nat → Nat) (tw : Nat → Nat) (N : Nat → Prop) (ad : Nat → Nat) (h : Mem) (T : TT) (a1 : Int32) (b2 : Nat) (post : Int32 → Mem → Prop) (hb2 : b2 < T 0 1) (hw : wpX1_unfair post h T a1 b2) : MeXI l D cA z0 E T tw N ad yX1_unfair (ws_ yX1_unfair cX1_unfair 6 (some .int)) ({ frames := 722, cells := 0, slots := 0, locals := 40054 }) [.ref (ad 17), .int a1, .ref (tw (200 + b2))] h post := by
  refine Met.ofW (cc := cX1_unfair) (maxL := 6) (ret := (some .int)) (by decide) rfl ?_
  intro p e s m args below meth c s₁ B hml hv
  obtain ⟨rfl, hv⟩ := hv
  have hx := B.exec
  have hb := B.bytes
  have hr := B.returns
  have hts := atoms_spec (ws := ws_ yX1_unfair cX1_unfair 6 (some .int)) B.pre
  have hts : ∀ w ∈ lw_all, w.before _ s = true := fun w h => hts w (List.mem_cons_of_mem _ h)
  have hown : s.vm.findClass RX1 = some m.cls := findClass_of_methodNamed B.named
  have hlocks := B.notSynchronized
  have hl := lv_entry ([.ref (ad 17), .int a1, .ref (tw (200 + b2))]) (n := 6) (Nat.le_of_ble_eq_true rfl)
  rw [lg_entry_eq]
  generalize (lg_sl ([.ref (ad 17), .int a1, .ref (tw (200 + b2))]) ++ List.replicate (6 - (lg_sl ([.ref (ad 17), .int a1, .ref (tw (200 + b2))])).length) Slot.unset).toArray = ls at hl ⊢
  have hl : lv_has ls 6 [(0, .ref (ad 17)), (1, .int a1), (2, .ref (tw (200 + b2)))] := hl
  obtain ⟨hM, hJ, hN, hT, hK, hZ⟩ := hv
  have hNA : ∀ q, N q → q < s.heap.size → ¬ XA ad q := fun q h _ => hN q h
  have hS : va_S (XA ad) s.heap s.heap [] := va_S.rf
  have hL25 : ∀ (h : Mem)  (n25 : Nat) (x3 : Int32) (x4 : Int32) (x5 : Int32), wpLX1_unfair_25 post T a1 b2  h  n25 (x3, x4, x5) → JX p l e (headSpec (ws_ yX1_unfair cX1_unfair 6 (some .int)) ({ frames := 722, cells := 0, slots := 0, locals := 40054 })).room s m ([.ref (ad 17), .int a1, .ref (tw (200 + b2))] : List Value).toArray below meth c (MQ below (XQi D cA tw ad post) ([.ref (ad 17), .int a1, .ref (tw (200 + b2))] : List Value).toArray s 0 0 (XA ad)) D cA tw ad 6 25 h [(0, .ref (ad 17)), (2, .ref (tw (200 + b2))), (3, .int x3), (4, .int x4), (5, .int x5)] [] := by
    intro h n25
    induction n25 with
    | zero => intro x3 x4 x5 hw; exact False.elim hw
    | succ n25 ih25 =>
      intro x3 x4 x5 hw H locs ls hM hS hl
      have hw : wpBX1_unfair_25 post T a1 b2  (fun x3 x4 x5 => wpLX1_unfair_25 post T a1 b2  h  n25 (x3, x4, x5)) h  x3 x4 x5 := hw
      unfold wpBX1_unfair_25 at hw
      refine lv_iload hx hb dX1_unfair_25 (lv_at hl 4 rfl) ?_
      refine lv_aload_n hx hb dX1_unfair_27 rfl (lv_at hl 1 rfl) ?_
      refine L_fldN hx hb hts hown hK (hT.at hS hNA) b2 hb2 4 (v := .ref (tw (300 + b2))) (by decide) (hZ.2.1.nF 20 rfl) rfl dX1_unfair_28 ?_
      refine L_alen hx hb hK (hT.at hS hNA) b2 hb2 dX1_unfair_31 ?_
      refine lv_icmp_ge (tgt := 67) hx hb dX1_unfair_32 (by decide) (fun c3 => ?_) (fun c3 => ?_)
      · have hw := hw.1 c3
        refine lv_iload_n hx hb dX1_unfair_67 rfl (lv_at hl 2 rfl) ?_
        refine lv_iload hx hb dX1_unfair_68 (lv_at hl 3 rfl) ?_
        refine lv_isub hx hb dX1_unfair_70 ?_
        exact X_iret hx hb hr hlocks hM hS hw dX1_unfair_71
      · have hw := hw.2 c3
        refine lv_iload_n hx hb dX1_unfair_35 rfl (lv_at hl 2 rfl) ?_
        refine lv_aload_n hx hb dX1_unfair_36 rfl (lv_at hl 0 rfl) ?_
        refine X_get17 hx hb hts hown hK hM 10 (v := .ref (ad 10)) (by decide) (hts _ q734) rfl dX1_unfair_37 ?_
        refine lv_iload hx hb dX1_unfair_40 (lv_at hl 4 rfl) ?_
        obtain ⟨hv4, hw⟩ := hw
        refine X_iald hx hb hK hM 10 rfl (j := (ix x5)) rfl hv4 dX1_unfair_42 ?_
        refine J_mxI hx hb hml hl.1 hown (hts _ q881) (hts _ q273) (hts _ q118) (hts _ q274) (Nat.le_of_ble_eq_true rfl) (Nat.le_of_ble_eq_true rfl) (Nat.zero_le _) (Nat.zero_le _) dX1_unfair_43 ?_
        refine lv_istore_n (lv' := [(3, .int (mxI x3 (h 10 (ix x5)))), (0, .ref (ad 17)), (2, .ref (tw (200 + b2))), (4, .int x4), (5, .int x5)]) hx hb dX1_unfair_46 rfl hl (by decide) rfl (fun ls hl => ?_)
        refine lv_iload hx hb dX1_unfair_47 (lv_at hl 3 rfl) ?_
        refine lv_aload_n hx hb dX1_unfair_49 rfl (lv_at hl 1 rfl) ?_
        refine X_get17 hx hb hts hown hK hM 10 (v := .ref (ad 10)) (by decide) (hts _ q734) rfl dX1_unfair_50 ?_
        refine lv_iload hx hb dX1_unfair_53 (lv_at hl 4 rfl) ?_
        refine X_iald hx hb hK hM 10 rfl (j := (ix x5)) rfl hv4 dX1_unfair_55 ?_
        refine J_mnI hx hb hml hl.1 hown (hts _ q895) (hts _ q291) (hts _ q118) (hts _ q292) (Nat.le_of_ble_eq_true rfl) (Nat.le_of_ble_eq_true rfl) (Nat.zero_le _) (Nat.zero_le _) dX1_unfair_56 ?_
        refine lv_istore (lv' := [(4, .int (mnI x4 (h 10 (ix x5)))), (3, .int (mxI x3 (h 10 (ix x5)))), (0, .ref (ad 17)), (2, .ref (tw (200 + b2))), (5, .int x5)]) hx hb dX1_unfair_59 hl (by decide) rfl (fun ls hl => ?_)
        refine lv_iinc (v := (x5 + (1 : Int32))) (lv' := [(5, .int (x5 + (1 : Int32))), (4, .int (mnI x4 (h 10 (ix x5)))), (3, .int (mxI x3 (h 10 (ix x5)))), (0, .ref (ad 17)), (2, .ref (tw (200 + b2)))]) hx hb dX1_unfair_61 hl (k := 4) rfl rfl (by decide) rfl (fun ls hl => ?_)
        refine lv_goto (tgt := 25) hx hb dX1_unfair_64 (by decide) ?_
        exact ih25 (mxI x3 (h 10 (ix x5))) (mnI x4 (h 10 (ix x5))) (x5 + (1 : Int32)) hw _ _ ls hM hS (lv_sub hl [3, 4, 2, 1, 0] rfl)
  unfold wpX1_unfair at hw
  refine lv_aload_n hx hb dX1_unfair_0 rfl (lv_at hl 0 rfl) ?_
  refine lv_iload_n hx hb dX1_unfair_1 rfl (lv_at hl 1 rfl) ?_
  refine lv_aload_n hx hb dX1_unfair_2 rfl (lv_at hl 2 rfl) ?_
  refine XX_callI (As := [.int a1, .ref (tw (200 + b2))]) (rest := []) ⟨hx, hb, hml, hown, hts⟩ hK hZ (hT.at hS hNA) hN (fun _ h => h) hJ.z hM hJ hS (metX1_shares l D cA z0 E tw N ad h T a1 b2 _ hb2 hw) (cwV 2 hts (lw_V q1501 q1503 qs39 q104 q1504) rfl rfl rfl (by decide +kernel) ⟨Nat.le_of_ble_eq_true rfl, Nat.le_of_ble_eq_true rfl⟩) rfl hl.1 rfl (Nat.le_of_ble_eq_true rfl) dX1_unfair_3 ⟨Nat.zero_le _, Nat.zero_le _⟩ (fun r2 h1 H locs hw hM hS => ?_)
  refine lv_pop hx hb dX1_unfair_6 rfl ?_
  refine lv_aload_n hx hb dX1_unfair_7 rfl (lv_at hl 0 rfl) ?_
  refine X_get17 hx hb hts hown hK hM 10 (v := .ref (ad 10)) (by decide) (hts _ q734) rfl dX1_unfair_8 ?_
  refine lv_iconst (v := (0 : Int32)) hx hb dX1_unfair_11 (by decide) ?_
  refine X_iald hx hb hK hM 10 rfl (j := 0) rfl (by unfold vp_in; decide) dX1_unfair_12 ?_
  refine lv_istore_n (lv' := [(3, .int (h1 10 0)), (0, .ref (ad 17)), (1, .int a1), (2, .ref (tw (200 + b2)))]) hx hb dX1_unfair_13 rfl hl (by decide) rfl (fun ls hl => ?_)
  refine lv_aload_n hx hb dX1_unfair_14 rfl (lv_at hl 1 rfl) ?_
  refine X_get17 hx hb hts hown hK hM 10 (v := .ref (ad 10)) (by decide) (hts _ q734) rfl dX1_unfair_15 ?_
  refine lv_iconst (v := (0 : Int32)) hx hb dX1_unfair_18 (by decide) ?_
  refine X_iald hx hb hK hM 10 rfl (j := 0) rfl (by unfold vp_in; decide) dX1_unfair_19 ?_
  refine lv_istore (lv' := [(4, .int (h1 10 0)), (3, .int (h1 10 0)), (0, .ref (ad 17)), (1, .int a1), (2, .ref (tw (200 + b2)))]) hx hb dX1_unfair_20 hl (by decide) rfl (fun ls hl => ?_)
  refine lv_iconst (v := (1 : Int32)) hx hb dX1_unfair_22 (by decide) ?_
  refine lv_istore (lv' := [(5, .int (1 : Int32)), (4, .int (h1 10 0)), (3, .int (h1 10 0)), (0, .ref (ad 17)), (1, .int a1), (2, .ref (tw (200 + b2)))]) hx hb dX1_unfair_23 hl (by decide) rfl (fun ls hl => ?_)
  obtain ⟨n5, hw⟩ := hw
  exact hL25 h1 n5 (h1 10 0) (h1 10 0) (1 : Int32) hw _ _ ls hM hS (lv_sub hl [3, 5, 2, 1, 0] rfl)

/-- StrangeKnives.chooses(II)V -/
def wpBX1_chooses_116 (wE : (Mem → Prop) → Mem → TT → Int32 → Int32 → Prop) (post : Mem → Prop) (T : TT) (a1 : Int32) (a2 : Int32)  (K116 : Mem → Int32 → Prop) (x3 : Int32) (h : Mem) (x4 : Int32) : Prop :=
  (wpX1_people (fun r9 => ((r9 ≤ x4 → post h) ∧ (¬ r9 ≤ x4 → ((((x3 >>> (x4 &&& 31)) &&& (1 : Int32)) = 0 → K116 h (x4 + (1 : Int32))) ∧ (¬ ((x3 >>> (x4 &&& 31)) &&& (1 : Int32)) = 0 → (vp_in a1 (Xlen 11) ∧ (∀ h13 : Mem, h13 = up2 h 11 (ix a1) x4 → (∃ b14 : Nat, a1 = nI b14 ∧ b14 < T 0 1 ∧ (wpX2_house (fun r15 => (wE (fun h16 => K116 h16 (x4 + (1 : Int32))) h13 T (a1 + (1 : Int32)) (a2 + (abI ((nI (T 4 b14)) - r15))))) h13 T x4))))))))) h T )
def wpLX1_chooses_116 (wE : (Mem → Prop) → Mem → TT → Int32 → Int32 → Prop) (post : Mem → Prop) (T : TT) (a1 : Int32) (a2 : Int32)  (x3 : Int32) : Nat → (Mem × Int32) → Prop := LW (fun K s => wpBX1_chooses_116 wE post T a1 a2  (fun h x4 => K (h, x4)) x3 s.1 s.2)
def wpBX1_chooses_27 (wE : (Mem → Prop) → Mem → TT → Int32 → Int32 → Prop) (post : Mem → Prop) (T : TT) (a1 : Int32) (a2 : Int32)  (K27 : Int32 → Prop) (h : Mem)  (x3 : Int32) : Prop :=
  (wpX1_people (fun r21 => ((r21 ≤ x3 → (∀ h23 : Mem, h23 = up2 h 13 0 a2 → (∀ h24 : Mem, h24 = cpM h23 12 11 6 → post h24))) ∧ (¬ r21 ≤ x3 → (wpX1_isInTime (fun r25 => ((r25 = true → K27 (x3 + (1 : Int32))) ∧ (¬ r25 = true → post h))) h T x3)))) h T )
def wpLX1_chooses_27 (wE : (Mem → Prop) → Mem → TT → Int32 → Int32 → Prop) (post : Mem → Prop) (T : TT) (a1 : Int32) (a2 : Int32)  (h : Mem)  : Nat → (Int32) → Prop := LW (fun K s => wpBX1_chooses_27 wE post T a1 a2  (fun x3 => K x3) h  s)
def wpBX1_chooses_17 (wE : (Mem → Prop) → Mem → TT → Int32 → Int32 → Prop) (post : Mem → Prop) (T : TT) (a1 : Int32) (a2 : Int32)  (h : Mem)   : Prop :=
  (wpX1_loaves (fun r2 => ((a1 = r2 → (∃ n, wpLX1_chooses_27 wE post T a1 a2  h n (0 : Int32))) ∧ (¬ a1 = r2 → (vp_in a1 (Xlen 11) ∧ (∀ h5 : Mem, h5 = up2 h 11 (ix a1) (-1 : Int32) → (vp_in a1 (Xlen 41) ∧ (((h5 41 (ix a1)) = (-1 : Int32) → (wpX6_whoCan (fun r8 => (∃ n, wpLX1_chooses_116 wE post T a1 a2  r8 n (h5, (0 : Int32)))) (sub h5 40) T a1)) ∧ (¬ (h5 41 (ix a1)) = (-1 : Int32) → (wE (fun h19 => post h19) h5 T (a1 + (1 : Int32)) a2))))))))) h T )
def wpRX1_chooses (wE : (Mem → Prop) → Mem → TT → Int32 → Int32 → Prop) (post : Mem → Prop) (h : Mem) (T : TT) (a1 : Int32) (a2 : Int32) : Prop :=
  (((h 13 0) = (-1 : Int32) → wpBX1_chooses_17 wE post T a1 a2  h ) ∧ (¬ (h 13 0) = (-1 : Int32) → ((a2 < (h 13 0) → wpBX1_chooses_17 wE post T a1 a2  h ) ∧ (¬ a2 < (h 13 0) → post h))))
def wpX1_chooses : Nat → (Mem → Prop) → Mem → TT → Int32 → Int32 → Prop
  | 0 => fun _ _ _ _ _ => False
  | d + 1 => wpRX1_chooses (wpX1_chooses d)
set_option maxHeartbeats 4000000 in
set_option maxRecDepth 100000 in
theorem metRX1_chooses (l : Launch) (D : va_G) (cA : Nat → ClassId) (z0 : Nat) (E : Nat → Nat → Nat) (tw : Nat → Nat) (N : Nat → Prop) (ad : Nat → Nat) (T : TT) (wE : (Mem → Prop) → Mem → TT → Int32 → Int32 → Prop) (fE lE : Nat) (hE : ∀ (post : Mem → Prop) (h : Mem) (a1 : Int32) (a2 : Int32), wE post h T a1 a2 → MeXV l D cA z0 E T tw N ad yX1_chooses (ws_ yX1_chooses cX1_chooses 5 none) ({ frames := fE, cells := 0, slots := 0, locals := lE }) [.ref (ad 17), .int a1, .int a2] h post) (h : Mem) (a1 : Int32) (a2 : Int32) (post : Mem → Prop) (hw : wpRX1_chooses wE post h T a1 a2) : MeXV l D cA z0 E T tw N ad yX1_chooses (ws_ yX1_chooses cX1_chooses 5 none) ({ frames := fE + 10, cells := 0, slots := 0, locals := lE + 294 }) [.ref (ad 17), .int a1, .int a2] h post := by
  refine Met.ofW (cc := cX1_chooses) (maxL := 5) (ret := none) (by decide) rfl ?_
  intro p e s m args below meth c s₁ B hml hv
  obtain ⟨rfl, hv⟩ := hv
  have hx := B.exec
  have hb := B.bytes
  have hr := B.returns
  have hts := atoms_spec (ws := ws_ yX1_chooses cX1_chooses 5 none) B.pre
  have hts : ∀ w ∈ lw_all, w.before _ s = true := fun w h => hts w (List.mem_cons_of_mem _ h)
  have hown : s.vm.findClass RX1 = some m.cls := findClass_of_methodNamed B.named
  have hlocks := B.notSynchronized
  have hl := lv_entry ([.ref (ad 17), .int a1, .int a2]) (n := 5) (Nat.le_of_ble_eq_true rfl)
  rw [lg_entry_eq]
  generalize (lg_sl ([.ref (ad 17), .int a1, .int a2]) ++ List.replicate (5 - (lg_sl ([.ref (ad 17), .int a1, .int a2])).length) Slot.unset).toArray = ls at hl ⊢
  have hl : lv_has ls 5 [(0, .ref (ad 17)), (1, .int a1), (2, .int a2)] := hl
  obtain ⟨hM, hJ, hN, hT, hK, hZ⟩ := hv
  have hNA : ∀ q, N q → q < s.heap.size → ¬ XA ad q := fun q h _ => hN q h
  have hS : va_S (XA ad) s.heap s.heap [] := va_S.rf
  have hL116 : ∀ (x3 : Int32) (n116 : Nat) (h : Mem) (x4 : Int32), wpLX1_chooses_116 wE post T a1 a2  x3 n116 (h, x4) → JX p l e (headSpec (ws_ yX1_chooses cX1_chooses 5 none) ({ frames := fE + 10, cells := 0, slots := 0, locals := lE + 294 })).room s m ([.ref (ad 17), .int a1, .int a2] : List Value).toArray below meth c (MQ below (XQv D cA tw ad post) ([.ref (ad 17), .int a1, .int a2] : List Value).toArray s 0 0 (XA ad)) D cA tw ad 5 116 h [(0, .ref (ad 17)), (1, .int a1), (2, .int a2), (3, .int x3), (4, .int x4)] [] := by
    intro x3 n116
    induction n116 with
    | zero => intro h x4 hw; exact False.elim hw
    | succ n116 ih116 =>
      intro h x4 hw H locs ls hM hS hl
      have hw : wpBX1_chooses_116 wE post T a1 a2  (fun h x4 => wpLX1_chooses_116 wE post T a1 a2  x3 n116 (h, x4)) x3 h x4 := hw
      unfold wpBX1_chooses_116 at hw
      refine lv_iload hx hb dX1_chooses_116 (lv_at hl 4 rfl) ?_
      refine lv_aload_n hx hb dX1_chooses_118 rfl (lv_at hl 0 rfl) ?_
      refine RX_callI (As := []) (rest := [.int x4]) ⟨hx, hb, hml, hown, hts⟩ hS hJ.z hK hZ (hT.at hS hNA) hM (metX1_people l D cA z0 E tw N ad h T  _ hw) (cwV 0 hts (lw_V q792 q794 qs6 q104 q795) rfl rfl rfl (by decide +kernel) ⟨(show 2 + 1 ≤ fE + 10 by omega), (show 8 + (1 + 11) + 50 ≤ lE + 294 by omega)⟩) rfl hl.1 rfl (Nat.le_of_ble_eq_true rfl) dX1_chooses_119 ⟨Nat.zero_le _, Nat.zero_le _⟩ (fun r9 H locs hw hk hS => ?_)
      have hM := hM.kept hk
      refine lv_icmp_ge (tgt := 190) hx hb dX1_chooses_122 (by decide) (fun c10 => ?_) (fun c10 => ?_)
      · have hw := hw.1 c10
        exact X_vret hx hb hr hlocks hM hS hw dX1_chooses_190
      · have hw := hw.2 c10
        refine lv_iload_n hx hb dX1_chooses_125 rfl (lv_at hl 3 rfl) ?_
        refine lv_iload hx hb dX1_chooses_126 (lv_at hl 4 rfl) ?_
        refine lv_ishr hx hb dX1_chooses_128 ?_
        refine lv_iconst (v := (1 : Int32)) hx hb dX1_chooses_129 (by decide) ?_
        refine lv_iand hx hb dX1_chooses_130 ?_
        refine lv_if_ne (tgt := 137) hx hb dX1_chooses_131 (by decide) (fun c11 => ?_) (fun c11 => ?_)
        · have hw := hw.2 c11
          refine lv_aload_n hx hb dX1_chooses_137 rfl (lv_at hl 0 rfl) ?_
          refine X_get17 hx hb hts hown hK hM 11 (v := .ref (ad 11)) (by decide) (hts _ q735) rfl dX1_chooses_138 ?_
          refine lv_iload_n hx hb dX1_chooses_141 rfl (lv_at hl 1 rfl) ?_
          refine lv_iload hx hb dX1_chooses_142 (lv_at hl 4 rfl) ?_
          obtain ⟨hv12, hw⟩ := hw
          refine X_iast hx hb hK hM hJ (fun _ h => h) hS 11 rfl (j := (ix a1)) rfl hv12 dX1_chooses_144 (fun H locs hM hS => ?_)
          obtain ⟨h13, eh13⟩ : ∃ y : Mem, y = up2 h 11 (ix a1) x4 := ⟨_, rfl⟩
          rw [← eh13] at hM
          have hw := hw h13 eh13
          refine lv_aload_n hx hb dX1_chooses_145 rfl (lv_at hl 0 rfl) ?_
          refine lv_iload_n hx hb dX1_chooses_146 rfl (lv_at hl 1 rfl) ?_
          refine lv_iconst (v := (1 : Int32)) hx hb dX1_chooses_147 (by decide) ?_
          refine lv_iadd hx hb dX1_chooses_148 ?_
          refine lv_iload_n hx hb dX1_chooses_149 rfl (lv_at hl 2 rfl) ?_
          refine lv_aload_n hx hb dX1_chooses_150 rfl (lv_at hl 0 rfl) ?_
          refine X_get17 hx hb hts hown hK hM 0 (v := .ref (tw 9)) (by decide) (hts _ q724) rfl dX1_chooses_151 ?_
          refine T_fldN hx hb hts hown hK (hT.at hS hNA) 4 (v := .ref (tw 2)) (by decide) (hZ.2.1.nF 2 rfl) (fun _ _ => rfl) dX1_chooses_154 ?_
          refine lv_iload_n hx hb dX1_chooses_157 rfl (lv_at hl 1 rfl) ?_
          obtain ⟨b14, eb14, hb14, hw⟩ := hw
          refine T_lgetE ⟨hx, hb, hml, hown, hts⟩ hS hK (hT.at hS hNA) q854 ⟨Nat.le_of_ble_eq_true rfl, Nat.le_of_ble_eq_true rfl⟩ b14 hb14 eb14 hl.1 (Nat.le_of_ble_eq_true rfl) dX1_chooses_158 ⟨Nat.zero_le _, Nat.zero_le _⟩ (fun H locs hk hS => ?_)
          have hM := hM.kept hk
          refine L_cast hx hb hown hK (hT.at hS hNA) b14 hb14 (hts _ q880) dX1_chooses_161 ?_
          refine L_fldN hx hb hts hown hK (hT.at hS hNA) b14 hb14 0 (v := .int (nI (T 4 b14))) (by decide) (hZ.2.1.nF 16 rfl) rfl dX1_chooses_164 ?_
          refine lv_aload_n hx hb dX1_chooses_167 rfl (lv_at hl 0 rfl) ?_
          refine X_get17 hx hb hts hown hK hM 0 (v := .ref (tw 9)) (by decide) (hts _ q724) rfl dX1_chooses_168 ?_
          refine lv_iload hx hb dX1_chooses_171 (lv_at hl 4 rfl) ?_
          refine RT_callI (As := [.int x4]) (rest := [.int (nI (T 4 b14)), .int a2, .int (a1 + (1 : Int32)), .ref (ad 17)]) ⟨hx, hb, hml, hown, hts⟩ hS hJ.z hK hZ (hT.at hS hNA) (metX2_house l D cA z0 E tw N (ad 70) h13 T x4 _ hw) (cwV 1 hts (lw_V q882 q883 q884 q105 q885) rfl rfl rfl (by decide +kernel) ⟨(show 5 + 1 ≤ fE + 10 by omega), (show 8 + (2 + 11) + 201 ≤ lE + 294 by omega)⟩) rfl hl.1 rfl (Nat.le_of_ble_eq_true rfl) dX1_chooses_173 ⟨Nat.zero_le _, Nat.zero_le _⟩ (fun r15 H locs hw hk hS => ?_)
          have hM := hM.kept hk
          refine lv_isub hx hb dX1_chooses_176 ?_
          refine J_abI hx hb hml hl.1 hown (hts _ q888) (hts _ q889) (hts _ q118) (hts _ q890) (Nat.le_of_ble_eq_true rfl) (Nat.le_of_ble_eq_true rfl) (Nat.zero_le _) (Nat.zero_le _) dX1_chooses_177 ?_
          refine lv_iadd hx hb dX1_chooses_180 ?_
          refine XX_callV (As := [.int (a1 + (1 : Int32)), .int (a2 + (abI ((nI (T 4 b14)) - r15)))]) (rest := []) ⟨hx, hb, hml, hown, hts⟩ hK hZ (hT.at hS hNA) hN (fun _ h => h) hJ.z hM hJ hS (hE _ h13 (a1 + (1 : Int32)) (a2 + (abI ((nI (T 4 b14)) - r15))) hw) (cwV 2 hts (lw_V q868 q870 qs11 q104 q871) rfl rfl rfl (by decide +kernel) ⟨(show (fE + 0) + 1 ≤ fE + 10 by omega), (show 8 + (5 + 11) + (lE + 0) ≤ lE + 294 by omega)⟩) rfl hl.1 rfl (Nat.le_of_ble_eq_true rfl) dX1_chooses_181 ⟨Nat.zero_le _, Nat.zero_le _⟩ (fun h16 H locs hw hM hS => ?_)
          refine lv_iinc (v := (x4 + (1 : Int32))) (lv' := [(4, .int (x4 + (1 : Int32))), (0, .ref (ad 17)), (1, .int a1), (2, .int a2), (3, .int x3)]) hx hb dX1_chooses_184 hl (k := 4) rfl rfl (by decide) rfl (fun ls hl => ?_)
          refine lv_goto (tgt := 116) hx hb dX1_chooses_187 (by decide) ?_
          exact ih116 h16 (x4 + (1 : Int32)) hw _ _ ls hM hS (lv_sub hl [1, 2, 3, 4, 0] rfl)
        · have hw := hw.1 c11
          refine lv_goto (tgt := 184) hx hb dX1_chooses_134 (by decide) ?_
          refine lv_iinc (v := (x4 + (1 : Int32))) (lv' := [(4, .int (x4 + (1 : Int32))), (0, .ref (ad 17)), (1, .int a1), (2, .int a2), (3, .int x3)]) hx hb dX1_chooses_184 hl (k := 4) rfl rfl (by decide) rfl (fun ls hl => ?_)
          refine lv_goto (tgt := 116) hx hb dX1_chooses_187 (by decide) ?_
          exact ih116 h (x4 + (1 : Int32)) hw _ _ ls hM hS (lv_sub hl [1, 2, 3, 4, 0] rfl)
  have hL27 : ∀ (h : Mem)  (n27 : Nat) (x3 : Int32), wpLX1_chooses_27 wE post T a1 a2  h  n27 x3 → JX p l e (headSpec (ws_ yX1_chooses cX1_chooses 5 none) ({ frames := fE + 10, cells := 0, slots := 0, locals := lE + 294 })).room s m ([.ref (ad 17), .int a1, .int a2] : List Value).toArray below meth c (MQ below (XQv D cA tw ad post) ([.ref (ad 17), .int a1, .int a2] : List Value).toArray s 0 0 (XA ad)) D cA tw ad 5 27 h [(0, .ref (ad 17)), (2, .int a2), (3, .int x3)] [] := by
    intro h n27
    induction n27 with
    | zero => intro x3 hw; exact False.elim hw
    | succ n27 ih27 =>
      intro x3 hw H locs ls hM hS hl
      have hw : wpBX1_chooses_27 wE post T a1 a2  (fun x3 => wpLX1_chooses_27 wE post T a1 a2  h  n27 x3) h  x3 := hw
      unfold wpBX1_chooses_27 at hw
      refine lv_iload_n hx hb dX1_chooses_27 rfl (lv_at hl 2 rfl) ?_
      refine lv_aload_n hx hb dX1_chooses_28 rfl (lv_at hl 0 rfl) ?_
      refine RX_callI (As := []) (rest := [.int x3]) ⟨hx, hb, hml, hown, hts⟩ hS hJ.z hK hZ (hT.at hS hNA) hM (metX1_people l D cA z0 E tw N ad h T  _ hw) (cwV 0 hts (lw_V q792 q794 qs6 q104 q795) rfl rfl rfl (by decide +kernel) ⟨(show 2 + 1 ≤ fE + 10 by omega), (show 8 + (1 + 11) + 50 ≤ lE + 294 by omega)⟩) rfl hl.1 rfl (Nat.le_of_ble_eq_true rfl) dX1_chooses_29 ⟨Nat.zero_le _, Nat.zero_le _⟩ (fun r21 H locs hw hk hS => ?_)
      have hM := hM.kept hk
      refine lv_icmp_ge (tgt := 50) hx hb dX1_chooses_32 (by decide) (fun c22 => ?_) (fun c22 => ?_)
      · have hw := hw.1 c22
        refine lv_aload_n hx hb dX1_chooses_50 rfl (lv_at hl 0 rfl) ?_
        refine lv_iload_n hx hb dX1_chooses_51 rfl (lv_at hl 1 rfl) ?_
        refine X_put13 hx hb hts hown hK hM hJ (fun _ h => h) hS (hts _ q737) .int (by decide +kernel) rfl rfl dX1_chooses_52 (fun H locs hM hS => ?_)
        obtain ⟨h23, eh23⟩ : ∃ y : Mem, y = up2 h 13 0 a2 := ⟨_, rfl⟩
        rw [← eh23] at hM
        have hw := hw h23 eh23
        refine lv_aload_n hx hb dX1_chooses_55 rfl (lv_at hl 0 rfl) ?_
        refine X_get17 hx hb hts hown hK hM 11 (v := .ref (ad 11)) (by decide) (hts _ q735) rfl dX1_chooses_56 ?_
        refine lv_iconst (v := (0 : Int32)) hx hb dX1_chooses_59 (by decide) ?_
        refine lv_aload_n hx hb dX1_chooses_60 rfl (lv_at hl 0 rfl) ?_
        refine X_get17 hx hb hts hown hK hM 12 (v := .ref (ad 12)) (by decide) (hts _ q736) rfl dX1_chooses_61 ?_
        refine lv_iconst (v := (0 : Int32)) hx hb dX1_chooses_64 (by decide) ?_
        refine lv_bipush (v := (6 : Int32)) hx hb dX1_chooses_65 (by decide) ?_
        refine X_copy hx hb (hml.trans hl.1.symm) hown (hts _ q896) (hts _ q295) (hts _ q294) (hts _ q120) hK hM hJ (fun _ h => h) hS 12 11 rfl rfl (n := (6 : Int32)) (j := 6) rfl (by decide) (by decide) (by decide) (show 1 ≤ fE + 10 by omega) (show 0 + _ ≤ lE + 294 from Nat.le_trans (Nat.le_of_ble_eq_true rfl : _ ≤ 294) (Nat.le_add_left _ _)) dX1_chooses_67 (fun H locs hM hS => ?_)
        obtain ⟨h24, eh24⟩ : ∃ y : Mem, y = cpM h23 12 11 6 := ⟨_, rfl⟩
        rw [← eh24] at hM
        have hw := hw h24 eh24
        exact X_vret hx hb hr hlocks hM hS hw dX1_chooses_70
      · have hw := hw.2 c22
        refine lv_aload_n hx hb dX1_chooses_35 rfl (lv_at hl 0 rfl) ?_
        refine lv_iload_n hx hb dX1_chooses_36 rfl (lv_at hl 2 rfl) ?_
        refine RX_callZ (As := [.int x3]) (rest := []) ⟨hx, hb, hml, hown, hts⟩ hS hJ.z hK hZ (hT.at hS hNA) hM (metX1_isInTime l D cA z0 E tw N ad h T x3 _ hw) (cwV 1 hts (lw_V q872 q874 qs12 q104 q875) rfl rfl rfl (by decide +kernel) ⟨(show 7 + 1 ≤ fE + 10 by omega), (show 8 + (6 + 11) + 245 ≤ lE + 294 by omega)⟩) rfl hl.1 rfl (Nat.le_of_ble_eq_true rfl) dX1_chooses_37 ⟨Nat.zero_le _, Nat.zero_le _⟩ (fun r25 H locs hw hk hS => ?_)
        have hM := hM.kept hk
        refine lv_if_ne (tgt := 44) hx hb dX1_chooses_40 (by decide) (fun c26 => ?_) (fun c26 => ?_)
        · have c26 := b2i_t c26
          have hw := hw.1 c26
          refine lv_iinc (v := (x3 + (1 : Int32))) (lv' := [(3, .int (x3 + (1 : Int32))), (0, .ref (ad 17)), (2, .int a2)]) hx hb dX1_chooses_44 hl (k := 2) rfl rfl (by decide) rfl (fun ls hl => ?_)
          refine lv_goto (tgt := 27) hx hb dX1_chooses_47 (by decide) ?_
          exact ih27 (x3 + (1 : Int32)) hw _ _ ls hM hS (lv_sub hl [1, 2, 0] rfl)
        · have c26 := b2i_f c26
          have hw := hw.2 c26
          exact X_vret hx hb hr hlocks hM hS hw dX1_chooses_43
  have hB17 : ∀ (h : Mem), wpBX1_chooses_17 wE post T a1 a2  h  → JX p l e (headSpec (ws_ yX1_chooses cX1_chooses 5 none) ({ frames := fE + 10, cells := 0, slots := 0, locals := lE + 294 })).room s m ([.ref (ad 17), .int a1, .int a2] : List Value).toArray below meth c (MQ below (XQv D cA tw ad post) ([.ref (ad 17), .int a1, .int a2] : List Value).toArray s 0 0 (XA ad)) D cA tw ad 5 17 h [(0, .ref (ad 17)), (1, .int a1), (2, .int a2)] [] := by
    intro h hw H locs ls hM hS hl
    unfold wpBX1_chooses_17 at hw
    refine lv_iload_n hx hb dX1_chooses_17 rfl (lv_at hl 1 rfl) ?_
    refine lv_aload_n hx hb dX1_chooses_18 rfl (lv_at hl 0 rfl) ?_
    refine RX_callI (As := []) (rest := [.int a1]) ⟨hx, hb, hml, hown, hts⟩ hS hJ.z hK hZ (hT.at hS hNA) hM (metX1_loaves l D cA z0 E tw N ad h T  _ hw) (cwV 0 hts (lw_V q860 q862 qs9 q104 q863) rfl rfl rfl (by decide +kernel) ⟨(show 2 + 1 ≤ fE + 10 by omega), (show 8 + (1 + 11) + 50 ≤ lE + 294 by omega)⟩) rfl hl.1 rfl (Nat.le_of_ble_eq_true rfl) dX1_chooses_19 ⟨Nat.zero_le _, Nat.zero_le _⟩ (fun r2 H locs hw hk hS => ?_)
    have hM := hM.kept hk
    refine lv_icmp_ne (tgt := 71) hx hb dX1_chooses_22 (by decide) (fun c3 => ?_) (fun c3 => ?_)
    · have hw := hw.2 c3
      refine lv_aload_n hx hb dX1_chooses_71 rfl (lv_at hl 0 rfl) ?_
      refine X_get17 hx hb hts hown hK hM 11 (v := .ref (ad 11)) (by decide) (hts _ q735) rfl dX1_chooses_72 ?_
      refine lv_iload_n hx hb dX1_chooses_75 rfl (lv_at hl 1 rfl) ?_
      refine lv_iconst (v := (-1 : Int32)) hx hb dX1_chooses_76 (by decide) ?_
      obtain ⟨hv4, hw⟩ := hw
      refine X_iast hx hb hK hM hJ (fun _ h => h) hS 11 rfl (j := (ix a1)) rfl hv4 dX1_chooses_77 (fun H locs hM hS => ?_)
      obtain ⟨h5, eh5⟩ : ∃ y : Mem, y = up2 h 11 (ix a1) (-1 : Int32) := ⟨_, rfl⟩
      rw [← eh5] at hM
      have hw := hw h5 eh5
      refine lv_aload_n hx hb dX1_chooses_78 rfl (lv_at hl 0 rfl) ?_
      refine X_get17 hx hb hts hown hK hM 3 (v := .ref (ad 45)) (by decide) (hts _ q727) rfl dX1_chooses_79 ?_
      refine X_get45N hx hb hts hown hK hM 1 (v := .ref (ad 41)) (by decide) (hZ.2.1.nF 9 rfl) rfl dX1_chooses_82 ?_
      refine lv_iload_n hx hb dX1_chooses_85 rfl (lv_at hl 1 rfl) ?_
      obtain ⟨hv6, hw⟩ := hw
      refine X_iald hx hb hK hM 41 rfl (j := (ix a1)) rfl hv6 dX1_chooses_86 ?_
      refine lv_iconst (v := (-1 : Int32)) hx hb dX1_chooses_87 (by decide) ?_
      refine lv_icmp_eq (tgt := 100) hx hb dX1_chooses_88 (by decide) (fun c7 => ?_) (fun c7 => ?_)
      · have hw := hw.1 c7
        refine lv_aload_n hx hb dX1_chooses_100 rfl (lv_at hl 0 rfl) ?_
        refine X_get17 hx hb hts hown hK hM 3 (v := .ref (ad 45)) (by decide) (hts _ q727) rfl dX1_chooses_101 ?_
        refine lv_aload_n hx hb dX1_chooses_104 rfl (lv_at hl 0 rfl) ?_
        refine X_get17 hx hb hts hown hK hM 0 (v := .ref (tw 9)) (by decide) (hts _ q724) rfl dX1_chooses_105 ?_
        refine lv_iload_n hx hb dX1_chooses_108 rfl (lv_at hl 1 rfl) ?_
        refine RS_callI (As := [.ref (tw 9), .int a1]) (rest := []) (sa := (shf ad 40)) (h := (sub h5 40)) ⟨hx, hb, hml, hown, hts⟩ hS hJ.z hK hZ (hT.at hS hNA) hM.now (metX6_whoCan l D cA z0 E tw N (ad 70) (shf ad 40) (sub h5 40) T a1 _ hw) (cwV 2 hts (lw_V q897 q898 q899 q129 q900) rfl rfl rfl (by decide +kernel) ⟨(show 8 + 1 ≤ fE + 10 by omega), (show 8 + (5 + 11) + 270 ≤ lE + 294 by omega)⟩) rfl hl.1 rfl (Nat.le_of_ble_eq_true rfl) dX1_chooses_109 ⟨Nat.zero_le _, Nat.zero_le _⟩ (fun r8 H locs hw hk hS => ?_)
        have hM := hM.kept hk
        refine lv_istore_n (lv' := [(3, .int r8), (0, .ref (ad 17)), (1, .int a1), (2, .int a2)]) hx hb dX1_chooses_112 rfl hl (by decide) rfl (fun ls hl => ?_)
        refine lv_iconst (v := (0 : Int32)) hx hb dX1_chooses_113 (by decide) ?_
        refine lv_istore (lv' := [(4, .int (0 : Int32)), (3, .int r8), (0, .ref (ad 17)), (1, .int a1), (2, .int a2)]) hx hb dX1_chooses_114 hl (by decide) rfl (fun ls hl => ?_)
        obtain ⟨n18, hw⟩ := hw
        exact hL116 r8 n18 h5 (0 : Int32) hw _ _ ls hM hS (lv_sub hl [2, 3, 4, 1, 0] rfl)
      · have hw := hw.2 c7
        refine lv_aload_n hx hb dX1_chooses_91 rfl (lv_at hl 0 rfl) ?_
        refine lv_iload_n hx hb dX1_chooses_92 rfl (lv_at hl 1 rfl) ?_
        refine lv_iconst (v := (1 : Int32)) hx hb dX1_chooses_93 (by decide) ?_
        refine lv_iadd hx hb dX1_chooses_94 ?_
        refine lv_iload_n hx hb dX1_chooses_95 rfl (lv_at hl 2 rfl) ?_
        refine XX_callV (As := [.int (a1 + (1 : Int32)), .int a2]) (rest := []) ⟨hx, hb, hml, hown, hts⟩ hK hZ (hT.at hS hNA) hN (fun _ h => h) hJ.z hM hJ hS (hE _ h5 (a1 + (1 : Int32)) a2 hw) (cwV 2 hts (lw_V q868 q870 qs11 q104 q871) rfl rfl rfl (by decide +kernel) ⟨(show (fE + 0) + 1 ≤ fE + 10 by omega), (show 8 + (5 + 11) + (lE + 0) ≤ lE + 294 by omega)⟩) rfl hl.1 rfl (Nat.le_of_ble_eq_true rfl) dX1_chooses_96 ⟨Nat.zero_le _, Nat.zero_le _⟩ (fun h19 H locs hw hM hS => ?_)
        exact X_vret hx hb hr hlocks hM hS hw dX1_chooses_99
    · have hw := hw.1 c3
      refine lv_iconst (v := (0 : Int32)) hx hb dX1_chooses_25 (by decide) ?_
      refine lv_istore_n (lv' := [(3, .int (0 : Int32)), (0, .ref (ad 17)), (1, .int a1), (2, .int a2)]) hx hb dX1_chooses_26 rfl hl (by decide) rfl (fun ls hl => ?_)
      obtain ⟨n27, hw⟩ := hw
      exact hL27 h n27 (0 : Int32) hw _ _ ls hM hS (lv_sub hl [1, 3, 0] rfl)
  unfold wpRX1_chooses at hw
  refine lv_aload_n hx hb dX1_chooses_0 rfl (lv_at hl 0 rfl) ?_
  refine X_get17 hx hb hts hown hK hM 13 (v := .int (h 13 0)) (by decide) (hts _ q737) rfl dX1_chooses_1 ?_
  refine lv_iconst (v := (-1 : Int32)) hx hb dX1_chooses_4 (by decide) ?_
  refine lv_icmp_eq (tgt := 17) hx hb dX1_chooses_5 (by decide) (fun c1 => ?_) (fun c1 => ?_)
  · have hw := hw.1 c1
    exact hB17 h hw _ _ ls hM hS (lv_sub hl [0, 1, 2] rfl)
  · have hw := hw.2 c1
    refine lv_iload_n hx hb dX1_chooses_8 rfl (lv_at hl 2 rfl) ?_
    refine lv_aload_n hx hb dX1_chooses_9 rfl (lv_at hl 0 rfl) ?_
    refine X_get17 hx hb hts hown hK hM 13 (v := .int (h 13 0)) (by decide) (hts _ q737) rfl dX1_chooses_10 ?_
    refine lv_icmp_lt (tgt := 17) hx hb dX1_chooses_13 (by decide) (fun c28 => ?_) (fun c28 => ?_)
    · have hw := hw.1 c28
      exact hB17 h hw _ _ ls hM hS (lv_sub hl [0, 1, 2] rfl)
    · have hw := hw.2 c28
      exact X_vret hx hb hr hlocks hM hS hw dX1_chooses_16
theorem metX1_chooses (l : Launch) (D : va_G) (cA : Nat → ClassId) (z0 : Nat) (E : Nat → Nat → Nat) (tw : Nat → Nat) (N : Nat → Prop) (ad : Nat → Nat) (T : TT) (d : Nat) : ∀ (h : Mem) (a1 : Int32) (a2 : Int32) (post : Mem → Prop) (hw : wpX1_chooses d post h T a1 a2), MeXV l D cA z0 E T tw N ad yX1_chooses (ws_ yX1_chooses cX1_chooses 5 none) ({ frames := 10 * d, cells := 0, slots := 0, locals := 294 * d }) [.ref (ad 17), .int a1, .int a2] h post := by
  induction d with
  | zero => intro h a1 a2 post hw; exact False.elim hw
  | succ d ih => intro h a1 a2 post hw; exact metRX1_chooses l D cA z0 E tw N ad T (wpX1_chooses d) (10 * d) (294 * d) (fun post h a1 a2 hw => ih h a1 a2 post hw) h a1 a2 post hw

/-- StrangeKnives.noon()I -/
def wpBX1_noon_34 (post : Int32 → Mem → Prop) (T : TT)  (h : Mem)   : Prop :=
  (∀ h5 : Mem, h5 = up2 h 13 0 (-1 : Int32) → (wpX1_chooses 8 (fun h6 => (((h6 13 0) = (-1 : Int32) → post (h6 13 0) h6) ∧ (¬ (h6 13 0) = (-1 : Int32) → (∀ h9 : Mem, h9 = up2 h6 14 0 (1 : Int32) → post (h9 13 0) h9)))) h5 T (0 : Int32) (0 : Int32)))
def wpX1_noon (post : Int32 → Mem → Prop) (h : Mem) (T : TT) : Prop :=
  (wpX1_loaves (fun r1 => (wpX1_cutMany (fun r2 => (((r1 - r2) ≤ (5 : Int32) → (((r1 - r2) ≤ 0 → wpBX1_noon_34 post T  h ) ∧ (¬ (r1 - r2) ≤ 0 → (((h 43 0) ≤ 0 → wpBX1_noon_34 post T  h ) ∧ (¬ (h 43 0) ≤ 0 → post (-1 : Int32) h))))) ∧ (¬ (r1 - r2) ≤ (5 : Int32) → post (-2 : Int32) h))) h T )) h T )
set_option maxHeartbeats 4000000 in
set_option maxRecDepth 100000 in
theorem metX1_noon (l : Launch) (D : va_G) (cA : Nat → ClassId) (z0 : Nat) (E : Nat → Nat → Nat) (tw : Nat → Nat) (N : Nat → Prop) (ad : Nat → Nat) (h : Mem) (T : TT) (post : Int32 → Mem → Prop) (hw : wpX1_noon post h T) : MeXI l D cA z0 E T tw N ad yX1_noon (ws_ yX1_noon cX1_noon 2 (some .int)) ({ frames := 81, cells := 0, slots := 0, locals := 2376 }) [.ref (ad 17)] h post := by
  refine Met.ofW (cc := cX1_noon) (maxL := 2) (ret := (some .int)) (by decide) rfl ?_
  intro p e s m args below meth c s₁ B hml hv
  obtain ⟨rfl, hv⟩ := hv
  have hx := B.exec
  have hb := B.bytes
  have hr := B.returns
  have hts := atoms_spec (ws := ws_ yX1_noon cX1_noon 2 (some .int)) B.pre
  have hts : ∀ w ∈ lw_all, w.before _ s = true := fun w h => hts w (List.mem_cons_of_mem _ h)
  have hown : s.vm.findClass RX1 = some m.cls := findClass_of_methodNamed B.named
  have hlocks := B.notSynchronized
  have hl := lv_entry ([.ref (ad 17)]) (n := 2) (Nat.le_of_ble_eq_true rfl)
  rw [lg_entry_eq]
  generalize (lg_sl ([.ref (ad 17)]) ++ List.replicate (2 - (lg_sl ([.ref (ad 17)])).length) Slot.unset).toArray = ls at hl ⊢
  have hl : lv_has ls 2 [(0, .ref (ad 17))] := hl
  obtain ⟨hM, hJ, hN, hT, hK, hZ⟩ := hv
  have hNA : ∀ q, N q → q < s.heap.size → ¬ XA ad q := fun q h _ => hN q h
  have hS : va_S (XA ad) s.heap s.heap [] := va_S.rf
  have hB34 : ∀ (h : Mem), wpBX1_noon_34 post T  h  → JX p l e (headSpec (ws_ yX1_noon cX1_noon 2 (some .int)) ({ frames := 81, cells := 0, slots := 0, locals := 2376 })).room s m ([.ref (ad 17)] : List Value).toArray below meth c (MQ below (XQi D cA tw ad post) ([.ref (ad 17)] : List Value).toArray s 0 0 (XA ad)) D cA tw ad 2 34 h [(0, .ref (ad 17))] [] := by
    intro h hw H locs ls hM hS hl
    unfold wpBX1_noon_34 at hw
    refine lv_aload_n hx hb dX1_noon_34 rfl (lv_at hl 0 rfl) ?_
    refine lv_iconst (v := (-1 : Int32)) hx hb dX1_noon_35 (by decide) ?_
    refine X_put13 hx hb hts hown hK hM hJ (fun _ h => h) hS (hts _ q737) .int (by decide +kernel) rfl rfl dX1_noon_36 (fun H locs hM hS => ?_)
    obtain ⟨h5, eh5⟩ : ∃ y : Mem, y = up2 h 13 0 (-1 : Int32) := ⟨_, rfl⟩
    rw [← eh5] at hM
    have hw := hw h5 eh5
    refine lv_aload_n hx hb dX1_noon_39 rfl (lv_at hl 0 rfl) ?_
    refine lv_iconst (v := (0 : Int32)) hx hb dX1_noon_40 (by decide) ?_
    refine lv_iconst (v := (0 : Int32)) hx hb dX1_noon_41 (by decide) ?_
    refine XX_callV (As := [.int (0 : Int32), .int (0 : Int32)]) (rest := []) ⟨hx, hb, hml, hown, hts⟩ hK hZ (hT.at hS hNA) hN (fun _ h => h) hJ.z hM hJ hS (metX1_chooses l D cA z0 E tw N ad T 8 h5 (0 : Int32) (0 : Int32) _ hw) (cwV 2 hts (lw_V q868 q870 qs11 q104 q871) rfl rfl rfl (by decide +kernel) ⟨Nat.le_of_ble_eq_true rfl, Nat.le_of_ble_eq_true rfl⟩) rfl hl.1 rfl (Nat.le_of_ble_eq_true rfl) dX1_noon_42 ⟨Nat.zero_le _, Nat.zero_le _⟩ (fun h6 H locs hw hM hS => ?_)
    refine lv_aload_n hx hb dX1_noon_45 rfl (lv_at hl 0 rfl) ?_
    refine X_get17 hx hb hts hown hK hM 13 (v := .int (h6 13 0)) (by decide) (hts _ q737) rfl dX1_noon_46 ?_
    refine lv_iconst (v := (-1 : Int32)) hx hb dX1_noon_49 (by decide) ?_
    refine lv_icmp_eq (tgt := 58) hx hb dX1_noon_50 (by decide) (fun c8 => ?_) (fun c8 => ?_)
    · have hw := hw.1 c8
      refine lv_aload_n hx hb dX1_noon_58 rfl (lv_at hl 0 rfl) ?_
      refine X_get17 hx hb hts hown hK hM 13 (v := .int (h6 13 0)) (by decide) (hts _ q737) rfl dX1_noon_59 ?_
      exact X_iret hx hb hr hlocks hM hS hw dX1_noon_62
    · have hw := hw.2 c8
      refine lv_aload_n hx hb dX1_noon_53 rfl (lv_at hl 0 rfl) ?_
      refine lv_iconst (v := (1 : Int32)) hx hb dX1_noon_54 (by decide) ?_
      refine X_put14 hx hb hts hown hK hM hJ (fun _ h => h) hS (hts _ q738) .boolean (by decide +kernel) rfl rfl dX1_noon_55 (fun H locs hM hS => ?_)
      obtain ⟨h9, eh9⟩ : ∃ y : Mem, y = up2 h6 14 0 (1 : Int32) := ⟨_, rfl⟩
      rw [← eh9] at hM
      have hw := hw h9 eh9
      refine lv_aload_n hx hb dX1_noon_58 rfl (lv_at hl 0 rfl) ?_
      refine X_get17 hx hb hts hown hK hM 13 (v := .int (h9 13 0)) (by decide) (hts _ q737) rfl dX1_noon_59 ?_
      exact X_iret hx hb hr hlocks hM hS hw dX1_noon_62
  unfold wpX1_noon at hw
  refine lv_aload_n hx hb dX1_noon_0 rfl (lv_at hl 0 rfl) ?_
  refine RX_callI (As := []) (rest := []) ⟨hx, hb, hml, hown, hts⟩ hS hJ.z hK hZ (hT.at hS hNA) hM (metX1_loaves l D cA z0 E tw N ad h T  _ hw) (cwV 0 hts (lw_V q860 q862 qs9 q104 q863) rfl rfl rfl (by decide +kernel) ⟨Nat.le_of_ble_eq_true rfl, Nat.le_of_ble_eq_true rfl⟩) rfl hl.1 rfl (Nat.le_of_ble_eq_true rfl) dX1_noon_1 ⟨Nat.zero_le _, Nat.zero_le _⟩ (fun r1 H locs hw hk hS => ?_)
  have hM := hM.kept hk
  refine lv_aload_n hx hb dX1_noon_4 rfl (lv_at hl 0 rfl) ?_
  refine RX_callI (As := []) (rest := [.int r1]) ⟨hx, hb, hml, hown, hts⟩ hS hJ.z hK hZ (hT.at hS hNA) hM (metX1_cutMany l D cA z0 E tw N ad h T  _ hw) (cwV 0 hts (lw_V q864 q866 qs10 q104 q867) rfl rfl rfl (by decide +kernel) ⟨Nat.le_of_ble_eq_true rfl, Nat.le_of_ble_eq_true rfl⟩) rfl hl.1 rfl (Nat.le_of_ble_eq_true rfl) dX1_noon_5 ⟨Nat.zero_le _, Nat.zero_le _⟩ (fun r2 H locs hw hk hS => ?_)
  have hM := hM.kept hk
  refine lv_isub hx hb dX1_noon_8 ?_
  refine lv_istore_n (lv' := [(1, .int (r1 - r2)), (0, .ref (ad 17))]) hx hb dX1_noon_9 rfl hl (by decide) rfl (fun ls hl => ?_)
  refine lv_iload_n hx hb dX1_noon_10 rfl (lv_at hl 0 rfl) ?_
  refine lv_iconst (v := (5 : Int32)) hx hb dX1_noon_11 (by decide) ?_
  refine lv_icmp_le (tgt := 18) hx hb dX1_noon_12 (by decide) (fun c3 => ?_) (fun c3 => ?_)
  · have hw := hw.1 c3
    refine lv_iload_n hx hb dX1_noon_18 rfl (lv_at hl 0 rfl) ?_
    refine lv_if_le (tgt := 34) hx hb dX1_noon_19 (by decide) (fun c4 => ?_) (fun c4 => ?_)
    · have hw := hw.1 c4
      exact hB34 h hw _ _ ls hM hS (lv_sub hl [1] rfl)
    · have hw := hw.2 c4
      refine lv_aload_n hx hb dX1_noon_22 rfl (lv_at hl 1 rfl) ?_
      refine X_get17 hx hb hts hown hK hM 3 (v := .ref (ad 45)) (by decide) (hts _ q727) rfl dX1_noon_23 ?_
      refine X_get45N hx hb hts hown hK hM 3 (v := .int (h 43 0)) (by decide) (hZ.2.1.nF 12 rfl) rfl dX1_noon_26 ?_
      refine lv_if_le (tgt := 34) hx hb dX1_noon_29 (by decide) (fun c10 => ?_) (fun c10 => ?_)
      · have hw := hw.1 c10
        exact hB34 h hw _ _ ls hM hS (lv_sub hl [1] rfl)
      · have hw := hw.2 c10
        refine lv_iconst (v := (-1 : Int32)) hx hb dX1_noon_32 (by decide) ?_
        exact X_iret hx hb hr hlocks hM hS hw dX1_noon_33
  · have hw := hw.2 c3
    refine lv_bipush (v := (-2 : Int32)) hx hb dX1_noon_15 (by decide) ?_
    exact X_iret hx hb hr hlocks hM hS hw dX1_noon_17

/-- StrangeKnives.safe()I -/
def wpBX1_safe_133 (post : Int32 → Mem → Prop) (T : TT) (K4 : Mem → Int32 → Int32 → Prop) (K69 : Int32 → Int32 → Prop) (h : Mem) (x1 : Int32) (x2 : Int32) (x5 : Int32)  : Prop :=
  K69 (0 : Int32) (x5 + (1 : Int32))
def wpBX1_safe_129 (post : Int32 → Mem → Prop) (T : TT) (K4 : Mem → Int32 → Int32 → Prop) (K69 : Int32 → Int32 → Prop) (h : Mem) (x1 : Int32) (x2 : Int32) (x5 : Int32)  : Prop :=
  K69 (1 : Int32) (x5 + (1 : Int32))
def wpBX1_safe_69 (post : Int32 → Mem → Prop) (T : TT) (K4 : Mem → Int32 → Int32 → Prop) (K69 : Int32 → Int32 → Prop) (h : Mem) (x1 : Int32) (x2 : Int32) (x4 : Int32) (x5 : Int32) : Prop :=
  (wpX1_loaves (fun r9 => ((r9 ≤ x5 → K4 h (if x4 = 0 then x1 else x2) (x2 + (1 : Int32))) ∧ (¬ r9 ≤ x5 → ((x4 = 0 → wpBX1_safe_133 post T K4 K69 h x1 x2 x5) ∧ (¬ x4 = 0 → (vp_in x5 (Xlen 41) ∧ (((h 41 (ix x5)) = (-1 : Int32) → (wpX6_whoCan (fun r18 => ((r18 = 0 → wpBX1_safe_129 post T K4 K69 h x1 x2 x5) ∧ (¬ r18 = 0 → (wpX6_whoCan (fun r20 => K69 (if r20 = 0 then (0 : Int32) else (1 : Int32)) (x5 + (1 : Int32))) (sub h 50) T x5)))) (sub h 40) T x5)) ∧ (¬ (h 41 (ix x5)) = (-1 : Int32) → wpBX1_safe_129 post T K4 K69 h x1 x2 x5)))))))) h T )
def wpLX1_safe_69 (post : Int32 → Mem → Prop) (T : TT) (K4 : Mem → Int32 → Int32 → Prop) (h : Mem) (x1 : Int32) (x2 : Int32) : Nat → (Int32 × Int32) → Prop := LW (fun K s => wpBX1_safe_69 post T K4 (fun x4 x5 => K (x4, x5)) h x1 x2 s.1 s.2)
def wpBX1_safe_40 (post : Int32 → Mem → Prop) (T : TT) (K4 : Mem → Int32 → Int32 → Prop) (h : Mem) (x1 : Int32) (x2 : Int32)  : Prop :=
  (∀ h6 : Mem, h6 = put5 h 50 (likeM (sub h 50) (sub h 40)) → (wpX6_fair (fun S7 => (∀ h8 : Mem, h8 = put5 h6 50 S7 → (∃ n, wpLX1_safe_69 post T K4 h8 x1 x2 n ((1 : Int32), (0 : Int32))))) (sub h6 50) T x2))
def wpBX1_safe_4 (post : Int32 → Mem → Prop) (T : TT)  (K4 : Mem → Int32 → Int32 → Prop)  (h : Mem) (x1 : Int32) (x2 : Int32) : Prop :=
  (wpX1_people (fun r1 => ((((1 : Int32) <<< (r1 &&& 31)) ≤ x2 → post x1 h) ∧ (¬ ((1 : Int32) <<< (r1 &&& 31)) ≤ x2 → (((bitc x2) < (2 : Int32) → K4 h x1 (x2 + (1 : Int32))) ∧ (¬ (bitc x2) < (2 : Int32) → ((x1 = (-1 : Int32) → wpBX1_safe_40 post T K4 h x1 x2) ∧ (¬ x1 = (-1 : Int32) → (((bitc x1) < (bitc x2) → wpBX1_safe_40 post T K4 h x1 x2) ∧ (¬ (bitc x1) < (bitc x2) → K4 h x1 (x2 + (1 : Int32))))))))))) h T )
def wpLX1_safe_4 (post : Int32 → Mem → Prop) (T : TT)   : Nat → (Mem × Int32 × Int32) → Prop := LW (fun K s => wpBX1_safe_4 post T  (fun h x1 x2 => K (h, x1, x2))  s.1 s.2.1 s.2.2)
def wpX1_safe (post : Int32 → Mem → Prop) (h : Mem) (T : TT) : Prop :=
  (∃ n, wpLX1_safe_4 post T   n (h, (-1 : Int32), (0 : Int32)))
set_option maxHeartbeats 4000000 in
set_option maxRecDepth 100000 in
theorem metX1_safe (l : Launch) (D : va_G) (cA : Nat → ClassId) (z0 : Nat) (E : Nat → Nat → Nat) (tw : Nat → Nat) (N : Nat → Prop) (ad : Nat → Nat) (h : Mem) (T : TT) (post : Int32 → Mem → Prop) (hw : wpX1_safe post h T) : MeXI l D cA z0 E T tw N ad yX1_safe (ws_ yX1_safe cX1_safe 6 (some .int)) ({ frames := 9, cells := 0, slots := 0, locals := 294 }) [.ref (ad 17)] h post := by
  refine Met.ofW (cc := cX1_safe) (maxL := 6) (ret := (some .int)) (by decide) rfl ?_
  intro p e s m args below meth c s₁ B hml hv
  obtain ⟨rfl, hv⟩ := hv
  have hx := B.exec
  have hb := B.bytes
  have hr := B.returns
  have hts := atoms_spec (ws := ws_ yX1_safe cX1_safe 6 (some .int)) B.pre
  have hts : ∀ w ∈ lw_all, w.before _ s = true := fun w h => hts w (List.mem_cons_of_mem _ h)
  have hown : s.vm.findClass RX1 = some m.cls := findClass_of_methodNamed B.named
  have hlocks := B.notSynchronized
  have hl := lv_entry ([.ref (ad 17)]) (n := 6) (Nat.le_of_ble_eq_true rfl)
  rw [lg_entry_eq]
  generalize (lg_sl ([.ref (ad 17)]) ++ List.replicate (6 - (lg_sl ([.ref (ad 17)])).length) Slot.unset).toArray = ls at hl ⊢
  have hl : lv_has ls 6 [(0, .ref (ad 17))] := hl
  obtain ⟨hM, hJ, hN, hT, hK, hZ⟩ := hv
  have hNA : ∀ q, N q → q < s.heap.size → ¬ XA ad q := fun q h _ => hN q h
  have hS : va_S (XA ad) s.heap s.heap [] := va_S.rf
  have hL4 : ∀  (n4 : Nat) (h : Mem) (x1 : Int32) (x2 : Int32), wpLX1_safe_4 post T   n4 (h, x1, x2) → JX p l e (headSpec (ws_ yX1_safe cX1_safe 6 (some .int)) ({ frames := 9, cells := 0, slots := 0, locals := 294 })).room s m ([.ref (ad 17)] : List Value).toArray below meth c (MQ below (XQi D cA tw ad post) ([.ref (ad 17)] : List Value).toArray s 0 0 (XA ad)) D cA tw ad 6 4 h [(0, .ref (ad 17)), (1, .int x1), (2, .int x2)] [] := by
    intro  n4
    induction n4 with
    | zero => intro h x1 x2 hw; exact False.elim hw
    | succ n4 ih4 =>
      have hL69 : ∀ (h : Mem) (x1 : Int32) (x2 : Int32) (n69 : Nat) (x4 : Int32) (x5 : Int32), wpLX1_safe_69 post T (fun h x1 x2 => wpLX1_safe_4 post T   n4 (h, x1, x2)) h x1 x2 n69 (x4, x5) → JX p l e (headSpec (ws_ yX1_safe cX1_safe 6 (some .int)) ({ frames := 9, cells := 0, slots := 0, locals := 294 })).room s m ([.ref (ad 17)] : List Value).toArray below meth c (MQ below (XQi D cA tw ad post) ([.ref (ad 17)] : List Value).toArray s 0 0 (XA ad)) D cA tw ad 6 69 h [(0, .ref (ad 17)), (1, .int x1), (2, .int x2), (4, .int x4), (5, .int x5)] [] := by
        intro h x1 x2 n69
        induction n69 with
        | zero => intro x4 x5 hw; exact False.elim hw
        | succ n69 ih69 =>
          have hB133 : ∀ (x5 : Int32), wpBX1_safe_133 post T (fun h x1 x2 => wpLX1_safe_4 post T   n4 (h, x1, x2)) (fun x4 x5 => wpLX1_safe_69 post T (fun h x1 x2 => wpLX1_safe_4 post T   n4 (h, x1, x2)) h x1 x2 n69 (x4, x5)) h x1 x2 x5 → JX p l e (headSpec (ws_ yX1_safe cX1_safe 6 (some .int)) ({ frames := 9, cells := 0, slots := 0, locals := 294 })).room s m ([.ref (ad 17)] : List Value).toArray below meth c (MQ below (XQi D cA tw ad post) ([.ref (ad 17)] : List Value).toArray s 0 0 (XA ad)) D cA tw ad 6 133 h [(0, .ref (ad 17)), (1, .int x1), (2, .int x2), (5, .int x5)] [] := by
            intro x5 hw H locs ls hM hS hl
            unfold wpBX1_safe_133 at hw
            refine lv_iconst (v := (0 : Int32)) hx hb dX1_safe_133 (by decide) ?_
            refine lv_istore (lv' := [(4, .int (0 : Int32)), (0, .ref (ad 17)), (1, .int x1), (2, .int x2), (5, .int x5)]) hx hb dX1_safe_134 hl (by decide) rfl (fun ls hl => ?_)
            refine lv_iinc (v := (x5 + (1 : Int32))) (lv' := [(5, .int (x5 + (1 : Int32))), (4, .int (0 : Int32)), (0, .ref (ad 17)), (1, .int x1), (2, .int x2)]) hx hb dX1_safe_136 hl (k := 4) rfl rfl (by decide) rfl (fun ls hl => ?_)
            refine lv_goto (tgt := 69) hx hb dX1_safe_139 (by decide) ?_
            exact ih69 (0 : Int32) (x5 + (1 : Int32)) hw _ _ ls hM hS (lv_sub hl [2, 3, 4, 1, 0] rfl)
          have hB129 : ∀ (x5 : Int32), wpBX1_safe_129 post T (fun h x1 x2 => wpLX1_safe_4 post T   n4 (h, x1, x2)) (fun x4 x5 => wpLX1_safe_69 post T (fun h x1 x2 => wpLX1_safe_4 post T   n4 (h, x1, x2)) h x1 x2 n69 (x4, x5)) h x1 x2 x5 → JX p l e (headSpec (ws_ yX1_safe cX1_safe 6 (some .int)) ({ frames := 9, cells := 0, slots := 0, locals := 294 })).room s m ([.ref (ad 17)] : List Value).toArray below meth c (MQ below (XQi D cA tw ad post) ([.ref (ad 17)] : List Value).toArray s 0 0 (XA ad)) D cA tw ad 6 129 h [(0, .ref (ad 17)), (1, .int x1), (2, .int x2), (5, .int x5)] [] := by
            intro x5 hw H locs ls hM hS hl
            unfold wpBX1_safe_129 at hw
            refine lv_iconst (v := (1 : Int32)) hx hb dX1_safe_129 (by decide) ?_
            refine lv_goto (tgt := 134) hx hb dX1_safe_130 (by decide) ?_
            refine lv_istore (lv' := [(4, .int (1 : Int32)), (0, .ref (ad 17)), (1, .int x1), (2, .int x2), (5, .int x5)]) hx hb dX1_safe_134 hl (by decide) rfl (fun ls hl => ?_)
            refine lv_iinc (v := (x5 + (1 : Int32))) (lv' := [(5, .int (x5 + (1 : Int32))), (4, .int (1 : Int32)), (0, .ref (ad 17)), (1, .int x1), (2, .int x2)]) hx hb dX1_safe_136 hl (k := 4) rfl rfl (by decide) rfl (fun ls hl => ?_)
            refine lv_goto (tgt := 69) hx hb dX1_safe_139 (by decide) ?_
            exact ih69 (1 : Int32) (x5 + (1 : Int32)) hw _ _ ls hM hS (lv_sub hl [2, 3, 4, 1, 0] rfl)
          intro x4 x5 hw H locs ls hM hS hl
          have hw : wpBX1_safe_69 post T (fun h x1 x2 => wpLX1_safe_4 post T   n4 (h, x1, x2)) (fun x4 x5 => wpLX1_safe_69 post T (fun h x1 x2 => wpLX1_safe_4 post T   n4 (h, x1, x2)) h x1 x2 n69 (x4, x5)) h x1 x2 x4 x5 := hw
          unfold wpBX1_safe_69 at hw
          refine lv_iload hx hb dX1_safe_69 (lv_at hl 4 rfl) ?_
          refine lv_aload_n hx hb dX1_safe_71 rfl (lv_at hl 0 rfl) ?_
          refine RX_callI (As := []) (rest := [.int x5]) ⟨hx, hb, hml, hown, hts⟩ hS hJ.z hK hZ (hT.at hS hNA) hM (metX1_loaves l D cA z0 E tw N ad h T  _ hw) (cwV 0 hts (lw_V q860 q862 qs9 q104 q863) rfl rfl rfl (by decide +kernel) ⟨Nat.le_of_ble_eq_true rfl, Nat.le_of_ble_eq_true rfl⟩) rfl hl.1 rfl (Nat.le_of_ble_eq_true rfl) dX1_safe_72 ⟨Nat.zero_le _, Nat.zero_le _⟩ (fun r9 H locs hw hk hS => ?_)
          have hM := hM.kept hk
          refine lv_icmp_ge (tgt := 142) hx hb dX1_safe_75 (by decide) (fun c10 => ?_) (fun c10 => ?_)
          · have hw := hw.1 c10
            refine lv_iload hx hb dX1_safe_142 (lv_at hl 3 rfl) ?_
            have hj11 : JX p l e (headSpec (ws_ yX1_safe cX1_safe 6 (some .int)) ({ frames := 9, cells := 0, slots := 0, locals := 294 })).room s m ([.ref (ad 17)] : List Value).toArray below meth c (MQ below (XQi D cA tw ad post) ([.ref (ad 17)] : List Value).toArray s 0 0 (XA ad)) D cA tw ad 6 149 h [(0, .ref (ad 17)), (1, .int (if x4 = 0 then x1 else x2)), (2, .int x2)] [] := by
              intro H locs ls hM hS hl
              refine lv_iinc (v := (x2 + (1 : Int32))) (lv' := [(2, .int (x2 + (1 : Int32))), (0, .ref (ad 17)), (1, .int (if x4 = 0 then x1 else x2))]) hx hb dX1_safe_149 hl (k := 2) rfl rfl (by decide) rfl (fun ls hl => ?_)
              refine lv_goto (tgt := 4) hx hb dX1_safe_152 (by decide) ?_
              exact ih4 h (if x4 = 0 then x1 else x2) (x2 + (1 : Int32)) hw _ _ ls hM hS (lv_sub hl [1, 2, 0] rfl)
            refine lv_if_eq (tgt := 149) hx hb dX1_safe_144 (by decide) (fun c12 => ?_) (fun c12 => ?_)
            · have e13 : (if x4 = 0 then x1 else x2) = x1 := by rw [if_pos c12]
              rw [e13] at hj11
              exact hj11 _ _ ls hM hS (lv_sub hl [0, 1, 2] rfl)
            · refine lv_iload_n hx hb dX1_safe_147 rfl (lv_at hl 2 rfl) ?_
              refine lv_istore_n (lv' := [(1, .int x2), (0, .ref (ad 17)), (2, .int x2), (4, .int x4), (5, .int x5)]) hx hb dX1_safe_148 rfl hl (by decide) rfl (fun ls hl => ?_)
              have e14 : (if x4 = 0 then x1 else x2) = x2 := by rw [if_neg c12]
              rw [e14] at hj11
              exact hj11 _ _ ls hM hS (lv_sub hl [1, 0, 2] rfl)
          · have hw := hw.2 c10
            refine lv_iload hx hb dX1_safe_78 (lv_at hl 3 rfl) ?_
            refine lv_if_eq (tgt := 133) hx hb dX1_safe_80 (by decide) (fun c15 => ?_) (fun c15 => ?_)
            · have hw := hw.1 c15
              exact hB133 x5 hw _ _ ls hM hS (lv_sub hl [0, 1, 2, 4] rfl)
            · have hw := hw.2 c15
              refine lv_aload_n hx hb dX1_safe_83 rfl (lv_at hl 0 rfl) ?_
              refine X_get17 hx hb hts hown hK hM 3 (v := .ref (ad 45)) (by decide) (hts _ q727) rfl dX1_safe_84 ?_
              refine X_get45N hx hb hts hown hK hM 1 (v := .ref (ad 41)) (by decide) (hZ.2.1.nF 9 rfl) rfl dX1_safe_87 ?_
              refine lv_iload hx hb dX1_safe_90 (lv_at hl 4 rfl) ?_
              obtain ⟨hv16, hw⟩ := hw
              refine X_iald hx hb hK hM 41 rfl (j := (ix x5)) rfl hv16 dX1_safe_92 ?_
              refine lv_iconst (v := (-1 : Int32)) hx hb dX1_safe_93 (by decide) ?_
              refine lv_icmp_ne (tgt := 129) hx hb dX1_safe_94 (by decide) (fun c17 => ?_) (fun c17 => ?_)
              · have hw := hw.2 c17
                exact hB129 x5 hw _ _ ls hM hS (lv_sub hl [0, 1, 2, 4] rfl)
              · have hw := hw.1 c17
                refine lv_aload_n hx hb dX1_safe_97 rfl (lv_at hl 0 rfl) ?_
                refine X_get17 hx hb hts hown hK hM 3 (v := .ref (ad 45)) (by decide) (hts _ q727) rfl dX1_safe_98 ?_
                refine lv_aload_n hx hb dX1_safe_101 rfl (lv_at hl 0 rfl) ?_
                refine X_get17 hx hb hts hown hK hM 0 (v := .ref (tw 9)) (by decide) (hts _ q724) rfl dX1_safe_102 ?_
                refine lv_iload hx hb dX1_safe_105 (lv_at hl 4 rfl) ?_
                refine RS_callI (As := [.ref (tw 9), .int x5]) (rest := []) (sa := (shf ad 40)) (h := (sub h 40)) ⟨hx, hb, hml, hown, hts⟩ hS hJ.z hK hZ (hT.at hS hNA) hM.now (metX6_whoCan l D cA z0 E tw N (ad 70) (shf ad 40) (sub h 40) T x5 _ hw) (cwV 2 hts (lw_V q897 q898 q899 q129 q900) rfl rfl rfl (by decide +kernel) ⟨Nat.le_of_ble_eq_true rfl, Nat.le_of_ble_eq_true rfl⟩) rfl hl.1 rfl (Nat.le_of_ble_eq_true rfl) dX1_safe_107 ⟨Nat.zero_le _, Nat.zero_le _⟩ (fun r18 H locs hw hk hS => ?_)
                have hM := hM.kept hk
                refine lv_if_eq (tgt := 129) hx hb dX1_safe_110 (by decide) (fun c19 => ?_) (fun c19 => ?_)
                · have hw := hw.1 c19
                  exact hB129 x5 hw _ _ ls hM hS (lv_sub hl [0, 1, 2, 4] rfl)
                · have hw := hw.2 c19
                  refine lv_aload_n hx hb dX1_safe_113 rfl (lv_at hl 0 rfl) ?_
                  refine X_get17 hx hb hts hown hK hM 4 (v := .ref (ad 55)) (by decide) (hts _ q728) rfl dX1_safe_114 ?_
                  refine lv_aload_n hx hb dX1_safe_117 rfl (lv_at hl 0 rfl) ?_
                  refine X_get17 hx hb hts hown hK hM 0 (v := .ref (tw 9)) (by decide) (hts _ q724) rfl dX1_safe_118 ?_
                  refine lv_iload hx hb dX1_safe_121 (lv_at hl 4 rfl) ?_
                  refine RS_callI (As := [.ref (tw 9), .int x5]) (rest := []) (sa := (shf ad 50)) (h := (sub h 50)) ⟨hx, hb, hml, hown, hts⟩ hS hJ.z hK hZ (hT.at hS hNA) hM.tried (metX6_whoCan l D cA z0 E tw N (ad 70) (shf ad 50) (sub h 50) T x5 _ hw) (cwV 2 hts (lw_V q897 q898 q899 q129 q900) rfl rfl rfl (by decide +kernel) ⟨Nat.le_of_ble_eq_true rfl, Nat.le_of_ble_eq_true rfl⟩) rfl hl.1 rfl (Nat.le_of_ble_eq_true rfl) dX1_safe_123 ⟨Nat.zero_le _, Nat.zero_le _⟩ (fun r20 H locs hw hk hS => ?_)
                  have hM := hM.kept hk
                  have hj21 : JX p l e (headSpec (ws_ yX1_safe cX1_safe 6 (some .int)) ({ frames := 9, cells := 0, slots := 0, locals := 294 })).room s m ([.ref (ad 17)] : List Value).toArray below meth c (MQ below (XQi D cA tw ad post) ([.ref (ad 17)] : List Value).toArray s 0 0 (XA ad)) D cA tw ad 6 134 h [(0, .ref (ad 17)), (1, .int x1), (2, .int x2), (5, .int x5)] [.int (if r20 = 0 then (0 : Int32) else (1 : Int32))] := by
                    intro H locs ls hM hS hl
                    refine lv_istore (lv' := [(4, .int (if r20 = 0 then (0 : Int32) else (1 : Int32))), (0, .ref (ad 17)), (1, .int x1), (2, .int x2), (5, .int x5)]) hx hb dX1_safe_134 hl (by decide) rfl (fun ls hl => ?_)
                    refine lv_iinc (v := (x5 + (1 : Int32))) (lv' := [(5, .int (x5 + (1 : Int32))), (4, .int (if r20 = 0 then (0 : Int32) else (1 : Int32))), (0, .ref (ad 17)), (1, .int x1), (2, .int x2)]) hx hb dX1_safe_136 hl (k := 4) rfl rfl (by decide) rfl (fun ls hl => ?_)
                    refine lv_goto (tgt := 69) hx hb dX1_safe_139 (by decide) ?_
                    exact ih69 (if r20 = 0 then (0 : Int32) else (1 : Int32)) (x5 + (1 : Int32)) hw _ _ ls hM hS (lv_sub hl [2, 3, 4, 1, 0] rfl)
                  refine lv_if_eq (tgt := 133) hx hb dX1_safe_126 (by decide) (fun c22 => ?_) (fun c22 => ?_)
                  · refine lv_iconst (v := (0 : Int32)) hx hb dX1_safe_133 (by decide) ?_
                    have e23 : (if r20 = 0 then (0 : Int32) else (1 : Int32)) = (0 : Int32) := by rw [if_pos c22]
                    rw [e23] at hj21
                    exact hj21 _ _ ls hM hS (lv_sub hl [0, 1, 2, 4] rfl)
                  · refine lv_iconst (v := (1 : Int32)) hx hb dX1_safe_129 (by decide) ?_
                    refine lv_goto (tgt := 134) hx hb dX1_safe_130 (by decide) ?_
                    have e24 : (if r20 = 0 then (0 : Int32) else (1 : Int32)) = (1 : Int32) := by rw [if_neg c22]
                    rw [e24] at hj21
                    exact hj21 _ _ ls hM hS (lv_sub hl [0, 1, 2, 4] rfl)
      have hB40 : ∀ (h : Mem) (x1 : Int32) (x2 : Int32), wpBX1_safe_40 post T (fun h x1 x2 => wpLX1_safe_4 post T   n4 (h, x1, x2)) h x1 x2 → JX p l e (headSpec (ws_ yX1_safe cX1_safe 6 (some .int)) ({ frames := 9, cells := 0, slots := 0, locals := 294 })).room s m ([.ref (ad 17)] : List Value).toArray below meth c (MQ below (XQi D cA tw ad post) ([.ref (ad 17)] : List Value).toArray s 0 0 (XA ad)) D cA tw ad 6 40 h [(0, .ref (ad 17)), (1, .int x1), (2, .int x2)] [] := by
        intro h x1 x2 hw H locs ls hM hS hl
        unfold wpBX1_safe_40 at hw
        refine lv_aload_n hx hb dX1_safe_40 rfl (lv_at hl 0 rfl) ?_
        refine X_get17 hx hb hts hown hK hM 4 (v := .ref (ad 55)) (by decide) (hts _ q728) rfl dX1_safe_41 ?_
        refine lv_aload_n hx hb dX1_safe_44 rfl (lv_at hl 0 rfl) ?_
        refine X_get17 hx hb hts hown hK hM 3 (v := .ref (ad 45)) (by decide) (hts _ q727) rfl dX1_safe_45 ?_
        refine XL_like ⟨hx, hb, hml, hown, hts⟩ hK hM hJ hS (fun _ h => h) 50 40 (by decide) (by decide) (by decide) (cwV 1 hts (lw_V q855 q835 q836 q129 q837) rfl rfl rfl (by decide +kernel) ⟨Nat.le_of_ble_eq_true rfl, Nat.le_of_ble_eq_true rfl⟩) hl.1 (Nat.le_of_ble_eq_true rfl) dX1_safe_48 ⟨Nat.zero_le _, Nat.zero_le _⟩ (fun H locs hM hS => ?_)
        obtain ⟨h6, eh6⟩ : ∃ y : Mem, y = put5 h 50 (likeM (sub h 50) (sub h 40)) := ⟨_, rfl⟩
        rw [← eh6] at hM
        have hw := hw h6 eh6
        refine lv_aload_n hx hb dX1_safe_51 rfl (lv_at hl 0 rfl) ?_
        refine X_get17 hx hb hts hown hK hM 4 (v := .ref (ad 55)) (by decide) (hts _ q728) rfl dX1_safe_52 ?_
        refine lv_aload_n hx hb dX1_safe_55 rfl (lv_at hl 0 rfl) ?_
        refine X_get17 hx hb hts hown hK hM 0 (v := .ref (tw 9)) (by decide) (hts _ q724) rfl dX1_safe_56 ?_
        refine lv_iload_n hx hb dX1_safe_59 rfl (lv_at hl 2 rfl) ?_
        refine XS_callV (As := [.ref (tw 9), .int x2]) (rest := []) ⟨hx, hb, hml, hown, hts⟩ hK hZ (hT.at hS hNA) hN (fun _ h => h) hJ.z hM hJ hS 50 (by decide) (metX6_fair l D cA z0 E tw N (ad 70) (shf ad 50) (sub h6 50) T x2 _ hw) (cwV 2 hts (lw_V q839 q840 q841 q129 q842) rfl rfl rfl (by decide +kernel) ⟨Nat.le_of_ble_eq_true rfl, Nat.le_of_ble_eq_true rfl⟩) rfl hl.1 rfl (Nat.le_of_ble_eq_true rfl) dX1_safe_60 ⟨Nat.zero_le _, Nat.zero_le _⟩ (fun S7 H locs hw hM hS => ?_)
        obtain ⟨h8, eh8⟩ : ∃ y : Mem, y = put5 h6 50 S7 := ⟨_, rfl⟩
        rw [← eh8] at hM
        have hw := hw h8 eh8
        refine lv_iconst (v := (1 : Int32)) hx hb dX1_safe_63 (by decide) ?_
        refine lv_istore (lv' := [(4, .int (1 : Int32)), (0, .ref (ad 17)), (1, .int x1), (2, .int x2)]) hx hb dX1_safe_64 hl (by decide) rfl (fun ls hl => ?_)
        refine lv_iconst (v := (0 : Int32)) hx hb dX1_safe_66 (by decide) ?_
        refine lv_istore (lv' := [(5, .int (0 : Int32)), (4, .int (1 : Int32)), (0, .ref (ad 17)), (1, .int x1), (2, .int x2)]) hx hb dX1_safe_67 hl (by decide) rfl (fun ls hl => ?_)
        obtain ⟨n25, hw⟩ := hw
        exact hL69 h8 x1 x2 n25 (1 : Int32) (0 : Int32) hw _ _ ls hM hS (lv_sub hl [2, 3, 4, 1, 0] rfl)
      intro h x1 x2 hw H locs ls hM hS hl
      have hw : wpBX1_safe_4 post T  (fun h x1 x2 => wpLX1_safe_4 post T   n4 (h, x1, x2))  h x1 x2 := hw
      unfold wpBX1_safe_4 at hw
      refine lv_iload_n hx hb dX1_safe_4 rfl (lv_at hl 2 rfl) ?_
      refine lv_iconst (v := (1 : Int32)) hx hb dX1_safe_5 (by decide) ?_
      refine lv_aload_n hx hb dX1_safe_6 rfl (lv_at hl 0 rfl) ?_
      refine RX_callI (As := []) (rest := [.int (1 : Int32), .int x2]) ⟨hx, hb, hml, hown, hts⟩ hS hJ.z hK hZ (hT.at hS hNA) hM (metX1_people l D cA z0 E tw N ad h T  _ hw) (cwV 0 hts (lw_V q792 q794 qs6 q104 q795) rfl rfl rfl (by decide +kernel) ⟨Nat.le_of_ble_eq_true rfl, Nat.le_of_ble_eq_true rfl⟩) rfl hl.1 rfl (Nat.le_of_ble_eq_true rfl) dX1_safe_7 ⟨Nat.zero_le _, Nat.zero_le _⟩ (fun r1 H locs hw hk hS => ?_)
      have hM := hM.kept hk
      refine lv_ishl hx hb dX1_safe_10 ?_
      refine lv_icmp_ge (tgt := 155) hx hb dX1_safe_11 (by decide) (fun c2 => ?_) (fun c2 => ?_)
      · have hw := hw.1 c2
        refine lv_iload_n hx hb dX1_safe_155 rfl (lv_at hl 1 rfl) ?_
        exact X_iret hx hb hr hlocks hM hS hw dX1_safe_156
      · have hw := hw.2 c2
        refine lv_iload_n hx hb dX1_safe_14 rfl (lv_at hl 2 rfl) ?_
        refine RN_callI (As := [.int x2]) (rest := []) ⟨hx, hb, hml, hown, hts⟩ hS (metJ16_bitCount l) (va_cwS 1 hts (lw_S q797 q798 q124 q799) rfl rfl rfl (by decide +kernel) ⟨Nat.le_of_ble_eq_true rfl, Nat.le_of_ble_eq_true rfl⟩) rfl hl.1 rfl (Nat.le_of_ble_eq_true rfl) dX1_safe_15 ⟨Nat.zero_le _, Nat.zero_le _⟩ (fun r3 H locs er3 hk hS => ?_)
        subst er3
        have hM := hM.kept hk
        refine lv_istore_n (lv' := [(3, .int (bitc x2)), (0, .ref (ad 17)), (1, .int x1), (2, .int x2)]) hx hb dX1_safe_18 rfl hl (by decide) rfl (fun ls hl => ?_)
        refine lv_iload_n hx hb dX1_safe_19 rfl (lv_at hl 0 rfl) ?_
        refine lv_iconst (v := (2 : Int32)) hx hb dX1_safe_20 (by decide) ?_
        refine lv_icmp_lt (tgt := 149) hx hb dX1_safe_21 (by decide) (fun c4 => ?_) (fun c4 => ?_)
        · have hw := hw.1 c4
          refine lv_iinc (v := (x2 + (1 : Int32))) (lv' := [(2, .int (x2 + (1 : Int32))), (3, .int (bitc x2)), (0, .ref (ad 17)), (1, .int x1)]) hx hb dX1_safe_149 hl (k := 3) rfl rfl (by decide) rfl (fun ls hl => ?_)
          refine lv_goto (tgt := 4) hx hb dX1_safe_152 (by decide) ?_
          exact ih4 h x1 (x2 + (1 : Int32)) hw _ _ ls hM hS (lv_sub hl [2, 3, 0] rfl)
        · have hw := hw.2 c4
          refine lv_iload_n hx hb dX1_safe_24 rfl (lv_at hl 2 rfl) ?_
          refine lv_iconst (v := (-1 : Int32)) hx hb dX1_safe_25 (by decide) ?_
          refine lv_icmp_eq (tgt := 40) hx hb dX1_safe_26 (by decide) (fun c5 => ?_) (fun c5 => ?_)
          · have hw := hw.1 c5
            exact hB40 h x1 x2 hw _ _ ls hM hS (lv_sub hl [1, 2, 3] rfl)
          · have hw := hw.2 c5
            refine lv_iload_n hx hb dX1_safe_29 rfl (lv_at hl 0 rfl) ?_
            refine lv_iload_n hx hb dX1_safe_30 rfl (lv_at hl 2 rfl) ?_
            refine RN_callI (As := [.int x1]) (rest := [.int (bitc x2)]) ⟨hx, hb, hml, hown, hts⟩ hS (metJ16_bitCount l) (va_cwS 1 hts (lw_S q797 q798 q124 q799) rfl rfl rfl (by decide +kernel) ⟨Nat.le_of_ble_eq_true rfl, Nat.le_of_ble_eq_true rfl⟩) rfl hl.1 rfl (Nat.le_of_ble_eq_true rfl) dX1_safe_31 ⟨Nat.zero_le _, Nat.zero_le _⟩ (fun r26 H locs er26 hk hS => ?_)
            subst er26
            have hM := hM.kept hk
            refine lv_icmp_gt (tgt := 40) hx hb dX1_safe_34 (by decide) (fun c27 => ?_) (fun c27 => ?_)
            · have hw := hw.1 c27
              exact hB40 h x1 x2 hw _ _ ls hM hS (lv_sub hl [1, 2, 3] rfl)
            · have hw := hw.2 c27
              refine lv_goto (tgt := 149) hx hb dX1_safe_37 (by decide) ?_
              refine lv_iinc (v := (x2 + (1 : Int32))) (lv' := [(2, .int (x2 + (1 : Int32))), (3, .int (bitc x2)), (0, .ref (ad 17)), (1, .int x1)]) hx hb dX1_safe_149 hl (k := 3) rfl rfl (by decide) rfl (fun ls hl => ?_)
              refine lv_goto (tgt := 4) hx hb dX1_safe_152 (by decide) ?_
              exact ih4 h x1 (x2 + (1 : Int32)) hw _ _ ls hM hS (lv_sub hl [2, 3, 0] rfl)
  unfold wpX1_safe at hw
  refine lv_iconst (v := (-1 : Int32)) hx hb dX1_safe_0 (by decide) ?_
  refine lv_istore_n (lv' := [(1, .int (-1 : Int32)), (0, .ref (ad 17))]) hx hb dX1_safe_1 rfl hl (by decide) rfl (fun ls hl => ?_)
  refine lv_iconst (v := (0 : Int32)) hx hb dX1_safe_2 (by decide) ?_
  refine lv_istore_n (lv' := [(2, .int (0 : Int32)), (1, .int (-1 : Int32)), (0, .ref (ad 17))]) hx hb dX1_safe_3 rfl hl (by decide) rfl (fun ls hl => ?_)
  obtain ⟨n28, hw⟩ := hw
  exact hL4 n28 h (-1 : Int32) (0 : Int32) hw _ _ ls hM hS (lv_sub hl [2, 1, 0] rfl)
