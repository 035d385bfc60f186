/-! the walks of the twin, printed by tools/gen.py: peopleIn doors see who balk isBalked whom why goodFor fairest forget gain game drawOf season be image restore -/
/-- peopleIn(I)I -/
def wpBX7_peopleIn_4 (post : Int32 → Prop) (a1 : Int32)  (K4 : Int32 → Int32 → Prop) (h : Mem)  (x2 : Int32) (x3 : Int32) : Prop :=
  (((h 3 0) ≤ x3 → post x2) ∧ (¬ (h 3 0) ≤ x3 → (vp_in x3 (mlen 5) ∧ (wpX7_isOf (fun r3 => K4 (if r3 = true then (x2 ||| ((1 : Int32) <<< (x3 &&& 31))) else x2) (x3 + (1 : Int32))) h a1 (h 5 (ix x3))))))
def wpLX7_peopleIn_4 (post : Int32 → Prop) (a1 : Int32)  (h : Mem)  : Nat → (Int32 × Int32) → Prop := LW (fun K s => wpBX7_peopleIn_4 post a1  (fun x2 x3 => K (x2, x3)) h  s.1 s.2)
def wpX7_peopleIn (post : Int32 → Prop) (h : Mem) (a1 : Int32) : Prop :=
  (∃ n, wpLX7_peopleIn_4 post a1  h n ((0 : Int32), (0 : Int32)))
set_option maxHeartbeats 4000000 in
set_option maxRecDepth 100000 in
theorem metX7_peopleIn (l : Launch) (D : va_G) (cA : Nat → ClassId) (z0 : Nat) (E : Nat → Nat → Nat) (ad : Nat → Nat) (h : Mem) (a1 : Int32) (post : Int32 → Prop) (hw : wpX7_peopleIn post h a1) : MeI l D cA z0 E ad yX7_peopleIn (ws_ yX7_peopleIn cX7_peopleIn 4 (some .int)) ({ frames := 2, cells := 0, slots := 0, locals := 51 }) [.ref (ad 69), .int a1] h (fun r h' => h' = h ∧ post r) := by
  refine Met.ofW (cc := cX7_peopleIn) (maxL := 4) (ret := (some .int)) (by decide) rfl ?_
  intro p e s m args below meth c s₁ B hml hv
  obtain ⟨rfl, hM, hK, hJ, hZ⟩ := hv
  have hx := B.exec
  have hb := B.bytes
  have hr := B.returns
  have hts := atoms_spec (ws := ws_ yX7_peopleIn cX7_peopleIn 4 (some .int)) B.pre
  have hts : ∀ w ∈ lw_all, w.before _ s = true := fun w h => hts w (List.mem_cons_of_mem _ h)
  have hown : s.vm.findClass RX7 = some m.cls := findClass_of_methodNamed B.named
  have hlocks := B.notSynchronized
  have hS : va_S (MA ad) s.heap s.heap [] := va_S.rf
  have hl := lv_entry ([.ref (ad 69), .int a1]) (n := 4) (Nat.le_of_ble_eq_true rfl)
  rw [lg_entry_eq]
  generalize (lg_sl ([.ref (ad 69), .int a1]) ++ List.replicate (4 - (lg_sl ([.ref (ad 69), .int a1])).length) Slot.unset).toArray = ls at hl ⊢
  have hl : lv_has ls 4 [(0, .ref (ad 69)), (1, .int a1)] := hl
  have hL4 : ∀  (n4 : Nat) (x2 : Int32) (x3 : Int32), wpLX7_peopleIn_4 post a1  h  n4 (x2, x3) → JM p l e (headSpec (ws_ yX7_peopleIn cX7_peopleIn 4 (some .int)) ({ frames := 2, cells := 0, slots := 0, locals := 51 })).room s m ([.ref (ad 69), .int a1] : List Value).toArray below meth c (MQ below (MQi D cA E ad (fun r h' => h' = h ∧ post r)) ([.ref (ad 69), .int a1] : List Value).toArray s 0 0 (MA ad)) D cA E ad 4 4 h [(0, .ref (ad 69)), (1, .int a1), (2, .int x2), (3, .int x3)] [] := by
    intro  n4
    induction n4 with
    | zero => intro x2 x3 hw; exact False.elim hw
    | succ n4 ih4 =>
      intro x2 x3 hw H locs ls hM hS hl
      have hw : wpBX7_peopleIn_4 post a1  (fun x2 x3 => wpLX7_peopleIn_4 post a1  h  n4 (x2, x3)) h  x2 x3 := hw
      unfold wpBX7_peopleIn_4 at hw
      refine lv_iload_n hx hb dX7_peopleIn_4 rfl (lv_at hl 3 rfl) ?_
      refine lv_aload_n hx hb dX7_peopleIn_5 rfl (lv_at hl 0 rfl) ?_
      refine M_get hx hb hts hown hK hM 3 (v := .ref (ad 3)) (by decide) (hts _ q1686) rfl dX7_peopleIn_6 ?_
      refine lv_iconst (v := (0 : Int32)) hx hb dX7_peopleIn_9 (by decide) ?_
      refine M_iald hx hb hK hM 3 rfl (j := 0) rfl (by unfold vp_in; decide) dX7_peopleIn_10 ?_
      refine lv_icmp_ge (tgt := 39) hx hb dX7_peopleIn_11 (by decide) (fun c1 => ?_) (fun c1 => ?_)
      · have hw := hw.1 c1
        refine lv_iload_n hx hb dX7_peopleIn_39 rfl (lv_at hl 2 rfl) ?_
        exact M_iret hx hb hr hlocks hM hS ⟨rfl, hw⟩ dX7_peopleIn_40
      · have hw := hw.2 c1
        refine lv_iload_n hx hb dX7_peopleIn_14 rfl (lv_at hl 1 rfl) ?_
        refine lv_aload_n hx hb dX7_peopleIn_15 rfl (lv_at hl 0 rfl) ?_
        refine M_get hx hb hts hown hK hM 5 (v := .ref (ad 5)) (by decide) (hts _ q1688) rfl dX7_peopleIn_16 ?_
        refine lv_iload_n hx hb dX7_peopleIn_19 rfl (lv_at hl 3 rfl) ?_
        obtain ⟨hb2, hw⟩ := hw
        refine M_iald hx hb hK hM 5 rfl (j := (ix x3)) rfl hb2 dX7_peopleIn_20 ?_
        refine M_callZSp (As := [.int a1, .int (h 5 (ix x3))]) (rest := []) ⟨hx, hb, hml, hown, hts⟩ hK hZ hM hJ hS (metX7_isOf l D cA z0 E ad h a1 (h 5 (ix x3)) _ hw) (va_cwS 2 hts (lw_S q2008 q2009 q130 q2010) rfl rfl rfl (by decide +kernel) ⟨Nat.le_of_ble_eq_true rfl, Nat.le_of_ble_eq_true rfl⟩) rfl hl.1 rfl (Nat.le_of_ble_eq_true rfl) dX7_peopleIn_21 ⟨Nat.zero_le _, Nat.zero_le _⟩ (fun r3 H locs hw hM hS => ?_)
        have hj5 : JM p l e (headSpec (ws_ yX7_peopleIn cX7_peopleIn 4 (some .int)) ({ frames := 2, cells := 0, slots := 0, locals := 51 })).room s m ([.ref (ad 69), .int a1] : List Value).toArray below meth c (MQ below (MQi D cA E ad (fun r h' => h' = h ∧ post r)) ([.ref (ad 69), .int a1] : List Value).toArray s 0 0 (MA ad)) D cA E ad 4 33 h [(0, .ref (ad 69)), (1, .int a1), (2, .int (if r3 = true then (x2 ||| ((1 : Int32) <<< (x3 &&& 31))) else x2)), (3, .int x3)] [] := by
          intro H locs ls hM hS hl
          refine lv_iinc (v := (x3 + (1 : Int32))) (lv' := [(3, .int (x3 + (1 : Int32))), (0, .ref (ad 69)), (1, .int a1), (2, .int (if r3 = true then (x2 ||| ((1 : Int32) <<< (x3 &&& 31))) else x2))]) hx hb dX7_peopleIn_33 hl (k := 3) rfl rfl (by decide) rfl (fun ls hl => ?_)
          refine lv_goto (tgt := 4) hx hb dX7_peopleIn_36 (by decide) ?_
          exact ih4 (if r3 = true then (x2 ||| ((1 : Int32) <<< (x3 &&& 31))) else x2) (x3 + (1 : Int32)) hw _ _ ls hM hS (lv_sub hl [1, 2, 3, 0] rfl)
        refine lv_if_eq (tgt := 33) hx hb dX7_peopleIn_24 (by decide) (fun c6 => ?_) (fun c6 => ?_)
        · have c6 := b2i_f c6
          have e7 : (if r3 = true then (x2 ||| ((1 : Int32) <<< (x3 &&& 31))) else x2) = x2 := by rw [if_neg c6]
          rw [e7] at hj5
          exact hj5 _ _ ls hM hS (lv_sub hl [0, 1, 2, 3] rfl)
        · have c6 := b2i_t c6
          refine lv_iload_n hx hb dX7_peopleIn_27 rfl (lv_at hl 2 rfl) ?_
          refine lv_iconst (v := (1 : Int32)) hx hb dX7_peopleIn_28 (by decide) ?_
          refine lv_iload_n hx hb dX7_peopleIn_29 rfl (lv_at hl 3 rfl) ?_
          refine lv_ishl hx hb dX7_peopleIn_30 ?_
          refine lv_ior hx hb dX7_peopleIn_31 ?_
          refine lv_istore_n (lv' := [(2, .int (x2 ||| ((1 : Int32) <<< (x3 &&& 31)))), (0, .ref (ad 69)), (1, .int a1), (3, .int x3)]) hx hb dX7_peopleIn_32 rfl hl (by decide) rfl (fun ls hl => ?_)
          have e8 : (if r3 = true then (x2 ||| ((1 : Int32) <<< (x3 &&& 31))) else x2) = (x2 ||| ((1 : Int32) <<< (x3 &&& 31))) := by rw [if_pos c6]
          rw [e8] at hj5
          exact hj5 _ _ ls hM hS (lv_sub hl [1, 2, 0, 3] rfl)
  unfold wpX7_peopleIn at hw
  refine lv_iconst (v := (0 : Int32)) hx hb dX7_peopleIn_0 (by decide) ?_
  refine lv_istore_n (lv' := [(2, .int (0 : Int32)), (0, .ref (ad 69)), (1, .int a1)]) hx hb dX7_peopleIn_1 rfl hl (by decide) rfl (fun ls hl => ?_)
  refine lv_iconst (v := (0 : Int32)) hx hb dX7_peopleIn_2 (by decide) ?_
  refine lv_istore_n (lv' := [(3, .int (0 : Int32)), (2, .int (0 : Int32)), (0, .ref (ad 69)), (1, .int a1)]) hx hb dX7_peopleIn_3 rfl hl (by decide) rfl (fun ls hl => ?_)
  obtain ⟨n9, hw⟩ := hw
  exact hL4 n9 (0 : Int32) (0 : Int32) hw _ _ ls hM hS (lv_sub hl [2, 3, 1, 0] rfl)

/-- doors()I -/
def wpBX7_doors_103 (post : Int32 → Mem → Prop)  (K9 : Int32 → Int32 → Prop) (h : Mem) (x1 : Int32) (x2 : Int32) (x3 : Int32)  : Prop :=
  K9 (if x3 = 0 then x1 else x2) (x2 + (1 : Int32))
def wpBX7_doors_91 (post : Int32 → Mem → Prop)  (K9 : Int32 → Int32 → Prop) (K41 : Int32 → Int32 → Prop) (h : Mem) (x1 : Int32) (x2 : Int32) (x4 : Int32)  : Prop :=
  K41 (1 : Int32) (x4 + (1 : Int32))
def wpBX7_doors_41 (post : Int32 → Mem → Prop)  (K9 : Int32 → Int32 → Prop) (K41 : Int32 → Int32 → Prop) (h : Mem) (x1 : Int32) (x2 : Int32) (x3 : Int32) (x4 : Int32) : Prop :=
  (((h 3 1) ≤ x4 → wpBX7_doors_103 post  K9 h x1 x2 x3) ∧ (¬ (h 3 1) ≤ x4 → ((x3 = 0 → wpBX7_doors_103 post  K9 h x1 x2 x3) ∧ (¬ x3 = 0 → (vp_in x4 (mlen 27) ∧ (((h 27 (ix x4)) = (-1 : Int32) → (wpX7_cutters (fun r12 => ((r12 = 0 → wpBX7_doors_91 post  K9 K41 h x1 x2 x4) ∧ (¬ r12 = 0 → (wpX7_cutters (fun r15 => (wpX7_peopleIn (fun r17 => K41 (if (r15 &&& r17) = 0 then (0 : Int32) else (1 : Int32)) (x4 + (1 : Int32))) h x2)) h x4)))) h x4)) ∧ (¬ (h 27 (ix x4)) = (-1 : Int32) → wpBX7_doors_91 post  K9 K41 h x1 x2 x4)))))))
def wpLX7_doors_41 (post : Int32 → Mem → Prop)  (K9 : Int32 → Int32 → Prop) (h : Mem) (x1 : Int32) (x2 : Int32) : Nat → (Int32 × Int32) → Prop := LW (fun K s => wpBX7_doors_41 post  K9 (fun x3 x4 => K (x3, x4)) h x1 x2 s.1 s.2)
def wpBX7_doors_32 (post : Int32 → Mem → Prop)  (K9 : Int32 → Int32 → Prop) (h : Mem) (x1 : Int32) (x2 : Int32)  : Prop :=
  (∃ n, wpLX7_doors_41 post  K9 h x1 x2 n ((1 : Int32), (0 : Int32)))
def wpBX7_doors_9 (post : Int32 → Mem → Prop)   (K9 : Int32 → Int32 → Prop) (h : Mem)  (x1 : Int32) (x2 : Int32) : Prop :=
  (((1024 : Int32) ≤ x2 → post x1 h) ∧ (¬ (1024 : Int32) ≤ x2 → ((x1 = (-1 : Int32) → wpBX7_doors_32 post  K9 h x1 x2) ∧ (¬ x1 = (-1 : Int32) → (wpX7_bitsOf (fun r24 => (wpX7_bitsOf (fun r26 => (∃ n, wpLX7_doors_41 post  K9 h x1 x2 n ((if r26 ≤ r24 then (0 : Int32) else (1 : Int32)), (0 : Int32)))) h x1)) h x2)))))
def wpLX7_doors_9 (post : Int32 → Mem → Prop)   (h : Mem)  : Nat → (Int32 × Int32) → Prop := LW (fun K s => wpBX7_doors_9 post   (fun x1 x2 => K (x1, x2)) h  s.1 s.2)
def wpX7_doors (post : Int32 → Mem → Prop) (h : Mem)  : Prop :=
  (∀ h1 : Mem, h1 = up2 h 2 0 (0 : Int32) → (∃ n, wpLX7_doors_9 post   h1 n ((-1 : Int32), (0 : Int32))))
set_option maxHeartbeats 4000000 in
set_option maxRecDepth 100000 in
theorem metX7_doors (l : Launch) (D : va_G) (cA : Nat → ClassId) (z0 : Nat) (E : Nat → Nat → Nat) (ad : Nat → Nat) (h : Mem)  (post : Int32 → Mem → Prop) (hw : wpX7_doors post h ) : MeI l D cA z0 E ad yX7_doors (ws_ yX7_doors cX7_doors 5 (some .int)) ({ frames := 8, cells := 0, slots := 0, locals := 191 }) [.ref (ad 69)] h post := by
  refine Met.ofW (cc := cX7_doors) (maxL := 5) (ret := (some .int)) (by decide) rfl ?_
  intro p e s m args below meth c s₁ B hml hv
  obtain ⟨rfl, hM, hK, hJ, hZ⟩ := hv
  have hx := B.exec
  have hb := B.bytes
  have hr := B.returns
  have hts := atoms_spec (ws := ws_ yX7_doors cX7_doors 5 (some .int)) B.pre
  have hts : ∀ w ∈ lw_all, w.before _ s = true := fun w h => hts w (List.mem_cons_of_mem _ h)
  have hown : s.vm.findClass RX7 = some m.cls := findClass_of_methodNamed B.named
  have hlocks := B.notSynchronized
  have hS : va_S (MA ad) s.heap s.heap [] := va_S.rf
  have hl := lv_entry ([.ref (ad 69)]) (n := 5) (Nat.le_of_ble_eq_true rfl)
  rw [lg_entry_eq]
  generalize (lg_sl ([.ref (ad 69)]) ++ List.replicate (5 - (lg_sl ([.ref (ad 69)])).length) Slot.unset).toArray = ls at hl ⊢
  have hl : lv_has ls 5 [(0, .ref (ad 69))] := hl
  have hL9 : ∀ (h : Mem)  (n9 : Nat) (x1 : Int32) (x2 : Int32), wpLX7_doors_9 post   h  n9 (x1, x2) → JM p l e (headSpec (ws_ yX7_doors cX7_doors 5 (some .int)) ({ frames := 8, cells := 0, slots := 0, locals := 191 })).room s m ([.ref (ad 69)] : List Value).toArray below meth c (MQ below (MQi D cA E ad post) ([.ref (ad 69)] : List Value).toArray s 0 0 (MA ad)) D cA E ad 5 9 h [(0, .ref (ad 69)), (1, .int x1), (2, .int x2)] [] := by
    intro h n9
    induction n9 with
    | zero => intro x1 x2 hw; exact False.elim hw
    | succ n9 ih9 =>
      have hB103 : ∀ (x1 : Int32) (x2 : Int32) (x3 : Int32), wpBX7_doors_103 post  (fun x1 x2 => wpLX7_doors_9 post   h  n9 (x1, x2)) h x1 x2 x3 → JM p l e (headSpec (ws_ yX7_doors cX7_doors 5 (some .int)) ({ frames := 8, cells := 0, slots := 0, locals := 191 })).room s m ([.ref (ad 69)] : List Value).toArray below meth c (MQ below (MQi D cA E ad post) ([.ref (ad 69)] : List Value).toArray s 0 0 (MA ad)) D cA E ad 5 103 h [(0, .ref (ad 69)), (1, .int x1), (2, .int x2), (3, .int x3)] [] := by
        intro x1 x2 x3 hw H locs ls hM hS hl
        unfold wpBX7_doors_103 at hw
        refine lv_iload_n hx hb dX7_doors_103 rfl (lv_at hl 3 rfl) ?_
        have hj5 : JM p l e (headSpec (ws_ yX7_doors cX7_doors 5 (some .int)) ({ frames := 8, cells := 0, slots := 0, locals := 191 })).room s m ([.ref (ad 69)] : List Value).toArray below meth c (MQ below (MQi D cA E ad post) ([.ref (ad 69)] : List Value).toArray s 0 0 (MA ad)) D cA E ad 5 109 h [(0, .ref (ad 69)), (1, .int (if x3 = 0 then x1 else x2)), (2, .int x2)] [] := by
          intro H locs ls hM hS hl
          refine lv_iinc (v := (x2 + (1 : Int32))) (lv' := [(2, .int (x2 + (1 : Int32))), (0, .ref (ad 69)), (1, .int (if x3 = 0 then x1 else x2))]) hx hb dX7_doors_109 hl (k := 2) rfl rfl (by decide) rfl (fun ls hl => ?_)
          refine lv_goto (tgt := 9) hx hb dX7_doors_112 (by decide) ?_
          exact ih9 (if x3 = 0 then x1 else x2) (x2 + (1 : Int32)) hw _ _ ls hM hS (lv_sub hl [1, 2, 0] rfl)
        refine lv_if_eq (tgt := 109) hx hb dX7_doors_104 (by decide) (fun c6 => ?_) (fun c6 => ?_)
        · have e7 : (if x3 = 0 then x1 else x2) = x1 := by rw [if_pos c6]
          rw [e7] at hj5
          exact hj5 _ _ ls hM hS (lv_sub hl [0, 1, 2] rfl)
        · refine lv_iload_n hx hb dX7_doors_107 rfl (lv_at hl 2 rfl) ?_
          refine lv_istore_n (lv' := [(1, .int x2), (0, .ref (ad 69)), (2, .int x2), (3, .int x3)]) hx hb dX7_doors_108 rfl hl (by decide) rfl (fun ls hl => ?_)
          have e8 : (if x3 = 0 then x1 else x2) = x2 := by rw [if_neg c6]
          rw [e8] at hj5
          exact hj5 _ _ ls hM hS (lv_sub hl [1, 0, 2] rfl)
      have hL41 : ∀ (x1 : Int32) (x2 : Int32) (n41 : Nat) (x3 : Int32) (x4 : Int32), wpLX7_doors_41 post  (fun x1 x2 => wpLX7_doors_9 post   h  n9 (x1, x2)) h x1 x2 n41 (x3, x4) → JM p l e (headSpec (ws_ yX7_doors cX7_doors 5 (some .int)) ({ frames := 8, cells := 0, slots := 0, locals := 191 })).room s m ([.ref (ad 69)] : List Value).toArray below meth c (MQ below (MQi D cA E ad post) ([.ref (ad 69)] : List Value).toArray s 0 0 (MA ad)) D cA E ad 5 41 h [(0, .ref (ad 69)), (1, .int x1), (2, .int x2), (3, .int x3), (4, .int x4)] [] := by
        intro x1 x2 n41
        induction n41 with
        | zero => intro x3 x4 hw; exact False.elim hw
        | succ n41 ih41 =>
          have hB91 : ∀ (x4 : Int32), wpBX7_doors_91 post  (fun x1 x2 => wpLX7_doors_9 post   h  n9 (x1, x2)) (fun x3 x4 => wpLX7_doors_41 post  (fun x1 x2 => wpLX7_doors_9 post   h  n9 (x1, x2)) h x1 x2 n41 (x3, x4)) h x1 x2 x4 → JM p l e (headSpec (ws_ yX7_doors cX7_doors 5 (some .int)) ({ frames := 8, cells := 0, slots := 0, locals := 191 })).room s m ([.ref (ad 69)] : List Value).toArray below meth c (MQ below (MQi D cA E ad post) ([.ref (ad 69)] : List Value).toArray s 0 0 (MA ad)) D cA E ad 5 91 h [(0, .ref (ad 69)), (1, .int x1), (2, .int x2), (4, .int x4)] [] := by
            intro x4 hw H locs ls hM hS hl
            unfold wpBX7_doors_91 at hw
            refine lv_iconst (v := (1 : Int32)) hx hb dX7_doors_91 (by decide) ?_
            refine lv_goto (tgt := 96) hx hb dX7_doors_92 (by decide) ?_
            refine lv_istore_n (lv' := [(3, .int (1 : Int32)), (0, .ref (ad 69)), (1, .int x1), (2, .int x2), (4, .int x4)]) hx hb dX7_doors_96 rfl hl (by decide) rfl (fun ls hl => ?_)
            refine lv_iinc (v := (x4 + (1 : Int32))) (lv' := [(4, .int (x4 + (1 : Int32))), (3, .int (1 : Int32)), (0, .ref (ad 69)), (1, .int x1), (2, .int x2)]) hx hb dX7_doors_97 hl (k := 4) rfl rfl (by decide) rfl (fun ls hl => ?_)
            refine lv_goto (tgt := 41) hx hb dX7_doors_100 (by decide) ?_
            exact ih41 (1 : Int32) (x4 + (1 : Int32)) hw _ _ ls hM hS (lv_sub hl [2, 3, 4, 1, 0] rfl)
          intro x3 x4 hw H locs ls hM hS hl
          have hw : wpBX7_doors_41 post  (fun x1 x2 => wpLX7_doors_9 post   h  n9 (x1, x2)) (fun x3 x4 => wpLX7_doors_41 post  (fun x1 x2 => wpLX7_doors_9 post   h  n9 (x1, x2)) h x1 x2 n41 (x3, x4)) h x1 x2 x3 x4 := hw
          unfold wpBX7_doors_41 at hw
          refine lv_iload hx hb dX7_doors_41 (lv_at hl 4 rfl) ?_
          refine lv_aload_n hx hb dX7_doors_43 rfl (lv_at hl 0 rfl) ?_
          refine M_get hx hb hts hown hK hM 3 (v := .ref (ad 3)) (by decide) (hts _ q1686) rfl dX7_doors_44 ?_
          refine lv_iconst (v := (1 : Int32)) hx hb dX7_doors_47 (by decide) ?_
          refine M_iald hx hb hK hM 3 rfl (j := 1) rfl (by unfold vp_in; decide) dX7_doors_48 ?_
          refine lv_icmp_ge (tgt := 103) hx hb dX7_doors_49 (by decide) (fun c4 => ?_) (fun c4 => ?_)
          · have hw := hw.1 c4
            exact hB103 x1 x2 x3 hw _ _ ls hM hS (lv_sub hl [0, 1, 2, 3] rfl)
          · have hw := hw.2 c4
            refine lv_iload_n hx hb dX7_doors_52 rfl (lv_at hl 3 rfl) ?_
            refine lv_if_eq (tgt := 103) hx hb dX7_doors_53 (by decide) (fun c9 => ?_) (fun c9 => ?_)
            · have hw := hw.1 c9
              exact hB103 x1 x2 x3 hw _ _ ls hM hS (lv_sub hl [0, 1, 2, 3] rfl)
            · have hw := hw.2 c9
              refine lv_aload_n hx hb dX7_doors_56 rfl (lv_at hl 0 rfl) ?_
              refine M_get hx hb hts hown hK hM 27 (v := .ref (ad 27)) (by decide) (hts _ q1710) rfl dX7_doors_57 ?_
              refine lv_iload hx hb dX7_doors_60 (lv_at hl 4 rfl) ?_
              obtain ⟨hb10, hw⟩ := hw
              refine M_iald hx hb hK hM 27 rfl (j := (ix x4)) rfl hb10 dX7_doors_62 ?_
              refine lv_iconst (v := (-1 : Int32)) hx hb dX7_doors_63 (by decide) ?_
              refine lv_icmp_ne (tgt := 91) hx hb dX7_doors_64 (by decide) (fun c11 => ?_) (fun c11 => ?_)
              · have hw := hw.2 c11
                exact hB91 x4 hw _ _ ls hM hS (lv_sub hl [0, 1, 2, 4] rfl)
              · have hw := hw.1 c11
                refine lv_aload_n hx hb dX7_doors_67 rfl (lv_at hl 0 rfl) ?_
                refine lv_iload hx hb dX7_doors_68 (lv_at hl 4 rfl) ?_
                refine M_callIp (As := [.int x4]) (rest := []) ⟨hx, hb, hml, hown, hts⟩ hK hZ hM hJ hS (metX7_cutters l D cA z0 E ad h x4 _ hw) (cwV 1 hts (lw_V q2227 q2229 qs96 q130 q2230) rfl rfl rfl (by decide +kernel) ⟨Nat.le_of_ble_eq_true rfl, Nat.le_of_ble_eq_true rfl⟩) rfl hl.1 rfl (Nat.le_of_ble_eq_true rfl) dX7_doors_70 ⟨Nat.zero_le _, Nat.zero_le _⟩ (fun r12 H locs hw hM hS => ?_)
                refine lv_if_eq (tgt := 91) hx hb dX7_doors_73 (by decide) (fun c14 => ?_) (fun c14 => ?_)
                · have hw := hw.1 c14
                  exact hB91 x4 hw _ _ ls hM hS (lv_sub hl [0, 1, 2, 4] rfl)
                · have hw := hw.2 c14
                  refine lv_aload_n hx hb dX7_doors_76 rfl (lv_at hl 0 rfl) ?_
                  refine lv_iload hx hb dX7_doors_77 (lv_at hl 4 rfl) ?_
                  refine M_callIp (As := [.int x4]) (rest := []) ⟨hx, hb, hml, hown, hts⟩ hK hZ hM hJ hS (metX7_cutters l D cA z0 E ad h x4 _ hw) (cwV 1 hts (lw_V q2227 q2229 qs96 q130 q2230) rfl rfl rfl (by decide +kernel) ⟨Nat.le_of_ble_eq_true rfl, Nat.le_of_ble_eq_true rfl⟩) rfl hl.1 rfl (Nat.le_of_ble_eq_true rfl) dX7_doors_79 ⟨Nat.zero_le _, Nat.zero_le _⟩ (fun r15 H locs hw hM hS => ?_)
                  refine lv_aload_n hx hb dX7_doors_82 rfl (lv_at hl 0 rfl) ?_
                  refine lv_iload_n hx hb dX7_doors_83 rfl (lv_at hl 2 rfl) ?_
                  refine M_callIp (As := [.int x2]) (rest := [.int r15]) ⟨hx, hb, hml, hown, hts⟩ hK hZ hM hJ hS (metX7_peopleIn l D cA z0 E ad h x2 _ hw) (cwV 1 hts (lw_V q2243 q2245 qs98 q130 q2246) rfl rfl rfl (by decide +kernel) ⟨Nat.le_of_ble_eq_true rfl, Nat.le_of_ble_eq_true rfl⟩) rfl hl.1 rfl (Nat.le_of_ble_eq_true rfl) dX7_doors_84 ⟨Nat.zero_le _, Nat.zero_le _⟩ (fun r17 H locs hw hM hS => ?_)
                  refine lv_iand hx hb dX7_doors_87 ?_
                  have hj19 : JM p l e (headSpec (ws_ yX7_doors cX7_doors 5 (some .int)) ({ frames := 8, cells := 0, slots := 0, locals := 191 })).room s m ([.ref (ad 69)] : List Value).toArray below meth c (MQ below (MQi D cA E ad post) ([.ref (ad 69)] : List Value).toArray s 0 0 (MA ad)) D cA E ad 5 96 h [(0, .ref (ad 69)), (1, .int x1), (2, .int x2), (4, .int x4)] [.int (if (r15 &&& r17) = 0 then (0 : Int32) else (1 : Int32))] := by
                    intro H locs ls hM hS hl
                    refine lv_istore_n (lv' := [(3, .int (if (r15 &&& r17) = 0 then (0 : Int32) else (1 : Int32))), (0, .ref (ad 69)), (1, .int x1), (2, .int x2), (4, .int x4)]) hx hb dX7_doors_96 rfl hl (by decide) rfl (fun ls hl => ?_)
                    refine lv_iinc (v := (x4 + (1 : Int32))) (lv' := [(4, .int (x4 + (1 : Int32))), (3, .int (if (r15 &&& r17) = 0 then (0 : Int32) else (1 : Int32))), (0, .ref (ad 69)), (1, .int x1), (2, .int x2)]) hx hb dX7_doors_97 hl (k := 4) rfl rfl (by decide) rfl (fun ls hl => ?_)
                    refine lv_goto (tgt := 41) hx hb dX7_doors_100 (by decide) ?_
                    exact ih41 (if (r15 &&& r17) = 0 then (0 : Int32) else (1 : Int32)) (x4 + (1 : Int32)) hw _ _ ls hM hS (lv_sub hl [2, 3, 4, 1, 0] rfl)
                  refine lv_if_eq (tgt := 95) hx hb dX7_doors_88 (by decide) (fun c20 => ?_) (fun c20 => ?_)
                  · refine lv_iconst (v := (0 : Int32)) hx hb dX7_doors_95 (by decide) ?_
                    have e21 : (if (r15 &&& r17) = 0 then (0 : Int32) else (1 : Int32)) = (0 : Int32) := by rw [if_pos c20]
                    rw [e21] at hj19
                    exact hj19 _ _ ls hM hS (lv_sub hl [0, 1, 2, 4] rfl)
                  · refine lv_iconst (v := (1 : Int32)) hx hb dX7_doors_91 (by decide) ?_
                    refine lv_goto (tgt := 96) hx hb dX7_doors_92 (by decide) ?_
                    have e22 : (if (r15 &&& r17) = 0 then (0 : Int32) else (1 : Int32)) = (1 : Int32) := by rw [if_neg c20]
                    rw [e22] at hj19
                    exact hj19 _ _ ls hM hS (lv_sub hl [0, 1, 2, 4] rfl)
      have hB32 : ∀ (x1 : Int32) (x2 : Int32), wpBX7_doors_32 post  (fun x1 x2 => wpLX7_doors_9 post   h  n9 (x1, x2)) h x1 x2 → JM p l e (headSpec (ws_ yX7_doors cX7_doors 5 (some .int)) ({ frames := 8, cells := 0, slots := 0, locals := 191 })).room s m ([.ref (ad 69)] : List Value).toArray below meth c (MQ below (MQi D cA E ad post) ([.ref (ad 69)] : List Value).toArray s 0 0 (MA ad)) D cA E ad 5 32 h [(0, .ref (ad 69)), (1, .int x1), (2, .int x2)] [] := by
        intro x1 x2 hw H locs ls hM hS hl
        unfold wpBX7_doors_32 at hw
        refine lv_iconst (v := (1 : Int32)) hx hb dX7_doors_32 (by decide) ?_
        refine lv_goto (tgt := 37) hx hb dX7_doors_33 (by decide) ?_
        refine lv_istore_n (lv' := [(3, .int (1 : Int32)), (0, .ref (ad 69)), (1, .int x1), (2, .int x2)]) hx hb dX7_doors_37 rfl hl (by decide) rfl (fun ls hl => ?_)
        refine lv_iconst (v := (0 : Int32)) hx hb dX7_doors_38 (by decide) ?_
        refine lv_istore (lv' := [(4, .int (0 : Int32)), (3, .int (1 : Int32)), (0, .ref (ad 69)), (1, .int x1), (2, .int x2)]) hx hb dX7_doors_39 hl (by decide) rfl (fun ls hl => ?_)
        obtain ⟨n23, hw⟩ := hw
        exact hL41 x1 x2 n23 (1 : Int32) (0 : Int32) hw _ _ ls hM hS (lv_sub hl [2, 3, 4, 1, 0] rfl)
      intro x1 x2 hw H locs ls hM hS hl
      have hw : wpBX7_doors_9 post   (fun x1 x2 => wpLX7_doors_9 post   h  n9 (x1, x2)) h  x1 x2 := hw
      unfold wpBX7_doors_9 at hw
      refine lv_iload_n hx hb dX7_doors_9 rfl (lv_at hl 2 rfl) ?_
      refine lv_sipush (v := (1024 : Int32)) hx hb dX7_doors_10 (by decide) ?_
      refine lv_icmp_ge (tgt := 115) hx hb dX7_doors_13 (by decide) (fun c2 => ?_) (fun c2 => ?_)
      · have hw := hw.1 c2
        refine lv_iload_n hx hb dX7_doors_115 rfl (lv_at hl 1 rfl) ?_
        exact M_iret hx hb hr hlocks hM hS hw dX7_doors_116
      · have hw := hw.2 c2
        refine lv_iload_n hx hb dX7_doors_16 rfl (lv_at hl 1 rfl) ?_
        refine lv_iconst (v := (-1 : Int32)) hx hb dX7_doors_17 (by decide) ?_
        refine lv_icmp_eq (tgt := 32) hx hb dX7_doors_18 (by decide) (fun c3 => ?_) (fun c3 => ?_)
        · have hw := hw.1 c3
          exact hB32 x1 x2 hw _ _ ls hM hS (lv_sub hl [0, 1, 2] rfl)
        · have hw := hw.2 c3
          refine lv_iload_n hx hb dX7_doors_21 rfl (lv_at hl 2 rfl) ?_
          refine M_callISp (As := [.int x2]) (rest := []) ⟨hx, hb, hml, hown, hts⟩ hK hZ hM hJ hS (metX7_bitsOf l D cA z0 E ad h x2 _ hw) (va_cwS 1 hts (lw_S q2158 q2159 q130 q2160) rfl rfl rfl (by decide +kernel) ⟨Nat.le_of_ble_eq_true rfl, Nat.le_of_ble_eq_true rfl⟩) rfl hl.1 rfl (Nat.le_of_ble_eq_true rfl) dX7_doors_22 ⟨Nat.zero_le _, Nat.zero_le _⟩ (fun r24 H locs hw hM hS => ?_)
          refine lv_iload_n hx hb dX7_doors_25 rfl (lv_at hl 1 rfl) ?_
          refine M_callISp (As := [.int x1]) (rest := [.int r24]) ⟨hx, hb, hml, hown, hts⟩ hK hZ hM hJ hS (metX7_bitsOf l D cA z0 E ad h x1 _ hw) (va_cwS 1 hts (lw_S q2158 q2159 q130 q2160) rfl rfl rfl (by decide +kernel) ⟨Nat.le_of_ble_eq_true rfl, Nat.le_of_ble_eq_true rfl⟩) rfl hl.1 rfl (Nat.le_of_ble_eq_true rfl) dX7_doors_26 ⟨Nat.zero_le _, Nat.zero_le _⟩ (fun r26 H locs hw hM hS => ?_)
          have hj28 : JM p l e (headSpec (ws_ yX7_doors cX7_doors 5 (some .int)) ({ frames := 8, cells := 0, slots := 0, locals := 191 })).room s m ([.ref (ad 69)] : List Value).toArray below meth c (MQ below (MQi D cA E ad post) ([.ref (ad 69)] : List Value).toArray s 0 0 (MA ad)) D cA E ad 5 37 h [(0, .ref (ad 69)), (1, .int x1), (2, .int x2)] [.int (if r26 ≤ r24 then (0 : Int32) else (1 : Int32))] := by
            intro H locs ls hM hS hl
            refine lv_istore_n (lv' := [(3, .int (if r26 ≤ r24 then (0 : Int32) else (1 : Int32))), (0, .ref (ad 69)), (1, .int x1), (2, .int x2)]) hx hb dX7_doors_37 rfl hl (by decide) rfl (fun ls hl => ?_)
            refine lv_iconst (v := (0 : Int32)) hx hb dX7_doors_38 (by decide) ?_
            refine lv_istore (lv' := [(4, .int (0 : Int32)), (3, .int (if r26 ≤ r24 then (0 : Int32) else (1 : Int32))), (0, .ref (ad 69)), (1, .int x1), (2, .int x2)]) hx hb dX7_doors_39 hl (by decide) rfl (fun ls hl => ?_)
            obtain ⟨n29, hw⟩ := hw
            exact hL41 x1 x2 n29 (if r26 ≤ r24 then (0 : Int32) else (1 : Int32)) (0 : Int32) hw _ _ ls hM hS (lv_sub hl [2, 3, 4, 1, 0] rfl)
          refine lv_icmp_ge (tgt := 36) hx hb dX7_doors_29 (by decide) (fun c30 => ?_) (fun c30 => ?_)
          · refine lv_iconst (v := (0 : Int32)) hx hb dX7_doors_36 (by decide) ?_
            have e31 : (if r26 ≤ r24 then (0 : Int32) else (1 : Int32)) = (0 : Int32) := by rw [if_pos c30]
            rw [e31] at hj28
            exact hj28 _ _ ls hM hS (lv_sub hl [0, 1, 2] rfl)
          · refine lv_iconst (v := (1 : Int32)) hx hb dX7_doors_32 (by decide) ?_
            refine lv_goto (tgt := 37) hx hb dX7_doors_33 (by decide) ?_
            have e32 : (if r26 ≤ r24 then (0 : Int32) else (1 : Int32)) = (1 : Int32) := by rw [if_neg c30]
            rw [e32] at hj28
            exact hj28 _ _ ls hM hS (lv_sub hl [0, 1, 2] rfl)
  unfold wpX7_doors at hw
  refine lv_aload_n hx hb dX7_doors_0 rfl (lv_at hl 0 rfl) ?_
  refine lv_iconst (v := (0 : Int32)) hx hb dX7_doors_1 (by decide) ?_
  refine M_put hx hb hts hown hK hM hJ hS 2 rfl rfl (hts _ q1685) rfl .int (by decide +kernel) rfl rfl dX7_doors_2 (fun H locs hM hS => ?_)
  obtain ⟨h1, eh1⟩ : ∃ y : Mem, y = up2 h 2 0 (0 : Int32) := ⟨_, rfl⟩
  rw [← eh1] at hM
  have hw := hw h1 eh1
  refine lv_iconst (v := (-1 : Int32)) hx hb dX7_doors_5 (by decide) ?_
  refine lv_istore_n (lv' := [(1, .int (-1 : Int32)), (0, .ref (ad 69))]) hx hb dX7_doors_6 rfl hl (by decide) rfl (fun ls hl => ?_)
  refine lv_iconst (v := (0 : Int32)) hx hb dX7_doors_7 (by decide) ?_
  refine lv_istore_n (lv' := [(2, .int (0 : Int32)), (1, .int (-1 : Int32)), (0, .ref (ad 69))]) hx hb dX7_doors_8 rfl hl (by decide) rfl (fun ls hl => ?_)
  obtain ⟨n33, hw⟩ := hw
  exact hL9 h1 n33 (-1 : Int32) (0 : Int32) hw _ _ ls hM hS (lv_sub hl [2, 1, 0] rfl)

/-- see(III)I -/
def wpBX7_see_58 (post : Int32 → Mem → Prop) (a1 : Int32) (a2 : Int32) (a3 : Int32)  (h : Mem)   : Prop :=
  (wpX7_refuse (fun r6 h7 => post r6 h7) h (2 : Int32))
def wpX7_see (post : Int32 → Mem → Prop) (h : Mem) (a1 : Int32) (a2 : Int32) (a3 : Int32) : Prop :=
  (∀ h1 : Mem, h1 = up2 h 2 0 (0 : Int32) → (wpX7_isLoaf (fun r2 => ((r2 = true → (((h1 33 0) = (6 : Int32) → wpBX7_see_58 post a1 a2 a3  h1 ) ∧ (¬ (h1 33 0) = (6 : Int32) → (vp_in a1 (mlen 11) ∧ (wpX7_isIn (fun r9 => ((r9 = true → (wpX7_isIn (fun r12 => ((r12 = true → (vp_in (h1 33 0) (mlen 51) ∧ (∀ h16 : Mem, h16 = up2 h1 51 (ix (h1 33 0)) a1 → (vp_in (h16 33 0) (mlen 52) ∧ (∀ h18 : Mem, h18 = up2 h16 52 (ix (h16 33 0)) a2 → (vp_in (h18 33 0) (mlen 53) ∧ (∀ h20 : Mem, h20 = up2 h18 53 (ix (h18 33 0)) a3 → (∀ h21 : Mem, h21 = up2 h20 33 0 ((h20 33 0) + (1 : Int32)) → post (h21 33 0) h21)))))))) ∧ (¬ r12 = true → wpBX7_see_58 post a1 a2 a3  h1 ))) h1 (a3).toInt64 (0 : Int64) (999 : Int64))) ∧ (¬ r9 = true → wpBX7_see_58 post a1 a2 a3  h1 ))) h1 (a2).toInt64 (0 : Int64) (((h1 11 (ix a1)) - (1 : Int32))).toInt64))))) ∧ (¬ r2 = true → (wpX7_fail (fun r22 h23 => post r22 h23) h1 (1 : Int32))))) h1 a1))
set_option maxHeartbeats 4000000 in
set_option maxRecDepth 100000 in
theorem metX7_see (l : Launch) (D : va_G) (cA : Nat → ClassId) (z0 : Nat) (E : Nat → Nat → Nat) (ad : Nat → Nat) (h : Mem) (a1 : Int32) (a2 : Int32) (a3 : Int32) (post : Int32 → Mem → Prop) (hw : wpX7_see post h a1 a2 a3) : MeI l D cA z0 E ad yX7_see (ws_ yX7_see cX7_see 4 (some .int)) ({ frames := 3, cells := 0, slots := 0, locals := 76 }) [.ref (ad 69), .int a1, .int a2, .int a3] h post := by
  refine Met.ofW (cc := cX7_see) (maxL := 4) (ret := (some .int)) (by decide) rfl ?_
  intro p e s m args below meth c s₁ B hml hv
  obtain ⟨rfl, hM, hK, hJ, hZ⟩ := hv
  have hx := B.exec
  have hb := B.bytes
  have hr := B.returns
  have hts := atoms_spec (ws := ws_ yX7_see cX7_see 4 (some .int)) B.pre
  have hts : ∀ w ∈ lw_all, w.before _ s = true := fun w h => hts w (List.mem_cons_of_mem _ h)
  have hown : s.vm.findClass RX7 = some m.cls := findClass_of_methodNamed B.named
  have hlocks := B.notSynchronized
  have hS : va_S (MA ad) s.heap s.heap [] := va_S.rf
  have hl := lv_entry ([.ref (ad 69), .int a1, .int a2, .int a3]) (n := 4) (Nat.le_of_ble_eq_true rfl)
  rw [lg_entry_eq]
  generalize (lg_sl ([.ref (ad 69), .int a1, .int a2, .int a3]) ++ List.replicate (4 - (lg_sl ([.ref (ad 69), .int a1, .int a2, .int a3])).length) Slot.unset).toArray = ls at hl ⊢
  have hl : lv_has ls 4 [(0, .ref (ad 69)), (1, .int a1), (2, .int a2), (3, .int a3)] := hl
  have hB58 : ∀ (h : Mem), wpBX7_see_58 post a1 a2 a3  h  → JM p l e (headSpec (ws_ yX7_see cX7_see 4 (some .int)) ({ frames := 3, cells := 0, slots := 0, locals := 76 })).room s m ([.ref (ad 69), .int a1, .int a2, .int a3] : List Value).toArray below meth c (MQ below (MQi D cA E ad post) ([.ref (ad 69), .int a1, .int a2, .int a3] : List Value).toArray s 0 0 (MA ad)) D cA E ad 4 58 h [(0, .ref (ad 69))] [] := by
    intro h hw H locs ls hM hS hl
    unfold wpBX7_see_58 at hw
    refine lv_aload_n hx hb dX7_see_58 rfl (lv_at hl 0 rfl) ?_
    refine lv_iconst (v := (2 : Int32)) hx hb dX7_see_59 (by decide) ?_
    refine M_callI (As := [.int (2 : Int32)]) (rest := []) ⟨hx, hb, hml, hown, hts⟩ hK hZ hM hJ hS (metX7_refuse l D cA z0 E ad h (2 : Int32) _ hw) (cwV 1 hts (lw_V q2146 q2148 qs85 q130 q2149) rfl rfl rfl (by decide +kernel) ⟨Nat.le_of_ble_eq_true rfl, Nat.le_of_ble_eq_true rfl⟩) rfl hl.1 rfl (Nat.le_of_ble_eq_true rfl) dX7_see_60 ⟨Nat.zero_le _, Nat.zero_le _⟩ (fun r6 h7 H locs hw hM hS => ?_)
    exact M_iret hx hb hr hlocks hM hS hw dX7_see_63
  unfold wpX7_see at hw
  refine lv_aload_n hx hb dX7_see_0 rfl (lv_at hl 0 rfl) ?_
  refine lv_iconst (v := (0 : Int32)) hx hb dX7_see_1 (by decide) ?_
  refine M_put hx hb hts hown hK hM hJ hS 2 rfl rfl (hts _ q1685) rfl .int (by decide +kernel) rfl rfl dX7_see_2 (fun H locs hM hS => ?_)
  obtain ⟨h1, eh1⟩ : ∃ y : Mem, y = up2 h 2 0 (0 : Int32) := ⟨_, rfl⟩
  rw [← eh1] at hM
  have hw := hw h1 eh1
  refine lv_aload_n hx hb dX7_see_5 rfl (lv_at hl 0 rfl) ?_
  refine lv_iload_n hx hb dX7_see_6 rfl (lv_at hl 1 rfl) ?_
  refine M_callZp (As := [.int a1]) (rest := []) ⟨hx, hb, hml, hown, hts⟩ hK hZ hM hJ hS (metX7_isLoaf l D cA z0 E ad h1 a1 _ hw) (cwV 1 hts (lw_V q2066 q2068 qs72 q130 q2069) rfl rfl rfl (by decide +kernel) ⟨Nat.le_of_ble_eq_true rfl, Nat.le_of_ble_eq_true rfl⟩) rfl hl.1 rfl (Nat.le_of_ble_eq_true rfl) dX7_see_7 ⟨Nat.zero_le _, Nat.zero_le _⟩ (fun r2 H locs hw hM hS => ?_)
  refine lv_if_ne (tgt := 19) hx hb dX7_see_10 (by decide) (fun c4 => ?_) (fun c4 => ?_)
  · have c4 := b2i_t c4
    have hw := hw.1 c4
    refine lv_aload_n hx hb dX7_see_19 rfl (lv_at hl 0 rfl) ?_
    refine M_get hx hb hts hown hK hM 33 (v := .int (h1 33 0)) (by decide) (hts _ q1716) rfl dX7_see_20 ?_
    refine lv_bipush (v := (6 : Int32)) hx hb dX7_see_23 (by decide) ?_
    refine lv_icmp_eq (tgt := 58) hx hb dX7_see_25 (by decide) (fun c5 => ?_) (fun c5 => ?_)
    · have hw := hw.1 c5
      exact hB58 h1 hw _ _ ls hM hS (lv_sub hl [0] rfl)
    · have hw := hw.2 c5
      refine lv_iload_n hx hb dX7_see_28 rfl (lv_at hl 2 rfl) ?_
      refine lv_i2l (v := (a2).toInt64) hx hb dX7_see_29 rfl ?_
      refine lv_lconst (v := (0 : Int64)) hx hb dX7_see_30 (by decide) ?_
      refine lv_aload_n hx hb dX7_see_31 rfl (lv_at hl 0 rfl) ?_
      refine M_get hx hb hts hown hK hM 11 (v := .ref (ad 11)) (by decide) (hts _ q1694) rfl dX7_see_32 ?_
      refine lv_iload_n hx hb dX7_see_35 rfl (lv_at hl 1 rfl) ?_
      obtain ⟨hb8, hw⟩ := hw
      refine M_iald hx hb hK hM 11 rfl (j := (ix a1)) rfl hb8 dX7_see_36 ?_
      refine lv_iconst (v := (1 : Int32)) hx hb dX7_see_37 (by decide) ?_
      refine lv_isub hx hb dX7_see_38 ?_
      refine lv_i2l (v := (((h1 11 (ix a1)) - (1 : Int32))).toInt64) hx hb dX7_see_39 rfl ?_
      refine M_callZSp (As := [.long (a2).toInt64, .long (0 : Int64), .long (((h1 11 (ix a1)) - (1 : Int32))).toInt64]) (rest := []) ⟨hx, hb, hml, hown, hts⟩ hK hZ hM hJ hS (metX7_isIn l D cA z0 E ad h1 (a2).toInt64 (0 : Int64) (((h1 11 (ix a1)) - (1 : Int32))).toInt64 _ hw) (va_cwS 3 hts (lw_S q2059 q2060 q130 q2061) rfl rfl rfl (by decide +kernel) ⟨Nat.le_of_ble_eq_true rfl, Nat.le_of_ble_eq_true rfl⟩) rfl hl.1 rfl (Nat.le_of_ble_eq_true rfl) dX7_see_40 ⟨Nat.zero_le _, Nat.zero_le _⟩ (fun r9 H locs hw hM hS => ?_)
      refine lv_if_eq (tgt := 58) hx hb dX7_see_43 (by decide) (fun c11 => ?_) (fun c11 => ?_)
      · have c11 := b2i_f c11
        have hw := hw.2 c11
        exact hB58 h1 hw _ _ ls hM hS (lv_sub hl [0] rfl)
      · have c11 := b2i_t c11
        have hw := hw.1 c11
        refine lv_iload_n hx hb dX7_see_46 rfl (lv_at hl 3 rfl) ?_
        refine lv_i2l (v := (a3).toInt64) hx hb dX7_see_47 rfl ?_
        refine lv_lconst (v := (0 : Int64)) hx hb dX7_see_48 (by decide) ?_
        refine lv_ldc2 hx hb hown (hts _ q2251) dX7_see_49 ?_
        refine M_callZSp (As := [.long (a3).toInt64, .long (0 : Int64), .long (999 : Int64)]) (rest := []) ⟨hx, hb, hml, hown, hts⟩ hK hZ hM hJ hS (metX7_isIn l D cA z0 E ad h1 (a3).toInt64 (0 : Int64) (999 : Int64) _ hw) (va_cwS 3 hts (lw_S q2059 q2060 q130 q2061) rfl rfl rfl (by decide +kernel) ⟨Nat.le_of_ble_eq_true rfl, Nat.le_of_ble_eq_true rfl⟩) rfl hl.1 rfl (Nat.le_of_ble_eq_true rfl) dX7_see_52 ⟨Nat.zero_le _, Nat.zero_le _⟩ (fun r12 H locs hw hM hS => ?_)
        refine lv_if_ne (tgt := 64) hx hb dX7_see_55 (by decide) (fun c14 => ?_) (fun c14 => ?_)
        · have c14 := b2i_t c14
          have hw := hw.1 c14
          refine lv_aload_n hx hb dX7_see_64 rfl (lv_at hl 0 rfl) ?_
          refine M_get hx hb hts hown hK hM 51 (v := .ref (ad 51)) (by decide) (hts _ q1734) rfl dX7_see_65 ?_
          refine lv_aload_n hx hb dX7_see_68 rfl (lv_at hl 0 rfl) ?_
          refine M_get hx hb hts hown hK hM 33 (v := .int (h1 33 0)) (by decide) (hts _ q1716) rfl dX7_see_69 ?_
          refine lv_iload_n hx hb dX7_see_72 rfl (lv_at hl 1 rfl) ?_
          obtain ⟨hb15, hw⟩ := hw
          refine M_iast hx hb hK hM hJ hS 51 rfl (j := (ix (h1 33 0))) rfl hb15 dX7_see_73 (fun H locs hM hS => ?_)
          obtain ⟨h16, eh16⟩ : ∃ y : Mem, y = up2 h1 51 (ix (h1 33 0)) a1 := ⟨_, rfl⟩
          rw [← eh16] at hM
          have hw := hw h16 eh16
          refine lv_aload_n hx hb dX7_see_74 rfl (lv_at hl 0 rfl) ?_
          refine M_get hx hb hts hown hK hM 52 (v := .ref (ad 52)) (by decide) (hts _ q1735) rfl dX7_see_75 ?_
          refine lv_aload_n hx hb dX7_see_78 rfl (lv_at hl 0 rfl) ?_
          refine M_get hx hb hts hown hK hM 33 (v := .int (h16 33 0)) (by decide) (hts _ q1716) rfl dX7_see_79 ?_
          refine lv_iload_n hx hb dX7_see_82 rfl (lv_at hl 2 rfl) ?_
          obtain ⟨hb17, hw⟩ := hw
          refine M_iast hx hb hK hM hJ hS 52 rfl (j := (ix (h16 33 0))) rfl hb17 dX7_see_83 (fun H locs hM hS => ?_)
          obtain ⟨h18, eh18⟩ : ∃ y : Mem, y = up2 h16 52 (ix (h16 33 0)) a2 := ⟨_, rfl⟩
          rw [← eh18] at hM
          have hw := hw h18 eh18
          refine lv_aload_n hx hb dX7_see_84 rfl (lv_at hl 0 rfl) ?_
          refine M_get hx hb hts hown hK hM 53 (v := .ref (ad 53)) (by decide) (hts _ q1736) rfl dX7_see_85 ?_
          refine lv_aload_n hx hb dX7_see_88 rfl (lv_at hl 0 rfl) ?_
          refine M_get hx hb hts hown hK hM 33 (v := .int (h18 33 0)) (by decide) (hts _ q1716) rfl dX7_see_89 ?_
          refine lv_iload_n hx hb dX7_see_92 rfl (lv_at hl 3 rfl) ?_
          obtain ⟨hb19, hw⟩ := hw
          refine M_iast hx hb hK hM hJ hS 53 rfl (j := (ix (h18 33 0))) rfl hb19 dX7_see_93 (fun H locs hM hS => ?_)
          obtain ⟨h20, eh20⟩ : ∃ y : Mem, y = up2 h18 53 (ix (h18 33 0)) a3 := ⟨_, rfl⟩
          rw [← eh20] at hM
          have hw := hw h20 eh20
          refine lv_aload_n hx hb dX7_see_94 rfl (lv_at hl 0 rfl) ?_
          refine lv_dup hx hb dX7_see_95 rfl ?_
          refine M_get hx hb hts hown hK hM 33 (v := .int (h20 33 0)) (by decide) (hts _ q1716) rfl dX7_see_96 ?_
          refine lv_iconst (v := (1 : Int32)) hx hb dX7_see_99 (by decide) ?_
          refine lv_iadd hx hb dX7_see_100 ?_
          refine M_put hx hb hts hown hK hM hJ hS 33 rfl rfl (hts _ q1716) rfl .int (by decide +kernel) rfl rfl dX7_see_101 (fun H locs hM hS => ?_)
          obtain ⟨h21, eh21⟩ : ∃ y : Mem, y = up2 h20 33 0 ((h20 33 0) + (1 : Int32)) := ⟨_, rfl⟩
          rw [← eh21] at hM
          have hw := hw h21 eh21
          refine lv_aload_n hx hb dX7_see_104 rfl (lv_at hl 0 rfl) ?_
          refine M_get hx hb hts hown hK hM 33 (v := .int (h21 33 0)) (by decide) (hts _ q1716) rfl dX7_see_105 ?_
          exact M_iret hx hb hr hlocks hM hS hw dX7_see_108
        · have c14 := b2i_f c14
          have hw := hw.2 c14
          exact hB58 h1 hw _ _ ls hM hS (lv_sub hl [0] rfl)
  · have c4 := b2i_f c4
    have hw := hw.2 c4
    refine lv_aload_n hx hb dX7_see_13 rfl (lv_at hl 0 rfl) ?_
    refine lv_iconst (v := (1 : Int32)) hx hb dX7_see_14 (by decide) ?_
    refine M_callI (As := [.int (1 : Int32)]) (rest := []) ⟨hx, hb, hml, hown, hts⟩ hK hZ hM hJ hS (metX7_fail l D cA z0 E ad h1 (1 : Int32) _ hw) (cwV 1 hts (lw_V q1903 q1905 qs44 q130 q1906) rfl rfl rfl (by decide +kernel) ⟨Nat.le_of_ble_eq_true rfl, Nat.le_of_ble_eq_true rfl⟩) rfl hl.1 rfl (Nat.le_of_ble_eq_true rfl) dX7_see_15 ⟨Nat.zero_le _, Nat.zero_le _⟩ (fun r22 h23 H locs hw hM hS => ?_)
    exact M_iret hx hb hr hlocks hM hS hw dX7_see_18

/-- who(I)I -/
def wpBX7_who_136 (post : Int32 → Mem → Prop) (a1 : Int32) (K23 : Mem → Int32 → Int32 → Prop) (h : Mem) (x3 : Int32) (s0 : Int32) (s1 : Int32) : Prop :=
  K23 h (s1 ||| s0) (x3 + (1 : Int32))
def wpBX7_who_123 (post : Int32 → Mem → Prop) (a1 : Int32) (K23 : Mem → Int32 → Int32 → Prop) (h : Mem) (x2 : Int32) (x3 : Int32) (x4 : Int32)  : Prop :=
  wpBX7_who_136 post a1 K23 h x3 (if x4 = 0 then (0 : Int32) else ((1 : Int32) <<< (x3 &&& 31))) x2
def wpBX7_who_110 (post : Int32 → Mem → Prop) (a1 : Int32) (K23 : Mem → Int32 → Int32 → Prop) (K63 : Int32 → Int32 → Prop) (h : Mem) (x2 : Int32) (x3 : Int32) (x5 : Int32)  : Prop :=
  K63 (1 : Int32) (x5 + (1 : Int32))
def wpBX7_who_63 (post : Int32 → Mem → Prop) (a1 : Int32) (K23 : Mem → Int32 → Int32 → Prop) (K63 : Int32 → Int32 → Prop) (h : Mem) (x2 : Int32) (x3 : Int32) (x4 : Int32) (x5 : Int32) : Prop :=
  (((h 33 0) ≤ x5 → wpBX7_who_123 post a1 K23 h x2 x3 x4) ∧ (¬ (h 33 0) ≤ x5 → ((x4 = 0 → wpBX7_who_123 post a1 K23 h x2 x3 x4) ∧ (¬ x4 = 0 → (vp_in x5 (mlen 51) ∧ (((h 51 (ix x5)) = a1 → (vp_in x5 (mlen 52) ∧ (vp_in (h 52 (ix x5)) (mlen 39) ∧ (vp_in x5 (mlen 53) ∧ K63 (if (h 39 (ix (h 52 (ix x5)))) = (h 53 (ix x5)) then (1 : Int32) else (0 : Int32)) (x5 + (1 : Int32)))))) ∧ (¬ (h 51 (ix x5)) = a1 → wpBX7_who_110 post a1 K23 K63 h x2 x3 x5)))))))
def wpLX7_who_63 (post : Int32 → Mem → Prop) (a1 : Int32) (K23 : Mem → Int32 → Int32 → Prop) (h : Mem) (x2 : Int32) (x3 : Int32) : Nat → (Int32 × Int32) → Prop := LW (fun K s => wpBX7_who_63 post a1 K23 (fun x4 x5 => K (x4, x5)) h x2 x3 s.1 s.2)
def wpBX7_who_47 (post : Int32 → Mem → Prop) (a1 : Int32) (K23 : Mem → Int32 → Int32 → Prop) (h : Mem) (x2 : Int32) (x3 : Int32) (s0 : Int32) : Prop :=
  ((s0 = 0 → (∃ n, wpLX7_who_63 post a1 K23 h x2 x3 n (s0, (0 : Int32)))) ∧ (¬ s0 = 0 → (wpX7_tellSlices (fun h27 => (∃ n, wpLX7_who_63 post a1 K23 h27 x2 x3 n (s0, (0 : Int32)))) h x3 a1)))
def wpBX7_who_23 (post : Int32 → Mem → Prop) (a1 : Int32)  (K23 : Mem → Int32 → Int32 → Prop)  (h : Mem) (x2 : Int32) (x3 : Int32) : Prop :=
  (((h 3 0) ≤ x3 → post x2 h) ∧ (¬ (h 3 0) ≤ x3 → (wpX7_eats (fun r6 => wpBX7_who_47 post a1 K23 h x2 x3 (if r6 = true then (0 : Int32) else (1 : Int32))) h x3 a1)))
def wpLX7_who_23 (post : Int32 → Mem → Prop) (a1 : Int32)   : Nat → (Mem × Int32 × Int32) → Prop := LW (fun K s => wpBX7_who_23 post a1  (fun h x2 x3 => K (h, x2, x3))  s.1 s.2.1 s.2.2)
def wpX7_who (post : Int32 → Mem → Prop) (h : Mem) (a1 : Int32) : Prop :=
  (∀ h1 : Mem, h1 = up2 h 2 0 (0 : Int32) → (wpX7_isLoaf (fun r2 => ((r2 = true → (∃ n, wpLX7_who_23 post a1   n (h1, (0 : Int32), (0 : Int32)))) ∧ (¬ r2 = true → (wpX7_fail (fun r33 h34 => post r33 h34) h1 (1 : Int32))))) h1 a1))
set_option maxHeartbeats 4000000 in
set_option maxRecDepth 100000 in
theorem metX7_who (l : Launch) (D : va_G) (cA : Nat → ClassId) (z0 : Nat) (E : Nat → Nat → Nat) (ad : Nat → Nat) (h : Mem) (a1 : Int32) (post : Int32 → Mem → Prop) (hw : wpX7_who post h a1) : MeI l D cA z0 E ad yX7_who (ws_ yX7_who cX7_who 6 (some .int)) ({ frames := 5, cells := 0, slots := 0, locals := 125 }) [.ref (ad 69), .int a1] h post := by
  refine Met.ofW (cc := cX7_who) (maxL := 6) (ret := (some .int)) (by decide) rfl ?_
  intro p e s m args below meth c s₁ B hml hv
  obtain ⟨rfl, hM, hK, hJ, hZ⟩ := hv
  have hx := B.exec
  have hb := B.bytes
  have hr := B.returns
  have hts := atoms_spec (ws := ws_ yX7_who cX7_who 6 (some .int)) B.pre
  have hts : ∀ w ∈ lw_all, w.before _ s = true := fun w h => hts w (List.mem_cons_of_mem _ h)
  have hown : s.vm.findClass RX7 = some m.cls := findClass_of_methodNamed B.named
  have hlocks := B.notSynchronized
  have hS : va_S (MA ad) s.heap s.heap [] := va_S.rf
  have hl := lv_entry ([.ref (ad 69), .int a1]) (n := 6) (Nat.le_of_ble_eq_true rfl)
  rw [lg_entry_eq]
  generalize (lg_sl ([.ref (ad 69), .int a1]) ++ List.replicate (6 - (lg_sl ([.ref (ad 69), .int a1])).length) Slot.unset).toArray = ls at hl ⊢
  have hl : lv_has ls 6 [(0, .ref (ad 69)), (1, .int a1)] := hl
  have hL23 : ∀  (n23 : Nat) (h : Mem) (x2 : Int32) (x3 : Int32), wpLX7_who_23 post a1   n23 (h, x2, x3) → JM p l e (headSpec (ws_ yX7_who cX7_who 6 (some .int)) ({ frames := 5, cells := 0, slots := 0, locals := 125 })).room s m ([.ref (ad 69), .int a1] : List Value).toArray below meth c (MQ below (MQi D cA E ad post) ([.ref (ad 69), .int a1] : List Value).toArray s 0 0 (MA ad)) D cA E ad 6 23 h [(0, .ref (ad 69)), (1, .int a1), (2, .int x2), (3, .int x3)] [] := by
    intro  n23
    induction n23 with
    | zero => intro h x2 x3 hw; exact False.elim hw
    | succ n23 ih23 =>
      have hB136 : ∀ (h : Mem) (x3 : Int32) (s0 : Int32) (s1 : Int32), wpBX7_who_136 post a1 (fun h x2 x3 => wpLX7_who_23 post a1   n23 (h, x2, x3)) h x3 s0 s1 → JM p l e (headSpec (ws_ yX7_who cX7_who 6 (some .int)) ({ frames := 5, cells := 0, slots := 0, locals := 125 })).room s m ([.ref (ad 69), .int a1] : List Value).toArray below meth c (MQ below (MQi D cA E ad post) ([.ref (ad 69), .int a1] : List Value).toArray s 0 0 (MA ad)) D cA E ad 6 136 h [(0, .ref (ad 69)), (1, .int a1), (3, .int x3)] [.int s0, .int s1] := by
        intro h x3 s0 s1 hw H locs ls hM hS hl
        unfold wpBX7_who_136 at hw
        refine lv_ior hx hb dX7_who_136 ?_
        refine lv_istore_n (lv' := [(2, .int (s1 ||| s0)), (0, .ref (ad 69)), (1, .int a1), (3, .int x3)]) hx hb dX7_who_137 rfl hl (by decide) rfl (fun ls hl => ?_)
        refine lv_iinc (v := (x3 + (1 : Int32))) (lv' := [(3, .int (x3 + (1 : Int32))), (2, .int (s1 ||| s0)), (0, .ref (ad 69)), (1, .int a1)]) hx hb dX7_who_138 hl (k := 3) rfl rfl (by decide) rfl (fun ls hl => ?_)
        refine lv_goto (tgt := 23) hx hb dX7_who_141 (by decide) ?_
        exact ih23 h (s1 ||| s0) (x3 + (1 : Int32)) hw _ _ ls hM hS (lv_sub hl [2, 3, 1, 0] rfl)
      have hB123 : ∀ (h : Mem) (x2 : Int32) (x3 : Int32) (x4 : Int32), wpBX7_who_123 post a1 (fun h x2 x3 => wpLX7_who_23 post a1   n23 (h, x2, x3)) h x2 x3 x4 → JM p l e (headSpec (ws_ yX7_who cX7_who 6 (some .int)) ({ frames := 5, cells := 0, slots := 0, locals := 125 })).room s m ([.ref (ad 69), .int a1] : List Value).toArray below meth c (MQ below (MQi D cA E ad post) ([.ref (ad 69), .int a1] : List Value).toArray s 0 0 (MA ad)) D cA E ad 6 123 h [(0, .ref (ad 69)), (1, .int a1), (2, .int x2), (3, .int x3), (4, .int x4)] [] := by
        intro h x2 x3 x4 hw H locs ls hM hS hl
        unfold wpBX7_who_123 at hw
        refine lv_iload_n hx hb dX7_who_123 rfl (lv_at hl 2 rfl) ?_
        refine lv_iload hx hb dX7_who_124 (lv_at hl 4 rfl) ?_
        have hj11 : JM p l e (headSpec (ws_ yX7_who cX7_who 6 (some .int)) ({ frames := 5, cells := 0, slots := 0, locals := 125 })).room s m ([.ref (ad 69), .int a1] : List Value).toArray below meth c (MQ below (MQi D cA E ad post) ([.ref (ad 69), .int a1] : List Value).toArray s 0 0 (MA ad)) D cA E ad 6 136 h [(0, .ref (ad 69)), (1, .int a1), (3, .int x3)] [.int (if x4 = 0 then (0 : Int32) else ((1 : Int32) <<< (x3 &&& 31))), .int x2] := by
          intro H locs ls hM hS hl
          exact hB136 h x3 (if x4 = 0 then (0 : Int32) else ((1 : Int32) <<< (x3 &&& 31))) x2 hw _ _ ls hM hS (lv_sub hl [0, 1, 2] rfl)
        refine lv_if_eq (tgt := 135) hx hb dX7_who_126 (by decide) (fun c12 => ?_) (fun c12 => ?_)
        · refine lv_iconst (v := (0 : Int32)) hx hb dX7_who_135 (by decide) ?_
          have e13 : (if x4 = 0 then (0 : Int32) else ((1 : Int32) <<< (x3 &&& 31))) = (0 : Int32) := by rw [if_pos c12]
          rw [e13] at hj11
          exact hj11 _ _ ls hM hS (lv_sub hl [0, 1, 3] rfl)
        · refine lv_iconst (v := (1 : Int32)) hx hb dX7_who_129 (by decide) ?_
          refine lv_iload_n hx hb dX7_who_130 rfl (lv_at hl 3 rfl) ?_
          refine lv_ishl hx hb dX7_who_131 ?_
          refine lv_goto (tgt := 136) hx hb dX7_who_132 (by decide) ?_
          have e14 : (if x4 = 0 then (0 : Int32) else ((1 : Int32) <<< (x3 &&& 31))) = ((1 : Int32) <<< (x3 &&& 31)) := by rw [if_neg c12]
          rw [e14] at hj11
          exact hj11 _ _ ls hM hS (lv_sub hl [0, 1, 3] rfl)
      have hL63 : ∀ (h : Mem) (x2 : Int32) (x3 : Int32) (n63 : Nat) (x4 : Int32) (x5 : Int32), wpLX7_who_63 post a1 (fun h x2 x3 => wpLX7_who_23 post a1   n23 (h, x2, x3)) h x2 x3 n63 (x4, x5) → JM p l e (headSpec (ws_ yX7_who cX7_who 6 (some .int)) ({ frames := 5, cells := 0, slots := 0, locals := 125 })).room s m ([.ref (ad 69), .int a1] : List Value).toArray below meth c (MQ below (MQi D cA E ad post) ([.ref (ad 69), .int a1] : List Value).toArray s 0 0 (MA ad)) D cA E ad 6 63 h [(0, .ref (ad 69)), (1, .int a1), (2, .int x2), (3, .int x3), (4, .int x4), (5, .int x5)] [] := by
        intro h x2 x3 n63
        induction n63 with
        | zero => intro x4 x5 hw; exact False.elim hw
        | succ n63 ih63 =>
          have hB110 : ∀ (x5 : Int32), wpBX7_who_110 post a1 (fun h x2 x3 => wpLX7_who_23 post a1   n23 (h, x2, x3)) (fun x4 x5 => wpLX7_who_63 post a1 (fun h x2 x3 => wpLX7_who_23 post a1   n23 (h, x2, x3)) h x2 x3 n63 (x4, x5)) h x2 x3 x5 → JM p l e (headSpec (ws_ yX7_who cX7_who 6 (some .int)) ({ frames := 5, cells := 0, slots := 0, locals := 125 })).room s m ([.ref (ad 69), .int a1] : List Value).toArray below meth c (MQ below (MQi D cA E ad post) ([.ref (ad 69), .int a1] : List Value).toArray s 0 0 (MA ad)) D cA E ad 6 110 h [(0, .ref (ad 69)), (1, .int a1), (2, .int x2), (3, .int x3), (5, .int x5)] [] := by
            intro x5 hw H locs ls hM hS hl
            unfold wpBX7_who_110 at hw
            refine lv_iconst (v := (1 : Int32)) hx hb dX7_who_110 (by decide) ?_
            refine lv_goto (tgt := 115) hx hb dX7_who_111 (by decide) ?_
            refine lv_istore (lv' := [(4, .int (1 : Int32)), (0, .ref (ad 69)), (1, .int a1), (2, .int x2), (3, .int x3), (5, .int x5)]) hx hb dX7_who_115 hl (by decide) rfl (fun ls hl => ?_)
            refine lv_iinc (v := (x5 + (1 : Int32))) (lv' := [(5, .int (x5 + (1 : Int32))), (4, .int (1 : Int32)), (0, .ref (ad 69)), (1, .int a1), (2, .int x2), (3, .int x3)]) hx hb dX7_who_117 hl (k := 5) rfl rfl (by decide) rfl (fun ls hl => ?_)
            refine lv_goto (tgt := 63) hx hb dX7_who_120 (by decide) ?_
            exact ih63 (1 : Int32) (x5 + (1 : Int32)) hw _ _ ls hM hS (lv_sub hl [2, 3, 4, 5, 1, 0] rfl)
          intro x4 x5 hw H locs ls hM hS hl
          have hw : wpBX7_who_63 post a1 (fun h x2 x3 => wpLX7_who_23 post a1   n23 (h, x2, x3)) (fun x4 x5 => wpLX7_who_63 post a1 (fun h x2 x3 => wpLX7_who_23 post a1   n23 (h, x2, x3)) h x2 x3 n63 (x4, x5)) h x2 x3 x4 x5 := hw
          unfold wpBX7_who_63 at hw
          refine lv_iload hx hb dX7_who_63 (lv_at hl 5 rfl) ?_
          refine lv_aload_n hx hb dX7_who_65 rfl (lv_at hl 0 rfl) ?_
          refine M_get hx hb hts hown hK hM 33 (v := .int (h 33 0)) (by decide) (hts _ q1716) rfl dX7_who_66 ?_
          refine lv_icmp_ge (tgt := 123) hx hb dX7_who_69 (by decide) (fun c10 => ?_) (fun c10 => ?_)
          · have hw := hw.1 c10
            exact hB123 h x2 x3 x4 hw _ _ ls hM hS (lv_sub hl [0, 1, 2, 3, 4] rfl)
          · have hw := hw.2 c10
            refine lv_iload hx hb dX7_who_72 (lv_at hl 4 rfl) ?_
            refine lv_if_eq (tgt := 123) hx hb dX7_who_74 (by decide) (fun c15 => ?_) (fun c15 => ?_)
            · have hw := hw.1 c15
              exact hB123 h x2 x3 x4 hw _ _ ls hM hS (lv_sub hl [0, 1, 2, 3, 4] rfl)
            · have hw := hw.2 c15
              refine lv_aload_n hx hb dX7_who_77 rfl (lv_at hl 0 rfl) ?_
              refine M_get hx hb hts hown hK hM 51 (v := .ref (ad 51)) (by decide) (hts _ q1734) rfl dX7_who_78 ?_
              refine lv_iload hx hb dX7_who_81 (lv_at hl 5 rfl) ?_
              obtain ⟨hb16, hw⟩ := hw
              refine M_iald hx hb hK hM 51 rfl (j := (ix x5)) rfl hb16 dX7_who_83 ?_
              refine lv_iload_n hx hb dX7_who_84 rfl (lv_at hl 1 rfl) ?_
              refine lv_icmp_ne (tgt := 110) hx hb dX7_who_85 (by decide) (fun c17 => ?_) (fun c17 => ?_)
              · have hw := hw.2 c17
                exact hB110 x5 hw _ _ ls hM hS (lv_sub hl [0, 1, 2, 3, 5] rfl)
              · have hw := hw.1 c17
                refine lv_aload_n hx hb dX7_who_88 rfl (lv_at hl 0 rfl) ?_
                refine M_get hx hb hts hown hK hM 39 (v := .ref (ad 39)) (by decide) (hts _ q1722) rfl dX7_who_89 ?_
                refine lv_aload_n hx hb dX7_who_92 rfl (lv_at hl 0 rfl) ?_
                refine M_get hx hb hts hown hK hM 52 (v := .ref (ad 52)) (by decide) (hts _ q1735) rfl dX7_who_93 ?_
                refine lv_iload hx hb dX7_who_96 (lv_at hl 5 rfl) ?_
                obtain ⟨hb18, hw⟩ := hw
                refine M_iald hx hb hK hM 52 rfl (j := (ix x5)) rfl hb18 dX7_who_98 ?_
                obtain ⟨hb19, hw⟩ := hw
                refine M_iald hx hb hK hM 39 rfl (j := (ix (h 52 (ix x5)))) rfl hb19 dX7_who_99 ?_
                refine lv_aload_n hx hb dX7_who_100 rfl (lv_at hl 0 rfl) ?_
                refine M_get hx hb hts hown hK hM 53 (v := .ref (ad 53)) (by decide) (hts _ q1736) rfl dX7_who_101 ?_
                refine lv_iload hx hb dX7_who_104 (lv_at hl 5 rfl) ?_
                obtain ⟨hb20, hw⟩ := hw
                refine M_iald hx hb hK hM 53 rfl (j := (ix x5)) rfl hb20 dX7_who_106 ?_
                have hj21 : JM p l e (headSpec (ws_ yX7_who cX7_who 6 (some .int)) ({ frames := 5, cells := 0, slots := 0, locals := 125 })).room s m ([.ref (ad 69), .int a1] : List Value).toArray below meth c (MQ below (MQi D cA E ad post) ([.ref (ad 69), .int a1] : List Value).toArray s 0 0 (MA ad)) D cA E ad 6 115 h [(0, .ref (ad 69)), (1, .int a1), (2, .int x2), (3, .int x3), (5, .int x5)] [.int (if (h 39 (ix (h 52 (ix x5)))) = (h 53 (ix x5)) then (1 : Int32) else (0 : Int32))] := by
                  intro H locs ls hM hS hl
                  refine lv_istore (lv' := [(4, .int (if (h 39 (ix (h 52 (ix x5)))) = (h 53 (ix x5)) then (1 : Int32) else (0 : Int32))), (0, .ref (ad 69)), (1, .int a1), (2, .int x2), (3, .int x3), (5, .int x5)]) hx hb dX7_who_115 hl (by decide) rfl (fun ls hl => ?_)
                  refine lv_iinc (v := (x5 + (1 : Int32))) (lv' := [(5, .int (x5 + (1 : Int32))), (4, .int (if (h 39 (ix (h 52 (ix x5)))) = (h 53 (ix x5)) then (1 : Int32) else (0 : Int32))), (0, .ref (ad 69)), (1, .int a1), (2, .int x2), (3, .int x3)]) hx hb dX7_who_117 hl (k := 5) rfl rfl (by decide) rfl (fun ls hl => ?_)
                  refine lv_goto (tgt := 63) hx hb dX7_who_120 (by decide) ?_
                  exact ih63 (if (h 39 (ix (h 52 (ix x5)))) = (h 53 (ix x5)) then (1 : Int32) else (0 : Int32)) (x5 + (1 : Int32)) hw _ _ ls hM hS (lv_sub hl [2, 3, 4, 5, 1, 0] rfl)
                refine lv_icmp_ne (tgt := 114) hx hb dX7_who_107 (by decide) (fun c22 => ?_) (fun c22 => ?_)
                · refine lv_iconst (v := (0 : Int32)) hx hb dX7_who_114 (by decide) ?_
                  have e23 : (if (h 39 (ix (h 52 (ix x5)))) = (h 53 (ix x5)) then (1 : Int32) else (0 : Int32)) = (0 : Int32) := by rw [if_neg c22]
                  rw [e23] at hj21
                  exact hj21 _ _ ls hM hS (lv_sub hl [0, 1, 2, 3, 5] rfl)
                · refine lv_iconst (v := (1 : Int32)) hx hb dX7_who_110 (by decide) ?_
                  refine lv_goto (tgt := 115) hx hb dX7_who_111 (by decide) ?_
                  have e24 : (if (h 39 (ix (h 52 (ix x5)))) = (h 53 (ix x5)) then (1 : Int32) else (0 : Int32)) = (1 : Int32) := by rw [if_pos c22]
                  rw [e24] at hj21
                  exact hj21 _ _ ls hM hS (lv_sub hl [0, 1, 2, 3, 5] rfl)
      have hB47 : ∀ (h : Mem) (x2 : Int32) (x3 : Int32) (s0 : Int32), wpBX7_who_47 post a1 (fun h x2 x3 => wpLX7_who_23 post a1   n23 (h, x2, x3)) h x2 x3 s0 → JM p l e (headSpec (ws_ yX7_who cX7_who 6 (some .int)) ({ frames := 5, cells := 0, slots := 0, locals := 125 })).room s m ([.ref (ad 69), .int a1] : List Value).toArray below meth c (MQ below (MQi D cA E ad post) ([.ref (ad 69), .int a1] : List Value).toArray s 0 0 (MA ad)) D cA E ad 6 47 h [(0, .ref (ad 69)), (1, .int a1), (2, .int x2), (3, .int x3)] [.int s0] := by
        intro h x2 x3 s0 hw H locs ls hM hS hl
        unfold wpBX7_who_47 at hw
        refine lv_istore (lv' := [(4, .int s0), (0, .ref (ad 69)), (1, .int a1), (2, .int x2), (3, .int x3)]) hx hb dX7_who_47 hl (by decide) rfl (fun ls hl => ?_)
        refine lv_iload hx hb dX7_who_49 (lv_at hl 0 rfl) ?_
        refine lv_if_eq (tgt := 60) hx hb dX7_who_51 (by decide) (fun c9 => ?_) (fun c9 => ?_)
        · have hw := hw.1 c9
          refine lv_iconst (v := (0 : Int32)) hx hb dX7_who_60 (by decide) ?_
          refine lv_istore (lv' := [(5, .int (0 : Int32)), (4, .int s0), (0, .ref (ad 69)), (1, .int a1), (2, .int x2), (3, .int x3)]) hx hb dX7_who_61 hl (by decide) rfl (fun ls hl => ?_)
          obtain ⟨n25, hw⟩ := hw
          exact hL63 h x2 x3 n25 s0 (0 : Int32) hw _ _ ls hM hS (lv_sub hl [2, 3, 4, 5, 1, 0] rfl)
        · have hw := hw.2 c9
          refine lv_aload_n hx hb dX7_who_54 rfl (lv_at hl 1 rfl) ?_
          refine lv_iload_n hx hb dX7_who_55 rfl (lv_at hl 4 rfl) ?_
          refine lv_iload_n hx hb dX7_who_56 rfl (lv_at hl 2 rfl) ?_
          refine M_callV (As := [.int x3, .int a1]) (rest := []) ⟨hx, hb, hml, hown, hts⟩ hK hZ hM hJ hS (metX7_tellSlices l D cA z0 E ad h x3 a1 _ hw) (cwV 2 hts (lw_V q2115 q2117 qs80 q130 q2118) rfl rfl rfl (by decide +kernel) ⟨Nat.le_of_ble_eq_true rfl, Nat.le_of_ble_eq_true rfl⟩) rfl hl.1 rfl (Nat.le_of_ble_eq_true rfl) dX7_who_57 ⟨Nat.zero_le _, Nat.zero_le _⟩ (fun h27 H locs hw hM hS => ?_)
          refine lv_iconst (v := (0 : Int32)) hx hb dX7_who_60 (by decide) ?_
          refine lv_istore (lv' := [(5, .int (0 : Int32)), (4, .int s0), (0, .ref (ad 69)), (1, .int a1), (2, .int x2), (3, .int x3)]) hx hb dX7_who_61 hl (by decide) rfl (fun ls hl => ?_)
          obtain ⟨n28, hw⟩ := hw
          exact hL63 h27 x2 x3 n28 s0 (0 : Int32) hw _ _ ls hM hS (lv_sub hl [2, 3, 4, 5, 1, 0] rfl)
      intro h x2 x3 hw H locs ls hM hS hl
      have hw : wpBX7_who_23 post a1  (fun h x2 x3 => wpLX7_who_23 post a1   n23 (h, x2, x3))  h x2 x3 := hw
      unfold wpBX7_who_23 at hw
      refine lv_iload_n hx hb dX7_who_23 rfl (lv_at hl 3 rfl) ?_
      refine lv_aload_n hx hb dX7_who_24 rfl (lv_at hl 0 rfl) ?_
      refine M_get hx hb hts hown hK hM 3 (v := .ref (ad 3)) (by decide) (hts _ q1686) rfl dX7_who_25 ?_
      refine lv_iconst (v := (0 : Int32)) hx hb dX7_who_28 (by decide) ?_
      refine M_iald hx hb hK hM 3 rfl (j := 0) rfl (by unfold vp_in; decide) dX7_who_29 ?_
      refine lv_icmp_ge (tgt := 144) hx hb dX7_who_30 (by decide) (fun c5 => ?_) (fun c5 => ?_)
      · have hw := hw.1 c5
        refine lv_iload_n hx hb dX7_who_144 rfl (lv_at hl 2 rfl) ?_
        exact M_iret hx hb hr hlocks hM hS hw dX7_who_145
      · have hw := hw.2 c5
        refine lv_aload_n hx hb dX7_who_33 rfl (lv_at hl 0 rfl) ?_
        refine lv_iload_n hx hb dX7_who_34 rfl (lv_at hl 3 rfl) ?_
        refine lv_iload_n hx hb dX7_who_35 rfl (lv_at hl 1 rfl) ?_
        refine M_callZp (As := [.int x3, .int a1]) (rest := []) ⟨hx, hb, hml, hown, hts⟩ hK hZ hM hJ hS (metX7_eats l D cA z0 E ad h x3 a1 _ hw) (cwV 2 hts (lw_V q2086 q2088 qs77 q130 q2089) rfl rfl rfl (by decide +kernel) ⟨Nat.le_of_ble_eq_true rfl, Nat.le_of_ble_eq_true rfl⟩) rfl hl.1 rfl (Nat.le_of_ble_eq_true rfl) dX7_who_36 ⟨Nat.zero_le _, Nat.zero_le _⟩ (fun r6 H locs hw hM hS => ?_)
        have hj8 : JM p l e (headSpec (ws_ yX7_who cX7_who 6 (some .int)) ({ frames := 5, cells := 0, slots := 0, locals := 125 })).room s m ([.ref (ad 69), .int a1] : List Value).toArray below meth c (MQ below (MQi D cA E ad post) ([.ref (ad 69), .int a1] : List Value).toArray s 0 0 (MA ad)) D cA E ad 6 47 h [(0, .ref (ad 69)), (1, .int a1), (2, .int x2), (3, .int x3)] [.int (if r6 = true then (0 : Int32) else (1 : Int32))] := by
          intro H locs ls hM hS hl
          exact hB47 h x2 x3 (if r6 = true then (0 : Int32) else (1 : Int32)) hw _ _ ls hM hS (lv_sub hl [0, 1, 2, 3] rfl)
        refine lv_if_ne (tgt := 46) hx hb dX7_who_39 (by decide) (fun c29 => ?_) (fun c29 => ?_)
        · have c29 := b2i_t c29
          refine lv_iconst (v := (0 : Int32)) hx hb dX7_who_46 (by decide) ?_
          have e30 : (if r6 = true then (0 : Int32) else (1 : Int32)) = (0 : Int32) := by rw [if_pos c29]
          rw [e30] at hj8
          exact hj8 _ _ ls hM hS (lv_sub hl [0, 1, 2, 3] rfl)
        · have c29 := b2i_f c29
          refine lv_iconst (v := (1 : Int32)) hx hb dX7_who_42 (by decide) ?_
          refine lv_goto (tgt := 47) hx hb dX7_who_43 (by decide) ?_
          have e31 : (if r6 = true then (0 : Int32) else (1 : Int32)) = (1 : Int32) := by rw [if_neg c29]
          rw [e31] at hj8
          exact hj8 _ _ ls hM hS (lv_sub hl [0, 1, 2, 3] rfl)
  unfold wpX7_who at hw
  refine lv_aload_n hx hb dX7_who_0 rfl (lv_at hl 0 rfl) ?_
  refine lv_iconst (v := (0 : Int32)) hx hb dX7_who_1 (by decide) ?_
  refine M_put hx hb hts hown hK hM hJ hS 2 rfl rfl (hts _ q1685) rfl .int (by decide +kernel) rfl rfl dX7_who_2 (fun H locs hM hS => ?_)
  obtain ⟨h1, eh1⟩ : ∃ y : Mem, y = up2 h 2 0 (0 : Int32) := ⟨_, rfl⟩
  rw [← eh1] at hM
  have hw := hw h1 eh1
  refine lv_aload_n hx hb dX7_who_5 rfl (lv_at hl 0 rfl) ?_
  refine lv_iload_n hx hb dX7_who_6 rfl (lv_at hl 1 rfl) ?_
  refine M_callZp (As := [.int a1]) (rest := []) ⟨hx, hb, hml, hown, hts⟩ hK hZ hM hJ hS (metX7_isLoaf l D cA z0 E ad h1 a1 _ hw) (cwV 1 hts (lw_V q2066 q2068 qs72 q130 q2069) rfl rfl rfl (by decide +kernel) ⟨Nat.le_of_ble_eq_true rfl, Nat.le_of_ble_eq_true rfl⟩) rfl hl.1 rfl (Nat.le_of_ble_eq_true rfl) dX7_who_7 ⟨Nat.zero_le _, Nat.zero_le _⟩ (fun r2 H locs hw hM hS => ?_)
  refine lv_if_ne (tgt := 19) hx hb dX7_who_10 (by decide) (fun c4 => ?_) (fun c4 => ?_)
  · have c4 := b2i_t c4
    have hw := hw.1 c4
    refine lv_iconst (v := (0 : Int32)) hx hb dX7_who_19 (by decide) ?_
    refine lv_istore_n (lv' := [(2, .int (0 : Int32)), (0, .ref (ad 69)), (1, .int a1)]) hx hb dX7_who_20 rfl hl (by decide) rfl (fun ls hl => ?_)
    refine lv_iconst (v := (0 : Int32)) hx hb dX7_who_21 (by decide) ?_
    refine lv_istore_n (lv' := [(3, .int (0 : Int32)), (2, .int (0 : Int32)), (0, .ref (ad 69)), (1, .int a1)]) hx hb dX7_who_22 rfl hl (by decide) rfl (fun ls hl => ?_)
    obtain ⟨n32, hw⟩ := hw
    exact hL23 n32 h1 (0 : Int32) (0 : Int32) hw _ _ ls hM hS (lv_sub hl [2, 3, 1, 0] rfl)
  · have c4 := b2i_f c4
    have hw := hw.2 c4
    refine lv_aload_n hx hb dX7_who_13 rfl (lv_at hl 0 rfl) ?_
    refine lv_iconst (v := (1 : Int32)) hx hb dX7_who_14 (by decide) ?_
    refine M_callI (As := [.int (1 : Int32)]) (rest := []) ⟨hx, hb, hml, hown, hts⟩ hK hZ hM hJ hS (metX7_fail l D cA z0 E ad h1 (1 : Int32) _ hw) (cwV 1 hts (lw_V q1903 q1905 qs44 q130 q1906) rfl rfl rfl (by decide +kernel) ⟨Nat.le_of_ble_eq_true rfl, Nat.le_of_ble_eq_true rfl⟩) rfl hl.1 rfl (Nat.le_of_ble_eq_true rfl) dX7_who_15 ⟨Nat.zero_le _, Nat.zero_le _⟩ (fun r33 h34 H locs hw hM hS => ?_)
    exact M_iret hx hb hr hlocks hM hS hw dX7_who_18

/-- balk(II)I -/
def wpBX7_balk_21 (post : Int32 → Mem → Prop) (a1 : Int32) (a2 : Int32)  (h : Mem)   : Prop :=
  (wpX7_fail (fun r5 h6 => post r5 h6) h (1 : Int32))
def wpX7_balk (post : Int32 → Mem → Prop) (h : Mem) (a1 : Int32) (a2 : Int32) : Prop :=
  (∀ h1 : Mem, h1 = up2 h 2 0 (0 : Int32) → (wpX7_isPerson (fun r2 => ((r2 = true → (wpX7_isLoaf (fun r7 => ((r7 = true → (((h1 34 0) = (4 : Int32) → (wpX7_refuse (fun r16 h17 => post r16 h17) h1 (2 : Int32))) ∧ (¬ (h1 34 0) = (4 : Int32) → (vp_in (h1 34 0) (mlen 54) ∧ (∀ h12 : Mem, h12 = up2 h1 54 (ix (h1 34 0)) a1 → (vp_in (h12 34 0) (mlen 55) ∧ (∀ h14 : Mem, h14 = up2 h12 55 (ix (h12 34 0)) a2 → (∀ h15 : Mem, h15 = up2 h14 34 0 ((h14 34 0) + (1 : Int32)) → post (h15 34 0) h15)))))))) ∧ (¬ r7 = true → wpBX7_balk_21 post a1 a2  h1 ))) h1 a2)) ∧ (¬ r2 = true → wpBX7_balk_21 post a1 a2  h1 ))) h1 a1))
set_option maxHeartbeats 4000000 in
set_option maxRecDepth 100000 in
theorem metX7_balk (l : Launch) (D : va_G) (cA : Nat → ClassId) (z0 : Nat) (E : Nat → Nat → Nat) (ad : Nat → Nat) (h : Mem) (a1 : Int32) (a2 : Int32) (post : Int32 → Mem → Prop) (hw : wpX7_balk post h a1 a2) : MeI l D cA z0 E ad yX7_balk (ws_ yX7_balk cX7_balk 3 (some .int)) ({ frames := 3, cells := 0, slots := 0, locals := 76 }) [.ref (ad 69), .int a1, .int a2] h post := by
  refine Met.ofW (cc := cX7_balk) (maxL := 3) (ret := (some .int)) (by decide) rfl ?_
  intro p e s m args below meth c s₁ B hml hv
  obtain ⟨rfl, hM, hK, hJ, hZ⟩ := hv
  have hx := B.exec
  have hb := B.bytes
  have hr := B.returns
  have hts := atoms_spec (ws := ws_ yX7_balk cX7_balk 3 (some .int)) B.pre
  have hts : ∀ w ∈ lw_all, w.before _ s = true := fun w h => hts w (List.mem_cons_of_mem _ h)
  have hown : s.vm.findClass RX7 = some m.cls := findClass_of_methodNamed B.named
  have hlocks := B.notSynchronized
  have hS : va_S (MA ad) s.heap s.heap [] := va_S.rf
  have hl := lv_entry ([.ref (ad 69), .int a1, .int a2]) (n := 3) (Nat.le_of_ble_eq_true rfl)
  rw [lg_entry_eq]
  generalize (lg_sl ([.ref (ad 69), .int a1, .int a2]) ++ List.replicate (3 - (lg_sl ([.ref (ad 69), .int a1, .int a2])).length) Slot.unset).toArray = ls at hl ⊢
  have hl : lv_has ls 3 [(0, .ref (ad 69)), (1, .int a1), (2, .int a2)] := hl
  have hB21 : ∀ (h : Mem), wpBX7_balk_21 post a1 a2  h  → JM p l e (headSpec (ws_ yX7_balk cX7_balk 3 (some .int)) ({ frames := 3, cells := 0, slots := 0, locals := 76 })).room s m ([.ref (ad 69), .int a1, .int a2] : List Value).toArray below meth c (MQ below (MQi D cA E ad post) ([.ref (ad 69), .int a1, .int a2] : List Value).toArray s 0 0 (MA ad)) D cA E ad 3 21 h [(0, .ref (ad 69))] [] := by
    intro h hw H locs ls hM hS hl
    unfold wpBX7_balk_21 at hw
    refine lv_aload_n hx hb dX7_balk_21 rfl (lv_at hl 0 rfl) ?_
    refine lv_iconst (v := (1 : Int32)) hx hb dX7_balk_22 (by decide) ?_
    refine M_callI (As := [.int (1 : Int32)]) (rest := []) ⟨hx, hb, hml, hown, hts⟩ hK hZ hM hJ hS (metX7_fail l D cA z0 E ad h (1 : Int32) _ hw) (cwV 1 hts (lw_V q1903 q1905 qs44 q130 q1906) rfl rfl rfl (by decide +kernel) ⟨Nat.le_of_ble_eq_true rfl, Nat.le_of_ble_eq_true rfl⟩) rfl hl.1 rfl (Nat.le_of_ble_eq_true rfl) dX7_balk_23 ⟨Nat.zero_le _, Nat.zero_le _⟩ (fun r5 h6 H locs hw hM hS => ?_)
    exact M_iret hx hb hr hlocks hM hS hw dX7_balk_26
  unfold wpX7_balk at hw
  refine lv_aload_n hx hb dX7_balk_0 rfl (lv_at hl 0 rfl) ?_
  refine lv_iconst (v := (0 : Int32)) hx hb dX7_balk_1 (by decide) ?_
  refine M_put hx hb hts hown hK hM hJ hS 2 rfl rfl (hts _ q1685) rfl .int (by decide +kernel) rfl rfl dX7_balk_2 (fun H locs hM hS => ?_)
  obtain ⟨h1, eh1⟩ : ∃ y : Mem, y = up2 h 2 0 (0 : Int32) := ⟨_, rfl⟩
  rw [← eh1] at hM
  have hw := hw h1 eh1
  refine lv_aload_n hx hb dX7_balk_5 rfl (lv_at hl 0 rfl) ?_
  refine lv_iload_n hx hb dX7_balk_6 rfl (lv_at hl 1 rfl) ?_
  refine M_callZp (As := [.int a1]) (rest := []) ⟨hx, hb, hml, hown, hts⟩ hK hZ hM hJ hS (metX7_isPerson l D cA z0 E ad h1 a1 _ hw) (cwV 1 hts (lw_V q2055 q2057 qs71 q130 q2058) rfl rfl rfl (by decide +kernel) ⟨Nat.le_of_ble_eq_true rfl, Nat.le_of_ble_eq_true rfl⟩) rfl hl.1 rfl (Nat.le_of_ble_eq_true rfl) dX7_balk_7 ⟨Nat.zero_le _, Nat.zero_le _⟩ (fun r2 H locs hw hM hS => ?_)
  refine lv_if_eq (tgt := 21) hx hb dX7_balk_10 (by decide) (fun c4 => ?_) (fun c4 => ?_)
  · have c4 := b2i_f c4
    have hw := hw.2 c4
    exact hB21 h1 hw _ _ ls hM hS (lv_sub hl [0] rfl)
  · have c4 := b2i_t c4
    have hw := hw.1 c4
    refine lv_aload_n hx hb dX7_balk_13 rfl (lv_at hl 0 rfl) ?_
    refine lv_iload_n hx hb dX7_balk_14 rfl (lv_at hl 2 rfl) ?_
    refine M_callZp (As := [.int a2]) (rest := []) ⟨hx, hb, hml, hown, hts⟩ hK hZ hM hJ hS (metX7_isLoaf l D cA z0 E ad h1 a2 _ hw) (cwV 1 hts (lw_V q2066 q2068 qs72 q130 q2069) rfl rfl rfl (by decide +kernel) ⟨Nat.le_of_ble_eq_true rfl, Nat.le_of_ble_eq_true rfl⟩) rfl hl.1 rfl (Nat.le_of_ble_eq_true rfl) dX7_balk_15 ⟨Nat.zero_le _, Nat.zero_le _⟩ (fun r7 H locs hw hM hS => ?_)
    refine lv_if_ne (tgt := 27) hx hb dX7_balk_18 (by decide) (fun c9 => ?_) (fun c9 => ?_)
    · have c9 := b2i_t c9
      have hw := hw.1 c9
      refine lv_aload_n hx hb dX7_balk_27 rfl (lv_at hl 0 rfl) ?_
      refine M_get hx hb hts hown hK hM 34 (v := .int (h1 34 0)) (by decide) (hts _ q1717) rfl dX7_balk_28 ?_
      refine lv_iconst (v := (4 : Int32)) hx hb dX7_balk_31 (by decide) ?_
      refine lv_icmp_ne (tgt := 41) hx hb dX7_balk_32 (by decide) (fun c10 => ?_) (fun c10 => ?_)
      · have hw := hw.2 c10
        refine lv_aload_n hx hb dX7_balk_41 rfl (lv_at hl 0 rfl) ?_
        refine M_get hx hb hts hown hK hM 54 (v := .ref (ad 54)) (by decide) (hts _ q1737) rfl dX7_balk_42 ?_
        refine lv_aload_n hx hb dX7_balk_45 rfl (lv_at hl 0 rfl) ?_
        refine M_get hx hb hts hown hK hM 34 (v := .int (h1 34 0)) (by decide) (hts _ q1717) rfl dX7_balk_46 ?_
        refine lv_iload_n hx hb dX7_balk_49 rfl (lv_at hl 1 rfl) ?_
        obtain ⟨hb11, hw⟩ := hw
        refine M_iast hx hb hK hM hJ hS 54 rfl (j := (ix (h1 34 0))) rfl hb11 dX7_balk_50 (fun H locs hM hS => ?_)
        obtain ⟨h12, eh12⟩ : ∃ y : Mem, y = up2 h1 54 (ix (h1 34 0)) a1 := ⟨_, rfl⟩
        rw [← eh12] at hM
        have hw := hw h12 eh12
        refine lv_aload_n hx hb dX7_balk_51 rfl (lv_at hl 0 rfl) ?_
        refine M_get hx hb hts hown hK hM 55 (v := .ref (ad 55)) (by decide) (hts _ q1738) rfl dX7_balk_52 ?_
        refine lv_aload_n hx hb dX7_balk_55 rfl (lv_at hl 0 rfl) ?_
        refine M_get hx hb hts hown hK hM 34 (v := .int (h12 34 0)) (by decide) (hts _ q1717) rfl dX7_balk_56 ?_
        refine lv_iload_n hx hb dX7_balk_59 rfl (lv_at hl 2 rfl) ?_
        obtain ⟨hb13, hw⟩ := hw
        refine M_iast hx hb hK hM hJ hS 55 rfl (j := (ix (h12 34 0))) rfl hb13 dX7_balk_60 (fun H locs hM hS => ?_)
        obtain ⟨h14, eh14⟩ : ∃ y : Mem, y = up2 h12 55 (ix (h12 34 0)) a2 := ⟨_, rfl⟩
        rw [← eh14] at hM
        have hw := hw h14 eh14
        refine lv_aload_n hx hb dX7_balk_61 rfl (lv_at hl 0 rfl) ?_
        refine lv_dup hx hb dX7_balk_62 rfl ?_
        refine M_get hx hb hts hown hK hM 34 (v := .int (h14 34 0)) (by decide) (hts _ q1717) rfl dX7_balk_63 ?_
        refine lv_iconst (v := (1 : Int32)) hx hb dX7_balk_66 (by decide) ?_
        refine lv_iadd hx hb dX7_balk_67 ?_
        refine M_put hx hb hts hown hK hM hJ hS 34 rfl rfl (hts _ q1717) rfl .int (by decide +kernel) rfl rfl dX7_balk_68 (fun H locs hM hS => ?_)
        obtain ⟨h15, eh15⟩ : ∃ y : Mem, y = up2 h14 34 0 ((h14 34 0) + (1 : Int32)) := ⟨_, rfl⟩
        rw [← eh15] at hM
        have hw := hw h15 eh15
        refine lv_aload_n hx hb dX7_balk_71 rfl (lv_at hl 0 rfl) ?_
        refine M_get hx hb hts hown hK hM 34 (v := .int (h15 34 0)) (by decide) (hts _ q1717) rfl dX7_balk_72 ?_
        exact M_iret hx hb hr hlocks hM hS hw dX7_balk_75
      · have hw := hw.1 c10
        refine lv_aload_n hx hb dX7_balk_35 rfl (lv_at hl 0 rfl) ?_
        refine lv_iconst (v := (2 : Int32)) hx hb dX7_balk_36 (by decide) ?_
        refine M_callI (As := [.int (2 : Int32)]) (rest := []) ⟨hx, hb, hml, hown, hts⟩ hK hZ hM hJ hS (metX7_refuse l D cA z0 E ad h1 (2 : Int32) _ hw) (cwV 1 hts (lw_V q2146 q2148 qs85 q130 q2149) rfl rfl rfl (by decide +kernel) ⟨Nat.le_of_ble_eq_true rfl, Nat.le_of_ble_eq_true rfl⟩) rfl hl.1 rfl (Nat.le_of_ble_eq_true rfl) dX7_balk_37 ⟨Nat.zero_le _, Nat.zero_le _⟩ (fun r16 h17 H locs hw hM hS => ?_)
        exact M_iret hx hb hr hlocks hM hS hw dX7_balk_40
    · have c9 := b2i_f c9
      have hw := hw.2 c9
      exact hB21 h1 hw _ _ ls hM hS (lv_sub hl [0] rfl)

/-- isBalked()Z -/
def wpBX7_isBalked_2 (post : Bool → Prop)   (K2 : Int32 → Prop) (h : Mem)  (x1 : Int32) : Prop :=
  (((h 34 0) ≤ x1 → post true) ∧ (¬ (h 34 0) ≤ x1 → (vp_in x1 (mlen 54) ∧ (vp_in x1 (mlen 55) ∧ (wpX7_knowsEater (fun r4 => ((r4 = true → K2 (x1 + (1 : Int32))) ∧ (¬ r4 = true → post false))) h (h 54 (ix x1)) (h 55 (ix x1)))))))
def wpLX7_isBalked_2 (post : Bool → Prop)   (h : Mem)  : Nat → (Int32) → Prop := LW (fun K s => wpBX7_isBalked_2 post   (fun x1 => K x1) h  s)
def wpX7_isBalked (post : Bool → Prop) (h : Mem)  : Prop :=
  (∃ n, wpLX7_isBalked_2 post   h n (0 : Int32))
set_option maxHeartbeats 4000000 in
set_option maxRecDepth 100000 in
theorem metX7_isBalked (l : Launch) (D : va_G) (cA : Nat → ClassId) (z0 : Nat) (E : Nat → Nat → Nat) (ad : Nat → Nat) (h : Mem)  (post : Bool → Prop) (hw : wpX7_isBalked post h ) : MeZ l D cA z0 E ad yX7_isBalked (ws_ yX7_isBalked cX7_isBalked 2 (some .boolean)) ({ frames := 5, cells := 0, slots := 0, locals := 122 }) [.ref (ad 69)] h (fun r h' => h' = h ∧ post r) := by
  refine Met.ofW (cc := cX7_isBalked) (maxL := 2) (ret := (some .boolean)) (by decide) rfl ?_
  intro p e s m args below meth c s₁ B hml hv
  obtain ⟨rfl, hM, hK, hJ, hZ⟩ := hv
  have hx := B.exec
  have hb := B.bytes
  have hr := B.returns
  have hts := atoms_spec (ws := ws_ yX7_isBalked cX7_isBalked 2 (some .boolean)) B.pre
  have hts : ∀ w ∈ lw_all, w.before _ s = true := fun w h => hts w (List.mem_cons_of_mem _ h)
  have hown : s.vm.findClass RX7 = some m.cls := findClass_of_methodNamed B.named
  have hlocks := B.notSynchronized
  have hS : va_S (MA ad) s.heap s.heap [] := va_S.rf
  have hl := lv_entry ([.ref (ad 69)]) (n := 2) (Nat.le_of_ble_eq_true rfl)
  rw [lg_entry_eq]
  generalize (lg_sl ([.ref (ad 69)]) ++ List.replicate (2 - (lg_sl ([.ref (ad 69)])).length) Slot.unset).toArray = ls at hl ⊢
  have hl : lv_has ls 2 [(0, .ref (ad 69))] := hl
  have hL2 : ∀  (n2 : Nat) (x1 : Int32), wpLX7_isBalked_2 post   h  n2 x1 → JM p l e (headSpec (ws_ yX7_isBalked cX7_isBalked 2 (some .boolean)) ({ frames := 5, cells := 0, slots := 0, locals := 122 })).room s m ([.ref (ad 69)] : List Value).toArray below meth c (MQ below (MQz D cA E ad (fun r h' => h' = h ∧ post r)) ([.ref (ad 69)] : List Value).toArray s 0 0 (MA ad)) D cA E ad 2 2 h [(0, .ref (ad 69)), (1, .int x1)] [] := by
    intro  n2
    induction n2 with
    | zero => intro x1 hw; exact False.elim hw
    | succ n2 ih2 =>
      intro x1 hw H locs ls hM hS hl
      have hw : wpBX7_isBalked_2 post   (fun x1 => wpLX7_isBalked_2 post   h  n2 x1) h  x1 := hw
      unfold wpBX7_isBalked_2 at hw
      refine lv_iload_n hx hb dX7_isBalked_2 rfl (lv_at hl 1 rfl) ?_
      refine lv_aload_n hx hb dX7_isBalked_3 rfl (lv_at hl 0 rfl) ?_
      refine M_get hx hb hts hown hK hM 34 (v := .int (h 34 0)) (by decide) (hts _ q1717) rfl dX7_isBalked_4 ?_
      refine lv_icmp_ge (tgt := 37) hx hb dX7_isBalked_7 (by decide) (fun c1 => ?_) (fun c1 => ?_)
      · have hw := hw.1 c1
        refine lv_iconst (v := (1 : Int32)) hx hb dX7_isBalked_37 (by decide) ?_
        exact M_zret hx hb hr hlocks hM hS ⟨_, rfl, ⟨rfl, hw⟩⟩ dX7_isBalked_38
      · have hw := hw.2 c1
        refine lv_aload_n hx hb dX7_isBalked_10 rfl (lv_at hl 0 rfl) ?_
        refine lv_aload_n hx hb dX7_isBalked_11 rfl (lv_at hl 0 rfl) ?_
        refine M_get hx hb hts hown hK hM 54 (v := .ref (ad 54)) (by decide) (hts _ q1737) rfl dX7_isBalked_12 ?_
        refine lv_iload_n hx hb dX7_isBalked_15 rfl (lv_at hl 1 rfl) ?_
        obtain ⟨hb2, hw⟩ := hw
        refine M_iald hx hb hK hM 54 rfl (j := (ix x1)) rfl hb2 dX7_isBalked_16 ?_
        refine lv_aload_n hx hb dX7_isBalked_17 rfl (lv_at hl 0 rfl) ?_
        refine M_get hx hb hts hown hK hM 55 (v := .ref (ad 55)) (by decide) (hts _ q1738) rfl dX7_isBalked_18 ?_
        refine lv_iload_n hx hb dX7_isBalked_21 rfl (lv_at hl 1 rfl) ?_
        obtain ⟨hb3, hw⟩ := hw
        refine M_iald hx hb hK hM 55 rfl (j := (ix x1)) rfl hb3 dX7_isBalked_22 ?_
        refine M_callZp (As := [.int (h 54 (ix x1)), .int (h 55 (ix x1))]) (rest := []) ⟨hx, hb, hml, hown, hts⟩ hK hZ hM hJ hS (metX7_knowsEater l D cA z0 E ad h (h 54 (ix x1)) (h 55 (ix x1)) _ hw) (cwV 2 hts (lw_V q2090 q2092 qs78 q130 q2093) rfl rfl rfl (by decide +kernel) ⟨Nat.le_of_ble_eq_true rfl, Nat.le_of_ble_eq_true rfl⟩) rfl hl.1 rfl (Nat.le_of_ble_eq_true rfl) dX7_isBalked_23 ⟨Nat.zero_le _, Nat.zero_le _⟩ (fun r4 H locs hw hM hS => ?_)
        refine lv_if_ne (tgt := 31) hx hb dX7_isBalked_26 (by decide) (fun c6 => ?_) (fun c6 => ?_)
        · have c6 := b2i_t c6
          have hw := hw.1 c6
          refine lv_iinc (v := (x1 + (1 : Int32))) (lv' := [(1, .int (x1 + (1 : Int32))), (0, .ref (ad 69))]) hx hb dX7_isBalked_31 hl (k := 1) rfl rfl (by decide) rfl (fun ls hl => ?_)
          refine lv_goto (tgt := 2) hx hb dX7_isBalked_34 (by decide) ?_
          exact ih2 (x1 + (1 : Int32)) hw _ _ ls hM hS (lv_sub hl [1, 0] rfl)
        · have c6 := b2i_f c6
          have hw := hw.2 c6
          refine lv_iconst (v := (0 : Int32)) hx hb dX7_isBalked_29 (by decide) ?_
          exact M_zret hx hb hr hlocks hM hS ⟨_, rfl, ⟨rfl, hw⟩⟩ dX7_isBalked_30
  unfold wpX7_isBalked at hw
  refine lv_iconst (v := (0 : Int32)) hx hb dX7_isBalked_0 (by decide) ?_
  refine lv_istore_n (lv' := [(1, .int (0 : Int32)), (0, .ref (ad 69))]) hx hb dX7_isBalked_1 rfl hl (by decide) rfl (fun ls hl => ?_)
  obtain ⟨n7, hw⟩ := hw
  exact hL2 n7 (0 : Int32) hw _ _ ls hM hS (lv_sub hl [1, 0] rfl)

/-- whom(I)I -/
def wpBX7_whom_14 (post : Int32 → Mem → Prop) (a1 : Int32)  (h : Mem)   : Prop :=
  (wpX7_fail (fun r3 h4 => post r3 h4) h (1 : Int32))
def wpBX7_whom_80 (post : Int32 → Mem → Prop) (a1 : Int32) (K27 : Mem → Int32 → Int32 → Int32 → Prop) (K44 : Mem → Int32 → Int32 → Int32 → Prop) (h : Mem) (x2 : Int32) (x3 : Int32) (x4 : Int32) (x5 : Int32)  : Prop :=
  (wpX7_couple (fun r15 => (vp_in r15 (mlen 13) ∧ (wpX7_meet (fun h19 => (wpX7_isBalked (fun r20 => (wpX7_meet (fun h23 => K44 h23 (if r20 = true then (if x3 = (-1 : Int32) then (x2 + (1 : Int32)) else (x2 + (1 : Int32))) else x2) (if r20 = true then (if x3 = (-1 : Int32) then (((10 : Int32) * x4) + x5) else x3) else x3) (x5 + (1 : Int32))) h19 x4 x5 (h 13 (ix r15)))) h19 )) h x4 x5 (h 30 0)))) h x4 x5)
def wpBX7_whom_44 (post : Int32 → Mem → Prop) (a1 : Int32) (K27 : Mem → Int32 → Int32 → Int32 → Prop) (K44 : Mem → Int32 → Int32 → Int32 → Prop) (x4 : Int32) (h : Mem) (x2 : Int32) (x3 : Int32) (x5 : Int32) : Prop :=
  (((h 3 0) ≤ x5 → K27 h x2 x3 (x4 + (1 : Int32))) ∧ (¬ (h 3 0) ≤ x5 → (wpX7_isKnown (fun r12 => ((r12 = true → (wpX7_isKnown (fun r33 => ((r33 = true → K44 h x2 x3 (x5 + (1 : Int32))) ∧ (¬ r33 = true → wpBX7_whom_80 post a1 K27 K44 h x2 x3 x4 x5))) h x5 x4)) ∧ (¬ r12 = true → wpBX7_whom_80 post a1 K27 K44 h x2 x3 x4 x5))) h x4 x5)))
def wpLX7_whom_44 (post : Int32 → Mem → Prop) (a1 : Int32) (K27 : Mem → Int32 → Int32 → Int32 → Prop) (x4 : Int32) : Nat → (Mem × Int32 × Int32 × Int32) → Prop := LW (fun K s => wpBX7_whom_44 post a1 K27 (fun h x2 x3 x5 => K (h, x2, x3, x5)) x4 s.1 s.2.1 s.2.2.1 s.2.2.2)
def wpBX7_whom_27 (post : Int32 → Mem → Prop) (a1 : Int32)  (K27 : Mem → Int32 → Int32 → Int32 → Prop)  (h : Mem) (x2 : Int32) (x3 : Int32) (x4 : Int32) : Prop :=
  (((h 3 0) ≤ x4 → post (if a1 = 0 then x2 else x3) h) ∧ (¬ (h 3 0) ≤ x4 → (∃ n, wpLX7_whom_44 post a1 K27 x4 n (h, x2, x3, (x4 + (1 : Int32))))))
def wpLX7_whom_27 (post : Int32 → Mem → Prop) (a1 : Int32)   : Nat → (Mem × Int32 × Int32 × Int32) → Prop := LW (fun K s => wpBX7_whom_27 post a1  (fun h x2 x3 x4 => K (h, x2, x3, x4))  s.1 s.2.1 s.2.2.1 s.2.2.2)
def wpX7_whom (post : Int32 → Mem → Prop) (h : Mem) (a1 : Int32) : Prop :=
  (∀ h1 : Mem, h1 = up2 h 2 0 (0 : Int32) → ((a1 < 0 → wpBX7_whom_14 post a1  h1 ) ∧ (¬ a1 < 0 → ((a1 ≤ (1 : Int32) → (∃ n, wpLX7_whom_27 post a1   n (h1, (0 : Int32), (-1 : Int32), (0 : Int32)))) ∧ (¬ a1 ≤ (1 : Int32) → wpBX7_whom_14 post a1  h1 )))))
set_option maxHeartbeats 4000000 in
set_option maxRecDepth 100000 in
theorem metX7_whom (l : Launch) (D : va_G) (cA : Nat → ClassId) (z0 : Nat) (E : Nat → Nat → Nat) (ad : Nat → Nat) (h : Mem) (a1 : Int32) (post : Int32 → Mem → Prop) (hw : wpX7_whom post h a1) : MeI l D cA z0 E ad yX7_whom (ws_ yX7_whom cX7_whom 8 (some .int)) ({ frames := 6, cells := 0, slots := 0, locals := 143 }) [.ref (ad 69), .int a1] h post := by
  refine Met.ofW (cc := cX7_whom) (maxL := 8) (ret := (some .int)) (by decide) rfl ?_
  intro p e s m args below meth c s₁ B hml hv
  obtain ⟨rfl, hM, hK, hJ, hZ⟩ := hv
  have hx := B.exec
  have hb := B.bytes
  have hr := B.returns
  have hts := atoms_spec (ws := ws_ yX7_whom cX7_whom 8 (some .int)) B.pre
  have hts : ∀ w ∈ lw_all, w.before _ s = true := fun w h => hts w (List.mem_cons_of_mem _ h)
  have hown : s.vm.findClass RX7 = some m.cls := findClass_of_methodNamed B.named
  have hlocks := B.notSynchronized
  have hS : va_S (MA ad) s.heap s.heap [] := va_S.rf
  have hl := lv_entry ([.ref (ad 69), .int a1]) (n := 8) (Nat.le_of_ble_eq_true rfl)
  rw [lg_entry_eq]
  generalize (lg_sl ([.ref (ad 69), .int a1]) ++ List.replicate (8 - (lg_sl ([.ref (ad 69), .int a1])).length) Slot.unset).toArray = ls at hl ⊢
  have hl : lv_has ls 8 [(0, .ref (ad 69)), (1, .int a1)] := hl
  have hB14 : ∀ (h : Mem), wpBX7_whom_14 post a1  h  → JM p l e (headSpec (ws_ yX7_whom cX7_whom 8 (some .int)) ({ frames := 6, cells := 0, slots := 0, locals := 143 })).room s m ([.ref (ad 69), .int a1] : List Value).toArray below meth c (MQ below (MQi D cA E ad post) ([.ref (ad 69), .int a1] : List Value).toArray s 0 0 (MA ad)) D cA E ad 8 14 h [(0, .ref (ad 69))] [] := by
    intro h hw H locs ls hM hS hl
    unfold wpBX7_whom_14 at hw
    refine lv_aload_n hx hb dX7_whom_14 rfl (lv_at hl 0 rfl) ?_
    refine lv_iconst (v := (1 : Int32)) hx hb dX7_whom_15 (by decide) ?_
    refine M_callI (As := [.int (1 : Int32)]) (rest := []) ⟨hx, hb, hml, hown, hts⟩ hK hZ hM hJ hS (metX7_fail l D cA z0 E ad h (1 : Int32) _ hw) (cwV 1 hts (lw_V q1903 q1905 qs44 q130 q1906) rfl rfl rfl (by decide +kernel) ⟨Nat.le_of_ble_eq_true rfl, Nat.le_of_ble_eq_true rfl⟩) rfl hl.1 rfl (Nat.le_of_ble_eq_true rfl) dX7_whom_16 ⟨Nat.zero_le _, Nat.zero_le _⟩ (fun r3 h4 H locs hw hM hS => ?_)
    exact M_iret hx hb hr hlocks hM hS hw dX7_whom_19
  have hL27 : ∀  (n27 : Nat) (h : Mem) (x2 : Int32) (x3 : Int32) (x4 : Int32), wpLX7_whom_27 post a1   n27 (h, x2, x3, x4) → JM p l e (headSpec (ws_ yX7_whom cX7_whom 8 (some .int)) ({ frames := 6, cells := 0, slots := 0, locals := 143 })).room s m ([.ref (ad 69), .int a1] : List Value).toArray below meth c (MQ below (MQi D cA E ad post) ([.ref (ad 69), .int a1] : List Value).toArray s 0 0 (MA ad)) D cA E ad 8 27 h [(0, .ref (ad 69)), (1, .int a1), (2, .int x2), (3, .int x3), (4, .int x4)] [] := by
    intro  n27
    induction n27 with
    | zero => intro h x2 x3 x4 hw; exact False.elim hw
    | succ n27 ih27 =>
      have hL44 : ∀ (x4 : Int32) (n44 : Nat) (h : Mem) (x2 : Int32) (x3 : Int32) (x5 : Int32), wpLX7_whom_44 post a1 (fun h x2 x3 x4 => wpLX7_whom_27 post a1   n27 (h, x2, x3, x4)) x4 n44 (h, x2, x3, x5) → JM p l e (headSpec (ws_ yX7_whom cX7_whom 8 (some .int)) ({ frames := 6, cells := 0, slots := 0, locals := 143 })).room s m ([.ref (ad 69), .int a1] : List Value).toArray below meth c (MQ below (MQi D cA E ad post) ([.ref (ad 69), .int a1] : List Value).toArray s 0 0 (MA ad)) D cA E ad 8 44 h [(0, .ref (ad 69)), (1, .int a1), (2, .int x2), (3, .int x3), (4, .int x4), (5, .int x5)] [] := by
        intro x4 n44
        induction n44 with
        | zero => intro h x2 x3 x5 hw; exact False.elim hw
        | succ n44 ih44 =>
          have hB80 : ∀ (h : Mem) (x2 : Int32) (x3 : Int32) (x5 : Int32), wpBX7_whom_80 post a1 (fun h x2 x3 x4 => wpLX7_whom_27 post a1   n27 (h, x2, x3, x4)) (fun h x2 x3 x5 => wpLX7_whom_44 post a1 (fun h x2 x3 x4 => wpLX7_whom_27 post a1   n27 (h, x2, x3, x4)) x4 n44 (h, x2, x3, x5)) h x2 x3 x4 x5 → JM p l e (headSpec (ws_ yX7_whom cX7_whom 8 (some .int)) ({ frames := 6, cells := 0, slots := 0, locals := 143 })).room s m ([.ref (ad 69), .int a1] : List Value).toArray below meth c (MQ below (MQi D cA E ad post) ([.ref (ad 69), .int a1] : List Value).toArray s 0 0 (MA ad)) D cA E ad 8 80 h [(0, .ref (ad 69)), (1, .int a1), (2, .int x2), (3, .int x3), (4, .int x4), (5, .int x5)] [] := by
            intro h x2 x3 x5 hw H locs ls hM hS hl
            unfold wpBX7_whom_80 at hw
            refine lv_aload_n hx hb dX7_whom_80 rfl (lv_at hl 0 rfl) ?_
            refine M_get hx hb hts hown hK hM 13 (v := .ref (ad 13)) (by decide) (hts _ q1696) rfl dX7_whom_81 ?_
            refine lv_iload hx hb dX7_whom_84 (lv_at hl 4 rfl) ?_
            refine lv_iload hx hb dX7_whom_86 (lv_at hl 5 rfl) ?_
            refine M_callISp (As := [.int x4, .int x5]) (rest := [.ref (ad 13)]) ⟨hx, hb, hml, hown, hts⟩ hK hZ hM hJ hS (metX7_couple l D cA z0 E ad h x4 x5 _ hw) (va_cwS 2 hts (lw_S q2016 q2017 q130 q2018) rfl rfl rfl (by decide +kernel) ⟨Nat.le_of_ble_eq_true rfl, Nat.le_of_ble_eq_true rfl⟩) rfl hl.1 rfl (Nat.le_of_ble_eq_true rfl) dX7_whom_88 ⟨Nat.zero_le _, Nat.zero_le _⟩ (fun r15 H locs hw hM hS => ?_)
            obtain ⟨hb17, hw⟩ := hw
            refine M_iald hx hb hK hM 13 rfl (j := (ix r15)) rfl hb17 dX7_whom_91 ?_
            refine lv_istore (lv' := [(6, .int (h 13 (ix r15))), (0, .ref (ad 69)), (1, .int a1), (2, .int x2), (3, .int x3), (4, .int x4), (5, .int x5)]) hx hb dX7_whom_92 hl (by decide) rfl (fun ls hl => ?_)
            refine lv_aload_n hx hb dX7_whom_94 rfl (lv_at hl 1 rfl) ?_
            refine lv_iload hx hb dX7_whom_95 (lv_at hl 5 rfl) ?_
            refine lv_iload hx hb dX7_whom_97 (lv_at hl 6 rfl) ?_
            refine lv_aload_n hx hb dX7_whom_99 rfl (lv_at hl 1 rfl) ?_
            refine M_get hx hb hts hown hK hM 30 (v := .int (h 30 0)) (by decide) (hts _ q1713) rfl dX7_whom_100 ?_
            refine M_callV (As := [.int x4, .int x5, .int (h 30 0)]) (rest := []) ⟨hx, hb, hml, hown, hts⟩ hK hZ hM hJ hS (metX7_meet l D cA z0 E ad h x4 x5 (h 30 0) _ hw) (cwV 3 hts (lw_V q2150 q2152 qs86 q130 q2153) rfl rfl rfl (by decide +kernel) ⟨Nat.le_of_ble_eq_true rfl, Nat.le_of_ble_eq_true rfl⟩) rfl hl.1 rfl (Nat.le_of_ble_eq_true rfl) dX7_whom_103 ⟨Nat.zero_le _, Nat.zero_le _⟩ (fun h19 H locs hw hM hS => ?_)
            refine lv_aload_n hx hb dX7_whom_106 rfl (lv_at hl 1 rfl) ?_
            refine M_callZp (As := []) (rest := []) ⟨hx, hb, hml, hown, hts⟩ hK hZ hM hJ hS (metX7_isBalked l D cA z0 E ad h19  _ hw) (cwV 0 hts (lw_V q2264 q2266 qs99 q130 q2267) rfl rfl rfl (by decide +kernel) ⟨Nat.le_of_ble_eq_true rfl, Nat.le_of_ble_eq_true rfl⟩) rfl hl.1 rfl (Nat.le_of_ble_eq_true rfl) dX7_whom_107 ⟨Nat.zero_le _, Nat.zero_le _⟩ (fun r20 H locs hw hM hS => ?_)
            refine lv_istore (lv' := [(7, .int (b2i r20)), (6, .int (h 13 (ix r15))), (0, .ref (ad 69)), (1, .int a1), (2, .int x2), (3, .int x3), (4, .int x4), (5, .int x5)]) hx hb dX7_whom_110 hl (by decide) rfl (fun ls hl => ?_)
            refine lv_aload_n hx hb dX7_whom_112 rfl (lv_at hl 2 rfl) ?_
            refine lv_iload hx hb dX7_whom_113 (lv_at hl 6 rfl) ?_
            refine lv_iload hx hb dX7_whom_115 (lv_at hl 7 rfl) ?_
            refine lv_iload hx hb dX7_whom_117 (lv_at hl 1 rfl) ?_
            refine M_callV (As := [.int x4, .int x5, .int (h 13 (ix r15))]) (rest := []) ⟨hx, hb, hml, hown, hts⟩ hK hZ hM hJ hS (metX7_meet l D cA z0 E ad h19 x4 x5 (h 13 (ix r15)) _ hw) (cwV 3 hts (lw_V q2150 q2152 qs86 q130 q2153) rfl rfl rfl (by decide +kernel) ⟨Nat.le_of_ble_eq_true rfl, Nat.le_of_ble_eq_true rfl⟩) rfl hl.1 rfl (Nat.le_of_ble_eq_true rfl) dX7_whom_119 ⟨Nat.zero_le _, Nat.zero_le _⟩ (fun h23 H locs hw hM hS => ?_)
            refine lv_iload hx hb dX7_whom_122 (lv_at hl 0 rfl) ?_
            have hj24 : JM p l e (headSpec (ws_ yX7_whom cX7_whom 8 (some .int)) ({ frames := 6, cells := 0, slots := 0, locals := 143 })).room s m ([.ref (ad 69), .int a1] : List Value).toArray below meth c (MQ below (MQi D cA E ad post) ([.ref (ad 69), .int a1] : List Value).toArray s 0 0 (MA ad)) D cA E ad 8 151 h23 [(0, .ref (ad 69)), (1, .int a1), (2, .int (if r20 = true then (if x3 = (-1 : Int32) then (x2 + (1 : Int32)) else (x2 + (1 : Int32))) else x2)), (3, .int (if r20 = true then (if x3 = (-1 : Int32) then (((10 : Int32) * x4) + x5) else x3) else x3)), (4, .int x4), (5, .int x5)] [] := by
              intro H locs ls hM hS hl
              refine lv_iinc (v := (x5 + (1 : Int32))) (lv' := [(5, .int (x5 + (1 : Int32))), (0, .ref (ad 69)), (1, .int a1), (2, .int (if r20 = true then (if x3 = (-1 : Int32) then (x2 + (1 : Int32)) else (x2 + (1 : Int32))) else x2)), (3, .int (if r20 = true then (if x3 = (-1 : Int32) then (((10 : Int32) * x4) + x5) else x3) else x3)), (4, .int x4)]) hx hb dX7_whom_151 hl (k := 5) rfl rfl (by decide) rfl (fun ls hl => ?_)
              refine lv_goto (tgt := 44) hx hb dX7_whom_154 (by decide) ?_
              exact ih44 h23 (if r20 = true then (if x3 = (-1 : Int32) then (x2 + (1 : Int32)) else (x2 + (1 : Int32))) else x2) (if r20 = true then (if x3 = (-1 : Int32) then (((10 : Int32) * x4) + x5) else x3) else x3) (x5 + (1 : Int32)) hw _ _ ls hM hS (lv_sub hl [1, 2, 3, 4, 5, 0] rfl)
            refine lv_if_ne (tgt := 130) hx hb dX7_whom_124 (by decide) (fun c25 => ?_) (fun c25 => ?_)
            · have c25 := b2i_t c25
              refine lv_iinc (v := (x2 + (1 : Int32))) (lv' := [(2, .int (x2 + (1 : Int32))), (7, .int (b2i r20)), (6, .int (h 13 (ix r15))), (0, .ref (ad 69)), (1, .int a1), (3, .int x3), (4, .int x4), (5, .int x5)]) hx hb dX7_whom_130 hl (k := 4) rfl rfl (by decide) rfl (fun ls hl => ?_)
              refine lv_iload_n hx hb dX7_whom_133 rfl (lv_at hl 5 rfl) ?_
              refine lv_iconst (v := (-1 : Int32)) hx hb dX7_whom_134 (by decide) ?_
              refine lv_icmp_ne (tgt := 149) hx hb dX7_whom_135 (by decide) (fun c26 => ?_) (fun c26 => ?_)
              · refine lv_iload_n hx hb dX7_whom_149 rfl (lv_at hl 5 rfl) ?_
                refine lv_istore_n (lv' := [(3, .int x3), (2, .int (x2 + (1 : Int32))), (7, .int (b2i r20)), (6, .int (h 13 (ix r15))), (0, .ref (ad 69)), (1, .int a1), (4, .int x4), (5, .int x5)]) hx hb dX7_whom_150 rfl hl (by decide) rfl (fun ls hl => ?_)
                have e27 : (if r20 = true then (if x3 = (-1 : Int32) then (x2 + (1 : Int32)) else (x2 + (1 : Int32))) else x2) = (x2 + (1 : Int32)) := by rw [if_pos c25, if_neg c26]
                rw [e27] at hj24
                have e28 : (if r20 = true then (if x3 = (-1 : Int32) then (((10 : Int32) * x4) + x5) else x3) else x3) = x3 := by rw [if_pos c25, if_neg c26]
                rw [e28] at hj24
                exact hj24 _ _ ls hM hS (lv_sub hl [4, 5, 1, 0, 6, 7] rfl)
              · refine lv_bipush (v := (10 : Int32)) hx hb dX7_whom_138 (by decide) ?_
                refine lv_iload hx hb dX7_whom_140 (lv_at hl 6 rfl) ?_
                refine lv_imul hx hb dX7_whom_142 ?_
                refine lv_iload hx hb dX7_whom_143 (lv_at hl 7 rfl) ?_
                refine lv_iadd hx hb dX7_whom_145 ?_
                refine lv_goto (tgt := 150) hx hb dX7_whom_146 (by decide) ?_
                refine lv_istore_n (lv' := [(3, .int (((10 : Int32) * x4) + x5)), (2, .int (x2 + (1 : Int32))), (7, .int (b2i r20)), (6, .int (h 13 (ix r15))), (0, .ref (ad 69)), (1, .int a1), (4, .int x4), (5, .int x5)]) hx hb dX7_whom_150 rfl hl (by decide) rfl (fun ls hl => ?_)
                have e29 : (if r20 = true then (if x3 = (-1 : Int32) then (x2 + (1 : Int32)) else (x2 + (1 : Int32))) else x2) = (x2 + (1 : Int32)) := by rw [if_pos c25, if_pos c26]
                rw [e29] at hj24
                have e30 : (if r20 = true then (if x3 = (-1 : Int32) then (((10 : Int32) * x4) + x5) else x3) else x3) = (((10 : Int32) * x4) + x5) := by rw [if_pos c25, if_pos c26]
                rw [e30] at hj24
                exact hj24 _ _ ls hM hS (lv_sub hl [4, 5, 1, 0, 6, 7] rfl)
            · have c25 := b2i_f c25
              refine lv_goto (tgt := 151) hx hb dX7_whom_127 (by decide) ?_
              have e31 : (if r20 = true then (if x3 = (-1 : Int32) then (x2 + (1 : Int32)) else (x2 + (1 : Int32))) else x2) = x2 := by rw [if_neg c25]
              rw [e31] at hj24
              have e32 : (if r20 = true then (if x3 = (-1 : Int32) then (((10 : Int32) * x4) + x5) else x3) else x3) = x3 := by rw [if_neg c25]
              rw [e32] at hj24
              exact hj24 _ _ ls hM hS (lv_sub hl [2, 3, 4, 5, 6, 7] rfl)
          intro h x2 x3 x5 hw H locs ls hM hS hl
          have hw : wpBX7_whom_44 post a1 (fun h x2 x3 x4 => wpLX7_whom_27 post a1   n27 (h, x2, x3, x4)) (fun h x2 x3 x5 => wpLX7_whom_44 post a1 (fun h x2 x3 x4 => wpLX7_whom_27 post a1   n27 (h, x2, x3, x4)) x4 n44 (h, x2, x3, x5)) x4 h x2 x3 x5 := hw
          unfold wpBX7_whom_44 at hw
          refine lv_iload hx hb dX7_whom_44 (lv_at hl 5 rfl) ?_
          refine lv_aload_n hx hb dX7_whom_46 rfl (lv_at hl 0 rfl) ?_
          refine M_get hx hb hts hown hK hM 3 (v := .ref (ad 3)) (by decide) (hts _ q1686) rfl dX7_whom_47 ?_
          refine lv_iconst (v := (0 : Int32)) hx hb dX7_whom_50 (by decide) ?_
          refine M_iald hx hb hK hM 3 rfl (j := 0) rfl (by unfold vp_in; decide) dX7_whom_51 ?_
          refine lv_icmp_ge (tgt := 157) hx hb dX7_whom_52 (by decide) (fun c11 => ?_) (fun c11 => ?_)
          · have hw := hw.1 c11
            refine lv_iinc (v := (x4 + (1 : Int32))) (lv' := [(4, .int (x4 + (1 : Int32))), (0, .ref (ad 69)), (1, .int a1), (2, .int x2), (3, .int x3), (5, .int x5)]) hx hb dX7_whom_157 hl (k := 4) rfl rfl (by decide) rfl (fun ls hl => ?_)
            refine lv_goto (tgt := 27) hx hb dX7_whom_160 (by decide) ?_
            exact ih27 h x2 x3 (x4 + (1 : Int32)) hw _ _ ls hM hS (lv_sub hl [1, 2, 3, 4, 0] rfl)
          · have hw := hw.2 c11
            refine lv_aload_n hx hb dX7_whom_55 rfl (lv_at hl 0 rfl) ?_
            refine lv_iload hx hb dX7_whom_56 (lv_at hl 4 rfl) ?_
            refine lv_iload hx hb dX7_whom_58 (lv_at hl 5 rfl) ?_
            refine M_callZp (As := [.int x4, .int x5]) (rest := []) ⟨hx, hb, hml, hown, hts⟩ hK hZ hM hJ hS (metX7_isKnown l D cA z0 E ad h x4 x5 _ hw) (cwV 2 hts (lw_V q2039 q2041 qs68 q130 q2042) rfl rfl rfl (by decide +kernel) ⟨Nat.le_of_ble_eq_true rfl, Nat.le_of_ble_eq_true rfl⟩) rfl hl.1 rfl (Nat.le_of_ble_eq_true rfl) dX7_whom_60 ⟨Nat.zero_le _, Nat.zero_le _⟩ (fun r12 H locs hw hM hS => ?_)
            refine lv_if_eq (tgt := 80) hx hb dX7_whom_63 (by decide) (fun c14 => ?_) (fun c14 => ?_)
            · have c14 := b2i_f c14
              have hw := hw.2 c14
              exact hB80 h x2 x3 x5 hw _ _ ls hM hS (lv_sub hl [0, 1, 2, 3, 4, 5] rfl)
            · have c14 := b2i_t c14
              have hw := hw.1 c14
              refine lv_aload_n hx hb dX7_whom_66 rfl (lv_at hl 0 rfl) ?_
              refine lv_iload hx hb dX7_whom_67 (lv_at hl 5 rfl) ?_
              refine lv_iload hx hb dX7_whom_69 (lv_at hl 4 rfl) ?_
              refine M_callZp (As := [.int x5, .int x4]) (rest := []) ⟨hx, hb, hml, hown, hts⟩ hK hZ hM hJ hS (metX7_isKnown l D cA z0 E ad h x5 x4 _ hw) (cwV 2 hts (lw_V q2039 q2041 qs68 q130 q2042) rfl rfl rfl (by decide +kernel) ⟨Nat.le_of_ble_eq_true rfl, Nat.le_of_ble_eq_true rfl⟩) rfl hl.1 rfl (Nat.le_of_ble_eq_true rfl) dX7_whom_71 ⟨Nat.zero_le _, Nat.zero_le _⟩ (fun r33 H locs hw hM hS => ?_)
              refine lv_if_eq (tgt := 80) hx hb dX7_whom_74 (by decide) (fun c35 => ?_) (fun c35 => ?_)
              · have c35 := b2i_f c35
                have hw := hw.2 c35
                exact hB80 h x2 x3 x5 hw _ _ ls hM hS (lv_sub hl [0, 1, 2, 3, 4, 5] rfl)
              · have c35 := b2i_t c35
                have hw := hw.1 c35
                refine lv_goto (tgt := 151) hx hb dX7_whom_77 (by decide) ?_
                refine lv_iinc (v := (x5 + (1 : Int32))) (lv' := [(5, .int (x5 + (1 : Int32))), (0, .ref (ad 69)), (1, .int a1), (2, .int x2), (3, .int x3), (4, .int x4)]) hx hb dX7_whom_151 hl (k := 5) rfl rfl (by decide) rfl (fun ls hl => ?_)
                refine lv_goto (tgt := 44) hx hb dX7_whom_154 (by decide) ?_
                exact ih44 h x2 x3 (x5 + (1 : Int32)) hw _ _ ls hM hS (lv_sub hl [1, 2, 3, 4, 5, 0] rfl)
      intro h x2 x3 x4 hw H locs ls hM hS hl
      have hw : wpBX7_whom_27 post a1  (fun h x2 x3 x4 => wpLX7_whom_27 post a1   n27 (h, x2, x3, x4))  h x2 x3 x4 := hw
      unfold wpBX7_whom_27 at hw
      refine lv_iload hx hb dX7_whom_27 (lv_at hl 4 rfl) ?_
      refine lv_aload_n hx hb dX7_whom_29 rfl (lv_at hl 0 rfl) ?_
      refine M_get hx hb hts hown hK hM 3 (v := .ref (ad 3)) (by decide) (hts _ q1686) rfl dX7_whom_30 ?_
      refine lv_iconst (v := (0 : Int32)) hx hb dX7_whom_33 (by decide) ?_
      refine M_iald hx hb hK hM 3 rfl (j := 0) rfl (by unfold vp_in; decide) dX7_whom_34 ?_
      refine lv_icmp_ge (tgt := 163) hx hb dX7_whom_35 (by decide) (fun c6 => ?_) (fun c6 => ?_)
      · have hw := hw.1 c6
        refine lv_iload_n hx hb dX7_whom_163 rfl (lv_at hl 1 rfl) ?_
        have hj7 : JM p l e (headSpec (ws_ yX7_whom cX7_whom 8 (some .int)) ({ frames := 6, cells := 0, slots := 0, locals := 143 })).room s m ([.ref (ad 69), .int a1] : List Value).toArray below meth c (MQ below (MQi D cA E ad post) ([.ref (ad 69), .int a1] : List Value).toArray s 0 0 (MA ad)) D cA E ad 8 172 h [] [.int (if a1 = 0 then x2 else x3)] := by
          intro H locs ls hM hS hl
          exact M_iret hx hb hr hlocks hM hS hw dX7_whom_172
        refine lv_if_ne (tgt := 171) hx hb dX7_whom_164 (by decide) (fun c8 => ?_) (fun c8 => ?_)
        · refine lv_iload_n hx hb dX7_whom_171 rfl (lv_at hl 3 rfl) ?_
          have e9 : (if a1 = 0 then x2 else x3) = x3 := by rw [if_neg c8]
          rw [e9] at hj7
          exact hj7 _ _ ls hM hS (lv_sub hl [] rfl)
        · refine lv_iload_n hx hb dX7_whom_167 rfl (lv_at hl 2 rfl) ?_
          refine lv_goto (tgt := 172) hx hb dX7_whom_168 (by decide) ?_
          have e10 : (if a1 = 0 then x2 else x3) = x2 := by rw [if_pos c8]
          rw [e10] at hj7
          exact hj7 _ _ ls hM hS (lv_sub hl [] rfl)
      · have hw := hw.2 c6
        refine lv_iload hx hb dX7_whom_38 (lv_at hl 4 rfl) ?_
        refine lv_iconst (v := (1 : Int32)) hx hb dX7_whom_40 (by decide) ?_
        refine lv_iadd hx hb dX7_whom_41 ?_
        refine lv_istore (lv' := [(5, .int (x4 + (1 : Int32))), (0, .ref (ad 69)), (1, .int a1), (2, .int x2), (3, .int x3), (4, .int x4)]) hx hb dX7_whom_42 hl (by decide) rfl (fun ls hl => ?_)
        obtain ⟨n36, hw⟩ := hw
        exact hL44 x4 n36 h x2 x3 (x4 + (1 : Int32)) hw _ _ ls hM hS (lv_sub hl [1, 2, 3, 4, 5, 0] rfl)
  unfold wpX7_whom at hw
  refine lv_aload_n hx hb dX7_whom_0 rfl (lv_at hl 0 rfl) ?_
  refine lv_iconst (v := (0 : Int32)) hx hb dX7_whom_1 (by decide) ?_
  refine M_put hx hb hts hown hK hM hJ hS 2 rfl rfl (hts _ q1685) rfl .int (by decide +kernel) rfl rfl dX7_whom_2 (fun H locs hM hS => ?_)
  obtain ⟨h1, eh1⟩ : ∃ y : Mem, y = up2 h 2 0 (0 : Int32) := ⟨_, rfl⟩
  rw [← eh1] at hM
  have hw := hw h1 eh1
  refine lv_iload_n hx hb dX7_whom_5 rfl (lv_at hl 1 rfl) ?_
  refine lv_if_lt (tgt := 14) hx hb dX7_whom_6 (by decide) (fun c2 => ?_) (fun c2 => ?_)
  · have hw := hw.1 c2
    exact hB14 h1 hw _ _ ls hM hS (lv_sub hl [0] rfl)
  · have hw := hw.2 c2
    refine lv_iload_n hx hb dX7_whom_9 rfl (lv_at hl 1 rfl) ?_
    refine lv_iconst (v := (1 : Int32)) hx hb dX7_whom_10 (by decide) ?_
    refine lv_icmp_le (tgt := 20) hx hb dX7_whom_11 (by decide) (fun c5 => ?_) (fun c5 => ?_)
    · have hw := hw.1 c5
      refine lv_iconst (v := (0 : Int32)) hx hb dX7_whom_20 (by decide) ?_
      refine lv_istore_n (lv' := [(2, .int (0 : Int32)), (0, .ref (ad 69)), (1, .int a1)]) hx hb dX7_whom_21 rfl hl (by decide) rfl (fun ls hl => ?_)
      refine lv_iconst (v := (-1 : Int32)) hx hb dX7_whom_22 (by decide) ?_
      refine lv_istore_n (lv' := [(3, .int (-1 : Int32)), (2, .int (0 : Int32)), (0, .ref (ad 69)), (1, .int a1)]) hx hb dX7_whom_23 rfl hl (by decide) rfl (fun ls hl => ?_)
      refine lv_iconst (v := (0 : Int32)) hx hb dX7_whom_24 (by decide) ?_
      refine lv_istore (lv' := [(4, .int (0 : Int32)), (3, .int (-1 : Int32)), (2, .int (0 : Int32)), (0, .ref (ad 69)), (1, .int a1)]) hx hb dX7_whom_25 hl (by decide) rfl (fun ls hl => ?_)
      obtain ⟨n37, hw⟩ := hw
      exact hL27 n37 h1 (0 : Int32) (-1 : Int32) (0 : Int32) hw _ _ ls hM hS (lv_sub hl [3, 4, 2, 1, 0] rfl)
    · have hw := hw.2 c5
      exact hB14 h1 hw _ _ ls hM hS (lv_sub hl [0] rfl)

/-- why(II)I -/
def wpBX7_why_34 (post : Int32 → Mem → Prop) (a1 : Int32) (a2 : Int32)  (h : Mem)   : Prop :=
  (wpX7_fail (fun r5 h6 => post r5 h6) h (1 : Int32))
def wpX7_why (post : Int32 → Mem → Prop) (h : Mem) (a1 : Int32) (a2 : Int32) : Prop :=
  (∀ h1 : Mem, h1 = up2 h 2 0 (0 : Int32) → (wpX7_isLoaf (fun r2 => ((r2 = true → (wpX7_isIn (fun r7 => ((r7 = true → (wpX7_answering (fun r10 => post r10 h1) h1 a1 a2)) ∧ (¬ r7 = true → wpBX7_why_34 post a1 a2  h1 ))) h1 (a2).toInt64 (0 : Int64) (6 : Int64))) ∧ (¬ r2 = true → wpBX7_why_34 post a1 a2  h1 ))) h1 a1))
set_option maxHeartbeats 4000000 in
set_option maxRecDepth 100000 in
theorem metX7_why (l : Launch) (D : va_G) (cA : Nat → ClassId) (z0 : Nat) (E : Nat → Nat → Nat) (ad : Nat → Nat) (h : Mem) (a1 : Int32) (a2 : Int32) (post : Int32 → Mem → Prop) (hw : wpX7_why post h a1 a2) : MeI l D cA z0 E ad yX7_why (ws_ yX7_why cX7_why 3 (some .int)) ({ frames := 7, cells := 0, slots := 0, locals := 169 }) [.ref (ad 69), .int a1, .int a2] h post := by
  refine Met.ofW (cc := cX7_why) (maxL := 3) (ret := (some .int)) (by decide) rfl ?_
  intro p e s m args below meth c s₁ B hml hv
  obtain ⟨rfl, hM, hK, hJ, hZ⟩ := hv
  have hx := B.exec
  have hb := B.bytes
  have hr := B.returns
  have hts := atoms_spec (ws := ws_ yX7_why cX7_why 3 (some .int)) B.pre
  have hts : ∀ w ∈ lw_all, w.before _ s = true := fun w h => hts w (List.mem_cons_of_mem _ h)
  have hown : s.vm.findClass RX7 = some m.cls := findClass_of_methodNamed B.named
  have hlocks := B.notSynchronized
  have hS : va_S (MA ad) s.heap s.heap [] := va_S.rf
  have hl := lv_entry ([.ref (ad 69), .int a1, .int a2]) (n := 3) (Nat.le_of_ble_eq_true rfl)
  rw [lg_entry_eq]
  generalize (lg_sl ([.ref (ad 69), .int a1, .int a2]) ++ List.replicate (3 - (lg_sl ([.ref (ad 69), .int a1, .int a2])).length) Slot.unset).toArray = ls at hl ⊢
  have hl : lv_has ls 3 [(0, .ref (ad 69)), (1, .int a1), (2, .int a2)] := hl
  have hB34 : ∀ (h : Mem), wpBX7_why_34 post a1 a2  h  → JM p l e (headSpec (ws_ yX7_why cX7_why 3 (some .int)) ({ frames := 7, cells := 0, slots := 0, locals := 169 })).room s m ([.ref (ad 69), .int a1, .int a2] : List Value).toArray below meth c (MQ below (MQi D cA E ad post) ([.ref (ad 69), .int a1, .int a2] : List Value).toArray s 0 0 (MA ad)) D cA E ad 3 34 h [(0, .ref (ad 69))] [] := by
    intro h hw H locs ls hM hS hl
    unfold wpBX7_why_34 at hw
    refine lv_aload_n hx hb dX7_why_34 rfl (lv_at hl 0 rfl) ?_
    refine lv_iconst (v := (1 : Int32)) hx hb dX7_why_35 (by decide) ?_
    refine M_callI (As := [.int (1 : Int32)]) (rest := []) ⟨hx, hb, hml, hown, hts⟩ hK hZ hM hJ hS (metX7_fail l D cA z0 E ad h (1 : Int32) _ hw) (cwV 1 hts (lw_V q1903 q1905 qs44 q130 q1906) rfl rfl rfl (by decide +kernel) ⟨Nat.le_of_ble_eq_true rfl, Nat.le_of_ble_eq_true rfl⟩) rfl hl.1 rfl (Nat.le_of_ble_eq_true rfl) dX7_why_36 ⟨Nat.zero_le _, Nat.zero_le _⟩ (fun r5 h6 H locs hw hM hS => ?_)
    exact M_iret hx hb hr hlocks hM hS hw dX7_why_39
  unfold wpX7_why at hw
  refine lv_aload_n hx hb dX7_why_0 rfl (lv_at hl 0 rfl) ?_
  refine lv_iconst (v := (0 : Int32)) hx hb dX7_why_1 (by decide) ?_
  refine M_put hx hb hts hown hK hM hJ hS 2 rfl rfl (hts _ q1685) rfl .int (by decide +kernel) rfl rfl dX7_why_2 (fun H locs hM hS => ?_)
  obtain ⟨h1, eh1⟩ : ∃ y : Mem, y = up2 h 2 0 (0 : Int32) := ⟨_, rfl⟩
  rw [← eh1] at hM
  have hw := hw h1 eh1
  refine lv_aload_n hx hb dX7_why_5 rfl (lv_at hl 0 rfl) ?_
  refine lv_iload_n hx hb dX7_why_6 rfl (lv_at hl 1 rfl) ?_
  refine M_callZp (As := [.int a1]) (rest := []) ⟨hx, hb, hml, hown, hts⟩ hK hZ hM hJ hS (metX7_isLoaf l D cA z0 E ad h1 a1 _ hw) (cwV 1 hts (lw_V q2066 q2068 qs72 q130 q2069) rfl rfl rfl (by decide +kernel) ⟨Nat.le_of_ble_eq_true rfl, Nat.le_of_ble_eq_true rfl⟩) rfl hl.1 rfl (Nat.le_of_ble_eq_true rfl) dX7_why_7 ⟨Nat.zero_le _, Nat.zero_le _⟩ (fun r2 H locs hw hM hS => ?_)
  refine lv_if_eq (tgt := 34) hx hb dX7_why_10 (by decide) (fun c4 => ?_) (fun c4 => ?_)
  · have c4 := b2i_f c4
    have hw := hw.2 c4
    exact hB34 h1 hw _ _ ls hM hS (lv_sub hl [0] rfl)
  · have c4 := b2i_t c4
    have hw := hw.1 c4
    refine lv_iload_n hx hb dX7_why_13 rfl (lv_at hl 2 rfl) ?_
    refine lv_i2l (v := (a2).toInt64) hx hb dX7_why_14 rfl ?_
    refine lv_lconst (v := (0 : Int64)) hx hb dX7_why_15 (by decide) ?_
    refine lv_ldc2 hx hb hown (hts _ q2272) dX7_why_16 ?_
    refine M_callZSp (As := [.long (a2).toInt64, .long (0 : Int64), .long (6 : Int64)]) (rest := []) ⟨hx, hb, hml, hown, hts⟩ hK hZ hM hJ hS (metX7_isIn l D cA z0 E ad h1 (a2).toInt64 (0 : Int64) (6 : Int64) _ hw) (va_cwS 3 hts (lw_S q2059 q2060 q130 q2061) rfl rfl rfl (by decide +kernel) ⟨Nat.le_of_ble_eq_true rfl, Nat.le_of_ble_eq_true rfl⟩) rfl hl.1 rfl (Nat.le_of_ble_eq_true rfl) dX7_why_19 ⟨Nat.zero_le _, Nat.zero_le _⟩ (fun r7 H locs hw hM hS => ?_)
    refine lv_if_eq (tgt := 34) hx hb dX7_why_22 (by decide) (fun c9 => ?_) (fun c9 => ?_)
    · have c9 := b2i_f c9
      have hw := hw.2 c9
      exact hB34 h1 hw _ _ ls hM hS (lv_sub hl [0] rfl)
    · have c9 := b2i_t c9
      have hw := hw.1 c9
      refine lv_aload_n hx hb dX7_why_25 rfl (lv_at hl 0 rfl) ?_
      refine lv_iload_n hx hb dX7_why_26 rfl (lv_at hl 1 rfl) ?_
      refine lv_iload_n hx hb dX7_why_27 rfl (lv_at hl 2 rfl) ?_
      refine M_callIp (As := [.int a1, .int a2]) (rest := []) ⟨hx, hb, hml, hown, hts⟩ hK hZ hM hJ hS (metX7_answering l D cA z0 E ad h1 a1 a2 _ hw) (cwV 2 hts (lw_V q2078 q2080 qs75 q130 q2081) rfl rfl rfl (by decide +kernel) ⟨Nat.le_of_ble_eq_true rfl, Nat.le_of_ble_eq_true rfl⟩) rfl hl.1 rfl (Nat.le_of_ble_eq_true rfl) dX7_why_28 ⟨Nat.zero_le _, Nat.zero_le _⟩ (fun r10 H locs hw hM hS => ?_)
      refine lv_goto (tgt := 39) hx hb dX7_why_31 (by decide) ?_
      exact M_iret hx hb hr hlocks hM hS hw dX7_why_39

/-- goodFor(III)I -/
def wpBX7_goodFor_37 (post : Int32 → Mem → Prop) (a1 : Int32) (a2 : Int32) (a3 : Int32)  (K37 : Int32 → Int32 → Int32 → Prop) (h : Mem)  (x4 : Int32) (x5 : Int32) (x6 : Int32) : Prop :=
  (((h 40 0) ≤ x6 → post (x5 - x4) h) ∧ (¬ (h 40 0) ≤ x6 → (vp_in x6 (mlen 37) ∧ K37 (mxI x4 (h 37 (ix x6))) (mnI x5 (h 37 (ix x6))) (x6 + (1 : Int32)))))
def wpLX7_goodFor_37 (post : Int32 → Mem → Prop) (a1 : Int32) (a2 : Int32) (a3 : Int32)  (h : Mem)  : Nat → (Int32 × Int32 × Int32) → Prop := LW (fun K s => wpBX7_goodFor_37 post a1 a2 a3  (fun x4 x5 x6 => K (x4, x5, x6)) h  s.1 s.2.1 s.2.2)
def wpX7_goodFor (post : Int32 → Mem → Prop) (h : Mem) (a1 : Int32) (a2 : Int32) (a3 : Int32) : Prop :=
  (wpX7_tellSlices (fun h2 => ((a3 = (-1 : Int32) → (∃ n, wpLX7_goodFor_37 post a1 a2 a3  h2 n ((h2 37 0), (h2 37 0), (1 : Int32)))) ∧ (¬ a3 = (-1 : Int32) → (vp_in a3 (mlen 39) ∧ post (h2 39 (ix a3)) h2)))) h a1 a2)
set_option maxHeartbeats 4000000 in
set_option maxRecDepth 100000 in
theorem metX7_goodFor (l : Launch) (D : va_G) (cA : Nat → ClassId) (z0 : Nat) (E : Nat → Nat → Nat) (ad : Nat → Nat) (h : Mem) (a1 : Int32) (a2 : Int32) (a3 : Int32) (post : Int32 → Mem → Prop) (hw : wpX7_goodFor post h a1 a2 a3) : MeI l D cA z0 E ad yX7_goodFor (ws_ yX7_goodFor cX7_goodFor 7 (some .int)) ({ frames := 5, cells := 0, slots := 0, locals := 125 }) [.ref (ad 69), .int a1, .int a2, .int a3] h post := by
  refine Met.ofW (cc := cX7_goodFor) (maxL := 7) (ret := (some .int)) (by decide) rfl ?_
  intro p e s m args below meth c s₁ B hml hv
  obtain ⟨rfl, hM, hK, hJ, hZ⟩ := hv
  have hx := B.exec
  have hb := B.bytes
  have hr := B.returns
  have hts := atoms_spec (ws := ws_ yX7_goodFor cX7_goodFor 7 (some .int)) B.pre
  have hts : ∀ w ∈ lw_all, w.before _ s = true := fun w h => hts w (List.mem_cons_of_mem _ h)
  have hown : s.vm.findClass RX7 = some m.cls := findClass_of_methodNamed B.named
  have hlocks := B.notSynchronized
  have hS : va_S (MA ad) s.heap s.heap [] := va_S.rf
  have hl := lv_entry ([.ref (ad 69), .int a1, .int a2, .int a3]) (n := 7) (Nat.le_of_ble_eq_true rfl)
  rw [lg_entry_eq]
  generalize (lg_sl ([.ref (ad 69), .int a1, .int a2, .int a3]) ++ List.replicate (7 - (lg_sl ([.ref (ad 69), .int a1, .int a2, .int a3])).length) Slot.unset).toArray = ls at hl ⊢
  have hl : lv_has ls 7 [(0, .ref (ad 69)), (1, .int a1), (2, .int a2), (3, .int a3)] := hl
  have hL37 : ∀ (h : Mem)  (n37 : Nat) (x4 : Int32) (x5 : Int32) (x6 : Int32), wpLX7_goodFor_37 post a1 a2 a3  h  n37 (x4, x5, x6) → JM p l e (headSpec (ws_ yX7_goodFor cX7_goodFor 7 (some .int)) ({ frames := 5, cells := 0, slots := 0, locals := 125 })).room s m ([.ref (ad 69), .int a1, .int a2, .int a3] : List Value).toArray below meth c (MQ below (MQi D cA E ad post) ([.ref (ad 69), .int a1, .int a2, .int a3] : List Value).toArray s 0 0 (MA ad)) D cA E ad 7 37 h [(0, .ref (ad 69)), (4, .int x4), (5, .int x5), (6, .int x6)] [] := by
    intro h n37
    induction n37 with
    | zero => intro x4 x5 x6 hw; exact False.elim hw
    | succ n37 ih37 =>
      intro x4 x5 x6 hw H locs ls hM hS hl
      have hw : wpBX7_goodFor_37 post a1 a2 a3  (fun x4 x5 x6 => wpLX7_goodFor_37 post a1 a2 a3  h  n37 (x4, x5, x6)) h  x4 x5 x6 := hw
      unfold wpBX7_goodFor_37 at hw
      refine lv_iload hx hb dX7_goodFor_37 (lv_at hl 3 rfl) ?_
      refine lv_aload_n hx hb dX7_goodFor_39 rfl (lv_at hl 0 rfl) ?_
      refine M_get hx hb hts hown hK hM 40 (v := .int (h 40 0)) (by decide) (hts _ q1723) rfl dX7_goodFor_40 ?_
      refine lv_icmp_ge (tgt := 80) hx hb dX7_goodFor_43 (by decide) (fun c4 => ?_) (fun c4 => ?_)
      · have hw := hw.1 c4
        refine lv_iload hx hb dX7_goodFor_80 (lv_at hl 2 rfl) ?_
        refine lv_iload hx hb dX7_goodFor_82 (lv_at hl 1 rfl) ?_
        refine lv_isub hx hb dX7_goodFor_84 ?_
        exact M_iret hx hb hr hlocks hM hS hw dX7_goodFor_85
      · have hw := hw.2 c4
        refine lv_iload hx hb dX7_goodFor_46 (lv_at hl 1 rfl) ?_
        refine lv_aload_n hx hb dX7_goodFor_48 rfl (lv_at hl 0 rfl) ?_
        refine M_get hx hb hts hown hK hM 37 (v := .ref (ad 37)) (by decide) (hts _ q1720) rfl dX7_goodFor_49 ?_
        refine lv_iload hx hb dX7_goodFor_52 (lv_at hl 3 rfl) ?_
        obtain ⟨hb5, hw⟩ := hw
        refine M_iald hx hb hK hM 37 rfl (j := (ix x6)) rfl hb5 dX7_goodFor_54 ?_
        refine J_mxI hx hb hml hl.1 hown (hts _ q2019) (hts _ q273) (hts _ q118) (hts _ q274) (Nat.le_of_ble_eq_true rfl) (Nat.le_of_ble_eq_true rfl) (Nat.zero_le _) (Nat.zero_le _) dX7_goodFor_55 ?_
        refine lv_istore (lv' := [(4, .int (mxI x4 (h 37 (ix x6)))), (0, .ref (ad 69)), (5, .int x5), (6, .int x6)]) hx hb dX7_goodFor_58 hl (by decide) rfl (fun ls hl => ?_)
        refine lv_iload hx hb dX7_goodFor_60 (lv_at hl 2 rfl) ?_
        refine lv_aload_n hx hb dX7_goodFor_62 rfl (lv_at hl 1 rfl) ?_
        refine M_get hx hb hts hown hK hM 37 (v := .ref (ad 37)) (by decide) (hts _ q1720) rfl dX7_goodFor_63 ?_
        refine lv_iload hx hb dX7_goodFor_66 (lv_at hl 3 rfl) ?_
        refine M_iald hx hb hK hM 37 rfl (j := (ix x6)) rfl hb5 dX7_goodFor_68 ?_
        refine J_mnI hx hb hml hl.1 hown (hts _ q1923) (hts _ q291) (hts _ q118) (hts _ q292) (Nat.le_of_ble_eq_true rfl) (Nat.le_of_ble_eq_true rfl) (Nat.zero_le _) (Nat.zero_le _) dX7_goodFor_69 ?_
        refine lv_istore (lv' := [(5, .int (mnI x5 (h 37 (ix x6)))), (4, .int (mxI x4 (h 37 (ix x6)))), (0, .ref (ad 69)), (6, .int x6)]) hx hb dX7_goodFor_72 hl (by decide) rfl (fun ls hl => ?_)
        refine lv_iinc (v := (x6 + (1 : Int32))) (lv' := [(6, .int (x6 + (1 : Int32))), (5, .int (mnI x5 (h 37 (ix x6)))), (4, .int (mxI x4 (h 37 (ix x6)))), (0, .ref (ad 69))]) hx hb dX7_goodFor_74 hl (k := 3) rfl rfl (by decide) rfl (fun ls hl => ?_)
        refine lv_goto (tgt := 37) hx hb dX7_goodFor_77 (by decide) ?_
        exact ih37 (mxI x4 (h 37 (ix x6))) (mnI x5 (h 37 (ix x6))) (x6 + (1 : Int32)) hw _ _ ls hM hS (lv_sub hl [3, 2, 1, 0] rfl)
  unfold wpX7_goodFor at hw
  refine lv_aload_n hx hb dX7_goodFor_0 rfl (lv_at hl 0 rfl) ?_
  refine lv_iload_n hx hb dX7_goodFor_1 rfl (lv_at hl 1 rfl) ?_
  refine lv_iload_n hx hb dX7_goodFor_2 rfl (lv_at hl 2 rfl) ?_
  refine M_callV (As := [.int a1, .int a2]) (rest := []) ⟨hx, hb, hml, hown, hts⟩ hK hZ hM hJ hS (metX7_tellSlices l D cA z0 E ad h a1 a2 _ hw) (cwV 2 hts (lw_V q2115 q2117 qs80 q130 q2118) rfl rfl rfl (by decide +kernel) ⟨Nat.le_of_ble_eq_true rfl, Nat.le_of_ble_eq_true rfl⟩) rfl hl.1 rfl (Nat.le_of_ble_eq_true rfl) dX7_goodFor_3 ⟨Nat.zero_le _, Nat.zero_le _⟩ (fun h2 H locs hw hM hS => ?_)
  refine lv_iload_n hx hb dX7_goodFor_6 rfl (lv_at hl 3 rfl) ?_
  refine lv_iconst (v := (-1 : Int32)) hx hb dX7_goodFor_7 (by decide) ?_
  refine lv_icmp_eq (tgt := 18) hx hb dX7_goodFor_8 (by decide) (fun c3 => ?_) (fun c3 => ?_)
  · have hw := hw.1 c3
    refine lv_aload_n hx hb dX7_goodFor_18 rfl (lv_at hl 0 rfl) ?_
    refine M_get hx hb hts hown hK hM 37 (v := .ref (ad 37)) (by decide) (hts _ q1720) rfl dX7_goodFor_19 ?_
    refine lv_iconst (v := (0 : Int32)) hx hb dX7_goodFor_22 (by decide) ?_
    refine M_iald hx hb hK hM 37 rfl (j := 0) rfl (by unfold vp_in; decide) dX7_goodFor_23 ?_
    refine lv_istore (lv' := [(4, .int (h2 37 0)), (0, .ref (ad 69)), (1, .int a1), (2, .int a2), (3, .int a3)]) hx hb dX7_goodFor_24 hl (by decide) rfl (fun ls hl => ?_)
    refine lv_aload_n hx hb dX7_goodFor_26 rfl (lv_at hl 1 rfl) ?_
    refine M_get hx hb hts hown hK hM 37 (v := .ref (ad 37)) (by decide) (hts _ q1720) rfl dX7_goodFor_27 ?_
    refine lv_iconst (v := (0 : Int32)) hx hb dX7_goodFor_30 (by decide) ?_
    refine M_iald hx hb hK hM 37 rfl (j := 0) rfl (by unfold vp_in; decide) dX7_goodFor_31 ?_
    refine lv_istore (lv' := [(5, .int (h2 37 0)), (4, .int (h2 37 0)), (0, .ref (ad 69)), (1, .int a1), (2, .int a2), (3, .int a3)]) hx hb dX7_goodFor_32 hl (by decide) rfl (fun ls hl => ?_)
    refine lv_iconst (v := (1 : Int32)) hx hb dX7_goodFor_34 (by decide) ?_
    refine lv_istore (lv' := [(6, .int (1 : Int32)), (5, .int (h2 37 0)), (4, .int (h2 37 0)), (0, .ref (ad 69)), (1, .int a1), (2, .int a2), (3, .int a3)]) hx hb dX7_goodFor_35 hl (by decide) rfl (fun ls hl => ?_)
    obtain ⟨n6, hw⟩ := hw
    exact hL37 h2 n6 (h2 37 0) (h2 37 0) (1 : Int32) hw _ _ ls hM hS (lv_sub hl [3, 2, 1, 0] rfl)
  · have hw := hw.2 c3
    refine lv_aload_n hx hb dX7_goodFor_11 rfl (lv_at hl 0 rfl) ?_
    refine M_get hx hb hts hown hK hM 39 (v := .ref (ad 39)) (by decide) (hts _ q1722) rfl dX7_goodFor_12 ?_
    refine lv_iload_n hx hb dX7_goodFor_15 rfl (lv_at hl 3 rfl) ?_
    obtain ⟨hb7, hw⟩ := hw
    refine M_iald hx hb hK hM 39 rfl (j := (ix a3)) rfl hb7 dX7_goodFor_16 ?_
    exact M_iret hx hb hr hlocks hM hS hw dX7_goodFor_17

/-- fairest(II)I -/
def wpBX7_fairest_33 (post : Int32 → Mem → Prop) (a1 : Int32) (a2 : Int32)  (h : Mem)   : Prop :=
  (wpX7_fail (fun r5 h6 => post r5 h6) h (1 : Int32))
def wpBX7_fairest_47 (post : Int32 → Mem → Prop) (a1 : Int32) (a2 : Int32)  (K47 : Mem → Int32 → Int32 → Int32 → Prop)  (h : Mem) (x3 : Int32) (x4 : Int32) (x5 : Int32) : Prop :=
  (((h 3 0) ≤ x5 → post x3 h) ∧ (¬ (h 3 0) ≤ x5 → (wpX7_canCut (fun r12 => ((r12 = true → (wpX7_goodFor (fun r15 h16 => K47 h16 (if x3 = (-1 : Int32) then x5 else (if x4 < r15 then x5 else x3)) (if x3 = (-1 : Int32) then r15 else (if x4 < r15 then r15 else x4)) (x5 + (1 : Int32))) h x5 a1 a2)) ∧ (¬ r12 = true → K47 h x3 x4 (x5 + (1 : Int32))))) h x5 a1)))
def wpLX7_fairest_47 (post : Int32 → Mem → Prop) (a1 : Int32) (a2 : Int32)   : Nat → (Mem × Int32 × Int32 × Int32) → Prop := LW (fun K s => wpBX7_fairest_47 post a1 a2  (fun h x3 x4 x5 => K (h, x3, x4, x5))  s.1 s.2.1 s.2.2.1 s.2.2.2)
def wpX7_fairest (post : Int32 → Mem → Prop) (h : Mem) (a1 : Int32) (a2 : Int32) : Prop :=
  (∀ h1 : Mem, h1 = up2 h 2 0 (0 : Int32) → (wpX7_isLoaf (fun r2 => ((r2 = true → (vp_in a1 (mlen 11) ∧ (wpX7_isIn (fun r8 => ((r8 = true → (∃ n, wpLX7_fairest_47 post a1 a2   n (h1, (-1 : Int32), (0 : Int32), (0 : Int32)))) ∧ (¬ r8 = true → wpBX7_fairest_33 post a1 a2  h1 ))) h1 (a2).toInt64 (-1 : Int64) (((h1 11 (ix a1)) - (1 : Int32))).toInt64))) ∧ (¬ r2 = true → wpBX7_fairest_33 post a1 a2  h1 ))) h1 a1))
set_option maxHeartbeats 4000000 in
set_option maxRecDepth 100000 in
theorem metX7_fairest (l : Launch) (D : va_G) (cA : Nat → ClassId) (z0 : Nat) (E : Nat → Nat → Nat) (ad : Nat → Nat) (h : Mem) (a1 : Int32) (a2 : Int32) (post : Int32 → Mem → Prop) (hw : wpX7_fairest post h a1 a2) : MeI l D cA z0 E ad yX7_fairest (ws_ yX7_fairest cX7_fairest 7 (some .int)) ({ frames := 7, cells := 0, slots := 0, locals := 168 }) [.ref (ad 69), .int a1, .int a2] h post := by
  refine Met.ofW (cc := cX7_fairest) (maxL := 7) (ret := (some .int)) (by decide) rfl ?_
  intro p e s m args below meth c s₁ B hml hv
  obtain ⟨rfl, hM, hK, hJ, hZ⟩ := hv
  have hx := B.exec
  have hb := B.bytes
  have hr := B.returns
  have hts := atoms_spec (ws := ws_ yX7_fairest cX7_fairest 7 (some .int)) B.pre
  have hts : ∀ w ∈ lw_all, w.before _ s = true := fun w h => hts w (List.mem_cons_of_mem _ h)
  have hown : s.vm.findClass RX7 = some m.cls := findClass_of_methodNamed B.named
  have hlocks := B.notSynchronized
  have hS : va_S (MA ad) s.heap s.heap [] := va_S.rf
  have hl := lv_entry ([.ref (ad 69), .int a1, .int a2]) (n := 7) (Nat.le_of_ble_eq_true rfl)
  rw [lg_entry_eq]
  generalize (lg_sl ([.ref (ad 69), .int a1, .int a2]) ++ List.replicate (7 - (lg_sl ([.ref (ad 69), .int a1, .int a2])).length) Slot.unset).toArray = ls at hl ⊢
  have hl : lv_has ls 7 [(0, .ref (ad 69)), (1, .int a1), (2, .int a2)] := hl
  have hB33 : ∀ (h : Mem), wpBX7_fairest_33 post a1 a2  h  → JM p l e (headSpec (ws_ yX7_fairest cX7_fairest 7 (some .int)) ({ frames := 7, cells := 0, slots := 0, locals := 168 })).room s m ([.ref (ad 69), .int a1, .int a2] : List Value).toArray below meth c (MQ below (MQi D cA E ad post) ([.ref (ad 69), .int a1, .int a2] : List Value).toArray s 0 0 (MA ad)) D cA E ad 7 33 h [(0, .ref (ad 69))] [] := by
    intro h hw H locs ls hM hS hl
    unfold wpBX7_fairest_33 at hw
    refine lv_aload_n hx hb dX7_fairest_33 rfl (lv_at hl 0 rfl) ?_
    refine lv_iconst (v := (1 : Int32)) hx hb dX7_fairest_34 (by decide) ?_
    refine M_callI (As := [.int (1 : Int32)]) (rest := []) ⟨hx, hb, hml, hown, hts⟩ hK hZ hM hJ hS (metX7_fail l D cA z0 E ad h (1 : Int32) _ hw) (cwV 1 hts (lw_V q1903 q1905 qs44 q130 q1906) rfl rfl rfl (by decide +kernel) ⟨Nat.le_of_ble_eq_true rfl, Nat.le_of_ble_eq_true rfl⟩) rfl hl.1 rfl (Nat.le_of_ble_eq_true rfl) dX7_fairest_35 ⟨Nat.zero_le _, Nat.zero_le _⟩ (fun r5 h6 H locs hw hM hS => ?_)
    exact M_iret hx hb hr hlocks hM hS hw dX7_fairest_38
  have hL47 : ∀  (n47 : Nat) (h : Mem) (x3 : Int32) (x4 : Int32) (x5 : Int32), wpLX7_fairest_47 post a1 a2   n47 (h, x3, x4, x5) → JM p l e (headSpec (ws_ yX7_fairest cX7_fairest 7 (some .int)) ({ frames := 7, cells := 0, slots := 0, locals := 168 })).room s m ([.ref (ad 69), .int a1, .int a2] : List Value).toArray below meth c (MQ below (MQi D cA E ad post) ([.ref (ad 69), .int a1, .int a2] : List Value).toArray s 0 0 (MA ad)) D cA E ad 7 47 h [(0, .ref (ad 69)), (1, .int a1), (2, .int a2), (3, .int x3), (4, .int x4), (5, .int x5)] [] := by
    intro  n47
    induction n47 with
    | zero => intro h x3 x4 x5 hw; exact False.elim hw
    | succ n47 ih47 =>
      intro h x3 x4 x5 hw H locs ls hM hS hl
      have hw : wpBX7_fairest_47 post a1 a2  (fun h x3 x4 x5 => wpLX7_fairest_47 post a1 a2   n47 (h, x3, x4, x5))  h x3 x4 x5 := hw
      unfold wpBX7_fairest_47 at hw
      refine lv_iload hx hb dX7_fairest_47 (lv_at hl 5 rfl) ?_
      refine lv_aload_n hx hb dX7_fairest_49 rfl (lv_at hl 0 rfl) ?_
      refine M_get hx hb hts hown hK hM 3 (v := .ref (ad 3)) (by decide) (hts _ q1686) rfl dX7_fairest_50 ?_
      refine lv_iconst (v := (0 : Int32)) hx hb dX7_fairest_53 (by decide) ?_
      refine M_iald hx hb hK hM 3 rfl (j := 0) rfl (by unfold vp_in; decide) dX7_fairest_54 ?_
      refine lv_icmp_ge (tgt := 109) hx hb dX7_fairest_55 (by decide) (fun c11 => ?_) (fun c11 => ?_)
      · have hw := hw.1 c11
        refine lv_iload_n hx hb dX7_fairest_109 rfl (lv_at hl 3 rfl) ?_
        exact M_iret hx hb hr hlocks hM hS hw dX7_fairest_110
      · have hw := hw.2 c11
        refine lv_aload_n hx hb dX7_fairest_58 rfl (lv_at hl 0 rfl) ?_
        refine lv_iload hx hb dX7_fairest_59 (lv_at hl 5 rfl) ?_
        refine lv_iload_n hx hb dX7_fairest_61 rfl (lv_at hl 1 rfl) ?_
        refine M_callZp (As := [.int x5, .int a1]) (rest := []) ⟨hx, hb, hml, hown, hts⟩ hK hZ hM hJ hS (metX7_canCut l D cA z0 E ad h x5 a1 _ hw) (cwV 2 hts (lw_V q2186 q2188 qs90 q130 q2189) rfl rfl rfl (by decide +kernel) ⟨Nat.le_of_ble_eq_true rfl, Nat.le_of_ble_eq_true rfl⟩) rfl hl.1 rfl (Nat.le_of_ble_eq_true rfl) dX7_fairest_62 ⟨Nat.zero_le _, Nat.zero_le _⟩ (fun r12 H locs hw hM hS => ?_)
        refine lv_if_ne (tgt := 71) hx hb dX7_fairest_65 (by decide) (fun c14 => ?_) (fun c14 => ?_)
        · have c14 := b2i_t c14
          have hw := hw.1 c14
          refine lv_aload_n hx hb dX7_fairest_71 rfl (lv_at hl 0 rfl) ?_
          refine lv_iload hx hb dX7_fairest_72 (lv_at hl 5 rfl) ?_
          refine lv_iload_n hx hb dX7_fairest_74 rfl (lv_at hl 1 rfl) ?_
          refine lv_iload_n hx hb dX7_fairest_75 rfl (lv_at hl 2 rfl) ?_
          refine M_callI (As := [.int x5, .int a1, .int a2]) (rest := []) ⟨hx, hb, hml, hown, hts⟩ hK hZ hM hJ hS (metX7_goodFor l D cA z0 E ad h x5 a1 a2 _ hw) (cwV 3 hts (lw_V q2277 q2279 qs100 q130 q2280) rfl rfl rfl (by decide +kernel) ⟨Nat.le_of_ble_eq_true rfl, Nat.le_of_ble_eq_true rfl⟩) rfl hl.1 rfl (Nat.le_of_ble_eq_true rfl) dX7_fairest_76 ⟨Nat.zero_le _, Nat.zero_le _⟩ (fun r15 h16 H locs hw hM hS => ?_)
          refine lv_istore (lv' := [(6, .int r15), (0, .ref (ad 69)), (1, .int a1), (2, .int a2), (3, .int x3), (4, .int x4), (5, .int x5)]) hx hb dX7_fairest_79 hl (by decide) rfl (fun ls hl => ?_)
          refine lv_iload_n hx hb dX7_fairest_81 rfl (lv_at hl 4 rfl) ?_
          refine lv_iconst (v := (-1 : Int32)) hx hb dX7_fairest_82 (by decide) ?_
          have hj17 : JM p l e (headSpec (ws_ yX7_fairest cX7_fairest 7 (some .int)) ({ frames := 7, cells := 0, slots := 0, locals := 168 })).room s m ([.ref (ad 69), .int a1, .int a2] : List Value).toArray below meth c (MQ below (MQi D cA E ad post) ([.ref (ad 69), .int a1, .int a2] : List Value).toArray s 0 0 (MA ad)) D cA E ad 7 103 h16 [(0, .ref (ad 69)), (1, .int a1), (2, .int a2), (3, .int (if x3 = (-1 : Int32) then x5 else (if x4 < r15 then x5 else x3))), (4, .int (if x3 = (-1 : Int32) then r15 else (if x4 < r15 then r15 else x4))), (5, .int x5)] [] := by
            intro H locs ls hM hS hl
            refine lv_iinc (v := (x5 + (1 : Int32))) (lv' := [(5, .int (x5 + (1 : Int32))), (0, .ref (ad 69)), (1, .int a1), (2, .int a2), (3, .int (if x3 = (-1 : Int32) then x5 else (if x4 < r15 then x5 else x3))), (4, .int (if x3 = (-1 : Int32) then r15 else (if x4 < r15 then r15 else x4)))]) hx hb dX7_fairest_103 hl (k := 5) rfl rfl (by decide) rfl (fun ls hl => ?_)
            refine lv_goto (tgt := 47) hx hb dX7_fairest_106 (by decide) ?_
            exact ih47 h16 (if x3 = (-1 : Int32) then x5 else (if x4 < r15 then x5 else x3)) (if x3 = (-1 : Int32) then r15 else (if x4 < r15 then r15 else x4)) (x5 + (1 : Int32)) hw _ _ ls hM hS (lv_sub hl [1, 2, 3, 4, 5, 0] rfl)
          refine lv_icmp_eq (tgt := 96) hx hb dX7_fairest_83 (by decide) (fun c18 => ?_) (fun c18 => ?_)
          · refine lv_iload hx hb dX7_fairest_96 (lv_at hl 6 rfl) ?_
            refine lv_istore_n (lv' := [(3, .int x5), (6, .int r15), (0, .ref (ad 69)), (1, .int a1), (2, .int a2), (4, .int x4), (5, .int x5)]) hx hb dX7_fairest_98 rfl hl (by decide) rfl (fun ls hl => ?_)
            refine lv_iload hx hb dX7_fairest_99 (lv_at hl 1 rfl) ?_
            refine lv_istore (lv' := [(4, .int r15), (3, .int x5), (6, .int r15), (0, .ref (ad 69)), (1, .int a1), (2, .int a2), (5, .int x5)]) hx hb dX7_fairest_101 hl (by decide) rfl (fun ls hl => ?_)
            have e19 : (if x3 = (-1 : Int32) then x5 else (if x4 < r15 then x5 else x3)) = x5 := by rw [if_pos c18]
            rw [e19] at hj17
            have e20 : (if x3 = (-1 : Int32) then r15 else (if x4 < r15 then r15 else x4)) = r15 := by rw [if_pos c18]
            rw [e20] at hj17
            exact hj17 _ _ ls hM hS (lv_sub hl [3, 4, 5, 1, 0, 6] rfl)
          · refine lv_iload hx hb dX7_fairest_86 (lv_at hl 0 rfl) ?_
            refine lv_iload hx hb dX7_fairest_88 (lv_at hl 5 rfl) ?_
            refine lv_icmp_gt (tgt := 96) hx hb dX7_fairest_90 (by decide) (fun c21 => ?_) (fun c21 => ?_)
            · refine lv_iload hx hb dX7_fairest_96 (lv_at hl 6 rfl) ?_
              refine lv_istore_n (lv' := [(3, .int x5), (6, .int r15), (0, .ref (ad 69)), (1, .int a1), (2, .int a2), (4, .int x4), (5, .int x5)]) hx hb dX7_fairest_98 rfl hl (by decide) rfl (fun ls hl => ?_)
              refine lv_iload hx hb dX7_fairest_99 (lv_at hl 1 rfl) ?_
              refine lv_istore (lv' := [(4, .int r15), (3, .int x5), (6, .int r15), (0, .ref (ad 69)), (1, .int a1), (2, .int a2), (5, .int x5)]) hx hb dX7_fairest_101 hl (by decide) rfl (fun ls hl => ?_)
              have e22 : (if x3 = (-1 : Int32) then x5 else (if x4 < r15 then x5 else x3)) = x5 := by rw [if_neg c18, if_pos c21]
              rw [e22] at hj17
              have e23 : (if x3 = (-1 : Int32) then r15 else (if x4 < r15 then r15 else x4)) = r15 := by rw [if_neg c18, if_pos c21]
              rw [e23] at hj17
              exact hj17 _ _ ls hM hS (lv_sub hl [3, 4, 5, 1, 0, 6] rfl)
            · refine lv_goto (tgt := 103) hx hb dX7_fairest_93 (by decide) ?_
              have e24 : (if x3 = (-1 : Int32) then x5 else (if x4 < r15 then x5 else x3)) = x3 := by rw [if_neg c18, if_neg c21]
              rw [e24] at hj17
              have e25 : (if x3 = (-1 : Int32) then r15 else (if x4 < r15 then r15 else x4)) = x4 := by rw [if_neg c18, if_neg c21]
              rw [e25] at hj17
              exact hj17 _ _ ls hM hS (lv_sub hl [1, 2, 3, 4, 5, 6] rfl)
        · have c14 := b2i_f c14
          have hw := hw.2 c14
          refine lv_goto (tgt := 103) hx hb dX7_fairest_68 (by decide) ?_
          refine lv_iinc (v := (x5 + (1 : Int32))) (lv' := [(5, .int (x5 + (1 : Int32))), (0, .ref (ad 69)), (1, .int a1), (2, .int a2), (3, .int x3), (4, .int x4)]) hx hb dX7_fairest_103 hl (k := 5) rfl rfl (by decide) rfl (fun ls hl => ?_)
          refine lv_goto (tgt := 47) hx hb dX7_fairest_106 (by decide) ?_
          exact ih47 h x3 x4 (x5 + (1 : Int32)) hw _ _ ls hM hS (lv_sub hl [1, 2, 3, 4, 5, 0] rfl)
  unfold wpX7_fairest at hw
  refine lv_aload_n hx hb dX7_fairest_0 rfl (lv_at hl 0 rfl) ?_
  refine lv_iconst (v := (0 : Int32)) hx hb dX7_fairest_1 (by decide) ?_
  refine M_put hx hb hts hown hK hM hJ hS 2 rfl rfl (hts _ q1685) rfl .int (by decide +kernel) rfl rfl dX7_fairest_2 (fun H locs hM hS => ?_)
  obtain ⟨h1, eh1⟩ : ∃ y : Mem, y = up2 h 2 0 (0 : Int32) := ⟨_, rfl⟩
  rw [← eh1] at hM
  have hw := hw h1 eh1
  refine lv_aload_n hx hb dX7_fairest_5 rfl (lv_at hl 0 rfl) ?_
  refine lv_iload_n hx hb dX7_fairest_6 rfl (lv_at hl 1 rfl) ?_
  refine M_callZp (As := [.int a1]) (rest := []) ⟨hx, hb, hml, hown, hts⟩ hK hZ hM hJ hS (metX7_isLoaf l D cA z0 E ad h1 a1 _ hw) (cwV 1 hts (lw_V q2066 q2068 qs72 q130 q2069) rfl rfl rfl (by decide +kernel) ⟨Nat.le_of_ble_eq_true rfl, Nat.le_of_ble_eq_true rfl⟩) rfl hl.1 rfl (Nat.le_of_ble_eq_true rfl) dX7_fairest_7 ⟨Nat.zero_le _, Nat.zero_le _⟩ (fun r2 H locs hw hM hS => ?_)
  refine lv_if_eq (tgt := 33) hx hb dX7_fairest_10 (by decide) (fun c4 => ?_) (fun c4 => ?_)
  · have c4 := b2i_f c4
    have hw := hw.2 c4
    exact hB33 h1 hw _ _ ls hM hS (lv_sub hl [0] rfl)
  · have c4 := b2i_t c4
    have hw := hw.1 c4
    refine lv_iload_n hx hb dX7_fairest_13 rfl (lv_at hl 2 rfl) ?_
    refine lv_i2l (v := (a2).toInt64) hx hb dX7_fairest_14 rfl ?_
    refine lv_ldc2 hx hb hown (hts _ q2114) dX7_fairest_15 ?_
    refine lv_aload_n hx hb dX7_fairest_18 rfl (lv_at hl 0 rfl) ?_
    refine M_get hx hb hts hown hK hM 11 (v := .ref (ad 11)) (by decide) (hts _ q1694) rfl dX7_fairest_19 ?_
    refine lv_iload_n hx hb dX7_fairest_22 rfl (lv_at hl 1 rfl) ?_
    obtain ⟨hb7, hw⟩ := hw
    refine M_iald hx hb hK hM 11 rfl (j := (ix a1)) rfl hb7 dX7_fairest_23 ?_
    refine lv_iconst (v := (1 : Int32)) hx hb dX7_fairest_24 (by decide) ?_
    refine lv_isub hx hb dX7_fairest_25 ?_
    refine lv_i2l (v := (((h1 11 (ix a1)) - (1 : Int32))).toInt64) hx hb dX7_fairest_26 rfl ?_
    refine M_callZSp (As := [.long (a2).toInt64, .long (-1 : Int64), .long (((h1 11 (ix a1)) - (1 : Int32))).toInt64]) (rest := []) ⟨hx, hb, hml, hown, hts⟩ hK hZ hM hJ hS (metX7_isIn l D cA z0 E ad h1 (a2).toInt64 (-1 : Int64) (((h1 11 (ix a1)) - (1 : Int32))).toInt64 _ hw) (va_cwS 3 hts (lw_S q2059 q2060 q130 q2061) rfl rfl rfl (by decide +kernel) ⟨Nat.le_of_ble_eq_true rfl, Nat.le_of_ble_eq_true rfl⟩) rfl hl.1 rfl (Nat.le_of_ble_eq_true rfl) dX7_fairest_27 ⟨Nat.zero_le _, Nat.zero_le _⟩ (fun r8 H locs hw hM hS => ?_)
    refine lv_if_ne (tgt := 39) hx hb dX7_fairest_30 (by decide) (fun c10 => ?_) (fun c10 => ?_)
    · have c10 := b2i_t c10
      have hw := hw.1 c10
      refine lv_iconst (v := (-1 : Int32)) hx hb dX7_fairest_39 (by decide) ?_
      refine lv_istore_n (lv' := [(3, .int (-1 : Int32)), (0, .ref (ad 69)), (1, .int a1), (2, .int a2)]) hx hb dX7_fairest_40 rfl hl (by decide) rfl (fun ls hl => ?_)
      refine lv_iconst (v := (0 : Int32)) hx hb dX7_fairest_41 (by decide) ?_
      refine lv_istore (lv' := [(4, .int (0 : Int32)), (3, .int (-1 : Int32)), (0, .ref (ad 69)), (1, .int a1), (2, .int a2)]) hx hb dX7_fairest_42 hl (by decide) rfl (fun ls hl => ?_)
      refine lv_iconst (v := (0 : Int32)) hx hb dX7_fairest_44 (by decide) ?_
      refine lv_istore (lv' := [(5, .int (0 : Int32)), (4, .int (0 : Int32)), (3, .int (-1 : Int32)), (0, .ref (ad 69)), (1, .int a1), (2, .int a2)]) hx hb dX7_fairest_45 hl (by decide) rfl (fun ls hl => ?_)
      obtain ⟨n26, hw⟩ := hw
      exact hL47 n26 h1 (-1 : Int32) (0 : Int32) (0 : Int32) hw _ _ ls hM hS (lv_sub hl [3, 4, 5, 2, 1, 0] rfl)
    · have c10 := b2i_f c10
      have hw := hw.2 c10
      exact hB33 h1 hw _ _ ls hM hS (lv_sub hl [0] rfl)

/-- forget()V -/
def wpX7_forget (post : Mem → Prop) (h : Mem)  : Prop :=
  (∀ h1 : Mem, h1 = up2 h 2 0 (0 : Int32) → (∀ h2 : Mem, h2 = up2 h1 33 0 (0 : Int32) → (∀ h3 : Mem, h3 = up2 h2 34 0 (0 : Int32) → post h3)))
set_option maxHeartbeats 4000000 in
set_option maxRecDepth 100000 in
theorem metX7_forget (l : Launch) (D : va_G) (cA : Nat → ClassId) (z0 : Nat) (E : Nat → Nat → Nat) (ad : Nat → Nat) (h : Mem)  (post : Mem → Prop) (hw : wpX7_forget post h ) : MeV l D cA z0 E ad yX7_forget (ws_ yX7_forget cX7_forget 1 none) ({ frames := 1, cells := 0, slots := 0, locals := 30 }) [.ref (ad 69)] h post := by
  refine Met.ofW (cc := cX7_forget) (maxL := 1) (ret := none) (by decide) rfl ?_
  intro p e s m args below meth c s₁ B hml hv
  obtain ⟨rfl, hM, hK, hJ, hZ⟩ := hv
  have hx := B.exec
  have hb := B.bytes
  have hr := B.returns
  have hts := atoms_spec (ws := ws_ yX7_forget cX7_forget 1 none) B.pre
  have hts : ∀ w ∈ lw_all, w.before _ s = true := fun w h => hts w (List.mem_cons_of_mem _ h)
  have hown : s.vm.findClass RX7 = some m.cls := findClass_of_methodNamed B.named
  have hlocks := B.notSynchronized
  have hS : va_S (MA ad) s.heap s.heap [] := va_S.rf
  have hl := lv_entry ([.ref (ad 69)]) (n := 1) (Nat.le_of_ble_eq_true rfl)
  rw [lg_entry_eq]
  generalize (lg_sl ([.ref (ad 69)]) ++ List.replicate (1 - (lg_sl ([.ref (ad 69)])).length) Slot.unset).toArray = ls at hl ⊢
  have hl : lv_has ls 1 [(0, .ref (ad 69))] := hl
  unfold wpX7_forget at hw
  refine lv_aload_n hx hb dX7_forget_0 rfl (lv_at hl 0 rfl) ?_
  refine lv_iconst (v := (0 : Int32)) hx hb dX7_forget_1 (by decide) ?_
  refine M_put hx hb hts hown hK hM hJ hS 2 rfl rfl (hts _ q1685) rfl .int (by decide +kernel) rfl rfl dX7_forget_2 (fun H locs hM hS => ?_)
  obtain ⟨h1, eh1⟩ : ∃ y : Mem, y = up2 h 2 0 (0 : Int32) := ⟨_, rfl⟩
  rw [← eh1] at hM
  have hw := hw h1 eh1
  refine lv_aload_n hx hb dX7_forget_5 rfl (lv_at hl 0 rfl) ?_
  refine lv_iconst (v := (0 : Int32)) hx hb dX7_forget_6 (by decide) ?_
  refine M_put hx hb hts hown hK hM hJ hS 33 rfl rfl (hts _ q1716) rfl .int (by decide +kernel) rfl rfl dX7_forget_7 (fun H locs hM hS => ?_)
  obtain ⟨h2, eh2⟩ : ∃ y : Mem, y = up2 h1 33 0 (0 : Int32) := ⟨_, rfl⟩
  rw [← eh2] at hM
  have hw := hw h2 eh2
  refine lv_aload_n hx hb dX7_forget_10 rfl (lv_at hl 0 rfl) ?_
  refine lv_iconst (v := (0 : Int32)) hx hb dX7_forget_11 (by decide) ?_
  refine M_put hx hb hts hown hK hM hJ hS 34 rfl rfl (hts _ q1717) rfl .int (by decide +kernel) rfl rfl dX7_forget_12 (fun H locs hM hS => ?_)
  obtain ⟨h3, eh3⟩ : ∃ y : Mem, y = up2 h2 34 0 (0 : Int32) := ⟨_, rfl⟩
  rw [← eh3] at hM
  have hw := hw h3 eh3
  exact M_vret hx hb hr hlocks hM hS hw dX7_forget_15

/-- gain(III)I -/
def wpX7_gain (post : Int32 → Prop) (h : Mem) (a1 : Int32) (a2 : Int32) (a3 : Int32) : Prop :=
  ((a2 = a3 → post (0 : Int32)) ∧ (¬ a2 = a3 → (wpX7_canCut (fun r2 => ((r2 = true → (vp_in a2 (mlen 8) ∧ post (h 8 (ix a2)))) ∧ (¬ r2 = true → post (0 : Int32)))) h a1 a2)))
set_option maxHeartbeats 4000000 in
set_option maxRecDepth 100000 in
theorem metX7_gain (l : Launch) (D : va_G) (cA : Nat → ClassId) (z0 : Nat) (E : Nat → Nat → Nat) (ad : Nat → Nat) (h : Mem) (a1 : Int32) (a2 : Int32) (a3 : Int32) (post : Int32 → Prop) (hw : wpX7_gain post h a1 a2 a3) : MeI l D cA z0 E ad yX7_gain (ws_ yX7_gain cX7_gain 4 (some .int)) ({ frames := 7, cells := 0, slots := 0, locals := 168 }) [.ref (ad 69), .int a1, .int a2, .int a3] h (fun r h' => h' = h ∧ post r) := by
  refine Met.ofW (cc := cX7_gain) (maxL := 4) (ret := (some .int)) (by decide) rfl ?_
  intro p e s m args below meth c s₁ B hml hv
  obtain ⟨rfl, hM, hK, hJ, hZ⟩ := hv
  have hx := B.exec
  have hb := B.bytes
  have hr := B.returns
  have hts := atoms_spec (ws := ws_ yX7_gain cX7_gain 4 (some .int)) B.pre
  have hts : ∀ w ∈ lw_all, w.before _ s = true := fun w h => hts w (List.mem_cons_of_mem _ h)
  have hown : s.vm.findClass RX7 = some m.cls := findClass_of_methodNamed B.named
  have hlocks := B.notSynchronized
  have hS : va_S (MA ad) s.heap s.heap [] := va_S.rf
  have hl := lv_entry ([.ref (ad 69), .int a1, .int a2, .int a3]) (n := 4) (Nat.le_of_ble_eq_true rfl)
  rw [lg_entry_eq]
  generalize (lg_sl ([.ref (ad 69), .int a1, .int a2, .int a3]) ++ List.replicate (4 - (lg_sl ([.ref (ad 69), .int a1, .int a2, .int a3])).length) Slot.unset).toArray = ls at hl ⊢
  have hl : lv_has ls 4 [(0, .ref (ad 69)), (1, .int a1), (2, .int a2), (3, .int a3)] := hl
  unfold wpX7_gain at hw
  refine lv_iload_n hx hb dX7_gain_0 rfl (lv_at hl 2 rfl) ?_
  refine lv_iload_n hx hb dX7_gain_1 rfl (lv_at hl 3 rfl) ?_
  refine lv_icmp_eq (tgt := 23) hx hb dX7_gain_2 (by decide) (fun c1 => ?_) (fun c1 => ?_)
  · have hw := hw.1 c1
    refine lv_iconst (v := (0 : Int32)) hx hb dX7_gain_23 (by decide) ?_
    exact M_iret hx hb hr hlocks hM hS ⟨rfl, hw⟩ dX7_gain_24
  · have hw := hw.2 c1
    refine lv_aload_n hx hb dX7_gain_5 rfl (lv_at hl 0 rfl) ?_
    refine lv_iload_n hx hb dX7_gain_6 rfl (lv_at hl 1 rfl) ?_
    refine lv_iload_n hx hb dX7_gain_7 rfl (lv_at hl 2 rfl) ?_
    refine M_callZp (As := [.int a1, .int a2]) (rest := []) ⟨hx, hb, hml, hown, hts⟩ hK hZ hM hJ hS (metX7_canCut l D cA z0 E ad h a1 a2 _ hw) (cwV 2 hts (lw_V q2186 q2188 qs90 q130 q2189) rfl rfl rfl (by decide +kernel) ⟨Nat.le_of_ble_eq_true rfl, Nat.le_of_ble_eq_true rfl⟩) rfl hl.1 rfl (Nat.le_of_ble_eq_true rfl) dX7_gain_8 ⟨Nat.zero_le _, Nat.zero_le _⟩ (fun r2 H locs hw hM hS => ?_)
    refine lv_if_eq (tgt := 23) hx hb dX7_gain_11 (by decide) (fun c4 => ?_) (fun c4 => ?_)
    · have c4 := b2i_f c4
      have hw := hw.2 c4
      refine lv_iconst (v := (0 : Int32)) hx hb dX7_gain_23 (by decide) ?_
      exact M_iret hx hb hr hlocks hM hS ⟨rfl, hw⟩ dX7_gain_24
    · have c4 := b2i_t c4
      have hw := hw.1 c4
      refine lv_aload_n hx hb dX7_gain_14 rfl (lv_at hl 0 rfl) ?_
      refine M_get hx hb hts hown hK hM 8 (v := .ref (ad 8)) (by decide) (hts _ q1691) rfl dX7_gain_15 ?_
      refine lv_iload_n hx hb dX7_gain_18 rfl (lv_at hl 2 rfl) ?_
      obtain ⟨hb5, hw⟩ := hw
      refine M_iald hx hb hK hM 8 rfl (j := (ix a2)) rfl hb5 dX7_gain_19 ?_
      refine lv_goto (tgt := 24) hx hb dX7_gain_20 (by decide) ?_
      exact M_iret hx hb hr hlocks hM hS ⟨rfl, hw⟩ dX7_gain_24

/-- game(III)I -/
def wpBX7_game_30 (post : Int32 → Mem → Prop) (a1 : Int32) (a2 : Int32) (a3 : Int32)  (h : Mem)   : Prop :=
  (wpX7_fail (fun r5 h6 => post r5 h6) h (1 : Int32))
def wpBX7_game_158 (post : Int32 → Mem → Prop) (a1 : Int32) (a2 : Int32) (a3 : Int32) (K56 : Int32 → Int32 → Int32 → Prop) (K70 : Int32 → Int32 → Int32 → Prop) (h : Mem) (x4 : Int32) (x5 : Int32) (x6 : Int32) (x7 : Int32) (x8 : Int32)  : Prop :=
  K70 (if x8 = 0 then x4 else (if x5 = (-1 : Int32) then (x4 + (1 : Int32)) else (x4 + (1 : Int32)))) (if x8 = 0 then x5 else (if x5 = (-1 : Int32) then (((10 : Int32) * x6) + x7) else x5)) (x7 + (1 : Int32))
def wpBX7_game_149 (post : Int32 → Mem → Prop) (a1 : Int32) (a2 : Int32) (a3 : Int32) (K56 : Int32 → Int32 → Int32 → Prop) (K70 : Int32 → Int32 → Int32 → Prop) (K87 : Int32 → Int32 → Prop) (h : Mem) (x4 : Int32) (x5 : Int32) (x6 : Int32) (x7 : Int32) (x9 : Int32)  : Prop :=
  K87 (0 : Int32) (x9 + (1 : Int32))
def wpBX7_game_87 (post : Int32 → Mem → Prop) (a1 : Int32) (a2 : Int32) (a3 : Int32) (K56 : Int32 → Int32 → Int32 → Prop) (K70 : Int32 → Int32 → Int32 → Prop) (K87 : Int32 → Int32 → Prop) (h : Mem) (x4 : Int32) (x5 : Int32) (x6 : Int32) (x7 : Int32) (x8 : Int32) (x9 : Int32) : Prop :=
  (((h 3 1) ≤ x9 → wpBX7_game_158 post a1 a2 a3 K56 K70 h x4 x5 x6 x7 x8) ∧ (¬ (h 3 1) ≤ x9 → ((x8 = 0 → wpBX7_game_158 post a1 a2 a3 K56 K70 h x4 x5 x6 x7 x8) ∧ (¬ x8 = 0 → (wpX7_gain (fun r30 => (wpX7_gain (fun r32 => ((r32 < r30 → wpBX7_game_149 post a1 a2 a3 K56 K70 K87 h x4 x5 x6 x7 x9) ∧ (¬ r32 < r30 → (wpX7_gain (fun r35 => (wpX7_gain (fun r37 => K87 (if r37 < r35 then (0 : Int32) else (1 : Int32)) (x9 + (1 : Int32))) h a2 x7 x6)) h a2 x9 x6)))) h a1 x6 x7)) h a1 x9 x7)))))
def wpLX7_game_87 (post : Int32 → Mem → Prop) (a1 : Int32) (a2 : Int32) (a3 : Int32) (K56 : Int32 → Int32 → Int32 → Prop) (K70 : Int32 → Int32 → Int32 → Prop) (h : Mem) (x4 : Int32) (x5 : Int32) (x6 : Int32) (x7 : Int32) : Nat → (Int32 × Int32) → Prop := LW (fun K s => wpBX7_game_87 post a1 a2 a3 K56 K70 (fun x8 x9 => K (x8, x9)) h x4 x5 x6 x7 s.1 s.2)
def wpBX7_game_70 (post : Int32 → Mem → Prop) (a1 : Int32) (a2 : Int32) (a3 : Int32) (K56 : Int32 → Int32 → Int32 → Prop) (K70 : Int32 → Int32 → Int32 → Prop) (h : Mem) (x6 : Int32) (x4 : Int32) (x5 : Int32) (x7 : Int32) : Prop :=
  (((h 3 1) ≤ x7 → K56 x4 x5 (x6 + (1 : Int32))) ∧ (¬ (h 3 1) ≤ x7 → (∃ n, wpLX7_game_87 post a1 a2 a3 K56 K70 h x4 x5 x6 x7 n ((1 : Int32), (0 : Int32)))))
def wpLX7_game_70 (post : Int32 → Mem → Prop) (a1 : Int32) (a2 : Int32) (a3 : Int32) (K56 : Int32 → Int32 → Int32 → Prop) (h : Mem) (x6 : Int32) : Nat → (Int32 × Int32 × Int32) → Prop := LW (fun K s => wpBX7_game_70 post a1 a2 a3 K56 (fun x4 x5 x7 => K (x4, x5, x7)) h x6 s.1 s.2.1 s.2.2)
def wpBX7_game_56 (post : Int32 → Mem → Prop) (a1 : Int32) (a2 : Int32) (a3 : Int32)  (K56 : Int32 → Int32 → Int32 → Prop) (h : Mem)  (x4 : Int32) (x5 : Int32) (x6 : Int32) : Prop :=
  (((h 3 1) ≤ x6 → post (if a3 = 0 then x4 else x5) h) ∧ (¬ (h 3 1) ≤ x6 → (∃ n, wpLX7_game_70 post a1 a2 a3 K56 h x6 n (x4, x5, (0 : Int32)))))
def wpLX7_game_56 (post : Int32 → Mem → Prop) (a1 : Int32) (a2 : Int32) (a3 : Int32)  (h : Mem)  : Nat → (Int32 × Int32 × Int32) → Prop := LW (fun K s => wpBX7_game_56 post a1 a2 a3  (fun x4 x5 x6 => K (x4, x5, x6)) h  s.1 s.2.1 s.2.2)
def wpX7_game (post : Int32 → Mem → Prop) (h : Mem) (a1 : Int32) (a2 : Int32) (a3 : Int32) : Prop :=
  (∀ h1 : Mem, h1 = up2 h 2 0 (0 : Int32) → (wpX7_isPerson (fun r2 => ((r2 = true → (wpX7_isPerson (fun r7 => ((r7 = true → ((a3 < 0 → wpBX7_game_30 post a1 a2 a3  h1 ) ∧ (¬ a3 < 0 → ((a3 ≤ (1 : Int32) → ((a1 = a2 → (wpX7_fail (fun r46 h47 => post r46 h47) h1 (2 : Int32))) ∧ (¬ a1 = a2 → (∃ n, wpLX7_game_56 post a1 a2 a3  h1 n ((0 : Int32), (-1 : Int32), (0 : Int32)))))) ∧ (¬ a3 ≤ (1 : Int32) → wpBX7_game_30 post a1 a2 a3  h1 ))))) ∧ (¬ r7 = true → wpBX7_game_30 post a1 a2 a3  h1 ))) h1 a2)) ∧ (¬ r2 = true → wpBX7_game_30 post a1 a2 a3  h1 ))) h1 a1))
set_option maxHeartbeats 4000000 in
set_option maxRecDepth 100000 in
theorem metX7_game (l : Launch) (D : va_G) (cA : Nat → ClassId) (z0 : Nat) (E : Nat → Nat → Nat) (ad : Nat → Nat) (h : Mem) (a1 : Int32) (a2 : Int32) (a3 : Int32) (post : Int32 → Mem → Prop) (hw : wpX7_game post h a1 a2 a3) : MeI l D cA z0 E ad yX7_game (ws_ yX7_game cX7_game 10 (some .int)) ({ frames := 8, cells := 0, slots := 0, locals := 191 }) [.ref (ad 69), .int a1, .int a2, .int a3] h post := by
  refine Met.ofW (cc := cX7_game) (maxL := 10) (ret := (some .int)) (by decide) rfl ?_
  intro p e s m args below meth c s₁ B hml hv
  obtain ⟨rfl, hM, hK, hJ, hZ⟩ := hv
  have hx := B.exec
  have hb := B.bytes
  have hr := B.returns
  have hts := atoms_spec (ws := ws_ yX7_game cX7_game 10 (some .int)) B.pre
  have hts : ∀ w ∈ lw_all, w.before _ s = true := fun w h => hts w (List.mem_cons_of_mem _ h)
  have hown : s.vm.findClass RX7 = some m.cls := findClass_of_methodNamed B.named
  have hlocks := B.notSynchronized
  have hS : va_S (MA ad) s.heap s.heap [] := va_S.rf
  have hl := lv_entry ([.ref (ad 69), .int a1, .int a2, .int a3]) (n := 10) (Nat.le_of_ble_eq_true rfl)
  rw [lg_entry_eq]
  generalize (lg_sl ([.ref (ad 69), .int a1, .int a2, .int a3]) ++ List.replicate (10 - (lg_sl ([.ref (ad 69), .int a1, .int a2, .int a3])).length) Slot.unset).toArray = ls at hl ⊢
  have hl : lv_has ls 10 [(0, .ref (ad 69)), (1, .int a1), (2, .int a2), (3, .int a3)] := hl
  have hB30 : ∀ (h : Mem), wpBX7_game_30 post a1 a2 a3  h  → JM p l e (headSpec (ws_ yX7_game cX7_game 10 (some .int)) ({ frames := 8, cells := 0, slots := 0, locals := 191 })).room s m ([.ref (ad 69), .int a1, .int a2, .int a3] : List Value).toArray below meth c (MQ below (MQi D cA E ad post) ([.ref (ad 69), .int a1, .int a2, .int a3] : List Value).toArray s 0 0 (MA ad)) D cA E ad 10 30 h [(0, .ref (ad 69))] [] := by
    intro h hw H locs ls hM hS hl
    unfold wpBX7_game_30 at hw
    refine lv_aload_n hx hb dX7_game_30 rfl (lv_at hl 0 rfl) ?_
    refine lv_iconst (v := (1 : Int32)) hx hb dX7_game_31 (by decide) ?_
    refine M_callI (As := [.int (1 : Int32)]) (rest := []) ⟨hx, hb, hml, hown, hts⟩ hK hZ hM hJ hS (metX7_fail l D cA z0 E ad h (1 : Int32) _ hw) (cwV 1 hts (lw_V q1903 q1905 qs44 q130 q1906) rfl rfl rfl (by decide +kernel) ⟨Nat.le_of_ble_eq_true rfl, Nat.le_of_ble_eq_true rfl⟩) rfl hl.1 rfl (Nat.le_of_ble_eq_true rfl) dX7_game_32 ⟨Nat.zero_le _, Nat.zero_le _⟩ (fun r5 h6 H locs hw hM hS => ?_)
    exact M_iret hx hb hr hlocks hM hS hw dX7_game_35
  have hL56 : ∀ (h : Mem)  (n56 : Nat) (x4 : Int32) (x5 : Int32) (x6 : Int32), wpLX7_game_56 post a1 a2 a3  h  n56 (x4, x5, x6) → JM p l e (headSpec (ws_ yX7_game cX7_game 10 (some .int)) ({ frames := 8, cells := 0, slots := 0, locals := 191 })).room s m ([.ref (ad 69), .int a1, .int a2, .int a3] : List Value).toArray below meth c (MQ below (MQi D cA E ad post) ([.ref (ad 69), .int a1, .int a2, .int a3] : List Value).toArray s 0 0 (MA ad)) D cA E ad 10 56 h [(0, .ref (ad 69)), (1, .int a1), (2, .int a2), (3, .int a3), (4, .int x4), (5, .int x5), (6, .int x6)] [] := by
    intro h n56
    induction n56 with
    | zero => intro x4 x5 x6 hw; exact False.elim hw
    | succ n56 ih56 =>
      have hL70 : ∀ (x6 : Int32) (n70 : Nat) (x4 : Int32) (x5 : Int32) (x7 : Int32), wpLX7_game_70 post a1 a2 a3 (fun x4 x5 x6 => wpLX7_game_56 post a1 a2 a3  h  n56 (x4, x5, x6)) h x6 n70 (x4, x5, x7) → JM p l e (headSpec (ws_ yX7_game cX7_game 10 (some .int)) ({ frames := 8, cells := 0, slots := 0, locals := 191 })).room s m ([.ref (ad 69), .int a1, .int a2, .int a3] : List Value).toArray below meth c (MQ below (MQi D cA E ad post) ([.ref (ad 69), .int a1, .int a2, .int a3] : List Value).toArray s 0 0 (MA ad)) D cA E ad 10 70 h [(0, .ref (ad 69)), (1, .int a1), (2, .int a2), (3, .int a3), (4, .int x4), (5, .int x5), (6, .int x6), (7, .int x7)] [] := by
        intro x6 n70
        induction n70 with
        | zero => intro x4 x5 x7 hw; exact False.elim hw
        | succ n70 ih70 =>
          have hB158 : ∀ (x4 : Int32) (x5 : Int32) (x7 : Int32) (x8 : Int32), wpBX7_game_158 post a1 a2 a3 (fun x4 x5 x6 => wpLX7_game_56 post a1 a2 a3  h  n56 (x4, x5, x6)) (fun x4 x5 x7 => wpLX7_game_70 post a1 a2 a3 (fun x4 x5 x6 => wpLX7_game_56 post a1 a2 a3  h  n56 (x4, x5, x6)) h x6 n70 (x4, x5, x7)) h x4 x5 x6 x7 x8 → JM p l e (headSpec (ws_ yX7_game cX7_game 10 (some .int)) ({ frames := 8, cells := 0, slots := 0, locals := 191 })).room s m ([.ref (ad 69), .int a1, .int a2, .int a3] : List Value).toArray below meth c (MQ below (MQi D cA E ad post) ([.ref (ad 69), .int a1, .int a2, .int a3] : List Value).toArray s 0 0 (MA ad)) D cA E ad 10 158 h [(0, .ref (ad 69)), (1, .int a1), (2, .int a2), (3, .int a3), (4, .int x4), (5, .int x5), (6, .int x6), (7, .int x7), (8, .int x8)] [] := by
            intro x4 x5 x7 x8 hw H locs ls hM hS hl
            unfold wpBX7_game_158 at hw
            refine lv_iload hx hb dX7_game_158 (lv_at hl 8 rfl) ?_
            have hj20 : JM p l e (headSpec (ws_ yX7_game cX7_game 10 (some .int)) ({ frames := 8, cells := 0, slots := 0, locals := 191 })).room s m ([.ref (ad 69), .int a1, .int a2, .int a3] : List Value).toArray below meth c (MQ below (MQi D cA E ad post) ([.ref (ad 69), .int a1, .int a2, .int a3] : List Value).toArray s 0 0 (MA ad)) D cA E ad 10 190 h [(0, .ref (ad 69)), (1, .int a1), (2, .int a2), (3, .int a3), (4, .int (if x8 = 0 then x4 else (if x5 = (-1 : Int32) then (x4 + (1 : Int32)) else (x4 + (1 : Int32))))), (5, .int (if x8 = 0 then x5 else (if x5 = (-1 : Int32) then (((10 : Int32) * x6) + x7) else x5))), (6, .int x6), (7, .int x7)] [] := by
              intro H locs ls hM hS hl
              refine lv_iinc (v := (x7 + (1 : Int32))) (lv' := [(7, .int (x7 + (1 : Int32))), (0, .ref (ad 69)), (1, .int a1), (2, .int a2), (3, .int a3), (4, .int (if x8 = 0 then x4 else (if x5 = (-1 : Int32) then (x4 + (1 : Int32)) else (x4 + (1 : Int32))))), (5, .int (if x8 = 0 then x5 else (if x5 = (-1 : Int32) then (((10 : Int32) * x6) + x7) else x5))), (6, .int x6)]) hx hb dX7_game_190 hl (k := 7) rfl rfl (by decide) rfl (fun ls hl => ?_)
              refine lv_goto (tgt := 70) hx hb dX7_game_193 (by decide) ?_
              exact ih70 (if x8 = 0 then x4 else (if x5 = (-1 : Int32) then (x4 + (1 : Int32)) else (x4 + (1 : Int32)))) (if x8 = 0 then x5 else (if x5 = (-1 : Int32) then (((10 : Int32) * x6) + x7) else x5)) (x7 + (1 : Int32)) hw _ _ ls hM hS (lv_sub hl [1, 2, 3, 4, 5, 6, 7, 0] rfl)
            refine lv_if_ne (tgt := 166) hx hb dX7_game_160 (by decide) (fun c21 => ?_) (fun c21 => ?_)
            · refine lv_iinc (v := (x4 + (1 : Int32))) (lv' := [(4, .int (x4 + (1 : Int32))), (0, .ref (ad 69)), (1, .int a1), (2, .int a2), (3, .int a3), (5, .int x5), (6, .int x6), (7, .int x7), (8, .int x8)]) hx hb dX7_game_166 hl (k := 4) rfl rfl (by decide) rfl (fun ls hl => ?_)
              refine lv_iload hx hb dX7_game_169 (lv_at hl 5 rfl) ?_
              refine lv_iconst (v := (-1 : Int32)) hx hb dX7_game_171 (by decide) ?_
              refine lv_icmp_ne (tgt := 186) hx hb dX7_game_172 (by decide) (fun c22 => ?_) (fun c22 => ?_)
              · refine lv_iload hx hb dX7_game_186 (lv_at hl 5 rfl) ?_
                refine lv_istore (lv' := [(5, .int x5), (4, .int (x4 + (1 : Int32))), (0, .ref (ad 69)), (1, .int a1), (2, .int a2), (3, .int a3), (6, .int x6), (7, .int x7), (8, .int x8)]) hx hb dX7_game_188 hl (by decide) rfl (fun ls hl => ?_)
                have e23 : (if x8 = 0 then x4 else (if x5 = (-1 : Int32) then (x4 + (1 : Int32)) else (x4 + (1 : Int32)))) = (x4 + (1 : Int32)) := by rw [if_neg c21, if_neg c22]
                rw [e23] at hj20
                have e24 : (if x8 = 0 then x5 else (if x5 = (-1 : Int32) then (((10 : Int32) * x6) + x7) else x5)) = x5 := by rw [if_neg c21, if_neg c22]
                rw [e24] at hj20
                exact hj20 _ _ ls hM hS (lv_sub hl [2, 3, 4, 5, 1, 0, 6, 7] rfl)
              · refine lv_bipush (v := (10 : Int32)) hx hb dX7_game_175 (by decide) ?_
                refine lv_iload hx hb dX7_game_177 (lv_at hl 6 rfl) ?_
                refine lv_imul hx hb dX7_game_179 ?_
                refine lv_iload hx hb dX7_game_180 (lv_at hl 7 rfl) ?_
                refine lv_iadd hx hb dX7_game_182 ?_
                refine lv_goto (tgt := 188) hx hb dX7_game_183 (by decide) ?_
                refine lv_istore (lv' := [(5, .int (((10 : Int32) * x6) + x7)), (4, .int (x4 + (1 : Int32))), (0, .ref (ad 69)), (1, .int a1), (2, .int a2), (3, .int a3), (6, .int x6), (7, .int x7), (8, .int x8)]) hx hb dX7_game_188 hl (by decide) rfl (fun ls hl => ?_)
                have e25 : (if x8 = 0 then x4 else (if x5 = (-1 : Int32) then (x4 + (1 : Int32)) else (x4 + (1 : Int32)))) = (x4 + (1 : Int32)) := by rw [if_neg c21, if_pos c22]
                rw [e25] at hj20
                have e26 : (if x8 = 0 then x5 else (if x5 = (-1 : Int32) then (((10 : Int32) * x6) + x7) else x5)) = (((10 : Int32) * x6) + x7) := by rw [if_neg c21, if_pos c22]
                rw [e26] at hj20
                exact hj20 _ _ ls hM hS (lv_sub hl [2, 3, 4, 5, 1, 0, 6, 7] rfl)
            · refine lv_goto (tgt := 190) hx hb dX7_game_163 (by decide) ?_
              have e27 : (if x8 = 0 then x4 else (if x5 = (-1 : Int32) then (x4 + (1 : Int32)) else (x4 + (1 : Int32)))) = x4 := by rw [if_pos c21]
              rw [e27] at hj20
              have e28 : (if x8 = 0 then x5 else (if x5 = (-1 : Int32) then (((10 : Int32) * x6) + x7) else x5)) = x5 := by rw [if_pos c21]
              rw [e28] at hj20
              exact hj20 _ _ ls hM hS (lv_sub hl [0, 1, 2, 3, 4, 5, 6, 7] rfl)
          have hL87 : ∀ (x4 : Int32) (x5 : Int32) (x7 : Int32) (n87 : Nat) (x8 : Int32) (x9 : Int32), wpLX7_game_87 post a1 a2 a3 (fun x4 x5 x6 => wpLX7_game_56 post a1 a2 a3  h  n56 (x4, x5, x6)) (fun x4 x5 x7 => wpLX7_game_70 post a1 a2 a3 (fun x4 x5 x6 => wpLX7_game_56 post a1 a2 a3  h  n56 (x4, x5, x6)) h x6 n70 (x4, x5, x7)) h x4 x5 x6 x7 n87 (x8, x9) → JM p l e (headSpec (ws_ yX7_game cX7_game 10 (some .int)) ({ frames := 8, cells := 0, slots := 0, locals := 191 })).room s m ([.ref (ad 69), .int a1, .int a2, .int a3] : List Value).toArray below meth c (MQ below (MQi D cA E ad post) ([.ref (ad 69), .int a1, .int a2, .int a3] : List Value).toArray s 0 0 (MA ad)) D cA E ad 10 87 h [(0, .ref (ad 69)), (1, .int a1), (2, .int a2), (3, .int a3), (4, .int x4), (5, .int x5), (6, .int x6), (7, .int x7), (8, .int x8), (9, .int x9)] [] := by
            intro x4 x5 x7 n87
            induction n87 with
            | zero => intro x8 x9 hw; exact False.elim hw
            | succ n87 ih87 =>
              have hB149 : ∀ (x9 : Int32), wpBX7_game_149 post a1 a2 a3 (fun x4 x5 x6 => wpLX7_game_56 post a1 a2 a3  h  n56 (x4, x5, x6)) (fun x4 x5 x7 => wpLX7_game_70 post a1 a2 a3 (fun x4 x5 x6 => wpLX7_game_56 post a1 a2 a3  h  n56 (x4, x5, x6)) h x6 n70 (x4, x5, x7)) (fun x8 x9 => wpLX7_game_87 post a1 a2 a3 (fun x4 x5 x6 => wpLX7_game_56 post a1 a2 a3  h  n56 (x4, x5, x6)) (fun x4 x5 x7 => wpLX7_game_70 post a1 a2 a3 (fun x4 x5 x6 => wpLX7_game_56 post a1 a2 a3  h  n56 (x4, x5, x6)) h x6 n70 (x4, x5, x7)) h x4 x5 x6 x7 n87 (x8, x9)) h x4 x5 x6 x7 x9 → JM p l e (headSpec (ws_ yX7_game cX7_game 10 (some .int)) ({ frames := 8, cells := 0, slots := 0, locals := 191 })).room s m ([.ref (ad 69), .int a1, .int a2, .int a3] : List Value).toArray below meth c (MQ below (MQi D cA E ad post) ([.ref (ad 69), .int a1, .int a2, .int a3] : List Value).toArray s 0 0 (MA ad)) D cA E ad 10 149 h [(0, .ref (ad 69)), (1, .int a1), (2, .int a2), (3, .int a3), (4, .int x4), (5, .int x5), (6, .int x6), (7, .int x7), (9, .int x9)] [] := by
                intro x9 hw H locs ls hM hS hl
                unfold wpBX7_game_149 at hw
                refine lv_iconst (v := (0 : Int32)) hx hb dX7_game_149 (by decide) ?_
                refine lv_istore (lv' := [(8, .int (0 : Int32)), (0, .ref (ad 69)), (1, .int a1), (2, .int a2), (3, .int a3), (4, .int x4), (5, .int x5), (6, .int x6), (7, .int x7), (9, .int x9)]) hx hb dX7_game_150 hl (by decide) rfl (fun ls hl => ?_)
                refine lv_iinc (v := (x9 + (1 : Int32))) (lv' := [(9, .int (x9 + (1 : Int32))), (8, .int (0 : Int32)), (0, .ref (ad 69)), (1, .int a1), (2, .int a2), (3, .int a3), (4, .int x4), (5, .int x5), (6, .int x6), (7, .int x7)]) hx hb dX7_game_152 hl (k := 9) rfl rfl (by decide) rfl (fun ls hl => ?_)
                refine lv_goto (tgt := 87) hx hb dX7_game_155 (by decide) ?_
                exact ih87 (0 : Int32) (x9 + (1 : Int32)) hw _ _ ls hM hS (lv_sub hl [2, 3, 4, 5, 6, 7, 8, 9, 1, 0] rfl)
              intro x8 x9 hw H locs ls hM hS hl
              have hw : wpBX7_game_87 post a1 a2 a3 (fun x4 x5 x6 => wpLX7_game_56 post a1 a2 a3  h  n56 (x4, x5, x6)) (fun x4 x5 x7 => wpLX7_game_70 post a1 a2 a3 (fun x4 x5 x6 => wpLX7_game_56 post a1 a2 a3  h  n56 (x4, x5, x6)) h x6 n70 (x4, x5, x7)) (fun x8 x9 => wpLX7_game_87 post a1 a2 a3 (fun x4 x5 x6 => wpLX7_game_56 post a1 a2 a3  h  n56 (x4, x5, x6)) (fun x4 x5 x7 => wpLX7_game_70 post a1 a2 a3 (fun x4 x5 x6 => wpLX7_game_56 post a1 a2 a3  h  n56 (x4, x5, x6)) h x6 n70 (x4, x5, x7)) h x4 x5 x6 x7 n87 (x8, x9)) h x4 x5 x6 x7 x8 x9 := hw
              unfold wpBX7_game_87 at hw
              refine lv_iload hx hb dX7_game_87 (lv_at hl 9 rfl) ?_
              refine lv_aload_n hx hb dX7_game_89 rfl (lv_at hl 0 rfl) ?_
              refine M_get hx hb hts hown hK hM 3 (v := .ref (ad 3)) (by decide) (hts _ q1686) rfl dX7_game_90 ?_
              refine lv_iconst (v := (1 : Int32)) hx hb dX7_game_93 (by decide) ?_
              refine M_iald hx hb hK hM 3 rfl (j := 1) rfl (by unfold vp_in; decide) dX7_game_94 ?_
              refine lv_icmp_ge (tgt := 158) hx hb dX7_game_95 (by decide) (fun c19 => ?_) (fun c19 => ?_)
              · have hw := hw.1 c19
                exact hB158 x4 x5 x7 x8 hw _ _ ls hM hS (lv_sub hl [0, 1, 2, 3, 4, 5, 6, 7, 8] rfl)
              · have hw := hw.2 c19
                refine lv_iload hx hb dX7_game_98 (lv_at hl 8 rfl) ?_
                refine lv_if_eq (tgt := 158) hx hb dX7_game_100 (by decide) (fun c29 => ?_) (fun c29 => ?_)
                · have hw := hw.1 c29
                  exact hB158 x4 x5 x7 x8 hw _ _ ls hM hS (lv_sub hl [0, 1, 2, 3, 4, 5, 6, 7, 8] rfl)
                · have hw := hw.2 c29
                  refine lv_aload_n hx hb dX7_game_103 rfl (lv_at hl 0 rfl) ?_
                  refine lv_iload_n hx hb dX7_game_104 rfl (lv_at hl 1 rfl) ?_
                  refine lv_iload hx hb dX7_game_105 (lv_at hl 9 rfl) ?_
                  refine lv_iload hx hb dX7_game_107 (lv_at hl 7 rfl) ?_
                  refine M_callIp (As := [.int a1, .int x9, .int x7]) (rest := []) ⟨hx, hb, hml, hown, hts⟩ hK hZ hM hJ hS (metX7_gain l D cA z0 E ad h a1 x9 x7 _ hw) (cwV 3 hts (lw_V q2289 q2291 qs101 q130 q2292) rfl rfl rfl (by decide +kernel) ⟨Nat.le_of_ble_eq_true rfl, Nat.le_of_ble_eq_true rfl⟩) rfl hl.1 rfl (Nat.le_of_ble_eq_true rfl) dX7_game_109 ⟨Nat.zero_le _, Nat.zero_le _⟩ (fun r30 H locs hw hM hS => ?_)
                  refine lv_aload_n hx hb dX7_game_112 rfl (lv_at hl 0 rfl) ?_
                  refine lv_iload_n hx hb dX7_game_113 rfl (lv_at hl 1 rfl) ?_
                  refine lv_iload hx hb dX7_game_114 (lv_at hl 6 rfl) ?_
                  refine lv_iload hx hb dX7_game_116 (lv_at hl 7 rfl) ?_
                  refine M_callIp (As := [.int a1, .int x6, .int x7]) (rest := [.int r30]) ⟨hx, hb, hml, hown, hts⟩ hK hZ hM hJ hS (metX7_gain l D cA z0 E ad h a1 x6 x7 _ hw) (cwV 3 hts (lw_V q2289 q2291 qs101 q130 q2292) rfl rfl rfl (by decide +kernel) ⟨Nat.le_of_ble_eq_true rfl, Nat.le_of_ble_eq_true rfl⟩) rfl hl.1 rfl (Nat.le_of_ble_eq_true rfl) dX7_game_118 ⟨Nat.zero_le _, Nat.zero_le _⟩ (fun r32 H locs hw hM hS => ?_)
                  refine lv_icmp_gt (tgt := 149) hx hb dX7_game_121 (by decide) (fun c34 => ?_) (fun c34 => ?_)
                  · have hw := hw.1 c34
                    exact hB149 x9 hw _ _ ls hM hS (lv_sub hl [0, 1, 2, 3, 4, 5, 6, 7, 9] rfl)
                  · have hw := hw.2 c34
                    refine lv_aload_n hx hb dX7_game_124 rfl (lv_at hl 0 rfl) ?_
                    refine lv_iload_n hx hb dX7_game_125 rfl (lv_at hl 2 rfl) ?_
                    refine lv_iload hx hb dX7_game_126 (lv_at hl 9 rfl) ?_
                    refine lv_iload hx hb dX7_game_128 (lv_at hl 6 rfl) ?_
                    refine M_callIp (As := [.int a2, .int x9, .int x6]) (rest := []) ⟨hx, hb, hml, hown, hts⟩ hK hZ hM hJ hS (metX7_gain l D cA z0 E ad h a2 x9 x6 _ hw) (cwV 3 hts (lw_V q2289 q2291 qs101 q130 q2292) rfl rfl rfl (by decide +kernel) ⟨Nat.le_of_ble_eq_true rfl, Nat.le_of_ble_eq_true rfl⟩) rfl hl.1 rfl (Nat.le_of_ble_eq_true rfl) dX7_game_130 ⟨Nat.zero_le _, Nat.zero_le _⟩ (fun r35 H locs hw hM hS => ?_)
                    refine lv_aload_n hx hb dX7_game_133 rfl (lv_at hl 0 rfl) ?_
                    refine lv_iload_n hx hb dX7_game_134 rfl (lv_at hl 2 rfl) ?_
                    refine lv_iload hx hb dX7_game_135 (lv_at hl 7 rfl) ?_
                    refine lv_iload hx hb dX7_game_137 (lv_at hl 6 rfl) ?_
                    refine M_callIp (As := [.int a2, .int x7, .int x6]) (rest := [.int r35]) ⟨hx, hb, hml, hown, hts⟩ hK hZ hM hJ hS (metX7_gain l D cA z0 E ad h a2 x7 x6 _ hw) (cwV 3 hts (lw_V q2289 q2291 qs101 q130 q2292) rfl rfl rfl (by decide +kernel) ⟨Nat.le_of_ble_eq_true rfl, Nat.le_of_ble_eq_true rfl⟩) rfl hl.1 rfl (Nat.le_of_ble_eq_true rfl) dX7_game_139 ⟨Nat.zero_le _, Nat.zero_le _⟩ (fun r37 H locs hw hM hS => ?_)
                    have hj39 : JM p l e (headSpec (ws_ yX7_game cX7_game 10 (some .int)) ({ frames := 8, cells := 0, slots := 0, locals := 191 })).room s m ([.ref (ad 69), .int a1, .int a2, .int a3] : List Value).toArray below meth c (MQ below (MQi D cA E ad post) ([.ref (ad 69), .int a1, .int a2, .int a3] : List Value).toArray s 0 0 (MA ad)) D cA E ad 10 150 h [(0, .ref (ad 69)), (1, .int a1), (2, .int a2), (3, .int a3), (4, .int x4), (5, .int x5), (6, .int x6), (7, .int x7), (9, .int x9)] [.int (if r37 < r35 then (0 : Int32) else (1 : Int32))] := by
                      intro H locs ls hM hS hl
                      refine lv_istore (lv' := [(8, .int (if r37 < r35 then (0 : Int32) else (1 : Int32))), (0, .ref (ad 69)), (1, .int a1), (2, .int a2), (3, .int a3), (4, .int x4), (5, .int x5), (6, .int x6), (7, .int x7), (9, .int x9)]) hx hb dX7_game_150 hl (by decide) rfl (fun ls hl => ?_)
                      refine lv_iinc (v := (x9 + (1 : Int32))) (lv' := [(9, .int (x9 + (1 : Int32))), (8, .int (if r37 < r35 then (0 : Int32) else (1 : Int32))), (0, .ref (ad 69)), (1, .int a1), (2, .int a2), (3, .int a3), (4, .int x4), (5, .int x5), (6, .int x6), (7, .int x7)]) hx hb dX7_game_152 hl (k := 9) rfl rfl (by decide) rfl (fun ls hl => ?_)
                      refine lv_goto (tgt := 87) hx hb dX7_game_155 (by decide) ?_
                      exact ih87 (if r37 < r35 then (0 : Int32) else (1 : Int32)) (x9 + (1 : Int32)) hw _ _ ls hM hS (lv_sub hl [2, 3, 4, 5, 6, 7, 8, 9, 1, 0] rfl)
                    refine lv_icmp_gt (tgt := 149) hx hb dX7_game_142 (by decide) (fun c40 => ?_) (fun c40 => ?_)
                    · refine lv_iconst (v := (0 : Int32)) hx hb dX7_game_149 (by decide) ?_
                      have e41 : (if r37 < r35 then (0 : Int32) else (1 : Int32)) = (0 : Int32) := by rw [if_pos c40]
                      rw [e41] at hj39
                      exact hj39 _ _ ls hM hS (lv_sub hl [0, 1, 2, 3, 4, 5, 6, 7, 9] rfl)
                    · refine lv_iconst (v := (1 : Int32)) hx hb dX7_game_145 (by decide) ?_
                      refine lv_goto (tgt := 150) hx hb dX7_game_146 (by decide) ?_
                      have e42 : (if r37 < r35 then (0 : Int32) else (1 : Int32)) = (1 : Int32) := by rw [if_neg c40]
                      rw [e42] at hj39
                      exact hj39 _ _ ls hM hS (lv_sub hl [0, 1, 2, 3, 4, 5, 6, 7, 9] rfl)
          intro x4 x5 x7 hw H locs ls hM hS hl
          have hw : wpBX7_game_70 post a1 a2 a3 (fun x4 x5 x6 => wpLX7_game_56 post a1 a2 a3  h  n56 (x4, x5, x6)) (fun x4 x5 x7 => wpLX7_game_70 post a1 a2 a3 (fun x4 x5 x6 => wpLX7_game_56 post a1 a2 a3  h  n56 (x4, x5, x6)) h x6 n70 (x4, x5, x7)) h x6 x4 x5 x7 := hw
          unfold wpBX7_game_70 at hw
          refine lv_iload hx hb dX7_game_70 (lv_at hl 7 rfl) ?_
          refine lv_aload_n hx hb dX7_game_72 rfl (lv_at hl 0 rfl) ?_
          refine M_get hx hb hts hown hK hM 3 (v := .ref (ad 3)) (by decide) (hts _ q1686) rfl dX7_game_73 ?_
          refine lv_iconst (v := (1 : Int32)) hx hb dX7_game_76 (by decide) ?_
          refine M_iald hx hb hK hM 3 rfl (j := 1) rfl (by unfold vp_in; decide) dX7_game_77 ?_
          refine lv_icmp_ge (tgt := 196) hx hb dX7_game_78 (by decide) (fun c18 => ?_) (fun c18 => ?_)
          · have hw := hw.1 c18
            refine lv_iinc (v := (x6 + (1 : Int32))) (lv' := [(6, .int (x6 + (1 : Int32))), (0, .ref (ad 69)), (1, .int a1), (2, .int a2), (3, .int a3), (4, .int x4), (5, .int x5), (7, .int x7)]) hx hb dX7_game_196 hl (k := 6) rfl rfl (by decide) rfl (fun ls hl => ?_)
            refine lv_goto (tgt := 56) hx hb dX7_game_199 (by decide) ?_
            exact ih56 x4 x5 (x6 + (1 : Int32)) hw _ _ ls hM hS (lv_sub hl [1, 2, 3, 4, 5, 6, 0] rfl)
          · have hw := hw.2 c18
            refine lv_iconst (v := (1 : Int32)) hx hb dX7_game_81 (by decide) ?_
            refine lv_istore (lv' := [(8, .int (1 : Int32)), (0, .ref (ad 69)), (1, .int a1), (2, .int a2), (3, .int a3), (4, .int x4), (5, .int x5), (6, .int x6), (7, .int x7)]) hx hb dX7_game_82 hl (by decide) rfl (fun ls hl => ?_)
            refine lv_iconst (v := (0 : Int32)) hx hb dX7_game_84 (by decide) ?_
            refine lv_istore (lv' := [(9, .int (0 : Int32)), (8, .int (1 : Int32)), (0, .ref (ad 69)), (1, .int a1), (2, .int a2), (3, .int a3), (4, .int x4), (5, .int x5), (6, .int x6), (7, .int x7)]) hx hb dX7_game_85 hl (by decide) rfl (fun ls hl => ?_)
            obtain ⟨n43, hw⟩ := hw
            exact hL87 x4 x5 x7 n43 (1 : Int32) (0 : Int32) hw _ _ ls hM hS (lv_sub hl [2, 3, 4, 5, 6, 7, 8, 9, 1, 0] rfl)
      intro x4 x5 x6 hw H locs ls hM hS hl
      have hw : wpBX7_game_56 post a1 a2 a3  (fun x4 x5 x6 => wpLX7_game_56 post a1 a2 a3  h  n56 (x4, x5, x6)) h  x4 x5 x6 := hw
      unfold wpBX7_game_56 at hw
      refine lv_iload hx hb dX7_game_56 (lv_at hl 6 rfl) ?_
      refine lv_aload_n hx hb dX7_game_58 rfl (lv_at hl 0 rfl) ?_
      refine M_get hx hb hts hown hK hM 3 (v := .ref (ad 3)) (by decide) (hts _ q1686) rfl dX7_game_59 ?_
      refine lv_iconst (v := (1 : Int32)) hx hb dX7_game_62 (by decide) ?_
      refine M_iald hx hb hK hM 3 rfl (j := 1) rfl (by unfold vp_in; decide) dX7_game_63 ?_
      refine lv_icmp_ge (tgt := 202) hx hb dX7_game_64 (by decide) (fun c13 => ?_) (fun c13 => ?_)
      · have hw := hw.1 c13
        refine lv_iload_n hx hb dX7_game_202 rfl (lv_at hl 3 rfl) ?_
        have hj14 : JM p l e (headSpec (ws_ yX7_game cX7_game 10 (some .int)) ({ frames := 8, cells := 0, slots := 0, locals := 191 })).room s m ([.ref (ad 69), .int a1, .int a2, .int a3] : List Value).toArray below meth c (MQ below (MQi D cA E ad post) ([.ref (ad 69), .int a1, .int a2, .int a3] : List Value).toArray s 0 0 (MA ad)) D cA E ad 10 213 h [] [.int (if a3 = 0 then x4 else x5)] := by
          intro H locs ls hM hS hl
          exact M_iret hx hb hr hlocks hM hS hw dX7_game_213
        refine lv_if_ne (tgt := 211) hx hb dX7_game_203 (by decide) (fun c15 => ?_) (fun c15 => ?_)
        · refine lv_iload hx hb dX7_game_211 (lv_at hl 5 rfl) ?_
          have e16 : (if a3 = 0 then x4 else x5) = x5 := by rw [if_neg c15]
          rw [e16] at hj14
          exact hj14 _ _ ls hM hS (lv_sub hl [] rfl)
        · refine lv_iload hx hb dX7_game_206 (lv_at hl 4 rfl) ?_
          refine lv_goto (tgt := 213) hx hb dX7_game_208 (by decide) ?_
          have e17 : (if a3 = 0 then x4 else x5) = x4 := by rw [if_pos c15]
          rw [e17] at hj14
          exact hj14 _ _ ls hM hS (lv_sub hl [] rfl)
      · have hw := hw.2 c13
        refine lv_iconst (v := (0 : Int32)) hx hb dX7_game_67 (by decide) ?_
        refine lv_istore (lv' := [(7, .int (0 : Int32)), (0, .ref (ad 69)), (1, .int a1), (2, .int a2), (3, .int a3), (4, .int x4), (5, .int x5), (6, .int x6)]) hx hb dX7_game_68 hl (by decide) rfl (fun ls hl => ?_)
        obtain ⟨n44, hw⟩ := hw
        exact hL70 x6 n44 x4 x5 (0 : Int32) hw _ _ ls hM hS (lv_sub hl [1, 2, 3, 4, 5, 6, 7, 0] rfl)
  unfold wpX7_game at hw
  refine lv_aload_n hx hb dX7_game_0 rfl (lv_at hl 0 rfl) ?_
  refine lv_iconst (v := (0 : Int32)) hx hb dX7_game_1 (by decide) ?_
  refine M_put hx hb hts hown hK hM hJ hS 2 rfl rfl (hts _ q1685) rfl .int (by decide +kernel) rfl rfl dX7_game_2 (fun H locs hM hS => ?_)
  obtain ⟨h1, eh1⟩ : ∃ y : Mem, y = up2 h 2 0 (0 : Int32) := ⟨_, rfl⟩
  rw [← eh1] at hM
  have hw := hw h1 eh1
  refine lv_aload_n hx hb dX7_game_5 rfl (lv_at hl 0 rfl) ?_
  refine lv_iload_n hx hb dX7_game_6 rfl (lv_at hl 1 rfl) ?_
  refine M_callZp (As := [.int a1]) (rest := []) ⟨hx, hb, hml, hown, hts⟩ hK hZ hM hJ hS (metX7_isPerson l D cA z0 E ad h1 a1 _ hw) (cwV 1 hts (lw_V q2055 q2057 qs71 q130 q2058) rfl rfl rfl (by decide +kernel) ⟨Nat.le_of_ble_eq_true rfl, Nat.le_of_ble_eq_true rfl⟩) rfl hl.1 rfl (Nat.le_of_ble_eq_true rfl) dX7_game_7 ⟨Nat.zero_le _, Nat.zero_le _⟩ (fun r2 H locs hw hM hS => ?_)
  refine lv_if_eq (tgt := 30) hx hb dX7_game_10 (by decide) (fun c4 => ?_) (fun c4 => ?_)
  · have c4 := b2i_f c4
    have hw := hw.2 c4
    exact hB30 h1 hw _ _ ls hM hS (lv_sub hl [0] rfl)
  · have c4 := b2i_t c4
    have hw := hw.1 c4
    refine lv_aload_n hx hb dX7_game_13 rfl (lv_at hl 0 rfl) ?_
    refine lv_iload_n hx hb dX7_game_14 rfl (lv_at hl 2 rfl) ?_
    refine M_callZp (As := [.int a2]) (rest := []) ⟨hx, hb, hml, hown, hts⟩ hK hZ hM hJ hS (metX7_isPerson l D cA z0 E ad h1 a2 _ hw) (cwV 1 hts (lw_V q2055 q2057 qs71 q130 q2058) rfl rfl rfl (by decide +kernel) ⟨Nat.le_of_ble_eq_true rfl, Nat.le_of_ble_eq_true rfl⟩) rfl hl.1 rfl (Nat.le_of_ble_eq_true rfl) dX7_game_15 ⟨Nat.zero_le _, Nat.zero_le _⟩ (fun r7 H locs hw hM hS => ?_)
    refine lv_if_eq (tgt := 30) hx hb dX7_game_18 (by decide) (fun c9 => ?_) (fun c9 => ?_)
    · have c9 := b2i_f c9
      have hw := hw.2 c9
      exact hB30 h1 hw _ _ ls hM hS (lv_sub hl [0] rfl)
    · have c9 := b2i_t c9
      have hw := hw.1 c9
      refine lv_iload_n hx hb dX7_game_21 rfl (lv_at hl 3 rfl) ?_
      refine lv_if_lt (tgt := 30) hx hb dX7_game_22 (by decide) (fun c10 => ?_) (fun c10 => ?_)
      · have hw := hw.1 c10
        exact hB30 h1 hw _ _ ls hM hS (lv_sub hl [0] rfl)
      · have hw := hw.2 c10
        refine lv_iload_n hx hb dX7_game_25 rfl (lv_at hl 3 rfl) ?_
        refine lv_iconst (v := (1 : Int32)) hx hb dX7_game_26 (by decide) ?_
        refine lv_icmp_le (tgt := 36) hx hb dX7_game_27 (by decide) (fun c11 => ?_) (fun c11 => ?_)
        · have hw := hw.1 c11
          refine lv_iload_n hx hb dX7_game_36 rfl (lv_at hl 1 rfl) ?_
          refine lv_iload_n hx hb dX7_game_37 rfl (lv_at hl 2 rfl) ?_
          refine lv_icmp_ne (tgt := 47) hx hb dX7_game_38 (by decide) (fun c12 => ?_) (fun c12 => ?_)
          · have hw := hw.2 c12
            refine lv_iconst (v := (0 : Int32)) hx hb dX7_game_47 (by decide) ?_
            refine lv_istore (lv' := [(4, .int (0 : Int32)), (0, .ref (ad 69)), (1, .int a1), (2, .int a2), (3, .int a3)]) hx hb dX7_game_48 hl (by decide) rfl (fun ls hl => ?_)
            refine lv_iconst (v := (-1 : Int32)) hx hb dX7_game_50 (by decide) ?_
            refine lv_istore (lv' := [(5, .int (-1 : Int32)), (4, .int (0 : Int32)), (0, .ref (ad 69)), (1, .int a1), (2, .int a2), (3, .int a3)]) hx hb dX7_game_51 hl (by decide) rfl (fun ls hl => ?_)
            refine lv_iconst (v := (0 : Int32)) hx hb dX7_game_53 (by decide) ?_
            refine lv_istore (lv' := [(6, .int (0 : Int32)), (5, .int (-1 : Int32)), (4, .int (0 : Int32)), (0, .ref (ad 69)), (1, .int a1), (2, .int a2), (3, .int a3)]) hx hb dX7_game_54 hl (by decide) rfl (fun ls hl => ?_)
            obtain ⟨n45, hw⟩ := hw
            exact hL56 h1 n45 (0 : Int32) (-1 : Int32) (0 : Int32) hw _ _ ls hM hS (lv_sub hl [3, 4, 5, 6, 2, 1, 0] rfl)
          · have hw := hw.1 c12
            refine lv_aload_n hx hb dX7_game_41 rfl (lv_at hl 0 rfl) ?_
            refine lv_iconst (v := (2 : Int32)) hx hb dX7_game_42 (by decide) ?_
            refine M_callI (As := [.int (2 : Int32)]) (rest := []) ⟨hx, hb, hml, hown, hts⟩ hK hZ hM hJ hS (metX7_fail l D cA z0 E ad h1 (2 : Int32) _ hw) (cwV 1 hts (lw_V q1903 q1905 qs44 q130 q1906) rfl rfl rfl (by decide +kernel) ⟨Nat.le_of_ble_eq_true rfl, Nat.le_of_ble_eq_true rfl⟩) rfl hl.1 rfl (Nat.le_of_ble_eq_true rfl) dX7_game_43 ⟨Nat.zero_le _, Nat.zero_le _⟩ (fun r46 h47 H locs hw hM hS => ?_)
            exact M_iret hx hb hr hlocks hM hS hw dX7_game_46
        · have hw := hw.2 c11
          exact hB30 h1 hw _ _ ls hM hS (lv_sub hl [0] rfl)

/-- drawOf(I)I -/
def wpX7_drawOf (post : Int32 → Mem → Prop) (h : Mem) (a1 : Int32) : Prop :=
  (∀ h1 : Mem, h1 = up2 h 56 0 (((h 56 0) * (1103515245 : Int32)) + (12345 : Int32)) → (¬ a1 = 0 ∧ post ((((h1 56 0) >>> ((16 : Int32) &&& 31)) &&& (32767 : Int32)) - (((h1 56 0) >>> ((16 : Int32) &&& 31)) &&& (32767 : Int32)) / a1 * a1) h1))
set_option maxHeartbeats 4000000 in
set_option maxRecDepth 100000 in
theorem metX7_drawOf (l : Launch) (D : va_G) (cA : Nat → ClassId) (z0 : Nat) (E : Nat → Nat → Nat) (ad : Nat → Nat) (h : Mem) (a1 : Int32) (post : Int32 → Mem → Prop) (hw : wpX7_drawOf post h a1) : MeI l D cA z0 E ad yX7_drawOf (ws_ yX7_drawOf cX7_drawOf 2 (some .int)) ({ frames := 1, cells := 0, slots := 0, locals := 30 }) [.ref (ad 69), .int a1] h post := by
  refine Met.ofW (cc := cX7_drawOf) (maxL := 2) (ret := (some .int)) (by decide) rfl ?_
  intro p e s m args below meth c s₁ B hml hv
  obtain ⟨rfl, hM, hK, hJ, hZ⟩ := hv
  have hx := B.exec
  have hb := B.bytes
  have hr := B.returns
  have hts := atoms_spec (ws := ws_ yX7_drawOf cX7_drawOf 2 (some .int)) B.pre
  have hts : ∀ w ∈ lw_all, w.before _ s = true := fun w h => hts w (List.mem_cons_of_mem _ h)
  have hown : s.vm.findClass RX7 = some m.cls := findClass_of_methodNamed B.named
  have hlocks := B.notSynchronized
  have hS : va_S (MA ad) s.heap s.heap [] := va_S.rf
  have hl := lv_entry ([.ref (ad 69), .int a1]) (n := 2) (Nat.le_of_ble_eq_true rfl)
  rw [lg_entry_eq]
  generalize (lg_sl ([.ref (ad 69), .int a1]) ++ List.replicate (2 - (lg_sl ([.ref (ad 69), .int a1])).length) Slot.unset).toArray = ls at hl ⊢
  have hl : lv_has ls 2 [(0, .ref (ad 69)), (1, .int a1)] := hl
  unfold wpX7_drawOf at hw
  refine lv_aload_n hx hb dX7_drawOf_0 rfl (lv_at hl 0 rfl) ?_
  refine lv_aload_n hx hb dX7_drawOf_1 rfl (lv_at hl 0 rfl) ?_
  refine M_get hx hb hts hown hK hM 56 (v := .int (h 56 0)) (by decide) (hts _ q1739) rfl dX7_drawOf_2 ?_
  refine lv_ldcw hx hb hown (hts _ q2303) dX7_drawOf_5 ?_
  refine lv_imul hx hb dX7_drawOf_8 ?_
  refine lv_sipush (v := (12345 : Int32)) hx hb dX7_drawOf_9 (by decide) ?_
  refine lv_iadd hx hb dX7_drawOf_12 ?_
  refine M_put hx hb hts hown hK hM hJ hS 56 rfl rfl (hts _ q1739) rfl .int (by decide +kernel) rfl rfl dX7_drawOf_13 (fun H locs hM hS => ?_)
  obtain ⟨h1, eh1⟩ : ∃ y : Mem, y = up2 h 56 0 (((h 56 0) * (1103515245 : Int32)) + (12345 : Int32)) := ⟨_, rfl⟩
  rw [← eh1] at hM
  have hw := hw h1 eh1
  refine lv_aload_n hx hb dX7_drawOf_16 rfl (lv_at hl 0 rfl) ?_
  refine M_get hx hb hts hown hK hM 56 (v := .int (h1 56 0)) (by decide) (hts _ q1739) rfl dX7_drawOf_17 ?_
  refine lv_bipush (v := (16 : Int32)) hx hb dX7_drawOf_20 (by decide) ?_
  refine lv_ishr hx hb dX7_drawOf_22 ?_
  refine lv_sipush (v := (32767 : Int32)) hx hb dX7_drawOf_23 (by decide) ?_
  refine lv_iand hx hb dX7_drawOf_26 ?_
  refine lv_iload_n hx hb dX7_drawOf_27 rfl (lv_at hl 1 rfl) ?_
  obtain ⟨hne, hw⟩ := hw
  refine lv_irem hx hb dX7_drawOf_28 hne ?_
  exact M_iret hx hb hr hlocks hM hS hw dX7_drawOf_29

/-- season(III)I -/
def wpBX7_season_149 (post : Int32 → Mem → Prop) (a1 : Int32) (a2 : Int32) (a3 : Int32) (K64 : Mem → Int32 → Int32 → Int32 → Prop) (h : Mem) (x4 : Int32) (x5 : Int32) (x6 : Int32)  : Prop :=
  (wpX7_cuttable (fun r30 => (wpX7_bitsOf (fun r32 => ((x6 = 0 → K64 h (x4 + r32) r32 (x6 + (1 : Int32))) ∧ (¬ x6 = 0 → K64 h (x4 + r32) (mnI x5 r32) (x6 + (1 : Int32))))) h r30)) h (1 : Int32))
def wpBX7_season_128 (post : Int32 → Mem → Prop) (a1 : Int32) (a2 : Int32) (a3 : Int32) (K64 : Mem → Int32 → Int32 → Int32 → Prop) (h : Mem) (x4 : Int32) (x5 : Int32) (x6 : Int32) (x7 : Int32) (s0 : Int32) : Prop :=
  ((x7 = s0 → wpBX7_season_149 post a1 a2 a3 K64 h x4 x5 x6) ∧ (¬ x7 = s0 → (wpX7_meet (fun h36 => wpBX7_season_149 post a1 a2 a3 K64 h36 x4 x5 x6) h x7 s0 (h 30 0))))
def wpBX7_season_103 (post : Int32 → Mem → Prop) (a1 : Int32) (a2 : Int32) (a3 : Int32) (K64 : Mem → Int32 → Int32 → Int32 → Prop) (h : Mem) (x4 : Int32) (x5 : Int32) (x6 : Int32) (s0 : Int32) : Prop :=
  (((h 3 0) = 0 → wpBX7_season_128 post a1 a2 a3 K64 h x4 x5 x6 s0 (0 : Int32)) ∧ (¬ (h 3 0) = 0 → (wpX7_drawOf (fun r27 h28 => wpBX7_season_128 post a1 a2 a3 K64 h28 x4 x5 x6 s0 r27) h (h 3 0))))
def wpBX7_season_64 (post : Int32 → Mem → Prop) (a1 : Int32) (a2 : Int32) (a3 : Int32)  (K64 : Mem → Int32 → Int32 → Int32 → Prop)  (h : Mem) (x4 : Int32) (x5 : Int32) (x6 : Int32) : Prop :=
  ((a2 ≤ x6 → (wpX7_knownBoth (fun r12 => (wpX7_unpack (fun h15 => post (if a3 = 0 then x4 else (if a3 = (1 : Int32) then x5 else r12)) h15) h 48 (0 : Int32))) h )) ∧ (¬ a2 ≤ x6 → (∀ h22 : Mem, h22 = up2 h 30 0 ((h 30 0) + (1 : Int32)) → (((h22 3 0) = 0 → wpBX7_season_103 post a1 a2 a3 K64 h22 x4 x5 x6 (0 : Int32)) ∧ (¬ (h22 3 0) = 0 → (wpX7_drawOf (fun r24 h25 => wpBX7_season_103 post a1 a2 a3 K64 h25 x4 x5 x6 r24) h22 (h22 3 0)))))))
def wpLX7_season_64 (post : Int32 → Mem → Prop) (a1 : Int32) (a2 : Int32) (a3 : Int32)   : Nat → (Mem × Int32 × Int32 × Int32) → Prop := LW (fun K s => wpBX7_season_64 post a1 a2 a3  (fun h x4 x5 x6 => K (h, x4, x5, x6))  s.1 s.2.1 s.2.2.1 s.2.2.2)
def wpX7_season (post : Int32 → Mem → Prop) (h : Mem) (a1 : Int32) (a2 : Int32) (a3 : Int32) : Prop :=
  (∀ h1 : Mem, h1 = up2 h 2 0 (0 : Int32) → (wpX7_isIn (fun r2 => ((r2 = true → (wpX7_isIn (fun r5 => ((r5 = true → (wpX7_pack (fun h9 => (∀ h10 : Mem, h10 = up2 h9 56 0 a1 → (∃ n, wpLX7_season_64 post a1 a2 a3   n (h10, (0 : Int32), (0 : Int32), (0 : Int32))))) h1 48 (0 : Int32))) ∧ (¬ r5 = true → (wpX7_fail (fun r38 h39 => post r38 h39) h1 (2 : Int32))))) h1 (a2).toInt64 (0 : Int64) (60 : Int64))) ∧ (¬ r2 = true → (wpX7_fail (fun r40 h41 => post r40 h41) h1 (1 : Int32))))) h1 (a3).toInt64 (0 : Int64) (2 : Int64)))
set_option maxHeartbeats 4000000 in
set_option maxRecDepth 100000 in
theorem metX7_season (l : Launch) (D : va_G) (cA : Nat → ClassId) (z0 : Nat) (E : Nat → Nat → Nat) (ad : Nat → Nat) (h : Mem) (a1 : Int32) (a2 : Int32) (a3 : Int32) (post : Int32 → Mem → Prop) (hw : wpX7_season post h a1 a2 a3) : MeI l D cA z0 E ad yX7_season (ws_ yX7_season cX7_season 10 (some .int)) ({ frames := 9, cells := 0, slots := 0, locals := 214 }) [.ref (ad 69), .int a1, .int a2, .int a3] h post := by
  refine Met.ofW (cc := cX7_season) (maxL := 10) (ret := (some .int)) (by decide) rfl ?_
  intro p e s m args below meth c s₁ B hml hv
  obtain ⟨rfl, hM, hK, hJ, hZ⟩ := hv
  have hx := B.exec
  have hb := B.bytes
  have hr := B.returns
  have hts := atoms_spec (ws := ws_ yX7_season cX7_season 10 (some .int)) B.pre
  have hts : ∀ w ∈ lw_all, w.before _ s = true := fun w h => hts w (List.mem_cons_of_mem _ h)
  have hown : s.vm.findClass RX7 = some m.cls := findClass_of_methodNamed B.named
  have hlocks := B.notSynchronized
  have hS : va_S (MA ad) s.heap s.heap [] := va_S.rf
  have hl := lv_entry ([.ref (ad 69), .int a1, .int a2, .int a3]) (n := 10) (Nat.le_of_ble_eq_true rfl)
  rw [lg_entry_eq]
  generalize (lg_sl ([.ref (ad 69), .int a1, .int a2, .int a3]) ++ List.replicate (10 - (lg_sl ([.ref (ad 69), .int a1, .int a2, .int a3])).length) Slot.unset).toArray = ls at hl ⊢
  have hl : lv_has ls 10 [(0, .ref (ad 69)), (1, .int a1), (2, .int a2), (3, .int a3)] := hl
  have hL64 : ∀  (n64 : Nat) (h : Mem) (x4 : Int32) (x5 : Int32) (x6 : Int32), wpLX7_season_64 post a1 a2 a3   n64 (h, x4, x5, x6) → JM p l e (headSpec (ws_ yX7_season cX7_season 10 (some .int)) ({ frames := 9, cells := 0, slots := 0, locals := 214 })).room s m ([.ref (ad 69), .int a1, .int a2, .int a3] : List Value).toArray below meth c (MQ below (MQi D cA E ad post) ([.ref (ad 69), .int a1, .int a2, .int a3] : List Value).toArray s 0 0 (MA ad)) D cA E ad 10 64 h [(0, .ref (ad 69)), (2, .int a2), (3, .int a3), (4, .int x4), (5, .int x5), (6, .int x6)] [] := by
    intro  n64
    induction n64 with
    | zero => intro h x4 x5 x6 hw; exact False.elim hw
    | succ n64 ih64 =>
      have hB149 : ∀ (h : Mem) (x4 : Int32) (x5 : Int32) (x6 : Int32), wpBX7_season_149 post a1 a2 a3 (fun h x4 x5 x6 => wpLX7_season_64 post a1 a2 a3   n64 (h, x4, x5, x6)) h x4 x5 x6 → JM p l e (headSpec (ws_ yX7_season cX7_season 10 (some .int)) ({ frames := 9, cells := 0, slots := 0, locals := 214 })).room s m ([.ref (ad 69), .int a1, .int a2, .int a3] : List Value).toArray below meth c (MQ below (MQi D cA E ad post) ([.ref (ad 69), .int a1, .int a2, .int a3] : List Value).toArray s 0 0 (MA ad)) D cA E ad 10 149 h [(0, .ref (ad 69)), (2, .int a2), (3, .int a3), (4, .int x4), (5, .int x5), (6, .int x6)] [] := by
        intro h x4 x5 x6 hw H locs ls hM hS hl
        unfold wpBX7_season_149 at hw
        refine lv_aload_n hx hb dX7_season_149 rfl (lv_at hl 0 rfl) ?_
        refine lv_iconst (v := (1 : Int32)) hx hb dX7_season_150 (by decide) ?_
        refine M_callIp (As := [.int (1 : Int32)]) (rest := []) ⟨hx, hb, hml, hown, hts⟩ hK hZ hM hJ hS (metX7_cuttable l D cA z0 E ad h (1 : Int32) _ hw) (cwV 1 hts (lw_V q2223 q2225 qs95 q130 q2226) rfl rfl rfl (by decide +kernel) ⟨Nat.le_of_ble_eq_true rfl, Nat.le_of_ble_eq_true rfl⟩) rfl hl.1 rfl (Nat.le_of_ble_eq_true rfl) dX7_season_151 ⟨Nat.zero_le _, Nat.zero_le _⟩ (fun r30 H locs hw hM hS => ?_)
        refine M_callISp (As := [.int r30]) (rest := []) ⟨hx, hb, hml, hown, hts⟩ hK hZ hM hJ hS (metX7_bitsOf l D cA z0 E ad h r30 _ hw) (va_cwS 1 hts (lw_S q2158 q2159 q130 q2160) rfl rfl rfl (by decide +kernel) ⟨Nat.le_of_ble_eq_true rfl, Nat.le_of_ble_eq_true rfl⟩) rfl hl.1 rfl (Nat.le_of_ble_eq_true rfl) dX7_season_154 ⟨Nat.zero_le _, Nat.zero_le _⟩ (fun r32 H locs hw hM hS => ?_)
        refine lv_istore (lv' := [(9, .int r32), (0, .ref (ad 69)), (2, .int a2), (3, .int a3), (4, .int x4), (5, .int x5), (6, .int x6)]) hx hb dX7_season_157 hl (by decide) rfl (fun ls hl => ?_)
        refine lv_iload hx hb dX7_season_159 (lv_at hl 4 rfl) ?_
        refine lv_iload hx hb dX7_season_161 (lv_at hl 0 rfl) ?_
        refine lv_iadd hx hb dX7_season_163 ?_
        refine lv_istore (lv' := [(4, .int (x4 + r32)), (9, .int r32), (0, .ref (ad 69)), (2, .int a2), (3, .int a3), (5, .int x5), (6, .int x6)]) hx hb dX7_season_164 hl (by decide) rfl (fun ls hl => ?_)
        refine lv_iload hx hb dX7_season_166 (lv_at hl 6 rfl) ?_
        refine lv_if_ne (tgt := 176) hx hb dX7_season_168 (by decide) (fun c34 => ?_) (fun c34 => ?_)
        · have hw := hw.2 c34
          refine lv_iload hx hb dX7_season_176 (lv_at hl 5 rfl) ?_
          refine lv_iload hx hb dX7_season_178 (lv_at hl 1 rfl) ?_
          refine J_mnI hx hb hml hl.1 hown (hts _ q1923) (hts _ q291) (hts _ q118) (hts _ q292) (Nat.le_of_ble_eq_true rfl) (Nat.le_of_ble_eq_true rfl) (Nat.zero_le _) (Nat.zero_le _) dX7_season_180 ?_
          refine lv_istore (lv' := [(5, .int (mnI x5 r32)), (4, .int (x4 + r32)), (9, .int r32), (0, .ref (ad 69)), (2, .int a2), (3, .int a3), (6, .int x6)]) hx hb dX7_season_183 hl (by decide) rfl (fun ls hl => ?_)
          refine lv_iinc (v := (x6 + (1 : Int32))) (lv' := [(6, .int (x6 + (1 : Int32))), (5, .int (mnI x5 r32)), (4, .int (x4 + r32)), (9, .int r32), (0, .ref (ad 69)), (2, .int a2), (3, .int a3)]) hx hb dX7_season_185 hl (k := 6) rfl rfl (by decide) rfl (fun ls hl => ?_)
          refine lv_goto (tgt := 64) hx hb dX7_season_188 (by decide) ?_
          exact ih64 h (x4 + r32) (mnI x5 r32) (x6 + (1 : Int32)) hw _ _ ls hM hS (lv_sub hl [4, 5, 6, 2, 1, 0] rfl)
        · have hw := hw.1 c34
          refine lv_iload hx hb dX7_season_171 (lv_at hl 1 rfl) ?_
          refine lv_goto (tgt := 183) hx hb dX7_season_173 (by decide) ?_
          refine lv_istore (lv' := [(5, .int r32), (4, .int (x4 + r32)), (9, .int r32), (0, .ref (ad 69)), (2, .int a2), (3, .int a3), (6, .int x6)]) hx hb dX7_season_183 hl (by decide) rfl (fun ls hl => ?_)
          refine lv_iinc (v := (x6 + (1 : Int32))) (lv' := [(6, .int (x6 + (1 : Int32))), (5, .int r32), (4, .int (x4 + r32)), (9, .int r32), (0, .ref (ad 69)), (2, .int a2), (3, .int a3)]) hx hb dX7_season_185 hl (k := 6) rfl rfl (by decide) rfl (fun ls hl => ?_)
          refine lv_goto (tgt := 64) hx hb dX7_season_188 (by decide) ?_
          exact ih64 h (x4 + r32) r32 (x6 + (1 : Int32)) hw _ _ ls hM hS (lv_sub hl [4, 5, 6, 2, 1, 0] rfl)
      have hB128 : ∀ (h : Mem) (x4 : Int32) (x5 : Int32) (x6 : Int32) (x7 : Int32) (s0 : Int32), wpBX7_season_128 post a1 a2 a3 (fun h x4 x5 x6 => wpLX7_season_64 post a1 a2 a3   n64 (h, x4, x5, x6)) h x4 x5 x6 x7 s0 → JM p l e (headSpec (ws_ yX7_season cX7_season 10 (some .int)) ({ frames := 9, cells := 0, slots := 0, locals := 214 })).room s m ([.ref (ad 69), .int a1, .int a2, .int a3] : List Value).toArray below meth c (MQ below (MQi D cA E ad post) ([.ref (ad 69), .int a1, .int a2, .int a3] : List Value).toArray s 0 0 (MA ad)) D cA E ad 10 128 h [(0, .ref (ad 69)), (2, .int a2), (3, .int a3), (4, .int x4), (5, .int x5), (6, .int x6), (7, .int x7)] [.int s0] := by
        intro h x4 x5 x6 x7 s0 hw H locs ls hM hS hl
        unfold wpBX7_season_128 at hw
        refine lv_istore (lv' := [(8, .int s0), (0, .ref (ad 69)), (2, .int a2), (3, .int a3), (4, .int x4), (5, .int x5), (6, .int x6), (7, .int x7)]) hx hb dX7_season_128 hl (by decide) rfl (fun ls hl => ?_)
        refine lv_iload hx hb dX7_season_130 (lv_at hl 7 rfl) ?_
        refine lv_iload hx hb dX7_season_132 (lv_at hl 0 rfl) ?_
        refine lv_icmp_eq (tgt := 149) hx hb dX7_season_134 (by decide) (fun c29 => ?_) (fun c29 => ?_)
        · have hw := hw.1 c29
          exact hB149 h x4 x5 x6 hw _ _ ls hM hS (lv_sub hl [1, 2, 3, 4, 5, 6] rfl)
        · have hw := hw.2 c29
          refine lv_aload_n hx hb dX7_season_137 rfl (lv_at hl 1 rfl) ?_
          refine lv_iload hx hb dX7_season_138 (lv_at hl 7 rfl) ?_
          refine lv_iload hx hb dX7_season_140 (lv_at hl 0 rfl) ?_
          refine lv_aload_n hx hb dX7_season_142 rfl (lv_at hl 1 rfl) ?_
          refine M_get hx hb hts hown hK hM 30 (v := .int (h 30 0)) (by decide) (hts _ q1713) rfl dX7_season_143 ?_
          refine M_callV (As := [.int x7, .int s0, .int (h 30 0)]) (rest := []) ⟨hx, hb, hml, hown, hts⟩ hK hZ hM hJ hS (metX7_meet l D cA z0 E ad h x7 s0 (h 30 0) _ hw) (cwV 3 hts (lw_V q2150 q2152 qs86 q130 q2153) rfl rfl rfl (by decide +kernel) ⟨Nat.le_of_ble_eq_true rfl, Nat.le_of_ble_eq_true rfl⟩) rfl hl.1 rfl (Nat.le_of_ble_eq_true rfl) dX7_season_146 ⟨Nat.zero_le _, Nat.zero_le _⟩ (fun h36 H locs hw hM hS => ?_)
          exact hB149 h36 x4 x5 x6 hw _ _ ls hM hS (lv_sub hl [1, 2, 3, 4, 5, 6] rfl)
      have hB103 : ∀ (h : Mem) (x4 : Int32) (x5 : Int32) (x6 : Int32) (s0 : Int32), wpBX7_season_103 post a1 a2 a3 (fun h x4 x5 x6 => wpLX7_season_64 post a1 a2 a3   n64 (h, x4, x5, x6)) h x4 x5 x6 s0 → JM p l e (headSpec (ws_ yX7_season cX7_season 10 (some .int)) ({ frames := 9, cells := 0, slots := 0, locals := 214 })).room s m ([.ref (ad 69), .int a1, .int a2, .int a3] : List Value).toArray below meth c (MQ below (MQi D cA E ad post) ([.ref (ad 69), .int a1, .int a2, .int a3] : List Value).toArray s 0 0 (MA ad)) D cA E ad 10 103 h [(0, .ref (ad 69)), (2, .int a2), (3, .int a3), (4, .int x4), (5, .int x5), (6, .int x6)] [.int s0] := by
        intro h x4 x5 x6 s0 hw H locs ls hM hS hl
        unfold wpBX7_season_103 at hw
        refine lv_istore (lv' := [(7, .int s0), (0, .ref (ad 69)), (2, .int a2), (3, .int a3), (4, .int x4), (5, .int x5), (6, .int x6)]) hx hb dX7_season_103 hl (by decide) rfl (fun ls hl => ?_)
        refine lv_aload_n hx hb dX7_season_105 rfl (lv_at hl 1 rfl) ?_
        refine M_get hx hb hts hown hK hM 3 (v := .ref (ad 3)) (by decide) (hts _ q1686) rfl dX7_season_106 ?_
        refine lv_iconst (v := (0 : Int32)) hx hb dX7_season_109 (by decide) ?_
        refine M_iald hx hb hK hM 3 rfl (j := 0) rfl (by unfold vp_in; decide) dX7_season_110 ?_
        refine lv_if_ne (tgt := 118) hx hb dX7_season_111 (by decide) (fun c26 => ?_) (fun c26 => ?_)
        · have hw := hw.2 c26
          refine lv_aload_n hx hb dX7_season_118 rfl (lv_at hl 1 rfl) ?_
          refine lv_aload_n hx hb dX7_season_119 rfl (lv_at hl 1 rfl) ?_
          refine M_get hx hb hts hown hK hM 3 (v := .ref (ad 3)) (by decide) (hts _ q1686) rfl dX7_season_120 ?_
          refine lv_iconst (v := (0 : Int32)) hx hb dX7_season_123 (by decide) ?_
          refine M_iald hx hb hK hM 3 rfl (j := 0) rfl (by unfold vp_in; decide) dX7_season_124 ?_
          refine M_callI (As := [.int (h 3 0)]) (rest := []) ⟨hx, hb, hml, hown, hts⟩ hK hZ hM hJ hS (metX7_drawOf l D cA z0 E ad h (h 3 0) _ hw) (cwV 1 hts (lw_V q2299 q2301 qs102 q130 q2302) rfl rfl rfl (by decide +kernel) ⟨Nat.le_of_ble_eq_true rfl, Nat.le_of_ble_eq_true rfl⟩) rfl hl.1 rfl (Nat.le_of_ble_eq_true rfl) dX7_season_125 ⟨Nat.zero_le _, Nat.zero_le _⟩ (fun r27 h28 H locs hw hM hS => ?_)
          exact hB128 h28 x4 x5 x6 s0 r27 hw _ _ ls hM hS (lv_sub hl [1, 2, 3, 4, 5, 6, 0] rfl)
        · have hw := hw.1 c26
          refine lv_iconst (v := (0 : Int32)) hx hb dX7_season_114 (by decide) ?_
          refine lv_goto (tgt := 128) hx hb dX7_season_115 (by decide) ?_
          exact hB128 h x4 x5 x6 s0 (0 : Int32) hw _ _ ls hM hS (lv_sub hl [1, 2, 3, 4, 5, 6, 0] rfl)
      intro h x4 x5 x6 hw H locs ls hM hS hl
      have hw : wpBX7_season_64 post a1 a2 a3  (fun h x4 x5 x6 => wpLX7_season_64 post a1 a2 a3   n64 (h, x4, x5, x6))  h x4 x5 x6 := hw
      unfold wpBX7_season_64 at hw
      refine lv_iload hx hb dX7_season_64 (lv_at hl 5 rfl) ?_
      refine lv_iload_n hx hb dX7_season_66 rfl (lv_at hl 1 rfl) ?_
      refine lv_icmp_ge (tgt := 191) hx hb dX7_season_67 (by decide) (fun c11 => ?_) (fun c11 => ?_)
      · have hw := hw.1 c11
        refine lv_aload_n hx hb dX7_season_191 rfl (lv_at hl 0 rfl) ?_
        refine M_callIp (As := []) (rest := []) ⟨hx, hb, hml, hown, hts⟩ hK hZ hM hJ hS (metX7_knownBoth l D cA z0 E ad h  _ hw) (cwV 0 hts (lw_V q2035 q2037 qs67 q130 q2038) rfl rfl rfl (by decide +kernel) ⟨Nat.le_of_ble_eq_true rfl, Nat.le_of_ble_eq_true rfl⟩) rfl hl.1 rfl (Nat.le_of_ble_eq_true rfl) dX7_season_192 ⟨Nat.zero_le _, Nat.zero_le _⟩ (fun r12 H locs hw hM hS => ?_)
        refine lv_istore (lv' := [(6, .int r12), (0, .ref (ad 69)), (2, .int a2), (3, .int a3), (4, .int x4), (5, .int x5)]) hx hb dX7_season_195 hl (by decide) rfl (fun ls hl => ?_)
        refine lv_aload_n hx hb dX7_season_197 rfl (lv_at hl 1 rfl) ?_
        refine lv_aload_n hx hb dX7_season_198 rfl (lv_at hl 1 rfl) ?_
        refine M_get hx hb hts hown hK hM 48 (v := .ref (ad 48)) (by decide) (hts _ q1731) rfl dX7_season_199 ?_
        refine lv_iconst (v := (0 : Int32)) hx hb dX7_season_202 (by decide) ?_
        refine M_callV (As := [.ref (ad 48), .int (0 : Int32)]) (rest := []) ⟨hx, hb, hml, hown, hts⟩ hK hZ hM hJ hS (metX7_unpack l D cA z0 E ad h 48 (0 : Int32) _ (by first | exact rfl | rfl) hw) (cwV 2 hts (lw_V q2174 q2176 qs88 q130 q2177) rfl rfl rfl (by decide +kernel) ⟨Nat.le_of_ble_eq_true rfl, Nat.le_of_ble_eq_true rfl⟩) rfl hl.1 rfl (Nat.le_of_ble_eq_true rfl) dX7_season_203 ⟨Nat.zero_le _, Nat.zero_le _⟩ (fun h15 H locs hw hM hS => ?_)
        refine lv_iload_n hx hb dX7_season_206 rfl (lv_at hl 3 rfl) ?_
        have hj16 : JM p l e (headSpec (ws_ yX7_season cX7_season 10 (some .int)) ({ frames := 9, cells := 0, slots := 0, locals := 214 })).room s m ([.ref (ad 69), .int a1, .int a2, .int a3] : List Value).toArray below meth c (MQ below (MQi D cA E ad post) ([.ref (ad 69), .int a1, .int a2, .int a3] : List Value).toArray s 0 0 (MA ad)) D cA E ad 10 227 h15 [] [.int (if a3 = 0 then x4 else (if a3 = (1 : Int32) then x5 else r12))] := by
          intro H locs ls hM hS hl
          exact M_iret hx hb hr hlocks hM hS hw dX7_season_227
        refine lv_if_ne (tgt := 215) hx hb dX7_season_207 (by decide) (fun c17 => ?_) (fun c17 => ?_)
        · refine lv_iload_n hx hb dX7_season_215 rfl (lv_at hl 3 rfl) ?_
          refine lv_iconst (v := (1 : Int32)) hx hb dX7_season_216 (by decide) ?_
          refine lv_icmp_ne (tgt := 225) hx hb dX7_season_217 (by decide) (fun c18 => ?_) (fun c18 => ?_)
          · refine lv_iload hx hb dX7_season_225 (lv_at hl 0 rfl) ?_
            have e19 : (if a3 = 0 then x4 else (if a3 = (1 : Int32) then x5 else r12)) = r12 := by rw [if_neg c17, if_neg c18]
            rw [e19] at hj16
            exact hj16 _ _ ls hM hS (lv_sub hl [] rfl)
          · refine lv_iload hx hb dX7_season_220 (lv_at hl 5 rfl) ?_
            refine lv_goto (tgt := 227) hx hb dX7_season_222 (by decide) ?_
            have e20 : (if a3 = 0 then x4 else (if a3 = (1 : Int32) then x5 else r12)) = x5 := by rw [if_neg c17, if_pos c18]
            rw [e20] at hj16
            exact hj16 _ _ ls hM hS (lv_sub hl [] rfl)
        · refine lv_iload hx hb dX7_season_210 (lv_at hl 4 rfl) ?_
          refine lv_goto (tgt := 227) hx hb dX7_season_212 (by decide) ?_
          have e21 : (if a3 = 0 then x4 else (if a3 = (1 : Int32) then x5 else r12)) = x4 := by rw [if_pos c17]
          rw [e21] at hj16
          exact hj16 _ _ ls hM hS (lv_sub hl [] rfl)
      · have hw := hw.2 c11
        refine lv_aload_n hx hb dX7_season_70 rfl (lv_at hl 0 rfl) ?_
        refine lv_dup hx hb dX7_season_71 rfl ?_
        refine M_get hx hb hts hown hK hM 30 (v := .int (h 30 0)) (by decide) (hts _ q1713) rfl dX7_season_72 ?_
        refine lv_iconst (v := (1 : Int32)) hx hb dX7_season_75 (by decide) ?_
        refine lv_iadd hx hb dX7_season_76 ?_
        refine M_put hx hb hts hown hK hM hJ hS 30 rfl rfl (hts _ q1713) rfl .int (by decide +kernel) rfl rfl dX7_season_77 (fun H locs hM hS => ?_)
        obtain ⟨h22, eh22⟩ : ∃ y : Mem, y = up2 h 30 0 ((h 30 0) + (1 : Int32)) := ⟨_, rfl⟩
        rw [← eh22] at hM
        have hw := hw h22 eh22
        refine lv_aload_n hx hb dX7_season_80 rfl (lv_at hl 0 rfl) ?_
        refine M_get hx hb hts hown hK hM 3 (v := .ref (ad 3)) (by decide) (hts _ q1686) rfl dX7_season_81 ?_
        refine lv_iconst (v := (0 : Int32)) hx hb dX7_season_84 (by decide) ?_
        refine M_iald hx hb hK hM 3 rfl (j := 0) rfl (by unfold vp_in; decide) dX7_season_85 ?_
        refine lv_if_ne (tgt := 93) hx hb dX7_season_86 (by decide) (fun c23 => ?_) (fun c23 => ?_)
        · have hw := hw.2 c23
          refine lv_aload_n hx hb dX7_season_93 rfl (lv_at hl 0 rfl) ?_
          refine lv_aload_n hx hb dX7_season_94 rfl (lv_at hl 0 rfl) ?_
          refine M_get hx hb hts hown hK hM 3 (v := .ref (ad 3)) (by decide) (hts _ q1686) rfl dX7_season_95 ?_
          refine lv_iconst (v := (0 : Int32)) hx hb dX7_season_98 (by decide) ?_
          refine M_iald hx hb hK hM 3 rfl (j := 0) rfl (by unfold vp_in; decide) dX7_season_99 ?_
          refine M_callI (As := [.int (h22 3 0)]) (rest := []) ⟨hx, hb, hml, hown, hts⟩ hK hZ hM hJ hS (metX7_drawOf l D cA z0 E ad h22 (h22 3 0) _ hw) (cwV 1 hts (lw_V q2299 q2301 qs102 q130 q2302) rfl rfl rfl (by decide +kernel) ⟨Nat.le_of_ble_eq_true rfl, Nat.le_of_ble_eq_true rfl⟩) rfl hl.1 rfl (Nat.le_of_ble_eq_true rfl) dX7_season_100 ⟨Nat.zero_le _, Nat.zero_le _⟩ (fun r24 h25 H locs hw hM hS => ?_)
          exact hB103 h25 x4 x5 x6 r24 hw _ _ ls hM hS (lv_sub hl [0, 1, 2, 3, 4, 5] rfl)
        · have hw := hw.1 c23
          refine lv_iconst (v := (0 : Int32)) hx hb dX7_season_89 (by decide) ?_
          refine lv_goto (tgt := 103) hx hb dX7_season_90 (by decide) ?_
          exact hB103 h22 x4 x5 x6 (0 : Int32) hw _ _ ls hM hS (lv_sub hl [0, 1, 2, 3, 4, 5] rfl)
  unfold wpX7_season at hw
  refine lv_aload_n hx hb dX7_season_0 rfl (lv_at hl 0 rfl) ?_
  refine lv_iconst (v := (0 : Int32)) hx hb dX7_season_1 (by decide) ?_
  refine M_put hx hb hts hown hK hM hJ hS 2 rfl rfl (hts _ q1685) rfl .int (by decide +kernel) rfl rfl dX7_season_2 (fun H locs hM hS => ?_)
  obtain ⟨h1, eh1⟩ : ∃ y : Mem, y = up2 h 2 0 (0 : Int32) := ⟨_, rfl⟩
  rw [← eh1] at hM
  have hw := hw h1 eh1
  refine lv_iload_n hx hb dX7_season_5 rfl (lv_at hl 3 rfl) ?_
  refine lv_i2l (v := (a3).toInt64) hx hb dX7_season_6 rfl ?_
  refine lv_lconst (v := (0 : Int64)) hx hb dX7_season_7 (by decide) ?_
  refine lv_ldc2 hx hb hown (hts _ q2297) dX7_season_8 ?_
  refine M_callZSp (As := [.long (a3).toInt64, .long (0 : Int64), .long (2 : Int64)]) (rest := []) ⟨hx, hb, hml, hown, hts⟩ hK hZ hM hJ hS (metX7_isIn l D cA z0 E ad h1 (a3).toInt64 (0 : Int64) (2 : Int64) _ hw) (va_cwS 3 hts (lw_S q2059 q2060 q130 q2061) rfl rfl rfl (by decide +kernel) ⟨Nat.le_of_ble_eq_true rfl, Nat.le_of_ble_eq_true rfl⟩) rfl hl.1 rfl (Nat.le_of_ble_eq_true rfl) dX7_season_11 ⟨Nat.zero_le _, Nat.zero_le _⟩ (fun r2 H locs hw hM hS => ?_)
  refine lv_if_ne (tgt := 23) hx hb dX7_season_14 (by decide) (fun c4 => ?_) (fun c4 => ?_)
  · have c4 := b2i_t c4
    have hw := hw.1 c4
    refine lv_iload_n hx hb dX7_season_23 rfl (lv_at hl 2 rfl) ?_
    refine lv_i2l (v := (a2).toInt64) hx hb dX7_season_24 rfl ?_
    refine lv_lconst (v := (0 : Int64)) hx hb dX7_season_25 (by decide) ?_
    refine lv_ldc2 hx hb hown (hts _ q2298) dX7_season_26 ?_
    refine M_callZSp (As := [.long (a2).toInt64, .long (0 : Int64), .long (60 : Int64)]) (rest := []) ⟨hx, hb, hml, hown, hts⟩ hK hZ hM hJ hS (metX7_isIn l D cA z0 E ad h1 (a2).toInt64 (0 : Int64) (60 : Int64) _ hw) (va_cwS 3 hts (lw_S q2059 q2060 q130 q2061) rfl rfl rfl (by decide +kernel) ⟨Nat.le_of_ble_eq_true rfl, Nat.le_of_ble_eq_true rfl⟩) rfl hl.1 rfl (Nat.le_of_ble_eq_true rfl) dX7_season_29 ⟨Nat.zero_le _, Nat.zero_le _⟩ (fun r5 H locs hw hM hS => ?_)
    refine lv_if_ne (tgt := 41) hx hb dX7_season_32 (by decide) (fun c7 => ?_) (fun c7 => ?_)
    · have c7 := b2i_t c7
      have hw := hw.1 c7
      refine lv_aload_n hx hb dX7_season_41 rfl (lv_at hl 0 rfl) ?_
      refine lv_aload_n hx hb dX7_season_42 rfl (lv_at hl 0 rfl) ?_
      refine M_get hx hb hts hown hK hM 48 (v := .ref (ad 48)) (by decide) (hts _ q1731) rfl dX7_season_43 ?_
      refine lv_iconst (v := (0 : Int32)) hx hb dX7_season_46 (by decide) ?_
      refine M_callV (As := [.ref (ad 48), .int (0 : Int32)]) (rest := []) ⟨hx, hb, hml, hown, hts⟩ hK hZ hM hJ hS (metX7_pack l D cA z0 E ad h1 48 (0 : Int32) _ (by first | exact rfl | rfl) hw) (cwV 2 hts (lw_V q2138 q2140 qs84 q130 q2141) rfl rfl rfl (by decide +kernel) ⟨Nat.le_of_ble_eq_true rfl, Nat.le_of_ble_eq_true rfl⟩) rfl hl.1 rfl (Nat.le_of_ble_eq_true rfl) dX7_season_47 ⟨Nat.zero_le _, Nat.zero_le _⟩ (fun h9 H locs hw hM hS => ?_)
      refine lv_aload_n hx hb dX7_season_50 rfl (lv_at hl 0 rfl) ?_
      refine lv_iload_n hx hb dX7_season_51 rfl (lv_at hl 1 rfl) ?_
      refine M_put hx hb hts hown hK hM hJ hS 56 rfl rfl (hts _ q1739) rfl .int (by decide +kernel) rfl rfl dX7_season_52 (fun H locs hM hS => ?_)
      obtain ⟨h10, eh10⟩ : ∃ y : Mem, y = up2 h9 56 0 a1 := ⟨_, rfl⟩
      rw [← eh10] at hM
      have hw := hw h10 eh10
      refine lv_iconst (v := (0 : Int32)) hx hb dX7_season_55 (by decide) ?_
      refine lv_istore (lv' := [(4, .int (0 : Int32)), (0, .ref (ad 69)), (1, .int a1), (2, .int a2), (3, .int a3)]) hx hb dX7_season_56 hl (by decide) rfl (fun ls hl => ?_)
      refine lv_iconst (v := (0 : Int32)) hx hb dX7_season_58 (by decide) ?_
      refine lv_istore (lv' := [(5, .int (0 : Int32)), (4, .int (0 : Int32)), (0, .ref (ad 69)), (1, .int a1), (2, .int a2), (3, .int a3)]) hx hb dX7_season_59 hl (by decide) rfl (fun ls hl => ?_)
      refine lv_iconst (v := (0 : Int32)) hx hb dX7_season_61 (by decide) ?_
      refine lv_istore (lv' := [(6, .int (0 : Int32)), (5, .int (0 : Int32)), (4, .int (0 : Int32)), (0, .ref (ad 69)), (1, .int a1), (2, .int a2), (3, .int a3)]) hx hb dX7_season_62 hl (by decide) rfl (fun ls hl => ?_)
      obtain ⟨n37, hw⟩ := hw
      exact hL64 n37 h10 (0 : Int32) (0 : Int32) (0 : Int32) hw _ _ ls hM hS (lv_sub hl [3, 5, 6, 2, 1, 0] rfl)
    · have c7 := b2i_f c7
      have hw := hw.2 c7
      refine lv_aload_n hx hb dX7_season_35 rfl (lv_at hl 0 rfl) ?_
      refine lv_iconst (v := (2 : Int32)) hx hb dX7_season_36 (by decide) ?_
      refine M_callI (As := [.int (2 : Int32)]) (rest := []) ⟨hx, hb, hml, hown, hts⟩ hK hZ hM hJ hS (metX7_fail l D cA z0 E ad h1 (2 : Int32) _ hw) (cwV 1 hts (lw_V q1903 q1905 qs44 q130 q1906) rfl rfl rfl (by decide +kernel) ⟨Nat.le_of_ble_eq_true rfl, Nat.le_of_ble_eq_true rfl⟩) rfl hl.1 rfl (Nat.le_of_ble_eq_true rfl) dX7_season_37 ⟨Nat.zero_le _, Nat.zero_le _⟩ (fun r38 h39 H locs hw hM hS => ?_)
      exact M_iret hx hb hr hlocks hM hS hw dX7_season_40
  · have c4 := b2i_f c4
    have hw := hw.2 c4
    refine lv_aload_n hx hb dX7_season_17 rfl (lv_at hl 0 rfl) ?_
    refine lv_iconst (v := (1 : Int32)) hx hb dX7_season_18 (by decide) ?_
    refine M_callI (As := [.int (1 : Int32)]) (rest := []) ⟨hx, hb, hml, hown, hts⟩ hK hZ hM hJ hS (metX7_fail l D cA z0 E ad h1 (1 : Int32) _ hw) (cwV 1 hts (lw_V q1903 q1905 qs44 q130 q1906) rfl rfl rfl (by decide +kernel) ⟨Nat.le_of_ble_eq_true rfl, Nat.le_of_ble_eq_true rfl⟩) rfl hl.1 rfl (Nat.le_of_ble_eq_true rfl) dX7_season_19 ⟨Nat.zero_le _, Nat.zero_le _⟩ (fun r40 h41 H locs hw hM hS => ?_)
    exact M_iret hx hb hr hlocks hM hS hw dX7_season_22

/-- be(II)V -/
def wpBX7_be_2 (post : Mem → Prop) (k0 : Nat) (k1 : Nat)  (K2 : Mem → Int32 → Prop)  (h : Mem) (x2 : Int32) : Prop :=
  (((nI (mlen k0)) ≤ x2 → post h) ∧ (¬ (nI (mlen k0)) ≤ x2 → (vp_in x2 (mlen k1) ∧ (vp_in x2 (mlen k0) ∧ (∀ h4 : Mem, h4 = up2 h k0 (ix x2) (h k1 (ix x2)) → K2 h4 (x2 + (1 : Int32)))))))
def wpLX7_be_2 (post : Mem → Prop) (k0 : Nat) (k1 : Nat)   : Nat → (Mem × Int32) → Prop := LW (fun K s => wpBX7_be_2 post k0 k1  (fun h x2 => K (h, x2))  s.1 s.2)
def wpX7_be (post : Mem → Prop) (h : Mem) (k0 : Nat) (k1 : Nat) : Prop :=
  (∃ n, wpLX7_be_2 post k0 k1   n (h, (0 : Int32)))
set_option maxHeartbeats 4000000 in
set_option maxRecDepth 100000 in
theorem metX7_be (l : Launch) (D : va_G) (cA : Nat → ClassId) (z0 : Nat) (E : Nat → Nat → Nat) (ad : Nat → Nat) (h : Mem) (k0 : Nat) (k1 : Nat) (post : Mem → Prop) (hk0 : marr k0 = true) (hk1 : marr k1 = true) (hw : wpX7_be post h k0 k1) : MeV l D cA z0 E ad yX7_be (ws_ yX7_be cX7_be 3 none) ({ frames := 1, cells := 0, slots := 0, locals := 30 }) [.ref (ad k0), .ref (ad k1)] h post := by
  refine Met.ofW (cc := cX7_be) (maxL := 3) (ret := none) (by decide) rfl ?_
  intro p e s m args below meth c s₁ B hml hv
  obtain ⟨rfl, hM, hK, hJ, hZ⟩ := hv
  have hx := B.exec
  have hb := B.bytes
  have hr := B.returns
  have hts := atoms_spec (ws := ws_ yX7_be cX7_be 3 none) B.pre
  have hts : ∀ w ∈ lw_all, w.before _ s = true := fun w h => hts w (List.mem_cons_of_mem _ h)
  have hown : s.vm.findClass RX7 = some m.cls := findClass_of_methodNamed B.named
  have hlocks := B.notSynchronized
  have hS : va_S (MA ad) s.heap s.heap [] := va_S.rf
  have hl := lv_entry ([.ref (ad k0), .ref (ad k1)]) (n := 3) (Nat.le_of_ble_eq_true rfl)
  rw [lg_entry_eq]
  generalize (lg_sl ([.ref (ad k0), .ref (ad k1)]) ++ List.replicate (3 - (lg_sl ([.ref (ad k0), .ref (ad k1)])).length) Slot.unset).toArray = ls at hl ⊢
  have hl : lv_has ls 3 [(0, .ref (ad k0)), (1, .ref (ad k1))] := hl
  have hL2 : ∀  (n2 : Nat) (h : Mem) (x2 : Int32), wpLX7_be_2 post k0 k1   n2 (h, x2) → JM p l e (headSpec (ws_ yX7_be cX7_be 3 none) ({ frames := 1, cells := 0, slots := 0, locals := 30 })).room s m ([.ref (ad k0), .ref (ad k1)] : List Value).toArray below meth c (MQ below (MQv D cA E ad post) ([.ref (ad k0), .ref (ad k1)] : List Value).toArray s 0 0 (MA ad)) D cA E ad 3 2 h [(0, .ref (ad k0)), (1, .ref (ad k1)), (2, .int x2)] [] := by
    intro  n2
    induction n2 with
    | zero => intro h x2 hw; exact False.elim hw
    | succ n2 ih2 =>
      intro h x2 hw H locs ls hM hS hl
      have hw : wpBX7_be_2 post k0 k1  (fun h x2 => wpLX7_be_2 post k0 k1   n2 (h, x2))  h x2 := hw
      unfold wpBX7_be_2 at hw
      refine lv_iload_n hx hb dX7_be_2 rfl (lv_at hl 2 rfl) ?_
      refine lv_aload_n hx hb dX7_be_3 rfl (lv_at hl 0 rfl) ?_
      refine M_alen hx hb hK hM k0 hk0 dX7_be_4 ?_
      refine lv_icmp_ge (tgt := 20) hx hb dX7_be_5 (by decide) (fun c1 => ?_) (fun c1 => ?_)
      · have hw := hw.1 c1
        exact M_vret hx hb hr hlocks hM hS hw dX7_be_20
      · have hw := hw.2 c1
        refine lv_aload_n hx hb dX7_be_8 rfl (lv_at hl 0 rfl) ?_
        refine lv_iload_n hx hb dX7_be_9 rfl (lv_at hl 2 rfl) ?_
        refine lv_aload_n hx hb dX7_be_10 rfl (lv_at hl 1 rfl) ?_
        refine lv_iload_n hx hb dX7_be_11 rfl (lv_at hl 2 rfl) ?_
        obtain ⟨hb2, hw⟩ := hw
        refine M_iald hx hb hK hM k1 hk1 (j := (ix x2)) rfl hb2 dX7_be_12 ?_
        obtain ⟨hb3, hw⟩ := hw
        refine M_iast hx hb hK hM hJ hS k0 hk0 (j := (ix x2)) rfl hb3 dX7_be_13 (fun H locs hM hS => ?_)
        obtain ⟨h4, eh4⟩ : ∃ y : Mem, y = up2 h k0 (ix x2) (h k1 (ix x2)) := ⟨_, rfl⟩
        rw [← eh4] at hM
        have hw := hw h4 eh4
        refine lv_iinc (v := (x2 + (1 : Int32))) (lv' := [(2, .int (x2 + (1 : Int32))), (0, .ref (ad k0)), (1, .ref (ad k1))]) hx hb dX7_be_14 hl (k := 2) rfl rfl (by decide) rfl (fun ls hl => ?_)
        refine lv_goto (tgt := 2) hx hb dX7_be_17 (by decide) ?_
        exact ih2 h4 (x2 + (1 : Int32)) hw _ _ ls hM hS (lv_sub hl [1, 2, 0] rfl)
  unfold wpX7_be at hw
  refine lv_iconst (v := (0 : Int32)) hx hb dX7_be_0 (by decide) ?_
  refine lv_istore_n (lv' := [(2, .int (0 : Int32)), (0, .ref (ad k0)), (1, .ref (ad k1))]) hx hb dX7_be_1 rfl hl (by decide) rfl (fun ls hl => ?_)
  obtain ⟨n5, hw⟩ := hw
  exact hL2 n5 h (0 : Int32) hw _ _ ls hM hS (lv_sub hl [1, 2, 0] rfl)

/-- image()V -/
def wpX7_image (post : Mem → Prop) (h : Mem)  : Prop :=
  (∀ h1 : Mem, h1 = up2 h 2 0 (0 : Int32) → (∀ h2 : Mem, h2 = up2 h1 57 0 (1 : Int32) → (∀ h3 : Mem, h3 = up2 h2 58 0 (h2 32 0) → (∀ h4 : Mem, h4 = up2 h3 59 0 (h3 33 0) → (∀ h5 : Mem, h5 = up2 h4 60 0 (h4 34 0) → (wpX7_pack (fun h7 => (wpX7_be (fun h9 => (wpX7_be (fun h11 => (wpX7_be (fun h13 => (wpX7_be (fun h15 => (wpX7_be (fun h17 => (wpX7_be (fun h19 => (wpX7_be (fun h21 => post h21) h19 68 15)) h17 67 55)) h15 66 54)) h13 65 53)) h11 64 52)) h9 63 51)) h7 62 29)) h5 61 (0 : Int32)))))))
set_option maxHeartbeats 4000000 in
set_option maxRecDepth 100000 in
theorem metX7_image (l : Launch) (D : va_G) (cA : Nat → ClassId) (z0 : Nat) (E : Nat → Nat → Nat) (ad : Nat → Nat) (h : Mem)  (post : Mem → Prop) (hw : wpX7_image post h ) : MeV l D cA z0 E ad yX7_image (ws_ yX7_image cX7_image 1 none) ({ frames := 2, cells := 0, slots := 0, locals := 54 }) [.ref (ad 69)] h post := by
  refine Met.ofW (cc := cX7_image) (maxL := 1) (ret := none) (by decide) rfl ?_
  intro p e s m args below meth c s₁ B hml hv
  obtain ⟨rfl, hM, hK, hJ, hZ⟩ := hv
  have hx := B.exec
  have hb := B.bytes
  have hr := B.returns
  have hts := atoms_spec (ws := ws_ yX7_image cX7_image 1 none) B.pre
  have hts : ∀ w ∈ lw_all, w.before _ s = true := fun w h => hts w (List.mem_cons_of_mem _ h)
  have hown : s.vm.findClass RX7 = some m.cls := findClass_of_methodNamed B.named
  have hlocks := B.notSynchronized
  have hS : va_S (MA ad) s.heap s.heap [] := va_S.rf
  have hl := lv_entry ([.ref (ad 69)]) (n := 1) (Nat.le_of_ble_eq_true rfl)
  rw [lg_entry_eq]
  generalize (lg_sl ([.ref (ad 69)]) ++ List.replicate (1 - (lg_sl ([.ref (ad 69)])).length) Slot.unset).toArray = ls at hl ⊢
  have hl : lv_has ls 1 [(0, .ref (ad 69))] := hl
  unfold wpX7_image at hw
  refine lv_aload_n hx hb dX7_image_0 rfl (lv_at hl 0 rfl) ?_
  refine lv_iconst (v := (0 : Int32)) hx hb dX7_image_1 (by decide) ?_
  refine M_put hx hb hts hown hK hM hJ hS 2 rfl rfl (hts _ q1685) rfl .int (by decide +kernel) rfl rfl dX7_image_2 (fun H locs hM hS => ?_)
  obtain ⟨h1, eh1⟩ : ∃ y : Mem, y = up2 h 2 0 (0 : Int32) := ⟨_, rfl⟩
  rw [← eh1] at hM
  have hw := hw h1 eh1
  refine lv_aload_n hx hb dX7_image_5 rfl (lv_at hl 0 rfl) ?_
  refine lv_iconst (v := (1 : Int32)) hx hb dX7_image_6 (by decide) ?_
  refine M_put hx hb hts hown hK hM hJ hS 57 rfl rfl (hts _ q1740) rfl .boolean (by decide +kernel) rfl rfl dX7_image_7 (fun H locs hM hS => ?_)
  obtain ⟨h2, eh2⟩ : ∃ y : Mem, y = up2 h1 57 0 (1 : Int32) := ⟨_, rfl⟩
  rw [← eh2] at hM
  have hw := hw h2 eh2
  refine lv_aload_n hx hb dX7_image_10 rfl (lv_at hl 0 rfl) ?_
  refine lv_aload_n hx hb dX7_image_11 rfl (lv_at hl 0 rfl) ?_
  refine M_get hx hb hts hown hK hM 32 (v := .int (h2 32 0)) (by decide) (hts _ q1715) rfl dX7_image_12 ?_
  refine M_put hx hb hts hown hK hM hJ hS 58 rfl rfl (hts _ q1741) rfl .int (by decide +kernel) rfl rfl dX7_image_15 (fun H locs hM hS => ?_)
  obtain ⟨h3, eh3⟩ : ∃ y : Mem, y = up2 h2 58 0 (h2 32 0) := ⟨_, rfl⟩
  rw [← eh3] at hM
  have hw := hw h3 eh3
  refine lv_aload_n hx hb dX7_image_18 rfl (lv_at hl 0 rfl) ?_
  refine lv_aload_n hx hb dX7_image_19 rfl (lv_at hl 0 rfl) ?_
  refine M_get hx hb hts hown hK hM 33 (v := .int (h3 33 0)) (by decide) (hts _ q1716) rfl dX7_image_20 ?_
  refine M_put hx hb hts hown hK hM hJ hS 59 rfl rfl (hts _ q1742) rfl .int (by decide +kernel) rfl rfl dX7_image_23 (fun H locs hM hS => ?_)
  obtain ⟨h4, eh4⟩ : ∃ y : Mem, y = up2 h3 59 0 (h3 33 0) := ⟨_, rfl⟩
  rw [← eh4] at hM
  have hw := hw h4 eh4
  refine lv_aload_n hx hb dX7_image_26 rfl (lv_at hl 0 rfl) ?_
  refine lv_aload_n hx hb dX7_image_27 rfl (lv_at hl 0 rfl) ?_
  refine M_get hx hb hts hown hK hM 34 (v := .int (h4 34 0)) (by decide) (hts _ q1717) rfl dX7_image_28 ?_
  refine M_put hx hb hts hown hK hM hJ hS 60 rfl rfl (hts _ q1743) rfl .int (by decide +kernel) rfl rfl dX7_image_31 (fun H locs hM hS => ?_)
  obtain ⟨h5, eh5⟩ : ∃ y : Mem, y = up2 h4 60 0 (h4 34 0) := ⟨_, rfl⟩
  rw [← eh5] at hM
  have hw := hw h5 eh5
  refine lv_aload_n hx hb dX7_image_34 rfl (lv_at hl 0 rfl) ?_
  refine lv_aload_n hx hb dX7_image_35 rfl (lv_at hl 0 rfl) ?_
  refine M_get hx hb hts hown hK hM 61 (v := .ref (ad 61)) (by decide) (hts _ q1744) rfl dX7_image_36 ?_
  refine lv_iconst (v := (0 : Int32)) hx hb dX7_image_39 (by decide) ?_
  refine M_callV (As := [.ref (ad 61), .int (0 : Int32)]) (rest := []) ⟨hx, hb, hml, hown, hts⟩ hK hZ hM hJ hS (metX7_pack l D cA z0 E ad h5 61 (0 : Int32) _ (by first | exact rfl | rfl) hw) (cwV 2 hts (lw_V q2138 q2140 qs84 q130 q2141) rfl rfl rfl (by decide +kernel) ⟨Nat.le_of_ble_eq_true rfl, Nat.le_of_ble_eq_true rfl⟩) rfl hl.1 rfl (Nat.le_of_ble_eq_true rfl) dX7_image_40 ⟨Nat.zero_le _, Nat.zero_le _⟩ (fun h7 H locs hw hM hS => ?_)
  refine lv_aload_n hx hb dX7_image_43 rfl (lv_at hl 0 rfl) ?_
  refine M_get hx hb hts hown hK hM 62 (v := .ref (ad 62)) (by decide) (hts _ q1745) rfl dX7_image_44 ?_
  refine lv_aload_n hx hb dX7_image_47 rfl (lv_at hl 0 rfl) ?_
  refine M_get hx hb hts hown hK hM 29 (v := .ref (ad 29)) (by decide) (hts _ q1712) rfl dX7_image_48 ?_
  refine M_callVS (As := [.ref (ad 62), .ref (ad 29)]) (rest := []) ⟨hx, hb, hml, hown, hts⟩ hK hZ hM hJ hS (metX7_be l D cA z0 E ad h7 62 29 _ (by first | exact rfl | rfl) (by first | exact rfl | rfl) hw) (va_cwS 2 hts (lw_S q2308 q2309 q130 q2310) rfl rfl rfl (by decide +kernel) ⟨Nat.le_of_ble_eq_true rfl, Nat.le_of_ble_eq_true rfl⟩) rfl hl.1 rfl (Nat.le_of_ble_eq_true rfl) dX7_image_51 ⟨Nat.zero_le _, Nat.zero_le _⟩ (fun h9 H locs hw hM hS => ?_)
  refine lv_aload_n hx hb dX7_image_54 rfl (lv_at hl 0 rfl) ?_
  refine M_get hx hb hts hown hK hM 63 (v := .ref (ad 63)) (by decide) (hts _ q1746) rfl dX7_image_55 ?_
  refine lv_aload_n hx hb dX7_image_58 rfl (lv_at hl 0 rfl) ?_
  refine M_get hx hb hts hown hK hM 51 (v := .ref (ad 51)) (by decide) (hts _ q1734) rfl dX7_image_59 ?_
  refine M_callVS (As := [.ref (ad 63), .ref (ad 51)]) (rest := []) ⟨hx, hb, hml, hown, hts⟩ hK hZ hM hJ hS (metX7_be l D cA z0 E ad h9 63 51 _ (by first | exact rfl | rfl) (by first | exact rfl | rfl) hw) (va_cwS 2 hts (lw_S q2308 q2309 q130 q2310) rfl rfl rfl (by decide +kernel) ⟨Nat.le_of_ble_eq_true rfl, Nat.le_of_ble_eq_true rfl⟩) rfl hl.1 rfl (Nat.le_of_ble_eq_true rfl) dX7_image_62 ⟨Nat.zero_le _, Nat.zero_le _⟩ (fun h11 H locs hw hM hS => ?_)
  refine lv_aload_n hx hb dX7_image_65 rfl (lv_at hl 0 rfl) ?_
  refine M_get hx hb hts hown hK hM 64 (v := .ref (ad 64)) (by decide) (hts _ q1747) rfl dX7_image_66 ?_
  refine lv_aload_n hx hb dX7_image_69 rfl (lv_at hl 0 rfl) ?_
  refine M_get hx hb hts hown hK hM 52 (v := .ref (ad 52)) (by decide) (hts _ q1735) rfl dX7_image_70 ?_
  refine M_callVS (As := [.ref (ad 64), .ref (ad 52)]) (rest := []) ⟨hx, hb, hml, hown, hts⟩ hK hZ hM hJ hS (metX7_be l D cA z0 E ad h11 64 52 _ (by first | exact rfl | rfl) (by first | exact rfl | rfl) hw) (va_cwS 2 hts (lw_S q2308 q2309 q130 q2310) rfl rfl rfl (by decide +kernel) ⟨Nat.le_of_ble_eq_true rfl, Nat.le_of_ble_eq_true rfl⟩) rfl hl.1 rfl (Nat.le_of_ble_eq_true rfl) dX7_image_73 ⟨Nat.zero_le _, Nat.zero_le _⟩ (fun h13 H locs hw hM hS => ?_)
  refine lv_aload_n hx hb dX7_image_76 rfl (lv_at hl 0 rfl) ?_
  refine M_get hx hb hts hown hK hM 65 (v := .ref (ad 65)) (by decide) (hts _ q1748) rfl dX7_image_77 ?_
  refine lv_aload_n hx hb dX7_image_80 rfl (lv_at hl 0 rfl) ?_
  refine M_get hx hb hts hown hK hM 53 (v := .ref (ad 53)) (by decide) (hts _ q1736) rfl dX7_image_81 ?_
  refine M_callVS (As := [.ref (ad 65), .ref (ad 53)]) (rest := []) ⟨hx, hb, hml, hown, hts⟩ hK hZ hM hJ hS (metX7_be l D cA z0 E ad h13 65 53 _ (by first | exact rfl | rfl) (by first | exact rfl | rfl) hw) (va_cwS 2 hts (lw_S q2308 q2309 q130 q2310) rfl rfl rfl (by decide +kernel) ⟨Nat.le_of_ble_eq_true rfl, Nat.le_of_ble_eq_true rfl⟩) rfl hl.1 rfl (Nat.le_of_ble_eq_true rfl) dX7_image_84 ⟨Nat.zero_le _, Nat.zero_le _⟩ (fun h15 H locs hw hM hS => ?_)
  refine lv_aload_n hx hb dX7_image_87 rfl (lv_at hl 0 rfl) ?_
  refine M_get hx hb hts hown hK hM 66 (v := .ref (ad 66)) (by decide) (hts _ q1749) rfl dX7_image_88 ?_
  refine lv_aload_n hx hb dX7_image_91 rfl (lv_at hl 0 rfl) ?_
  refine M_get hx hb hts hown hK hM 54 (v := .ref (ad 54)) (by decide) (hts _ q1737) rfl dX7_image_92 ?_
  refine M_callVS (As := [.ref (ad 66), .ref (ad 54)]) (rest := []) ⟨hx, hb, hml, hown, hts⟩ hK hZ hM hJ hS (metX7_be l D cA z0 E ad h15 66 54 _ (by first | exact rfl | rfl) (by first | exact rfl | rfl) hw) (va_cwS 2 hts (lw_S q2308 q2309 q130 q2310) rfl rfl rfl (by decide +kernel) ⟨Nat.le_of_ble_eq_true rfl, Nat.le_of_ble_eq_true rfl⟩) rfl hl.1 rfl (Nat.le_of_ble_eq_true rfl) dX7_image_95 ⟨Nat.zero_le _, Nat.zero_le _⟩ (fun h17 H locs hw hM hS => ?_)
  refine lv_aload_n hx hb dX7_image_98 rfl (lv_at hl 0 rfl) ?_
  refine M_get hx hb hts hown hK hM 67 (v := .ref (ad 67)) (by decide) (hts _ q1750) rfl dX7_image_99 ?_
  refine lv_aload_n hx hb dX7_image_102 rfl (lv_at hl 0 rfl) ?_
  refine M_get hx hb hts hown hK hM 55 (v := .ref (ad 55)) (by decide) (hts _ q1738) rfl dX7_image_103 ?_
  refine M_callVS (As := [.ref (ad 67), .ref (ad 55)]) (rest := []) ⟨hx, hb, hml, hown, hts⟩ hK hZ hM hJ hS (metX7_be l D cA z0 E ad h17 67 55 _ (by first | exact rfl | rfl) (by first | exact rfl | rfl) hw) (va_cwS 2 hts (lw_S q2308 q2309 q130 q2310) rfl rfl rfl (by decide +kernel) ⟨Nat.le_of_ble_eq_true rfl, Nat.le_of_ble_eq_true rfl⟩) rfl hl.1 rfl (Nat.le_of_ble_eq_true rfl) dX7_image_106 ⟨Nat.zero_le _, Nat.zero_le _⟩ (fun h19 H locs hw hM hS => ?_)
  refine lv_aload_n hx hb dX7_image_109 rfl (lv_at hl 0 rfl) ?_
  refine M_get hx hb hts hown hK hM 68 (v := .ref (ad 68)) (by decide) (hts _ q1751) rfl dX7_image_110 ?_
  refine lv_aload_n hx hb dX7_image_113 rfl (lv_at hl 0 rfl) ?_
  refine M_get hx hb hts hown hK hM 15 (v := .ref (ad 15)) (by decide) (hts _ q1698) rfl dX7_image_114 ?_
  refine M_callVS (As := [.ref (ad 68), .ref (ad 15)]) (rest := []) ⟨hx, hb, hml, hown, hts⟩ hK hZ hM hJ hS (metX7_be l D cA z0 E ad h19 68 15 _ (by first | exact rfl | rfl) (by first | exact rfl | rfl) hw) (va_cwS 2 hts (lw_S q2308 q2309 q130 q2310) rfl rfl rfl (by decide +kernel) ⟨Nat.le_of_ble_eq_true rfl, Nat.le_of_ble_eq_true rfl⟩) rfl hl.1 rfl (Nat.le_of_ble_eq_true rfl) dX7_image_117 ⟨Nat.zero_le _, Nat.zero_le _⟩ (fun h21 H locs hw hM hS => ?_)
  exact M_vret hx hb hr hlocks hM hS hw dX7_image_120

/-- restore()Z -/
def wpX7_restore (post : Bool → Mem → Prop) (h : Mem)  : Prop :=
  (∀ h1 : Mem, h1 = up2 h 2 0 (0 : Int32) → (((h1 57 0) = 0 → post false h1) ∧ (¬ (h1 57 0) = 0 → (∀ h3 : Mem, h3 = up2 h1 32 0 (h1 58 0) → (∀ h4 : Mem, h4 = up2 h3 33 0 (h3 59 0) → (∀ h5 : Mem, h5 = up2 h4 34 0 (h4 60 0) → (wpX7_unpack (fun h7 => (wpX7_be (fun h9 => (wpX7_be (fun h11 => (wpX7_be (fun h13 => (wpX7_be (fun h15 => (wpX7_be (fun h17 => (wpX7_be (fun h19 => (wpX7_be (fun h21 => post true h21) h19 15 68)) h17 55 67)) h15 54 66)) h13 53 65)) h11 52 64)) h9 51 63)) h7 29 62)) h5 61 (0 : Int32))))))))
set_option maxHeartbeats 4000000 in
set_option maxRecDepth 100000 in
theorem metX7_restore (l : Launch) (D : va_G) (cA : Nat → ClassId) (z0 : Nat) (E : Nat → Nat → Nat) (ad : Nat → Nat) (h : Mem)  (post : Bool → Mem → Prop) (hw : wpX7_restore post h ) : MeZ l D cA z0 E ad yX7_restore (ws_ yX7_restore cX7_restore 1 (some .boolean)) ({ frames := 2, cells := 0, slots := 0, locals := 54 }) [.ref (ad 69)] h post := by
  refine Met.ofW (cc := cX7_restore) (maxL := 1) (ret := (some .boolean)) (by decide) rfl ?_
  intro p e s m args below meth c s₁ B hml hv
  obtain ⟨rfl, hM, hK, hJ, hZ⟩ := hv
  have hx := B.exec
  have hb := B.bytes
  have hr := B.returns
  have hts := atoms_spec (ws := ws_ yX7_restore cX7_restore 1 (some .boolean)) B.pre
  have hts : ∀ w ∈ lw_all, w.before _ s = true := fun w h => hts w (List.mem_cons_of_mem _ h)
  have hown : s.vm.findClass RX7 = some m.cls := findClass_of_methodNamed B.named
  have hlocks := B.notSynchronized
  have hS : va_S (MA ad) s.heap s.heap [] := va_S.rf
  have hl := lv_entry ([.ref (ad 69)]) (n := 1) (Nat.le_of_ble_eq_true rfl)
  rw [lg_entry_eq]
  generalize (lg_sl ([.ref (ad 69)]) ++ List.replicate (1 - (lg_sl ([.ref (ad 69)])).length) Slot.unset).toArray = ls at hl ⊢
  have hl : lv_has ls 1 [(0, .ref (ad 69))] := hl
  unfold wpX7_restore at hw
  refine lv_aload_n hx hb dX7_restore_0 rfl (lv_at hl 0 rfl) ?_
  refine lv_iconst (v := (0 : Int32)) hx hb dX7_restore_1 (by decide) ?_
  refine M_put hx hb hts hown hK hM hJ hS 2 rfl rfl (hts _ q1685) rfl .int (by decide +kernel) rfl rfl dX7_restore_2 (fun H locs hM hS => ?_)
  obtain ⟨h1, eh1⟩ : ∃ y : Mem, y = up2 h 2 0 (0 : Int32) := ⟨_, rfl⟩
  rw [← eh1] at hM
  have hw := hw h1 eh1
  refine lv_aload_n hx hb dX7_restore_5 rfl (lv_at hl 0 rfl) ?_
  refine M_get hx hb hts hown hK hM 57 (v := .int (h1 57 0)) (by decide) (hts _ q1740) rfl dX7_restore_6 ?_
  refine lv_if_ne (tgt := 14) hx hb dX7_restore_9 (by decide) (fun c2 => ?_) (fun c2 => ?_)
  · have hw := hw.2 c2
    refine lv_aload_n hx hb dX7_restore_14 rfl (lv_at hl 0 rfl) ?_
    refine lv_aload_n hx hb dX7_restore_15 rfl (lv_at hl 0 rfl) ?_
    refine M_get hx hb hts hown hK hM 58 (v := .int (h1 58 0)) (by decide) (hts _ q1741) rfl dX7_restore_16 ?_
    refine M_put hx hb hts hown hK hM hJ hS 32 rfl rfl (hts _ q1715) rfl .int (by decide +kernel) rfl rfl dX7_restore_19 (fun H locs hM hS => ?_)
    obtain ⟨h3, eh3⟩ : ∃ y : Mem, y = up2 h1 32 0 (h1 58 0) := ⟨_, rfl⟩
    rw [← eh3] at hM
    have hw := hw h3 eh3
    refine lv_aload_n hx hb dX7_restore_22 rfl (lv_at hl 0 rfl) ?_
    refine lv_aload_n hx hb dX7_restore_23 rfl (lv_at hl 0 rfl) ?_
    refine M_get hx hb hts hown hK hM 59 (v := .int (h3 59 0)) (by decide) (hts _ q1742) rfl dX7_restore_24 ?_
    refine M_put hx hb hts hown hK hM hJ hS 33 rfl rfl (hts _ q1716) rfl .int (by decide +kernel) rfl rfl dX7_restore_27 (fun H locs hM hS => ?_)
    obtain ⟨h4, eh4⟩ : ∃ y : Mem, y = up2 h3 33 0 (h3 59 0) := ⟨_, rfl⟩
    rw [← eh4] at hM
    have hw := hw h4 eh4
    refine lv_aload_n hx hb dX7_restore_30 rfl (lv_at hl 0 rfl) ?_
    refine lv_aload_n hx hb dX7_restore_31 rfl (lv_at hl 0 rfl) ?_
    refine M_get hx hb hts hown hK hM 60 (v := .int (h4 60 0)) (by decide) (hts _ q1743) rfl dX7_restore_32 ?_
    refine M_put hx hb hts hown hK hM hJ hS 34 rfl rfl (hts _ q1717) rfl .int (by decide +kernel) rfl rfl dX7_restore_35 (fun H locs hM hS => ?_)
    obtain ⟨h5, eh5⟩ : ∃ y : Mem, y = up2 h4 34 0 (h4 60 0) := ⟨_, rfl⟩
    rw [← eh5] at hM
    have hw := hw h5 eh5
    refine lv_aload_n hx hb dX7_restore_38 rfl (lv_at hl 0 rfl) ?_
    refine lv_aload_n hx hb dX7_restore_39 rfl (lv_at hl 0 rfl) ?_
    refine M_get hx hb hts hown hK hM 61 (v := .ref (ad 61)) (by decide) (hts _ q1744) rfl dX7_restore_40 ?_
    refine lv_iconst (v := (0 : Int32)) hx hb dX7_restore_43 (by decide) ?_
    refine M_callV (As := [.ref (ad 61), .int (0 : Int32)]) (rest := []) ⟨hx, hb, hml, hown, hts⟩ hK hZ hM hJ hS (metX7_unpack l D cA z0 E ad h5 61 (0 : Int32) _ (by first | exact rfl | rfl) hw) (cwV 2 hts (lw_V q2174 q2176 qs88 q130 q2177) rfl rfl rfl (by decide +kernel) ⟨Nat.le_of_ble_eq_true rfl, Nat.le_of_ble_eq_true rfl⟩) rfl hl.1 rfl (Nat.le_of_ble_eq_true rfl) dX7_restore_44 ⟨Nat.zero_le _, Nat.zero_le _⟩ (fun h7 H locs hw hM hS => ?_)
    refine lv_aload_n hx hb dX7_restore_47 rfl (lv_at hl 0 rfl) ?_
    refine M_get hx hb hts hown hK hM 29 (v := .ref (ad 29)) (by decide) (hts _ q1712) rfl dX7_restore_48 ?_
    refine lv_aload_n hx hb dX7_restore_51 rfl (lv_at hl 0 rfl) ?_
    refine M_get hx hb hts hown hK hM 62 (v := .ref (ad 62)) (by decide) (hts _ q1745) rfl dX7_restore_52 ?_
    refine M_callVS (As := [.ref (ad 29), .ref (ad 62)]) (rest := []) ⟨hx, hb, hml, hown, hts⟩ hK hZ hM hJ hS (metX7_be l D cA z0 E ad h7 29 62 _ (by first | exact rfl | rfl) (by first | exact rfl | rfl) hw) (va_cwS 2 hts (lw_S q2308 q2309 q130 q2310) rfl rfl rfl (by decide +kernel) ⟨Nat.le_of_ble_eq_true rfl, Nat.le_of_ble_eq_true rfl⟩) rfl hl.1 rfl (Nat.le_of_ble_eq_true rfl) dX7_restore_55 ⟨Nat.zero_le _, Nat.zero_le _⟩ (fun h9 H locs hw hM hS => ?_)
    refine lv_aload_n hx hb dX7_restore_58 rfl (lv_at hl 0 rfl) ?_
    refine M_get hx hb hts hown hK hM 51 (v := .ref (ad 51)) (by decide) (hts _ q1734) rfl dX7_restore_59 ?_
    refine lv_aload_n hx hb dX7_restore_62 rfl (lv_at hl 0 rfl) ?_
    refine M_get hx hb hts hown hK hM 63 (v := .ref (ad 63)) (by decide) (hts _ q1746) rfl dX7_restore_63 ?_
    refine M_callVS (As := [.ref (ad 51), .ref (ad 63)]) (rest := []) ⟨hx, hb, hml, hown, hts⟩ hK hZ hM hJ hS (metX7_be l D cA z0 E ad h9 51 63 _ (by first | exact rfl | rfl) (by first | exact rfl | rfl) hw) (va_cwS 2 hts (lw_S q2308 q2309 q130 q2310) rfl rfl rfl (by decide +kernel) ⟨Nat.le_of_ble_eq_true rfl, Nat.le_of_ble_eq_true rfl⟩) rfl hl.1 rfl (Nat.le_of_ble_eq_true rfl) dX7_restore_66 ⟨Nat.zero_le _, Nat.zero_le _⟩ (fun h11 H locs hw hM hS => ?_)
    refine lv_aload_n hx hb dX7_restore_69 rfl (lv_at hl 0 rfl) ?_
    refine M_get hx hb hts hown hK hM 52 (v := .ref (ad 52)) (by decide) (hts _ q1735) rfl dX7_restore_70 ?_
    refine lv_aload_n hx hb dX7_restore_73 rfl (lv_at hl 0 rfl) ?_
    refine M_get hx hb hts hown hK hM 64 (v := .ref (ad 64)) (by decide) (hts _ q1747) rfl dX7_restore_74 ?_
    refine M_callVS (As := [.ref (ad 52), .ref (ad 64)]) (rest := []) ⟨hx, hb, hml, hown, hts⟩ hK hZ hM hJ hS (metX7_be l D cA z0 E ad h11 52 64 _ (by first | exact rfl | rfl) (by first | exact rfl | rfl) hw) (va_cwS 2 hts (lw_S q2308 q2309 q130 q2310) rfl rfl rfl (by decide +kernel) ⟨Nat.le_of_ble_eq_true rfl, Nat.le_of_ble_eq_true rfl⟩) rfl hl.1 rfl (Nat.le_of_ble_eq_true rfl) dX7_restore_77 ⟨Nat.zero_le _, Nat.zero_le _⟩ (fun h13 H locs hw hM hS => ?_)
    refine lv_aload_n hx hb dX7_restore_80 rfl (lv_at hl 0 rfl) ?_
    refine M_get hx hb hts hown hK hM 53 (v := .ref (ad 53)) (by decide) (hts _ q1736) rfl dX7_restore_81 ?_
    refine lv_aload_n hx hb dX7_restore_84 rfl (lv_at hl 0 rfl) ?_
    refine M_get hx hb hts hown hK hM 65 (v := .ref (ad 65)) (by decide) (hts _ q1748) rfl dX7_restore_85 ?_
    refine M_callVS (As := [.ref (ad 53), .ref (ad 65)]) (rest := []) ⟨hx, hb, hml, hown, hts⟩ hK hZ hM hJ hS (metX7_be l D cA z0 E ad h13 53 65 _ (by first | exact rfl | rfl) (by first | exact rfl | rfl) hw) (va_cwS 2 hts (lw_S q2308 q2309 q130 q2310) rfl rfl rfl (by decide +kernel) ⟨Nat.le_of_ble_eq_true rfl, Nat.le_of_ble_eq_true rfl⟩) rfl hl.1 rfl (Nat.le_of_ble_eq_true rfl) dX7_restore_88 ⟨Nat.zero_le _, Nat.zero_le _⟩ (fun h15 H locs hw hM hS => ?_)
    refine lv_aload_n hx hb dX7_restore_91 rfl (lv_at hl 0 rfl) ?_
    refine M_get hx hb hts hown hK hM 54 (v := .ref (ad 54)) (by decide) (hts _ q1737) rfl dX7_restore_92 ?_
    refine lv_aload_n hx hb dX7_restore_95 rfl (lv_at hl 0 rfl) ?_
    refine M_get hx hb hts hown hK hM 66 (v := .ref (ad 66)) (by decide) (hts _ q1749) rfl dX7_restore_96 ?_
    refine M_callVS (As := [.ref (ad 54), .ref (ad 66)]) (rest := []) ⟨hx, hb, hml, hown, hts⟩ hK hZ hM hJ hS (metX7_be l D cA z0 E ad h15 54 66 _ (by first | exact rfl | rfl) (by first | exact rfl | rfl) hw) (va_cwS 2 hts (lw_S q2308 q2309 q130 q2310) rfl rfl rfl (by decide +kernel) ⟨Nat.le_of_ble_eq_true rfl, Nat.le_of_ble_eq_true rfl⟩) rfl hl.1 rfl (Nat.le_of_ble_eq_true rfl) dX7_restore_99 ⟨Nat.zero_le _, Nat.zero_le _⟩ (fun h17 H locs hw hM hS => ?_)
    refine lv_aload_n hx hb dX7_restore_102 rfl (lv_at hl 0 rfl) ?_
    refine M_get hx hb hts hown hK hM 55 (v := .ref (ad 55)) (by decide) (hts _ q1738) rfl dX7_restore_103 ?_
    refine lv_aload_n hx hb dX7_restore_106 rfl (lv_at hl 0 rfl) ?_
    refine M_get hx hb hts hown hK hM 67 (v := .ref (ad 67)) (by decide) (hts _ q1750) rfl dX7_restore_107 ?_
    refine M_callVS (As := [.ref (ad 55), .ref (ad 67)]) (rest := []) ⟨hx, hb, hml, hown, hts⟩ hK hZ hM hJ hS (metX7_be l D cA z0 E ad h17 55 67 _ (by first | exact rfl | rfl) (by first | exact rfl | rfl) hw) (va_cwS 2 hts (lw_S q2308 q2309 q130 q2310) rfl rfl rfl (by decide +kernel) ⟨Nat.le_of_ble_eq_true rfl, Nat.le_of_ble_eq_true rfl⟩) rfl hl.1 rfl (Nat.le_of_ble_eq_true rfl) dX7_restore_110 ⟨Nat.zero_le _, Nat.zero_le _⟩ (fun h19 H locs hw hM hS => ?_)
    refine lv_aload_n hx hb dX7_restore_113 rfl (lv_at hl 0 rfl) ?_
    refine M_get hx hb hts hown hK hM 15 (v := .ref (ad 15)) (by decide) (hts _ q1698) rfl dX7_restore_114 ?_
    refine lv_aload_n hx hb dX7_restore_117 rfl (lv_at hl 0 rfl) ?_
    refine M_get hx hb hts hown hK hM 68 (v := .ref (ad 68)) (by decide) (hts _ q1751) rfl dX7_restore_118 ?_
    refine M_callVS (As := [.ref (ad 15), .ref (ad 68)]) (rest := []) ⟨hx, hb, hml, hown, hts⟩ hK hZ hM hJ hS (metX7_be l D cA z0 E ad h19 15 68 _ (by first | exact rfl | rfl) (by first | exact rfl | rfl) hw) (va_cwS 2 hts (lw_S q2308 q2309 q130 q2310) rfl rfl rfl (by decide +kernel) ⟨Nat.le_of_ble_eq_true rfl, Nat.le_of_ble_eq_true rfl⟩) rfl hl.1 rfl (Nat.le_of_ble_eq_true rfl) dX7_restore_121 ⟨Nat.zero_le _, Nat.zero_le _⟩ (fun h21 H locs hw hM hS => ?_)
    refine lv_iconst (v := (1 : Int32)) hx hb dX7_restore_124 (by decide) ?_
    exact M_zret hx hb hr hlocks hM hS ⟨_, rfl, hw⟩ dX7_restore_125
  · have hw := hw.1 c2
    refine lv_iconst (v := (0 : Int32)) hx hb dX7_restore_12 (by decide) ?_
    exact M_zret hx hb hr hlocks hM hS ⟨_, rfl, hw⟩ dX7_restore_13
