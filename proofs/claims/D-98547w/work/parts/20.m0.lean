/-! the walks of the twin, printed by tools/gen.py: thrown feed fail is isMarked byteAt isDigit isLetter isMark stepOn wrong mark lay numberNow readNumber which readPart readProduct readSum readNot readAnd readExpression isOf personNow readLoaf couple readMet readPerson readLine -/
/-- thrown()I -/
def wpX7_thrown (post : Int32 → Prop) (h : Mem)  : Prop :=
  post (h 2 0)
set_option maxHeartbeats 4000000 in
set_option maxRecDepth 100000 in
theorem metX7_thrown (l : Launch) (D : va_G) (cA : Nat → ClassId) (z0 : Nat) (E : Nat → Nat → Nat) (ad : Nat → Nat) (h : Mem)  (post : Int32 → Prop) (hw : wpX7_thrown post h ) : MeI l D cA z0 E ad yX7_thrown (ws_ yX7_thrown cX7_thrown 1 (some .int)) ({ frames := 1, cells := 0, slots := 0, locals := 30 }) [.ref (ad 69)] h (fun r h' => h' = h ∧ post r) := by
  refine Met.ofW (cc := cX7_thrown) (maxL := 1) (ret := (some .int)) (by decide) rfl ?_
  intro p e s m args below meth c s₁ B hml hv
  obtain ⟨rfl, hM, hK, hJ, hZ⟩ := hv
  have hx := B.exec
  have hb := B.bytes
  have hr := B.returns
  have hts := atoms_spec (ws := ws_ yX7_thrown cX7_thrown 1 (some .int)) B.pre
  have hts : ∀ w ∈ lw_all, w.before _ s = true := fun w h => hts w (List.mem_cons_of_mem _ h)
  have hown : s.vm.findClass RX7 = some m.cls := findClass_of_methodNamed B.named
  have hlocks := B.notSynchronized
  have hS : va_S (MA ad) s.heap s.heap [] := va_S.rf
  have hl := lv_entry ([.ref (ad 69)]) (n := 1) (Nat.le_of_ble_eq_true rfl)
  rw [lg_entry_eq]
  generalize (lg_sl ([.ref (ad 69)]) ++ List.replicate (1 - (lg_sl ([.ref (ad 69)])).length) Slot.unset).toArray = ls at hl ⊢
  have hl : lv_has ls 1 [(0, .ref (ad 69))] := hl
  unfold wpX7_thrown at hw
  refine lv_aload_n hx hb dX7_thrown_0 rfl (lv_at hl 0 rfl) ?_
  refine M_get hx hb hts hown hK hM 2 (v := .int (h 2 0)) (by decide) (hts _ q1685) rfl dX7_thrown_1 ?_
  exact M_iret hx hb hr hlocks hM hS ⟨rfl, hw⟩ dX7_thrown_4

/-- feed(IIIII)I -/
def wpBX7_feed_76 (post : Int32 → Mem → Prop) (a1 : Int32) (a2 : Int32) (a3 : Int32) (a4 : Int32) (a5 : Int32) (K23 : Mem → Int32 → Prop) (h : Mem) (x6 : Int32) (s0 : Int32) : Prop :=
  (vp_in (h 17 0) (mlen 16) ∧ (∀ h6 : Mem, h6 = up2 h 16 (ix (h 17 0)) ((s0 >>> (((24 : Int32) - ((8 : Int32) * (x6 - x6 / (4 : Int32) * (4 : Int32)))) &&& 31)) &&& (255 : Int32)) → (∀ h7 : Mem, h7 = up2 h6 17 0 ((h6 17 0) + (1 : Int32)) → K23 h7 (x6 + (1 : Int32)))))
def wpBX7_feed_23 (post : Int32 → Mem → Prop) (a1 : Int32) (a2 : Int32) (a3 : Int32) (a4 : Int32) (a5 : Int32)  (K23 : Mem → Int32 → Prop)  (h : Mem) (x6 : Int32) : Prop :=
  (((20 : Int32) ≤ x6 → post (h 17 0) h) ∧ (¬ (20 : Int32) ≤ x6 → wpBX7_feed_76 post a1 a2 a3 a4 a5 K23 h x6 (if (4 : Int32) ≤ x6 then (if (8 : Int32) ≤ x6 then (if (12 : Int32) ≤ x6 then (if (16 : Int32) ≤ x6 then a5 else a4) else a3) else a2) else a1)))
def wpLX7_feed_23 (post : Int32 → Mem → Prop) (a1 : Int32) (a2 : Int32) (a3 : Int32) (a4 : Int32) (a5 : Int32)   : Nat → (Mem × Int32) → Prop := LW (fun K s => wpBX7_feed_23 post a1 a2 a3 a4 a5  (fun h x6 => K (h, x6))  s.1 s.2)
def wpX7_feed (post : Int32 → Mem → Prop) (h : Mem) (a1 : Int32) (a2 : Int32) (a3 : Int32) (a4 : Int32) (a5 : Int32) : Prop :=
  (∀ h1 : Mem, h1 = up2 h 2 0 (0 : Int32) → ((((h1 17 0) + (20 : Int32)) ≤ (600 : Int32) → (∃ n, wpLX7_feed_23 post a1 a2 a3 a4 a5   n (h1, (0 : Int32)))) ∧ (¬ ((h1 17 0) + (20 : Int32)) ≤ (600 : Int32) → post (-1 : Int32) h1)))
set_option maxHeartbeats 4000000 in
set_option maxRecDepth 100000 in
theorem metX7_feed (l : Launch) (D : va_G) (cA : Nat → ClassId) (z0 : Nat) (E : Nat → Nat → Nat) (ad : Nat → Nat) (h : Mem) (a1 : Int32) (a2 : Int32) (a3 : Int32) (a4 : Int32) (a5 : Int32) (post : Int32 → Mem → Prop) (hw : wpX7_feed post h a1 a2 a3 a4 a5) : MeI l D cA z0 E ad yX7_feed (ws_ yX7_feed cX7_feed 8 (some .int)) ({ frames := 1, cells := 0, slots := 0, locals := 30 }) [.ref (ad 69), .int a1, .int a2, .int a3, .int a4, .int a5] h post := by
  refine Met.ofW (cc := cX7_feed) (maxL := 8) (ret := (some .int)) (by decide) rfl ?_
  intro p e s m args below meth c s₁ B hml hv
  obtain ⟨rfl, hM, hK, hJ, hZ⟩ := hv
  have hx := B.exec
  have hb := B.bytes
  have hr := B.returns
  have hts := atoms_spec (ws := ws_ yX7_feed cX7_feed 8 (some .int)) B.pre
  have hts : ∀ w ∈ lw_all, w.before _ s = true := fun w h => hts w (List.mem_cons_of_mem _ h)
  have hown : s.vm.findClass RX7 = some m.cls := findClass_of_methodNamed B.named
  have hlocks := B.notSynchronized
  have hS : va_S (MA ad) s.heap s.heap [] := va_S.rf
  have hl := lv_entry ([.ref (ad 69), .int a1, .int a2, .int a3, .int a4, .int a5]) (n := 8) (Nat.le_of_ble_eq_true rfl)
  rw [lg_entry_eq]
  generalize (lg_sl ([.ref (ad 69), .int a1, .int a2, .int a3, .int a4, .int a5]) ++ List.replicate (8 - (lg_sl ([.ref (ad 69), .int a1, .int a2, .int a3, .int a4, .int a5])).length) Slot.unset).toArray = ls at hl ⊢
  have hl : lv_has ls 8 [(0, .ref (ad 69)), (1, .int a1), (2, .int a2), (3, .int a3), (4, .int a4), (5, .int a5)] := hl
  have hL23 : ∀  (n23 : Nat) (h : Mem) (x6 : Int32), wpLX7_feed_23 post a1 a2 a3 a4 a5   n23 (h, x6) → JM p l e (headSpec (ws_ yX7_feed cX7_feed 8 (some .int)) ({ frames := 1, cells := 0, slots := 0, locals := 30 })).room s m ([.ref (ad 69), .int a1, .int a2, .int a3, .int a4, .int a5] : List Value).toArray below meth c (MQ below (MQi D cA E ad post) ([.ref (ad 69), .int a1, .int a2, .int a3, .int a4, .int a5] : List Value).toArray s 0 0 (MA ad)) D cA E ad 8 23 h [(0, .ref (ad 69)), (1, .int a1), (2, .int a2), (3, .int a3), (4, .int a4), (5, .int a5), (6, .int x6)] [] := by
    intro  n23
    induction n23 with
    | zero => intro h x6 hw; exact False.elim hw
    | succ n23 ih23 =>
      have hB76 : ∀ (h : Mem) (x6 : Int32) (s0 : Int32), wpBX7_feed_76 post a1 a2 a3 a4 a5 (fun h x6 => wpLX7_feed_23 post a1 a2 a3 a4 a5   n23 (h, x6)) h x6 s0 → JM p l e (headSpec (ws_ yX7_feed cX7_feed 8 (some .int)) ({ frames := 1, cells := 0, slots := 0, locals := 30 })).room s m ([.ref (ad 69), .int a1, .int a2, .int a3, .int a4, .int a5] : List Value).toArray below meth c (MQ below (MQi D cA E ad post) ([.ref (ad 69), .int a1, .int a2, .int a3, .int a4, .int a5] : List Value).toArray s 0 0 (MA ad)) D cA E ad 8 76 h [(0, .ref (ad 69)), (1, .int a1), (2, .int a2), (3, .int a3), (4, .int a4), (5, .int a5), (6, .int x6)] [.int s0] := by
        intro h x6 s0 hw H locs ls hM hS hl
        unfold wpBX7_feed_76 at hw
        refine lv_istore (lv' := [(7, .int s0), (0, .ref (ad 69)), (1, .int a1), (2, .int a2), (3, .int a3), (4, .int a4), (5, .int a5), (6, .int x6)]) hx hb dX7_feed_76 hl (by decide) rfl (fun ls hl => ?_)
        refine lv_aload_n hx hb dX7_feed_78 rfl (lv_at hl 1 rfl) ?_
        refine M_get hx hb hts hown hK hM 16 (v := .ref (ad 16)) (by decide) (hts _ q1699) rfl dX7_feed_79 ?_
        refine lv_aload_n hx hb dX7_feed_82 rfl (lv_at hl 1 rfl) ?_
        refine M_get hx hb hts hown hK hM 17 (v := .int (h 17 0)) (by decide) (hts _ q1700) rfl dX7_feed_83 ?_
        refine lv_iload hx hb dX7_feed_86 (lv_at hl 0 rfl) ?_
        refine lv_bipush (v := (24 : Int32)) hx hb dX7_feed_88 (by decide) ?_
        refine lv_bipush (v := (8 : Int32)) hx hb dX7_feed_90 (by decide) ?_
        refine lv_iload hx hb dX7_feed_92 (lv_at hl 7 rfl) ?_
        refine lv_iconst (v := (4 : Int32)) hx hb dX7_feed_94 (by decide) ?_
        refine lv_irem hx hb dX7_feed_95 (by decide) ?_
        refine lv_imul hx hb dX7_feed_96 ?_
        refine lv_isub hx hb dX7_feed_97 ?_
        refine lv_ishr hx hb dX7_feed_98 ?_
        refine lv_sipush (v := (255 : Int32)) hx hb dX7_feed_99 (by decide) ?_
        refine lv_iand hx hb dX7_feed_102 ?_
        obtain ⟨hb5, hw⟩ := hw
        refine M_iast hx hb hK hM hJ hS 16 rfl (j := (ix (h 17 0))) rfl hb5 dX7_feed_103 (fun H locs hM hS => ?_)
        obtain ⟨h6, eh6⟩ : ∃ y : Mem, y = up2 h 16 (ix (h 17 0)) ((s0 >>> (((24 : Int32) - ((8 : Int32) * (x6 - x6 / (4 : Int32) * (4 : Int32)))) &&& 31)) &&& (255 : Int32)) := ⟨_, rfl⟩
        rw [← eh6] at hM
        have hw := hw h6 eh6
        refine lv_aload_n hx hb dX7_feed_104 rfl (lv_at hl 1 rfl) ?_
        refine lv_dup hx hb dX7_feed_105 rfl ?_
        refine M_get hx hb hts hown hK hM 17 (v := .int (h6 17 0)) (by decide) (hts _ q1700) rfl dX7_feed_106 ?_
        refine lv_iconst (v := (1 : Int32)) hx hb dX7_feed_109 (by decide) ?_
        refine lv_iadd hx hb dX7_feed_110 ?_
        refine M_put hx hb hts hown hK hM hJ hS 17 rfl rfl (hts _ q1700) rfl .int (by decide +kernel) rfl rfl dX7_feed_111 (fun H locs hM hS => ?_)
        obtain ⟨h7, eh7⟩ : ∃ y : Mem, y = up2 h6 17 0 ((h6 17 0) + (1 : Int32)) := ⟨_, rfl⟩
        rw [← eh7] at hM
        have hw := hw h7 eh7
        refine lv_iinc (v := (x6 + (1 : Int32))) (lv' := [(6, .int (x6 + (1 : Int32))), (7, .int s0), (0, .ref (ad 69)), (1, .int a1), (2, .int a2), (3, .int a3), (4, .int a4), (5, .int a5)]) hx hb dX7_feed_114 hl (k := 7) rfl rfl (by decide) rfl (fun ls hl => ?_)
        refine lv_goto (tgt := 23) hx hb dX7_feed_117 (by decide) ?_
        exact ih23 h7 (x6 + (1 : Int32)) hw _ _ ls hM hS (lv_sub hl [2, 3, 4, 5, 6, 7, 0] rfl)
      intro h x6 hw H locs ls hM hS hl
      have hw : wpBX7_feed_23 post a1 a2 a3 a4 a5  (fun h x6 => wpLX7_feed_23 post a1 a2 a3 a4 a5   n23 (h, x6))  h x6 := hw
      unfold wpBX7_feed_23 at hw
      refine lv_iload hx hb dX7_feed_23 (lv_at hl 6 rfl) ?_
      refine lv_bipush (v := (20 : Int32)) hx hb dX7_feed_25 (by decide) ?_
      refine lv_icmp_ge (tgt := 120) hx hb dX7_feed_27 (by decide) (fun c3 => ?_) (fun c3 => ?_)
      · have hw := hw.1 c3
        refine lv_aload_n hx hb dX7_feed_120 rfl (lv_at hl 0 rfl) ?_
        refine M_get hx hb hts hown hK hM 17 (v := .int (h 17 0)) (by decide) (hts _ q1700) rfl dX7_feed_121 ?_
        exact M_iret hx hb hr hlocks hM hS hw dX7_feed_124
      · have hw := hw.2 c3
        refine lv_iload hx hb dX7_feed_30 (lv_at hl 6 rfl) ?_
        refine lv_iconst (v := (4 : Int32)) hx hb dX7_feed_32 (by decide) ?_
        have hj4 : JM p l e (headSpec (ws_ yX7_feed cX7_feed 8 (some .int)) ({ frames := 1, cells := 0, slots := 0, locals := 30 })).room s m ([.ref (ad 69), .int a1, .int a2, .int a3, .int a4, .int a5] : List Value).toArray below meth c (MQ below (MQi D cA E ad post) ([.ref (ad 69), .int a1, .int a2, .int a3, .int a4, .int a5] : List Value).toArray s 0 0 (MA ad)) D cA E ad 8 76 h [(0, .ref (ad 69)), (1, .int a1), (2, .int a2), (3, .int a3), (4, .int a4), (5, .int a5), (6, .int x6)] [.int (if (4 : Int32) ≤ x6 then (if (8 : Int32) ≤ x6 then (if (12 : Int32) ≤ x6 then (if (16 : Int32) ≤ x6 then a5 else a4) else a3) else a2) else a1)] := by
          intro H locs ls hM hS hl
          exact hB76 h x6 (if (4 : Int32) ≤ x6 then (if (8 : Int32) ≤ x6 then (if (12 : Int32) ≤ x6 then (if (16 : Int32) ≤ x6 then a5 else a4) else a3) else a2) else a1) hw _ _ ls hM hS (lv_sub hl [0, 1, 2, 3, 4, 5, 6] rfl)
        refine lv_icmp_ge (tgt := 40) hx hb dX7_feed_33 (by decide) (fun c8 => ?_) (fun c8 => ?_)
        · refine lv_iload hx hb dX7_feed_40 (lv_at hl 6 rfl) ?_
          refine lv_bipush (v := (8 : Int32)) hx hb dX7_feed_42 (by decide) ?_
          refine lv_icmp_ge (tgt := 51) hx hb dX7_feed_44 (by decide) (fun c9 => ?_) (fun c9 => ?_)
          · refine lv_iload hx hb dX7_feed_51 (lv_at hl 6 rfl) ?_
            refine lv_bipush (v := (12 : Int32)) hx hb dX7_feed_53 (by decide) ?_
            refine lv_icmp_ge (tgt := 62) hx hb dX7_feed_55 (by decide) (fun c10 => ?_) (fun c10 => ?_)
            · refine lv_iload hx hb dX7_feed_62 (lv_at hl 6 rfl) ?_
              refine lv_bipush (v := (16 : Int32)) hx hb dX7_feed_64 (by decide) ?_
              refine lv_icmp_ge (tgt := 74) hx hb dX7_feed_66 (by decide) (fun c11 => ?_) (fun c11 => ?_)
              · refine lv_iload hx hb dX7_feed_74 (lv_at hl 5 rfl) ?_
                have e12 : (if (4 : Int32) ≤ x6 then (if (8 : Int32) ≤ x6 then (if (12 : Int32) ≤ x6 then (if (16 : Int32) ≤ x6 then a5 else a4) else a3) else a2) else a1) = a5 := by rw [if_pos c8, if_pos c9, if_pos c10, if_pos c11]
                rw [e12] at hj4
                exact hj4 _ _ ls hM hS (lv_sub hl [0, 1, 2, 3, 4, 5, 6] rfl)
              · refine lv_iload hx hb dX7_feed_69 (lv_at hl 4 rfl) ?_
                refine lv_goto (tgt := 76) hx hb dX7_feed_71 (by decide) ?_
                have e13 : (if (4 : Int32) ≤ x6 then (if (8 : Int32) ≤ x6 then (if (12 : Int32) ≤ x6 then (if (16 : Int32) ≤ x6 then a5 else a4) else a3) else a2) else a1) = a4 := by rw [if_pos c8, if_pos c9, if_pos c10, if_neg c11]
                rw [e13] at hj4
                exact hj4 _ _ ls hM hS (lv_sub hl [0, 1, 2, 3, 4, 5, 6] rfl)
            · refine lv_iload_n hx hb dX7_feed_58 rfl (lv_at hl 3 rfl) ?_
              refine lv_goto (tgt := 76) hx hb dX7_feed_59 (by decide) ?_
              have e14 : (if (4 : Int32) ≤ x6 then (if (8 : Int32) ≤ x6 then (if (12 : Int32) ≤ x6 then (if (16 : Int32) ≤ x6 then a5 else a4) else a3) else a2) else a1) = a3 := by rw [if_pos c8, if_pos c9, if_neg c10]
              rw [e14] at hj4
              exact hj4 _ _ ls hM hS (lv_sub hl [0, 1, 2, 3, 4, 5, 6] rfl)
          · refine lv_iload_n hx hb dX7_feed_47 rfl (lv_at hl 2 rfl) ?_
            refine lv_goto (tgt := 76) hx hb dX7_feed_48 (by decide) ?_
            have e15 : (if (4 : Int32) ≤ x6 then (if (8 : Int32) ≤ x6 then (if (12 : Int32) ≤ x6 then (if (16 : Int32) ≤ x6 then a5 else a4) else a3) else a2) else a1) = a2 := by rw [if_pos c8, if_neg c9]
            rw [e15] at hj4
            exact hj4 _ _ ls hM hS (lv_sub hl [0, 1, 2, 3, 4, 5, 6] rfl)
        · refine lv_iload_n hx hb dX7_feed_36 rfl (lv_at hl 1 rfl) ?_
          refine lv_goto (tgt := 76) hx hb dX7_feed_37 (by decide) ?_
          have e16 : (if (4 : Int32) ≤ x6 then (if (8 : Int32) ≤ x6 then (if (12 : Int32) ≤ x6 then (if (16 : Int32) ≤ x6 then a5 else a4) else a3) else a2) else a1) = a1 := by rw [if_neg c8]
          rw [e16] at hj4
          exact hj4 _ _ ls hM hS (lv_sub hl [0, 1, 2, 3, 4, 5, 6] rfl)
  unfold wpX7_feed at hw
  refine lv_aload_n hx hb dX7_feed_0 rfl (lv_at hl 0 rfl) ?_
  refine lv_iconst (v := (0 : Int32)) hx hb dX7_feed_1 (by decide) ?_
  refine M_put hx hb hts hown hK hM hJ hS 2 rfl rfl (hts _ q1685) rfl .int (by decide +kernel) rfl rfl dX7_feed_2 (fun H locs hM hS => ?_)
  obtain ⟨h1, eh1⟩ : ∃ y : Mem, y = up2 h 2 0 (0 : Int32) := ⟨_, rfl⟩
  rw [← eh1] at hM
  have hw := hw h1 eh1
  refine lv_aload_n hx hb dX7_feed_5 rfl (lv_at hl 0 rfl) ?_
  refine M_get hx hb hts hown hK hM 17 (v := .int (h1 17 0)) (by decide) (hts _ q1700) rfl dX7_feed_6 ?_
  refine lv_bipush (v := (20 : Int32)) hx hb dX7_feed_9 (by decide) ?_
  refine lv_iadd hx hb dX7_feed_11 ?_
  refine lv_sipush (v := (600 : Int32)) hx hb dX7_feed_12 (by decide) ?_
  refine lv_icmp_le (tgt := 20) hx hb dX7_feed_15 (by decide) (fun c2 => ?_) (fun c2 => ?_)
  · have hw := hw.1 c2
    refine lv_iconst (v := (0 : Int32)) hx hb dX7_feed_20 (by decide) ?_
    refine lv_istore (lv' := [(6, .int (0 : Int32)), (0, .ref (ad 69)), (1, .int a1), (2, .int a2), (3, .int a3), (4, .int a4), (5, .int a5)]) hx hb dX7_feed_21 hl (by decide) rfl (fun ls hl => ?_)
    obtain ⟨n17, hw⟩ := hw
    exact hL23 n17 h1 (0 : Int32) hw _ _ ls hM hS (lv_sub hl [1, 2, 3, 4, 5, 6, 0] rfl)
  · have hw := hw.2 c2
    refine lv_iconst (v := (-1 : Int32)) hx hb dX7_feed_18 (by decide) ?_
    exact M_iret hx hb hr hlocks hM hS hw dX7_feed_19

/-- fail(I)I -/
def wpX7_fail (post : Int32 → Mem → Prop) (h : Mem) (a1 : Int32) : Prop :=
  (∀ h1 : Mem, h1 = up2 h 2 0 a1 → post (0 : Int32) h1)
set_option maxHeartbeats 4000000 in
set_option maxRecDepth 100000 in
theorem metX7_fail (l : Launch) (D : va_G) (cA : Nat → ClassId) (z0 : Nat) (E : Nat → Nat → Nat) (ad : Nat → Nat) (h : Mem) (a1 : Int32) (post : Int32 → Mem → Prop) (hw : wpX7_fail post h a1) : MeI l D cA z0 E ad yX7_fail (ws_ yX7_fail cX7_fail 2 (some .int)) ({ frames := 1, cells := 0, slots := 0, locals := 30 }) [.ref (ad 69), .int a1] h post := by
  refine Met.ofW (cc := cX7_fail) (maxL := 2) (ret := (some .int)) (by decide) rfl ?_
  intro p e s m args below meth c s₁ B hml hv
  obtain ⟨rfl, hM, hK, hJ, hZ⟩ := hv
  have hx := B.exec
  have hb := B.bytes
  have hr := B.returns
  have hts := atoms_spec (ws := ws_ yX7_fail cX7_fail 2 (some .int)) B.pre
  have hts : ∀ w ∈ lw_all, w.before _ s = true := fun w h => hts w (List.mem_cons_of_mem _ h)
  have hown : s.vm.findClass RX7 = some m.cls := findClass_of_methodNamed B.named
  have hlocks := B.notSynchronized
  have hS : va_S (MA ad) s.heap s.heap [] := va_S.rf
  have hl := lv_entry ([.ref (ad 69), .int a1]) (n := 2) (Nat.le_of_ble_eq_true rfl)
  rw [lg_entry_eq]
  generalize (lg_sl ([.ref (ad 69), .int a1]) ++ List.replicate (2 - (lg_sl ([.ref (ad 69), .int a1])).length) Slot.unset).toArray = ls at hl ⊢
  have hl : lv_has ls 2 [(0, .ref (ad 69)), (1, .int a1)] := hl
  unfold wpX7_fail at hw
  refine lv_aload_n hx hb dX7_fail_0 rfl (lv_at hl 0 rfl) ?_
  refine lv_iload_n hx hb dX7_fail_1 rfl (lv_at hl 1 rfl) ?_
  refine M_put hx hb hts hown hK hM hJ hS 2 rfl rfl (hts _ q1685) rfl .int (by decide +kernel) rfl rfl dX7_fail_2 (fun H locs hM hS => ?_)
  obtain ⟨h1, eh1⟩ : ∃ y : Mem, y = up2 h 2 0 a1 := ⟨_, rfl⟩
  rw [← eh1] at hM
  have hw := hw h1 eh1
  refine lv_iconst (v := (0 : Int32)) hx hb dX7_fail_5 (by decide) ?_
  exact M_iret hx hb hr hlocks hM hS hw dX7_fail_6

/-- is(Ljava/lang/String;)Z -/
def wpBX7_is_39 (post : Bool → Prop) (t1 : Nat)  (K39 : Int32 → Int32 → Prop) (h : Mem)  (x2 : Int32) (x3 : Int32) : Prop :=
  ((x2 = 0 → (∃ b : Bool, x2 = b2i b ∧ post b)) ∧ (¬ x2 = 0 → (((nI (txt t1).length) ≤ x3 → (∃ b : Bool, x2 = b2i b ∧ post b)) ∧ (¬ (nI (txt t1).length) ≤ x3 → (vp_in x3 (txt t1).length ∧ (vp_in ((h 22 0) + x3) (mlen 16) ∧ K39 (if (nI ((txt t1).getD (ix x3) 0)) = (h 16 (ix ((h 22 0) + x3))) then (1 : Int32) else (0 : Int32)) (x3 + (1 : Int32))))))))
def wpLX7_is_39 (post : Bool → Prop) (t1 : Nat)  (h : Mem)  : Nat → (Int32 × Int32) → Prop := LW (fun K s => wpBX7_is_39 post t1  (fun x2 x3 => K (x2, x3)) h  s.1 s.2)
def wpBX7_is_35 (post : Bool → Prop) (t1 : Nat)  (h : Mem)   : Prop :=
  (∃ n, wpLX7_is_39 post t1  h n ((0 : Int32), (0 : Int32)))
def wpX7_is (post : Bool → Prop) (h : Mem) (t1 : Nat) : Prop :=
  (((h 24 0) = 0 → (((h 20 0) = (1 : Int32) → (∃ n, wpLX7_is_39 post t1  h n ((if (nI (txt t1).length) = ((h 23 0) - (h 22 0)) then (1 : Int32) else (0 : Int32)), (0 : Int32)))) ∧ (¬ (h 20 0) = (1 : Int32) → wpBX7_is_35 post t1  h ))) ∧ (¬ (h 24 0) = 0 → wpBX7_is_35 post t1  h ))
set_option maxHeartbeats 4000000 in
set_option maxRecDepth 100000 in
theorem metX7_is (l : Launch) (D : va_G) (cA : Nat → ClassId) (z0 : Nat) (E : Nat → Nat → Nat) (ad : Nat → Nat) (h : Mem) (t1 : Nat) (post : Bool → Prop) (ht1 : t1 < 30) (hw : wpX7_is post h t1) : MeZ l D cA z0 E ad yX7_is (ws_ yX7_is cX7_is 4 (some .boolean)) ({ frames := 8, cells := 0, slots := 0, locals := 241 }) [.ref (ad 69), .ref (E 0 t1)] h (fun r h' => h' = h ∧ post r) := by
  refine Met.ofW (cc := cX7_is) (maxL := 4) (ret := (some .boolean)) (by decide) rfl ?_
  intro p e s m args below meth c s₁ B hml hv
  obtain ⟨rfl, hM, hK, hJ, hZ⟩ := hv
  have hx := B.exec
  have hb := B.bytes
  have hr := B.returns
  have hts := atoms_spec (ws := ws_ yX7_is cX7_is 4 (some .boolean)) B.pre
  have hts : ∀ w ∈ lw_all, w.before _ s = true := fun w h => hts w (List.mem_cons_of_mem _ h)
  have hown : s.vm.findClass RX7 = some m.cls := findClass_of_methodNamed B.named
  have hlocks := B.notSynchronized
  have hS : va_S (MA ad) s.heap s.heap [] := va_S.rf
  have hl := lv_entry ([.ref (ad 69), .ref (E 0 t1)]) (n := 4) (Nat.le_of_ble_eq_true rfl)
  rw [lg_entry_eq]
  generalize (lg_sl ([.ref (ad 69), .ref (E 0 t1)]) ++ List.replicate (4 - (lg_sl ([.ref (ad 69), .ref (E 0 t1)])).length) Slot.unset).toArray = ls at hl ⊢
  have hl : lv_has ls 4 [(0, .ref (ad 69)), (1, .ref (E 0 t1))] := hl
  have hL39 : ∀  (n39 : Nat) (x2 : Int32) (x3 : Int32), wpLX7_is_39 post t1  h  n39 (x2, x3) → JM p l e (headSpec (ws_ yX7_is cX7_is 4 (some .boolean)) ({ frames := 8, cells := 0, slots := 0, locals := 241 })).room s m ([.ref (ad 69), .ref (E 0 t1)] : List Value).toArray below meth c (MQ below (MQz D cA E ad (fun r h' => h' = h ∧ post r)) ([.ref (ad 69), .ref (E 0 t1)] : List Value).toArray s 0 0 (MA ad)) D cA E ad 4 39 h [(0, .ref (ad 69)), (1, .ref (E 0 t1)), (2, .int x2), (3, .int x3)] [] := by
    intro  n39
    induction n39 with
    | zero => intro x2 x3 hw; exact False.elim hw
    | succ n39 ih39 =>
      intro x2 x3 hw H locs ls hM hS hl
      have hw : wpBX7_is_39 post t1  (fun x2 x3 => wpLX7_is_39 post t1  h  n39 (x2, x3)) h  x2 x3 := hw
      unfold wpBX7_is_39 at hw
      refine lv_iload_n hx hb dX7_is_39 rfl (lv_at hl 2 rfl) ?_
      refine lv_if_eq (tgt := 82) hx hb dX7_is_40 (by decide) (fun c2 => ?_) (fun c2 => ?_)
      · have hw := hw.1 c2
        refine lv_iload_n hx hb dX7_is_82 rfl (lv_at hl 2 rfl) ?_
        obtain ⟨b, hb1, hw⟩ := hw
        exact M_zret hx hb hr hlocks hM hS ⟨b, hb1, rfl, hw⟩ dX7_is_83
      · have hw := hw.2 c2
        refine lv_iload_n hx hb dX7_is_43 rfl (lv_at hl 3 rfl) ?_
        refine lv_aload_n hx hb dX7_is_44 rfl (lv_at hl 1 rfl) ?_
        refine M_strlen ⟨hx, hb, hml, hown, hts⟩ hZ hM hJ hS t1 ht1 (cwV 0 hts (lw_V q1936 q328 q329 q115 q330) rfl rfl rfl (by decide +kernel) ⟨Nat.le_of_ble_eq_true rfl, Nat.le_of_ble_eq_true rfl⟩) hl.1 (Nat.le_of_ble_eq_true rfl) dX7_is_45 ⟨Nat.zero_le _, Nat.zero_le _⟩ (fun H locs hM hS => ?_)
        refine lv_icmp_ge (tgt := 82) hx hb dX7_is_48 (by decide) (fun c3 => ?_) (fun c3 => ?_)
        · have hw := hw.1 c3
          refine lv_iload_n hx hb dX7_is_82 rfl (lv_at hl 2 rfl) ?_
          obtain ⟨b, hb1, hw⟩ := hw
          exact M_zret hx hb hr hlocks hM hS ⟨b, hb1, rfl, hw⟩ dX7_is_83
        · have hw := hw.2 c3
          refine lv_aload_n hx hb dX7_is_51 rfl (lv_at hl 1 rfl) ?_
          refine lv_iload_n hx hb dX7_is_52 rfl (lv_at hl 3 rfl) ?_
          obtain ⟨hb4, hw⟩ := hw
          refine M_strchar ⟨hx, hb, hml, hown, hts⟩ hZ hM hJ hS t1 ht1 hb4 (cwV 1 hts (lw_V q1937 q1288 q1289 q115 q1290) rfl rfl rfl (by decide +kernel) ⟨Nat.le_of_ble_eq_true rfl, Nat.le_of_ble_eq_true rfl⟩) hl.1 (Nat.le_of_ble_eq_true rfl) dX7_is_53 ⟨Nat.zero_le _, Nat.zero_le _⟩ (fun H locs hM hS => ?_)
          refine lv_aload_n hx hb dX7_is_56 rfl (lv_at hl 0 rfl) ?_
          refine M_get hx hb hts hown hK hM 16 (v := .ref (ad 16)) (by decide) (hts _ q1699) rfl dX7_is_57 ?_
          refine lv_aload_n hx hb dX7_is_60 rfl (lv_at hl 0 rfl) ?_
          refine M_get hx hb hts hown hK hM 22 (v := .int (h 22 0)) (by decide) (hts _ q1705) rfl dX7_is_61 ?_
          refine lv_iload_n hx hb dX7_is_64 rfl (lv_at hl 3 rfl) ?_
          refine lv_iadd hx hb dX7_is_65 ?_
          obtain ⟨hb5, hw⟩ := hw
          refine M_iald hx hb hK hM 16 rfl (j := (ix ((h 22 0) + x3))) rfl hb5 dX7_is_66 ?_
          have hj6 : JM p l e (headSpec (ws_ yX7_is cX7_is 4 (some .boolean)) ({ frames := 8, cells := 0, slots := 0, locals := 241 })).room s m ([.ref (ad 69), .ref (E 0 t1)] : List Value).toArray below meth c (MQ below (MQz D cA E ad (fun r h' => h' = h ∧ post r)) ([.ref (ad 69), .ref (E 0 t1)] : List Value).toArray s 0 0 (MA ad)) D cA E ad 4 75 h [(0, .ref (ad 69)), (1, .ref (E 0 t1)), (3, .int x3)] [.int (if (nI ((txt t1).getD (ix x3) 0)) = (h 16 (ix ((h 22 0) + x3))) then (1 : Int32) else (0 : Int32))] := by
            intro H locs ls hM hS hl
            refine lv_istore_n (lv' := [(2, .int (if (nI ((txt t1).getD (ix x3) 0)) = (h 16 (ix ((h 22 0) + x3))) then (1 : Int32) else (0 : Int32))), (0, .ref (ad 69)), (1, .ref (E 0 t1)), (3, .int x3)]) hx hb dX7_is_75 rfl hl (by decide) rfl (fun ls hl => ?_)
            refine lv_iinc (v := (x3 + (1 : Int32))) (lv' := [(3, .int (x3 + (1 : Int32))), (2, .int (if (nI ((txt t1).getD (ix x3) 0)) = (h 16 (ix ((h 22 0) + x3))) then (1 : Int32) else (0 : Int32))), (0, .ref (ad 69)), (1, .ref (E 0 t1))]) hx hb dX7_is_76 hl (k := 3) rfl rfl (by decide) rfl (fun ls hl => ?_)
            refine lv_goto (tgt := 39) hx hb dX7_is_79 (by decide) ?_
            exact ih39 (if (nI ((txt t1).getD (ix x3) 0)) = (h 16 (ix ((h 22 0) + x3))) then (1 : Int32) else (0 : Int32)) (x3 + (1 : Int32)) hw _ _ ls hM hS (lv_sub hl [2, 3, 1, 0] rfl)
          refine lv_icmp_ne (tgt := 74) hx hb dX7_is_67 (by decide) (fun c7 => ?_) (fun c7 => ?_)
          · refine lv_iconst (v := (0 : Int32)) hx hb dX7_is_74 (by decide) ?_
            have e8 : (if (nI ((txt t1).getD (ix x3) 0)) = (h 16 (ix ((h 22 0) + x3))) then (1 : Int32) else (0 : Int32)) = (0 : Int32) := by rw [if_neg c7]
            rw [e8] at hj6
            exact hj6 _ _ ls hM hS (lv_sub hl [0, 1, 3] rfl)
          · refine lv_iconst (v := (1 : Int32)) hx hb dX7_is_70 (by decide) ?_
            refine lv_goto (tgt := 75) hx hb dX7_is_71 (by decide) ?_
            have e9 : (if (nI ((txt t1).getD (ix x3) 0)) = (h 16 (ix ((h 22 0) + x3))) then (1 : Int32) else (0 : Int32)) = (1 : Int32) := by rw [if_pos c7]
            rw [e9] at hj6
            exact hj6 _ _ ls hM hS (lv_sub hl [0, 1, 3] rfl)
  have hB35 : wpBX7_is_35 post t1  h  → JM p l e (headSpec (ws_ yX7_is cX7_is 4 (some .boolean)) ({ frames := 8, cells := 0, slots := 0, locals := 241 })).room s m ([.ref (ad 69), .ref (E 0 t1)] : List Value).toArray below meth c (MQ below (MQz D cA E ad (fun r h' => h' = h ∧ post r)) ([.ref (ad 69), .ref (E 0 t1)] : List Value).toArray s 0 0 (MA ad)) D cA E ad 4 35 h [(0, .ref (ad 69)), (1, .ref (E 0 t1))] [] := by
    intro  hw H locs ls hM hS hl
    unfold wpBX7_is_35 at hw
    refine lv_iconst (v := (0 : Int32)) hx hb dX7_is_35 (by decide) ?_
    refine lv_istore_n (lv' := [(2, .int (0 : Int32)), (0, .ref (ad 69)), (1, .ref (E 0 t1))]) hx hb dX7_is_36 rfl hl (by decide) rfl (fun ls hl => ?_)
    refine lv_iconst (v := (0 : Int32)) hx hb dX7_is_37 (by decide) ?_
    refine lv_istore_n (lv' := [(3, .int (0 : Int32)), (2, .int (0 : Int32)), (0, .ref (ad 69)), (1, .ref (E 0 t1))]) hx hb dX7_is_38 rfl hl (by decide) rfl (fun ls hl => ?_)
    obtain ⟨n10, hw⟩ := hw
    exact hL39 n10 (0 : Int32) (0 : Int32) hw _ _ ls hM hS (lv_sub hl [2, 3, 1, 0] rfl)
  unfold wpX7_is at hw
  refine lv_aload_n hx hb dX7_is_0 rfl (lv_at hl 0 rfl) ?_
  refine M_get hx hb hts hown hK hM 24 (v := .int (h 24 0)) (by decide) (hts _ q1707) rfl dX7_is_1 ?_
  refine lv_if_ne (tgt := 35) hx hb dX7_is_4 (by decide) (fun c1 => ?_) (fun c1 => ?_)
  · have hw := hw.2 c1
    exact hB35  hw _ _ ls hM hS (lv_sub hl [0, 1] rfl)
  · have hw := hw.1 c1
    refine lv_aload_n hx hb dX7_is_7 rfl (lv_at hl 0 rfl) ?_
    refine M_get hx hb hts hown hK hM 20 (v := .int (h 20 0)) (by decide) (hts _ q1703) rfl dX7_is_8 ?_
    refine lv_iconst (v := (1 : Int32)) hx hb dX7_is_11 (by decide) ?_
    refine lv_icmp_ne (tgt := 35) hx hb dX7_is_12 (by decide) (fun c11 => ?_) (fun c11 => ?_)
    · have hw := hw.2 c11
      exact hB35  hw _ _ ls hM hS (lv_sub hl [0, 1] rfl)
    · have hw := hw.1 c11
      refine lv_aload_n hx hb dX7_is_15 rfl (lv_at hl 1 rfl) ?_
      refine M_strlen ⟨hx, hb, hml, hown, hts⟩ hZ hM hJ hS t1 ht1 (cwV 0 hts (lw_V q1936 q328 q329 q115 q330) rfl rfl rfl (by decide +kernel) ⟨Nat.le_of_ble_eq_true rfl, Nat.le_of_ble_eq_true rfl⟩) hl.1 (Nat.le_of_ble_eq_true rfl) dX7_is_16 ⟨Nat.zero_le _, Nat.zero_le _⟩ (fun H locs hM hS => ?_)
      refine lv_aload_n hx hb dX7_is_19 rfl (lv_at hl 0 rfl) ?_
      refine M_get hx hb hts hown hK hM 23 (v := .int (h 23 0)) (by decide) (hts _ q1706) rfl dX7_is_20 ?_
      refine lv_aload_n hx hb dX7_is_23 rfl (lv_at hl 0 rfl) ?_
      refine M_get hx hb hts hown hK hM 22 (v := .int (h 22 0)) (by decide) (hts _ q1705) rfl dX7_is_24 ?_
      refine lv_isub hx hb dX7_is_27 ?_
      have hj12 : JM p l e (headSpec (ws_ yX7_is cX7_is 4 (some .boolean)) ({ frames := 8, cells := 0, slots := 0, locals := 241 })).room s m ([.ref (ad 69), .ref (E 0 t1)] : List Value).toArray below meth c (MQ below (MQz D cA E ad (fun r h' => h' = h ∧ post r)) ([.ref (ad 69), .ref (E 0 t1)] : List Value).toArray s 0 0 (MA ad)) D cA E ad 4 36 h [(0, .ref (ad 69)), (1, .ref (E 0 t1))] [.int (if (nI (txt t1).length) = ((h 23 0) - (h 22 0)) then (1 : Int32) else (0 : Int32))] := by
        intro H locs ls hM hS hl
        refine lv_istore_n (lv' := [(2, .int (if (nI (txt t1).length) = ((h 23 0) - (h 22 0)) then (1 : Int32) else (0 : Int32))), (0, .ref (ad 69)), (1, .ref (E 0 t1))]) hx hb dX7_is_36 rfl hl (by decide) rfl (fun ls hl => ?_)
        refine lv_iconst (v := (0 : Int32)) hx hb dX7_is_37 (by decide) ?_
        refine lv_istore_n (lv' := [(3, .int (0 : Int32)), (2, .int (if (nI (txt t1).length) = ((h 23 0) - (h 22 0)) then (1 : Int32) else (0 : Int32))), (0, .ref (ad 69)), (1, .ref (E 0 t1))]) hx hb dX7_is_38 rfl hl (by decide) rfl (fun ls hl => ?_)
        obtain ⟨n13, hw⟩ := hw
        exact hL39 n13 (if (nI (txt t1).length) = ((h 23 0) - (h 22 0)) then (1 : Int32) else (0 : Int32)) (0 : Int32) hw _ _ ls hM hS (lv_sub hl [2, 3, 1, 0] rfl)
      refine lv_icmp_ne (tgt := 35) hx hb dX7_is_28 (by decide) (fun c14 => ?_) (fun c14 => ?_)
      · refine lv_iconst (v := (0 : Int32)) hx hb dX7_is_35 (by decide) ?_
        have e15 : (if (nI (txt t1).length) = ((h 23 0) - (h 22 0)) then (1 : Int32) else (0 : Int32)) = (0 : Int32) := by rw [if_neg c14]
        rw [e15] at hj12
        exact hj12 _ _ ls hM hS (lv_sub hl [0, 1] rfl)
      · refine lv_iconst (v := (1 : Int32)) hx hb dX7_is_31 (by decide) ?_
        refine lv_goto (tgt := 36) hx hb dX7_is_32 (by decide) ?_
        have e16 : (if (nI (txt t1).length) = ((h 23 0) - (h 22 0)) then (1 : Int32) else (0 : Int32)) = (1 : Int32) := by rw [if_pos c14]
        rw [e16] at hj12
        exact hj12 _ _ ls hM hS (lv_sub hl [0, 1] rfl)

/-- isMarked(I)Z -/
def wpX7_isMarked (post : Bool → Prop) (h : Mem) (a1 : Int32) : Prop :=
  (((h 24 0) = 0 → (((h 20 0) = (3 : Int32) → (vp_in (h 22 0) (mlen 16) ∧ post (if (h 16 (ix (h 22 0))) = a1 then true else false))) ∧ (¬ (h 20 0) = (3 : Int32) → post false))) ∧ (¬ (h 24 0) = 0 → post false))
set_option maxHeartbeats 4000000 in
set_option maxRecDepth 100000 in
theorem metX7_isMarked (l : Launch) (D : va_G) (cA : Nat → ClassId) (z0 : Nat) (E : Nat → Nat → Nat) (ad : Nat → Nat) (h : Mem) (a1 : Int32) (post : Bool → Prop) (hw : wpX7_isMarked post h a1) : MeZ l D cA z0 E ad yX7_isMarked (ws_ yX7_isMarked cX7_isMarked 2 (some .boolean)) ({ frames := 1, cells := 0, slots := 0, locals := 30 }) [.ref (ad 69), .int a1] h (fun r h' => h' = h ∧ post r) := by
  refine Met.ofW (cc := cX7_isMarked) (maxL := 2) (ret := (some .boolean)) (by decide) rfl ?_
  intro p e s m args below meth c s₁ B hml hv
  obtain ⟨rfl, hM, hK, hJ, hZ⟩ := hv
  have hx := B.exec
  have hb := B.bytes
  have hr := B.returns
  have hts := atoms_spec (ws := ws_ yX7_isMarked cX7_isMarked 2 (some .boolean)) B.pre
  have hts : ∀ w ∈ lw_all, w.before _ s = true := fun w h => hts w (List.mem_cons_of_mem _ h)
  have hown : s.vm.findClass RX7 = some m.cls := findClass_of_methodNamed B.named
  have hlocks := B.notSynchronized
  have hS : va_S (MA ad) s.heap s.heap [] := va_S.rf
  have hl := lv_entry ([.ref (ad 69), .int a1]) (n := 2) (Nat.le_of_ble_eq_true rfl)
  rw [lg_entry_eq]
  generalize (lg_sl ([.ref (ad 69), .int a1]) ++ List.replicate (2 - (lg_sl ([.ref (ad 69), .int a1])).length) Slot.unset).toArray = ls at hl ⊢
  have hl : lv_has ls 2 [(0, .ref (ad 69)), (1, .int a1)] := hl
  unfold wpX7_isMarked at hw
  refine lv_aload_n hx hb dX7_isMarked_0 rfl (lv_at hl 0 rfl) ?_
  refine M_get hx hb hts hown hK hM 24 (v := .int (h 24 0)) (by decide) (hts _ q1707) rfl dX7_isMarked_1 ?_
  refine lv_if_ne (tgt := 32) hx hb dX7_isMarked_4 (by decide) (fun c1 => ?_) (fun c1 => ?_)
  · have hw := hw.2 c1
    refine lv_iconst (v := (0 : Int32)) hx hb dX7_isMarked_32 (by decide) ?_
    exact M_zret hx hb hr hlocks hM hS ⟨_, rfl, ⟨rfl, hw⟩⟩ dX7_isMarked_33
  · have hw := hw.1 c1
    refine lv_aload_n hx hb dX7_isMarked_7 rfl (lv_at hl 0 rfl) ?_
    refine M_get hx hb hts hown hK hM 20 (v := .int (h 20 0)) (by decide) (hts _ q1703) rfl dX7_isMarked_8 ?_
    refine lv_iconst (v := (3 : Int32)) hx hb dX7_isMarked_11 (by decide) ?_
    refine lv_icmp_ne (tgt := 32) hx hb dX7_isMarked_12 (by decide) (fun c2 => ?_) (fun c2 => ?_)
    · have hw := hw.2 c2
      refine lv_iconst (v := (0 : Int32)) hx hb dX7_isMarked_32 (by decide) ?_
      exact M_zret hx hb hr hlocks hM hS ⟨_, rfl, ⟨rfl, hw⟩⟩ dX7_isMarked_33
    · have hw := hw.1 c2
      refine lv_aload_n hx hb dX7_isMarked_15 rfl (lv_at hl 0 rfl) ?_
      refine M_get hx hb hts hown hK hM 16 (v := .ref (ad 16)) (by decide) (hts _ q1699) rfl dX7_isMarked_16 ?_
      refine lv_aload_n hx hb dX7_isMarked_19 rfl (lv_at hl 0 rfl) ?_
      refine M_get hx hb hts hown hK hM 22 (v := .int (h 22 0)) (by decide) (hts _ q1705) rfl dX7_isMarked_20 ?_
      obtain ⟨hb3, hw⟩ := hw
      refine M_iald hx hb hK hM 16 rfl (j := (ix (h 22 0))) rfl hb3 dX7_isMarked_23 ?_
      refine lv_iload_n hx hb dX7_isMarked_24 rfl (lv_at hl 1 rfl) ?_
      have hj4 : JM p l e (headSpec (ws_ yX7_isMarked cX7_isMarked 2 (some .boolean)) ({ frames := 1, cells := 0, slots := 0, locals := 30 })).room s m ([.ref (ad 69), .int a1] : List Value).toArray below meth c (MQ below (MQz D cA E ad (fun r h' => h' = h ∧ post r)) ([.ref (ad 69), .int a1] : List Value).toArray s 0 0 (MA ad)) D cA E ad 2 33 h [] [.int (if (h 16 (ix (h 22 0))) = a1 then (1 : Int32) else (0 : Int32))] := by
        intro H locs ls hM hS hl
        exact M_zret hx hb hr hlocks hM hS ⟨_, (b2i_pick rfl rfl), ⟨rfl, hw⟩⟩ dX7_isMarked_33
      refine lv_icmp_ne (tgt := 32) hx hb dX7_isMarked_25 (by decide) (fun c5 => ?_) (fun c5 => ?_)
      · refine lv_iconst (v := (0 : Int32)) hx hb dX7_isMarked_32 (by decide) ?_
        have e6 : (if (h 16 (ix (h 22 0))) = a1 then (1 : Int32) else (0 : Int32)) = (0 : Int32) := by rw [if_neg c5]
        rw [e6] at hj4
        exact hj4 _ _ ls hM hS (lv_sub hl [] rfl)
      · refine lv_iconst (v := (1 : Int32)) hx hb dX7_isMarked_28 (by decide) ?_
        refine lv_goto (tgt := 33) hx hb dX7_isMarked_29 (by decide) ?_
        have e7 : (if (h 16 (ix (h 22 0))) = a1 then (1 : Int32) else (0 : Int32)) = (1 : Int32) := by rw [if_pos c5]
        rw [e7] at hj4
        exact hj4 _ _ ls hM hS (lv_sub hl [] rfl)

/-- byteAt(I)I -/
def wpX7_byteAt (post : Int32 → Prop) (h : Mem) (a1 : Int32) : Prop :=
  (((h 19 0) ≤ a1 → post (-1 : Int32)) ∧ (¬ (h 19 0) ≤ a1 → (vp_in a1 (mlen 16) ∧ post (h 16 (ix a1)))))
set_option maxHeartbeats 4000000 in
set_option maxRecDepth 100000 in
theorem metX7_byteAt (l : Launch) (D : va_G) (cA : Nat → ClassId) (z0 : Nat) (E : Nat → Nat → Nat) (ad : Nat → Nat) (h : Mem) (a1 : Int32) (post : Int32 → Prop) (hw : wpX7_byteAt post h a1) : MeI l D cA z0 E ad yX7_byteAt (ws_ yX7_byteAt cX7_byteAt 2 (some .int)) ({ frames := 1, cells := 0, slots := 0, locals := 30 }) [.ref (ad 69), .int a1] h (fun r h' => h' = h ∧ post r) := by
  refine Met.ofW (cc := cX7_byteAt) (maxL := 2) (ret := (some .int)) (by decide) rfl ?_
  intro p e s m args below meth c s₁ B hml hv
  obtain ⟨rfl, hM, hK, hJ, hZ⟩ := hv
  have hx := B.exec
  have hb := B.bytes
  have hr := B.returns
  have hts := atoms_spec (ws := ws_ yX7_byteAt cX7_byteAt 2 (some .int)) B.pre
  have hts : ∀ w ∈ lw_all, w.before _ s = true := fun w h => hts w (List.mem_cons_of_mem _ h)
  have hown : s.vm.findClass RX7 = some m.cls := findClass_of_methodNamed B.named
  have hlocks := B.notSynchronized
  have hS : va_S (MA ad) s.heap s.heap [] := va_S.rf
  have hl := lv_entry ([.ref (ad 69), .int a1]) (n := 2) (Nat.le_of_ble_eq_true rfl)
  rw [lg_entry_eq]
  generalize (lg_sl ([.ref (ad 69), .int a1]) ++ List.replicate (2 - (lg_sl ([.ref (ad 69), .int a1])).length) Slot.unset).toArray = ls at hl ⊢
  have hl : lv_has ls 2 [(0, .ref (ad 69)), (1, .int a1)] := hl
  unfold wpX7_byteAt at hw
  refine lv_iload_n hx hb dX7_byteAt_0 rfl (lv_at hl 1 rfl) ?_
  refine lv_aload_n hx hb dX7_byteAt_1 rfl (lv_at hl 0 rfl) ?_
  refine M_get hx hb hts hown hK hM 19 (v := .int (h 19 0)) (by decide) (hts _ q1702) rfl dX7_byteAt_2 ?_
  refine lv_icmp_ge (tgt := 17) hx hb dX7_byteAt_5 (by decide) (fun c1 => ?_) (fun c1 => ?_)
  · have hw := hw.1 c1
    refine lv_iconst (v := (-1 : Int32)) hx hb dX7_byteAt_17 (by decide) ?_
    exact M_iret hx hb hr hlocks hM hS ⟨rfl, hw⟩ dX7_byteAt_18
  · have hw := hw.2 c1
    refine lv_aload_n hx hb dX7_byteAt_8 rfl (lv_at hl 0 rfl) ?_
    refine M_get hx hb hts hown hK hM 16 (v := .ref (ad 16)) (by decide) (hts _ q1699) rfl dX7_byteAt_9 ?_
    refine lv_iload_n hx hb dX7_byteAt_12 rfl (lv_at hl 1 rfl) ?_
    obtain ⟨hb2, hw⟩ := hw
    refine M_iald hx hb hK hM 16 rfl (j := (ix a1)) rfl hb2 dX7_byteAt_13 ?_
    refine lv_goto (tgt := 18) hx hb dX7_byteAt_14 (by decide) ?_
    exact M_iret hx hb hr hlocks hM hS ⟨rfl, hw⟩ dX7_byteAt_18

/-- isDigit(I)Z -/
def wpX7_isDigit (post : Bool → Prop) (h : Mem) (a0 : Int32) : Prop :=
  post (if a0 < (48 : Int32) then false else (if (57 : Int32) < a0 then false else true))
set_option maxHeartbeats 4000000 in
set_option maxRecDepth 100000 in
theorem metX7_isDigit (l : Launch) (D : va_G) (cA : Nat → ClassId) (z0 : Nat) (E : Nat → Nat → Nat) (ad : Nat → Nat) (h : Mem) (a0 : Int32) (post : Bool → Prop) (hw : wpX7_isDigit post h a0) : MeZ l D cA z0 E ad yX7_isDigit (ws_ yX7_isDigit cX7_isDigit 1 (some .boolean)) ({ frames := 1, cells := 0, slots := 0, locals := 30 }) [.int a0] h (fun r h' => h' = h ∧ post r) := by
  refine Met.ofW (cc := cX7_isDigit) (maxL := 1) (ret := (some .boolean)) (by decide) rfl ?_
  intro p e s m args below meth c s₁ B hml hv
  obtain ⟨rfl, hM, hK, hJ, hZ⟩ := hv
  have hx := B.exec
  have hb := B.bytes
  have hr := B.returns
  have hts := atoms_spec (ws := ws_ yX7_isDigit cX7_isDigit 1 (some .boolean)) B.pre
  have hts : ∀ w ∈ lw_all, w.before _ s = true := fun w h => hts w (List.mem_cons_of_mem _ h)
  have hown : s.vm.findClass RX7 = some m.cls := findClass_of_methodNamed B.named
  have hlocks := B.notSynchronized
  have hS : va_S (MA ad) s.heap s.heap [] := va_S.rf
  have hl := lv_entry ([.int a0]) (n := 1) (Nat.le_of_ble_eq_true rfl)
  rw [lg_entry_eq]
  generalize (lg_sl ([.int a0]) ++ List.replicate (1 - (lg_sl ([.int a0])).length) Slot.unset).toArray = ls at hl ⊢
  have hl : lv_has ls 1 [(0, .int a0)] := hl
  unfold wpX7_isDigit at hw
  refine lv_iload_n hx hb dX7_isDigit_0 rfl (lv_at hl 0 rfl) ?_
  refine lv_bipush (v := (48 : Int32)) hx hb dX7_isDigit_1 (by decide) ?_
  have hj1 : JM p l e (headSpec (ws_ yX7_isDigit cX7_isDigit 1 (some .boolean)) ({ frames := 1, cells := 0, slots := 0, locals := 30 })).room s m ([.int a0] : List Value).toArray below meth c (MQ below (MQz D cA E ad (fun r h' => h' = h ∧ post r)) ([.int a0] : List Value).toArray s 0 0 (MA ad)) D cA E ad 1 17 h [] [.int (if a0 < (48 : Int32) then (0 : Int32) else (if (57 : Int32) < a0 then (0 : Int32) else (1 : Int32)))] := by
    intro H locs ls hM hS hl
    exact M_zret hx hb hr hlocks hM hS ⟨_, (b2i_pick rfl (b2i_pick rfl rfl)), ⟨rfl, hw⟩⟩ dX7_isDigit_17
  refine lv_icmp_lt (tgt := 16) hx hb dX7_isDigit_3 (by decide) (fun c2 => ?_) (fun c2 => ?_)
  · refine lv_iconst (v := (0 : Int32)) hx hb dX7_isDigit_16 (by decide) ?_
    have e3 : (if a0 < (48 : Int32) then (0 : Int32) else (if (57 : Int32) < a0 then (0 : Int32) else (1 : Int32))) = (0 : Int32) := by rw [if_pos c2]
    rw [e3] at hj1
    exact hj1 _ _ ls hM hS (lv_sub hl [] rfl)
  · refine lv_iload_n hx hb dX7_isDigit_6 rfl (lv_at hl 0 rfl) ?_
    refine lv_bipush (v := (57 : Int32)) hx hb dX7_isDigit_7 (by decide) ?_
    refine lv_icmp_gt (tgt := 16) hx hb dX7_isDigit_9 (by decide) (fun c4 => ?_) (fun c4 => ?_)
    · refine lv_iconst (v := (0 : Int32)) hx hb dX7_isDigit_16 (by decide) ?_
      have e5 : (if a0 < (48 : Int32) then (0 : Int32) else (if (57 : Int32) < a0 then (0 : Int32) else (1 : Int32))) = (0 : Int32) := by rw [if_neg c2, if_pos c4]
      rw [e5] at hj1
      exact hj1 _ _ ls hM hS (lv_sub hl [] rfl)
    · refine lv_iconst (v := (1 : Int32)) hx hb dX7_isDigit_12 (by decide) ?_
      refine lv_goto (tgt := 17) hx hb dX7_isDigit_13 (by decide) ?_
      have e6 : (if a0 < (48 : Int32) then (0 : Int32) else (if (57 : Int32) < a0 then (0 : Int32) else (1 : Int32))) = (1 : Int32) := by rw [if_neg c2, if_neg c4]
      rw [e6] at hj1
      exact hj1 _ _ ls hM hS (lv_sub hl [] rfl)

/-- isLetter(I)Z -/
def wpX7_isLetter (post : Bool → Prop) (h : Mem) (a0 : Int32) : Prop :=
  post (if a0 < (97 : Int32) then false else (if (122 : Int32) < a0 then false else true))
set_option maxHeartbeats 4000000 in
set_option maxRecDepth 100000 in
theorem metX7_isLetter (l : Launch) (D : va_G) (cA : Nat → ClassId) (z0 : Nat) (E : Nat → Nat → Nat) (ad : Nat → Nat) (h : Mem) (a0 : Int32) (post : Bool → Prop) (hw : wpX7_isLetter post h a0) : MeZ l D cA z0 E ad yX7_isLetter (ws_ yX7_isLetter cX7_isLetter 1 (some .boolean)) ({ frames := 1, cells := 0, slots := 0, locals := 30 }) [.int a0] h (fun r h' => h' = h ∧ post r) := by
  refine Met.ofW (cc := cX7_isLetter) (maxL := 1) (ret := (some .boolean)) (by decide) rfl ?_
  intro p e s m args below meth c s₁ B hml hv
  obtain ⟨rfl, hM, hK, hJ, hZ⟩ := hv
  have hx := B.exec
  have hb := B.bytes
  have hr := B.returns
  have hts := atoms_spec (ws := ws_ yX7_isLetter cX7_isLetter 1 (some .boolean)) B.pre
  have hts : ∀ w ∈ lw_all, w.before _ s = true := fun w h => hts w (List.mem_cons_of_mem _ h)
  have hown : s.vm.findClass RX7 = some m.cls := findClass_of_methodNamed B.named
  have hlocks := B.notSynchronized
  have hS : va_S (MA ad) s.heap s.heap [] := va_S.rf
  have hl := lv_entry ([.int a0]) (n := 1) (Nat.le_of_ble_eq_true rfl)
  rw [lg_entry_eq]
  generalize (lg_sl ([.int a0]) ++ List.replicate (1 - (lg_sl ([.int a0])).length) Slot.unset).toArray = ls at hl ⊢
  have hl : lv_has ls 1 [(0, .int a0)] := hl
  unfold wpX7_isLetter at hw
  refine lv_iload_n hx hb dX7_isLetter_0 rfl (lv_at hl 0 rfl) ?_
  refine lv_bipush (v := (97 : Int32)) hx hb dX7_isLetter_1 (by decide) ?_
  have hj1 : JM p l e (headSpec (ws_ yX7_isLetter cX7_isLetter 1 (some .boolean)) ({ frames := 1, cells := 0, slots := 0, locals := 30 })).room s m ([.int a0] : List Value).toArray below meth c (MQ below (MQz D cA E ad (fun r h' => h' = h ∧ post r)) ([.int a0] : List Value).toArray s 0 0 (MA ad)) D cA E ad 1 17 h [] [.int (if a0 < (97 : Int32) then (0 : Int32) else (if (122 : Int32) < a0 then (0 : Int32) else (1 : Int32)))] := by
    intro H locs ls hM hS hl
    exact M_zret hx hb hr hlocks hM hS ⟨_, (b2i_pick rfl (b2i_pick rfl rfl)), ⟨rfl, hw⟩⟩ dX7_isLetter_17
  refine lv_icmp_lt (tgt := 16) hx hb dX7_isLetter_3 (by decide) (fun c2 => ?_) (fun c2 => ?_)
  · refine lv_iconst (v := (0 : Int32)) hx hb dX7_isLetter_16 (by decide) ?_
    have e3 : (if a0 < (97 : Int32) then (0 : Int32) else (if (122 : Int32) < a0 then (0 : Int32) else (1 : Int32))) = (0 : Int32) := by rw [if_pos c2]
    rw [e3] at hj1
    exact hj1 _ _ ls hM hS (lv_sub hl [] rfl)
  · refine lv_iload_n hx hb dX7_isLetter_6 rfl (lv_at hl 0 rfl) ?_
    refine lv_bipush (v := (122 : Int32)) hx hb dX7_isLetter_7 (by decide) ?_
    refine lv_icmp_gt (tgt := 16) hx hb dX7_isLetter_9 (by decide) (fun c4 => ?_) (fun c4 => ?_)
    · refine lv_iconst (v := (0 : Int32)) hx hb dX7_isLetter_16 (by decide) ?_
      have e5 : (if a0 < (97 : Int32) then (0 : Int32) else (if (122 : Int32) < a0 then (0 : Int32) else (1 : Int32))) = (0 : Int32) := by rw [if_neg c2, if_pos c4]
      rw [e5] at hj1
      exact hj1 _ _ ls hM hS (lv_sub hl [] rfl)
    · refine lv_iconst (v := (1 : Int32)) hx hb dX7_isLetter_12 (by decide) ?_
      refine lv_goto (tgt := 17) hx hb dX7_isLetter_13 (by decide) ?_
      have e6 : (if a0 < (97 : Int32) then (0 : Int32) else (if (122 : Int32) < a0 then (0 : Int32) else (1 : Int32))) = (1 : Int32) := by rw [if_neg c2, if_neg c4]
      rw [e6] at hj1
      exact hj1 _ _ ls hM hS (lv_sub hl [] rfl)

/-- isMark(I)Z -/
def wpX7_isMark (post : Bool → Prop) (h : Mem) (a0 : Int32) : Prop :=
  ((a0 = (59 : Int32) → post true) ∧ (¬ a0 = (59 : Int32) → ((a0 = (40 : Int32) → post true) ∧ (¬ a0 = (40 : Int32) → post (if a0 = (41 : Int32) then true else (if a0 = (43 : Int32) then true else (if a0 = (45 : Int32) then true else (if a0 = (42 : Int32) then true else (if a0 = (47 : Int32) then true else (if a0 = (60 : Int32) then true else (if a0 = (61 : Int32) then true else false)))))))))))
set_option maxHeartbeats 4000000 in
set_option maxRecDepth 100000 in
theorem metX7_isMark (l : Launch) (D : va_G) (cA : Nat → ClassId) (z0 : Nat) (E : Nat → Nat → Nat) (ad : Nat → Nat) (h : Mem) (a0 : Int32) (post : Bool → Prop) (hw : wpX7_isMark post h a0) : MeZ l D cA z0 E ad yX7_isMark (ws_ yX7_isMark cX7_isMark 1 (some .boolean)) ({ frames := 1, cells := 0, slots := 0, locals := 30 }) [.int a0] h (fun r h' => h' = h ∧ post r) := by
  refine Met.ofW (cc := cX7_isMark) (maxL := 1) (ret := (some .boolean)) (by decide) rfl ?_
  intro p e s m args below meth c s₁ B hml hv
  obtain ⟨rfl, hM, hK, hJ, hZ⟩ := hv
  have hx := B.exec
  have hb := B.bytes
  have hr := B.returns
  have hts := atoms_spec (ws := ws_ yX7_isMark cX7_isMark 1 (some .boolean)) B.pre
  have hts : ∀ w ∈ lw_all, w.before _ s = true := fun w h => hts w (List.mem_cons_of_mem _ h)
  have hown : s.vm.findClass RX7 = some m.cls := findClass_of_methodNamed B.named
  have hlocks := B.notSynchronized
  have hS : va_S (MA ad) s.heap s.heap [] := va_S.rf
  have hl := lv_entry ([.int a0]) (n := 1) (Nat.le_of_ble_eq_true rfl)
  rw [lg_entry_eq]
  generalize (lg_sl ([.int a0]) ++ List.replicate (1 - (lg_sl ([.int a0])).length) Slot.unset).toArray = ls at hl ⊢
  have hl : lv_has ls 1 [(0, .int a0)] := hl
  unfold wpX7_isMark at hw
  refine lv_iload_n hx hb dX7_isMark_0 rfl (lv_at hl 0 rfl) ?_
  refine lv_bipush (v := (59 : Int32)) hx hb dX7_isMark_1 (by decide) ?_
  refine lv_icmp_eq (tgt := 54) hx hb dX7_isMark_3 (by decide) (fun c1 => ?_) (fun c1 => ?_)
  · have hw := hw.1 c1
    refine lv_iconst (v := (1 : Int32)) hx hb dX7_isMark_54 (by decide) ?_
    refine lv_goto (tgt := 59) hx hb dX7_isMark_55 (by decide) ?_
    exact M_zret hx hb hr hlocks hM hS ⟨_, rfl, ⟨rfl, hw⟩⟩ dX7_isMark_59
  · have hw := hw.2 c1
    refine lv_iload_n hx hb dX7_isMark_6 rfl (lv_at hl 0 rfl) ?_
    refine lv_bipush (v := (40 : Int32)) hx hb dX7_isMark_7 (by decide) ?_
    refine lv_icmp_eq (tgt := 54) hx hb dX7_isMark_9 (by decide) (fun c2 => ?_) (fun c2 => ?_)
    · have hw := hw.1 c2
      refine lv_iconst (v := (1 : Int32)) hx hb dX7_isMark_54 (by decide) ?_
      refine lv_goto (tgt := 59) hx hb dX7_isMark_55 (by decide) ?_
      exact M_zret hx hb hr hlocks hM hS ⟨_, rfl, ⟨rfl, hw⟩⟩ dX7_isMark_59
    · have hw := hw.2 c2
      refine lv_iload_n hx hb dX7_isMark_12 rfl (lv_at hl 0 rfl) ?_
      refine lv_bipush (v := (41 : Int32)) hx hb dX7_isMark_13 (by decide) ?_
      have hj3 : JM p l e (headSpec (ws_ yX7_isMark cX7_isMark 1 (some .boolean)) ({ frames := 1, cells := 0, slots := 0, locals := 30 })).room s m ([.int a0] : List Value).toArray below meth c (MQ below (MQz D cA E ad (fun r h' => h' = h ∧ post r)) ([.int a0] : List Value).toArray s 0 0 (MA ad)) D cA E ad 1 59 h [] [.int (if a0 = (41 : Int32) then (1 : Int32) else (if a0 = (43 : Int32) then (1 : Int32) else (if a0 = (45 : Int32) then (1 : Int32) else (if a0 = (42 : Int32) then (1 : Int32) else (if a0 = (47 : Int32) then (1 : Int32) else (if a0 = (60 : Int32) then (1 : Int32) else (if a0 = (61 : Int32) then (1 : Int32) else (0 : Int32))))))))] := by
        intro H locs ls hM hS hl
        exact M_zret hx hb hr hlocks hM hS ⟨_, (b2i_pick rfl (b2i_pick rfl (b2i_pick rfl (b2i_pick rfl (b2i_pick rfl (b2i_pick rfl (b2i_pick rfl rfl))))))), ⟨rfl, hw⟩⟩ dX7_isMark_59
      refine lv_icmp_eq (tgt := 54) hx hb dX7_isMark_15 (by decide) (fun c4 => ?_) (fun c4 => ?_)
      · refine lv_iconst (v := (1 : Int32)) hx hb dX7_isMark_54 (by decide) ?_
        refine lv_goto (tgt := 59) hx hb dX7_isMark_55 (by decide) ?_
        have e5 : (if a0 = (41 : Int32) then (1 : Int32) else (if a0 = (43 : Int32) then (1 : Int32) else (if a0 = (45 : Int32) then (1 : Int32) else (if a0 = (42 : Int32) then (1 : Int32) else (if a0 = (47 : Int32) then (1 : Int32) else (if a0 = (60 : Int32) then (1 : Int32) else (if a0 = (61 : Int32) then (1 : Int32) else (0 : Int32)))))))) = (1 : Int32) := by rw [if_pos c4]
        rw [e5] at hj3
        exact hj3 _ _ ls hM hS (lv_sub hl [] rfl)
      · refine lv_iload_n hx hb dX7_isMark_18 rfl (lv_at hl 0 rfl) ?_
        refine lv_bipush (v := (43 : Int32)) hx hb dX7_isMark_19 (by decide) ?_
        refine lv_icmp_eq (tgt := 54) hx hb dX7_isMark_21 (by decide) (fun c6 => ?_) (fun c6 => ?_)
        · refine lv_iconst (v := (1 : Int32)) hx hb dX7_isMark_54 (by decide) ?_
          refine lv_goto (tgt := 59) hx hb dX7_isMark_55 (by decide) ?_
          have e7 : (if a0 = (41 : Int32) then (1 : Int32) else (if a0 = (43 : Int32) then (1 : Int32) else (if a0 = (45 : Int32) then (1 : Int32) else (if a0 = (42 : Int32) then (1 : Int32) else (if a0 = (47 : Int32) then (1 : Int32) else (if a0 = (60 : Int32) then (1 : Int32) else (if a0 = (61 : Int32) then (1 : Int32) else (0 : Int32)))))))) = (1 : Int32) := by rw [if_neg c4, if_pos c6]
          rw [e7] at hj3
          exact hj3 _ _ ls hM hS (lv_sub hl [] rfl)
        · refine lv_iload_n hx hb dX7_isMark_24 rfl (lv_at hl 0 rfl) ?_
          refine lv_bipush (v := (45 : Int32)) hx hb dX7_isMark_25 (by decide) ?_
          refine lv_icmp_eq (tgt := 54) hx hb dX7_isMark_27 (by decide) (fun c8 => ?_) (fun c8 => ?_)
          · refine lv_iconst (v := (1 : Int32)) hx hb dX7_isMark_54 (by decide) ?_
            refine lv_goto (tgt := 59) hx hb dX7_isMark_55 (by decide) ?_
            have e9 : (if a0 = (41 : Int32) then (1 : Int32) else (if a0 = (43 : Int32) then (1 : Int32) else (if a0 = (45 : Int32) then (1 : Int32) else (if a0 = (42 : Int32) then (1 : Int32) else (if a0 = (47 : Int32) then (1 : Int32) else (if a0 = (60 : Int32) then (1 : Int32) else (if a0 = (61 : Int32) then (1 : Int32) else (0 : Int32)))))))) = (1 : Int32) := by rw [if_neg c4, if_neg c6, if_pos c8]
            rw [e9] at hj3
            exact hj3 _ _ ls hM hS (lv_sub hl [] rfl)
          · refine lv_iload_n hx hb dX7_isMark_30 rfl (lv_at hl 0 rfl) ?_
            refine lv_bipush (v := (42 : Int32)) hx hb dX7_isMark_31 (by decide) ?_
            refine lv_icmp_eq (tgt := 54) hx hb dX7_isMark_33 (by decide) (fun c10 => ?_) (fun c10 => ?_)
            · refine lv_iconst (v := (1 : Int32)) hx hb dX7_isMark_54 (by decide) ?_
              refine lv_goto (tgt := 59) hx hb dX7_isMark_55 (by decide) ?_
              have e11 : (if a0 = (41 : Int32) then (1 : Int32) else (if a0 = (43 : Int32) then (1 : Int32) else (if a0 = (45 : Int32) then (1 : Int32) else (if a0 = (42 : Int32) then (1 : Int32) else (if a0 = (47 : Int32) then (1 : Int32) else (if a0 = (60 : Int32) then (1 : Int32) else (if a0 = (61 : Int32) then (1 : Int32) else (0 : Int32)))))))) = (1 : Int32) := by rw [if_neg c4, if_neg c6, if_neg c8, if_pos c10]
              rw [e11] at hj3
              exact hj3 _ _ ls hM hS (lv_sub hl [] rfl)
            · refine lv_iload_n hx hb dX7_isMark_36 rfl (lv_at hl 0 rfl) ?_
              refine lv_bipush (v := (47 : Int32)) hx hb dX7_isMark_37 (by decide) ?_
              refine lv_icmp_eq (tgt := 54) hx hb dX7_isMark_39 (by decide) (fun c12 => ?_) (fun c12 => ?_)
              · refine lv_iconst (v := (1 : Int32)) hx hb dX7_isMark_54 (by decide) ?_
                refine lv_goto (tgt := 59) hx hb dX7_isMark_55 (by decide) ?_
                have e13 : (if a0 = (41 : Int32) then (1 : Int32) else (if a0 = (43 : Int32) then (1 : Int32) else (if a0 = (45 : Int32) then (1 : Int32) else (if a0 = (42 : Int32) then (1 : Int32) else (if a0 = (47 : Int32) then (1 : Int32) else (if a0 = (60 : Int32) then (1 : Int32) else (if a0 = (61 : Int32) then (1 : Int32) else (0 : Int32)))))))) = (1 : Int32) := by rw [if_neg c4, if_neg c6, if_neg c8, if_neg c10, if_pos c12]
                rw [e13] at hj3
                exact hj3 _ _ ls hM hS (lv_sub hl [] rfl)
              · refine lv_iload_n hx hb dX7_isMark_42 rfl (lv_at hl 0 rfl) ?_
                refine lv_bipush (v := (60 : Int32)) hx hb dX7_isMark_43 (by decide) ?_
                refine lv_icmp_eq (tgt := 54) hx hb dX7_isMark_45 (by decide) (fun c14 => ?_) (fun c14 => ?_)
                · refine lv_iconst (v := (1 : Int32)) hx hb dX7_isMark_54 (by decide) ?_
                  refine lv_goto (tgt := 59) hx hb dX7_isMark_55 (by decide) ?_
                  have e15 : (if a0 = (41 : Int32) then (1 : Int32) else (if a0 = (43 : Int32) then (1 : Int32) else (if a0 = (45 : Int32) then (1 : Int32) else (if a0 = (42 : Int32) then (1 : Int32) else (if a0 = (47 : Int32) then (1 : Int32) else (if a0 = (60 : Int32) then (1 : Int32) else (if a0 = (61 : Int32) then (1 : Int32) else (0 : Int32)))))))) = (1 : Int32) := by rw [if_neg c4, if_neg c6, if_neg c8, if_neg c10, if_neg c12, if_pos c14]
                  rw [e15] at hj3
                  exact hj3 _ _ ls hM hS (lv_sub hl [] rfl)
                · refine lv_iload_n hx hb dX7_isMark_48 rfl (lv_at hl 0 rfl) ?_
                  refine lv_bipush (v := (61 : Int32)) hx hb dX7_isMark_49 (by decide) ?_
                  refine lv_icmp_ne (tgt := 58) hx hb dX7_isMark_51 (by decide) (fun c16 => ?_) (fun c16 => ?_)
                  · refine lv_iconst (v := (0 : Int32)) hx hb dX7_isMark_58 (by decide) ?_
                    have e17 : (if a0 = (41 : Int32) then (1 : Int32) else (if a0 = (43 : Int32) then (1 : Int32) else (if a0 = (45 : Int32) then (1 : Int32) else (if a0 = (42 : Int32) then (1 : Int32) else (if a0 = (47 : Int32) then (1 : Int32) else (if a0 = (60 : Int32) then (1 : Int32) else (if a0 = (61 : Int32) then (1 : Int32) else (0 : Int32)))))))) = (0 : Int32) := by rw [if_neg c4, if_neg c6, if_neg c8, if_neg c10, if_neg c12, if_neg c14, if_neg c16]
                    rw [e17] at hj3
                    exact hj3 _ _ ls hM hS (lv_sub hl [] rfl)
                  · refine lv_iconst (v := (1 : Int32)) hx hb dX7_isMark_54 (by decide) ?_
                    refine lv_goto (tgt := 59) hx hb dX7_isMark_55 (by decide) ?_
                    have e18 : (if a0 = (41 : Int32) then (1 : Int32) else (if a0 = (43 : Int32) then (1 : Int32) else (if a0 = (45 : Int32) then (1 : Int32) else (if a0 = (42 : Int32) then (1 : Int32) else (if a0 = (47 : Int32) then (1 : Int32) else (if a0 = (60 : Int32) then (1 : Int32) else (if a0 = (61 : Int32) then (1 : Int32) else (0 : Int32)))))))) = (1 : Int32) := by rw [if_neg c4, if_neg c6, if_neg c8, if_neg c10, if_neg c12, if_neg c14, if_pos c16]
                    rw [e18] at hj3
                    exact hj3 _ _ ls hM hS (lv_sub hl [] rfl)

/-- stepOn()V -/
def wpBX7_stepOn_26 (post : Mem → Prop)  (K0 : Mem → Prop) (h : Mem)   : Prop :=
  (∀ h4 : Mem, h4 = up2 h 18 0 ((h 18 0) + (1 : Int32)) → K0 h4)
def wpBX7_stepOn_212 (post : Mem → Prop)   (h : Mem)   : Prop :=
  (∀ h23 : Mem, h23 = up2 h 23 0 (h 18 0) → post h23)
def wpBX7_stepOn_209 (post : Mem → Prop)   (h : Mem)  (s0 : Int32) : Prop :=
  (∀ h22 : Mem, h22 = up2 h 20 0 s0 → wpBX7_stepOn_212 post   h22 )
def wpBX7_stepOn_123 (post : Mem → Prop)   (K123 : Mem → Prop)  (h : Mem) : Prop :=
  (wpX7_byteAt (fun r28 => (wpX7_isDigit (fun r30 => ((r30 = true → (wpX7_byteAt (fun r34 => (∀ h36 : Mem, h36 = up2 h 21 0 (mnI (100000 : Int32) ((((10 : Int32) * (h 21 0)) + r34) - (48 : Int32))) → (∀ h37 : Mem, h37 = up2 h36 18 0 ((h36 18 0) + (1 : Int32)) → K123 h37))) h (h 18 0))) ∧ (¬ r30 = true → (∀ h33 : Mem, h33 = up2 h 20 0 (2 : Int32) → wpBX7_stepOn_212 post   h33 )))) h r28)) h (h 18 0))
def wpLX7_stepOn_123 (post : Mem → Prop)    : Nat → (Mem) → Prop := LW (fun K s => wpBX7_stepOn_123 post   (fun h => K h)  s)
def wpBX7_stepOn_76 (post : Mem → Prop)   (K76 : Mem → Prop)  (h : Mem) : Prop :=
  (wpX7_byteAt (fun r39 => (wpX7_isLetter (fun r41 => ((r41 = true → (∀ h45 : Mem, h45 = up2 h 18 0 ((h 18 0) + (1 : Int32)) → K76 h45)) ∧ (¬ r41 = true → (∀ h44 : Mem, h44 = up2 h 20 0 (1 : Int32) → wpBX7_stepOn_212 post   h44 )))) h r39)) h (h 18 0))
def wpLX7_stepOn_76 (post : Mem → Prop)    : Nat → (Mem) → Prop := LW (fun K s => wpBX7_stepOn_76 post   (fun h => K h)  s)
def wpBX7_stepOn_0 (post : Mem → Prop)   (K0 : Mem → Prop)  (h : Mem) : Prop :=
  (wpX7_byteAt (fun r1 => ((r1 = (32 : Int32) → wpBX7_stepOn_26 post  K0 h ) ∧ (¬ r1 = (32 : Int32) → (wpX7_byteAt (fun r5 => ((r5 = (10 : Int32) → wpBX7_stepOn_26 post  K0 h ) ∧ (¬ r5 = (10 : Int32) → (∀ h8 : Mem, h8 = up2 h 22 0 (h 18 0) → (wpX7_byteAt (fun r9 => ((r9 = (-1 : Int32) → (∀ h47 : Mem, h47 = up2 h8 20 0 (0 : Int32) → wpBX7_stepOn_212 post   h47 )) ∧ (¬ r9 = (-1 : Int32) → (wpX7_isLetter (fun r12 => ((r12 = true → (∃ n, wpLX7_stepOn_76 post    n h8)) ∧ (¬ r12 = true → (wpX7_isDigit (fun r15 => ((r15 = true → (∀ h27 : Mem, h27 = up2 h8 21 0 (0 : Int32) → (∃ n, wpLX7_stepOn_123 post    n h27))) ∧ (¬ r15 = true → (∀ h18 : Mem, h18 = up2 h8 18 0 ((h8 18 0) + (1 : Int32)) → (wpX7_isMark (fun r19 => wpBX7_stepOn_209 post   h18 (if r19 = true then (3 : Int32) else (4 : Int32))) h18 r9))))) h8 r9)))) h8 r9)))) h8 (h8 18 0)))))) h (h 18 0))))) h (h 18 0))
def wpLX7_stepOn_0 (post : Mem → Prop)    : Nat → (Mem) → Prop := LW (fun K s => wpBX7_stepOn_0 post   (fun h => K h)  s)
def wpX7_stepOn (post : Mem → Prop) (h : Mem)  : Prop :=
  (∃ n, wpLX7_stepOn_0 post    n h)
set_option maxHeartbeats 4000000 in
set_option maxRecDepth 100000 in
theorem metX7_stepOn (l : Launch) (D : va_G) (cA : Nat → ClassId) (z0 : Nat) (E : Nat → Nat → Nat) (ad : Nat → Nat) (h : Mem)  (post : Mem → Prop) (hw : wpX7_stepOn post h ) : MeV l D cA z0 E ad yX7_stepOn (ws_ yX7_stepOn cX7_stepOn 2 none) ({ frames := 2, cells := 0, slots := 0, locals := 51 }) [.ref (ad 69)] h post := by
  refine Met.ofW (cc := cX7_stepOn) (maxL := 2) (ret := none) (by decide) rfl ?_
  intro p e s m args below meth c s₁ B hml hv
  obtain ⟨rfl, hM, hK, hJ, hZ⟩ := hv
  have hx := B.exec
  have hb := B.bytes
  have hr := B.returns
  have hts := atoms_spec (ws := ws_ yX7_stepOn cX7_stepOn 2 none) B.pre
  have hts : ∀ w ∈ lw_all, w.before _ s = true := fun w h => hts w (List.mem_cons_of_mem _ h)
  have hown : s.vm.findClass RX7 = some m.cls := findClass_of_methodNamed B.named
  have hlocks := B.notSynchronized
  have hS : va_S (MA ad) s.heap s.heap [] := va_S.rf
  have hl := lv_entry ([.ref (ad 69)]) (n := 2) (Nat.le_of_ble_eq_true rfl)
  rw [lg_entry_eq]
  generalize (lg_sl ([.ref (ad 69)]) ++ List.replicate (2 - (lg_sl ([.ref (ad 69)])).length) Slot.unset).toArray = ls at hl ⊢
  have hl : lv_has ls 2 [(0, .ref (ad 69))] := hl
  have hB212 : ∀ (h : Mem), wpBX7_stepOn_212 post   h  → JM p l e (headSpec (ws_ yX7_stepOn cX7_stepOn 2 none) ({ frames := 2, cells := 0, slots := 0, locals := 51 })).room s m ([.ref (ad 69)] : List Value).toArray below meth c (MQ below (MQv D cA E ad post) ([.ref (ad 69)] : List Value).toArray s 0 0 (MA ad)) D cA E ad 2 212 h [(0, .ref (ad 69))] [] := by
    intro h hw H locs ls hM hS hl
    unfold wpBX7_stepOn_212 at hw
    refine lv_aload_n hx hb dX7_stepOn_212 rfl (lv_at hl 0 rfl) ?_
    refine lv_aload_n hx hb dX7_stepOn_213 rfl (lv_at hl 0 rfl) ?_
    refine M_get hx hb hts hown hK hM 18 (v := .int (h 18 0)) (by decide) (hts _ q1701) rfl dX7_stepOn_214 ?_
    refine M_put hx hb hts hown hK hM hJ hS 23 rfl rfl (hts _ q1706) rfl .int (by decide +kernel) rfl rfl dX7_stepOn_217 (fun H locs hM hS => ?_)
    obtain ⟨h23, eh23⟩ : ∃ y : Mem, y = up2 h 23 0 (h 18 0) := ⟨_, rfl⟩
    rw [← eh23] at hM
    have hw := hw h23 eh23
    exact M_vret hx hb hr hlocks hM hS hw dX7_stepOn_220
  have hB209 : ∀ (h : Mem)  (s0 : Int32), wpBX7_stepOn_209 post   h s0 → JM p l e (headSpec (ws_ yX7_stepOn cX7_stepOn 2 none) ({ frames := 2, cells := 0, slots := 0, locals := 51 })).room s m ([.ref (ad 69)] : List Value).toArray below meth c (MQ below (MQv D cA E ad post) ([.ref (ad 69)] : List Value).toArray s 0 0 (MA ad)) D cA E ad 2 209 h [(0, .ref (ad 69))] [.int s0, .ref (ad 69)] := by
    intro h s0 hw H locs ls hM hS hl
    unfold wpBX7_stepOn_209 at hw
    refine M_put hx hb hts hown hK hM hJ hS 20 rfl rfl (hts _ q1703) rfl .int (by decide +kernel) rfl rfl dX7_stepOn_209 (fun H locs hM hS => ?_)
    obtain ⟨h22, eh22⟩ : ∃ y : Mem, y = up2 h 20 0 s0 := ⟨_, rfl⟩
    rw [← eh22] at hM
    have hw := hw h22 eh22
    exact hB212 h22 hw _ _ ls hM hS (lv_sub hl [0] rfl)
  have hL123 : ∀  (n123 : Nat) (h : Mem), wpLX7_stepOn_123 post    n123 h → JM p l e (headSpec (ws_ yX7_stepOn cX7_stepOn 2 none) ({ frames := 2, cells := 0, slots := 0, locals := 51 })).room s m ([.ref (ad 69)] : List Value).toArray below meth c (MQ below (MQv D cA E ad post) ([.ref (ad 69)] : List Value).toArray s 0 0 (MA ad)) D cA E ad 2 123 h [(0, .ref (ad 69))] [] := by
    intro  n123
    induction n123 with
    | zero => intro h hw; exact False.elim hw
    | succ n123 ih123 =>
      intro h hw H locs ls hM hS hl
      have hw : wpBX7_stepOn_123 post   (fun h => wpLX7_stepOn_123 post    n123 h)  h := hw
      unfold wpBX7_stepOn_123 at hw
      refine lv_aload_n hx hb dX7_stepOn_123 rfl (lv_at hl 0 rfl) ?_
      refine lv_aload_n hx hb dX7_stepOn_124 rfl (lv_at hl 0 rfl) ?_
      refine M_get hx hb hts hown hK hM 18 (v := .int (h 18 0)) (by decide) (hts _ q1701) rfl dX7_stepOn_125 ?_
      refine M_callIp (As := [.int (h 18 0)]) (rest := []) ⟨hx, hb, hml, hown, hts⟩ hK hZ hM hJ hS (metX7_byteAt l D cA z0 E ad h (h 18 0) _ hw) (cwV 1 hts (lw_V q1912 q1914 qs46 q130 q1915) rfl rfl rfl (by decide +kernel) ⟨Nat.le_of_ble_eq_true rfl, Nat.le_of_ble_eq_true rfl⟩) rfl hl.1 rfl (Nat.le_of_ble_eq_true rfl) dX7_stepOn_128 ⟨Nat.zero_le _, Nat.zero_le _⟩ (fun r28 H locs hw hM hS => ?_)
      refine M_callZSp (As := [.int r28]) (rest := []) ⟨hx, hb, hml, hown, hts⟩ hK hZ hM hJ hS (metX7_isDigit l D cA z0 E ad h r28 _ hw) (va_cwS 1 hts (lw_S q1919 q1920 q130 q1921) rfl rfl rfl (by decide +kernel) ⟨Nat.le_of_ble_eq_true rfl, Nat.le_of_ble_eq_true rfl⟩) rfl hl.1 rfl (Nat.le_of_ble_eq_true rfl) dX7_stepOn_131 ⟨Nat.zero_le _, Nat.zero_le _⟩ (fun r30 H locs hw hM hS => ?_)
      refine lv_if_eq (tgt := 178) hx hb dX7_stepOn_134 (by decide) (fun c32 => ?_) (fun c32 => ?_)
      · have c32 := b2i_f c32
        have hw := hw.2 c32
        refine lv_aload_n hx hb dX7_stepOn_178 rfl (lv_at hl 0 rfl) ?_
        refine lv_iconst (v := (2 : Int32)) hx hb dX7_stepOn_179 (by decide) ?_
        refine M_put hx hb hts hown hK hM hJ hS 20 rfl rfl (hts _ q1703) rfl .int (by decide +kernel) rfl rfl dX7_stepOn_180 (fun H locs hM hS => ?_)
        obtain ⟨h33, eh33⟩ : ∃ y : Mem, y = up2 h 20 0 (2 : Int32) := ⟨_, rfl⟩
        rw [← eh33] at hM
        have hw := hw h33 eh33
        refine lv_goto (tgt := 212) hx hb dX7_stepOn_183 (by decide) ?_
        exact hB212 h33 hw _ _ ls hM hS (lv_sub hl [0] rfl)
      · have c32 := b2i_t c32
        have hw := hw.1 c32
        refine lv_aload_n hx hb dX7_stepOn_137 rfl (lv_at hl 0 rfl) ?_
        refine lv_ldc hx hb hown (hts _ q1922) dX7_stepOn_138 ?_
        refine lv_bipush (v := (10 : Int32)) hx hb dX7_stepOn_140 (by decide) ?_
        refine lv_aload_n hx hb dX7_stepOn_142 rfl (lv_at hl 0 rfl) ?_
        refine M_get hx hb hts hown hK hM 21 (v := .int (h 21 0)) (by decide) (hts _ q1704) rfl dX7_stepOn_143 ?_
        refine lv_imul hx hb dX7_stepOn_146 ?_
        refine lv_aload_n hx hb dX7_stepOn_147 rfl (lv_at hl 0 rfl) ?_
        refine lv_aload_n hx hb dX7_stepOn_148 rfl (lv_at hl 0 rfl) ?_
        refine M_get hx hb hts hown hK hM 18 (v := .int (h 18 0)) (by decide) (hts _ q1701) rfl dX7_stepOn_149 ?_
        refine M_callIp (As := [.int (h 18 0)]) (rest := [.int ((10 : Int32) * (h 21 0)), .int (100000 : Int32), .ref (ad 69)]) ⟨hx, hb, hml, hown, hts⟩ hK hZ hM hJ hS (metX7_byteAt l D cA z0 E ad h (h 18 0) _ hw) (cwV 1 hts (lw_V q1912 q1914 qs46 q130 q1915) rfl rfl rfl (by decide +kernel) ⟨Nat.le_of_ble_eq_true rfl, Nat.le_of_ble_eq_true rfl⟩) rfl hl.1 rfl (Nat.le_of_ble_eq_true rfl) dX7_stepOn_152 ⟨Nat.zero_le _, Nat.zero_le _⟩ (fun r34 H locs hw hM hS => ?_)
        refine lv_iadd hx hb dX7_stepOn_155 ?_
        refine lv_bipush (v := (48 : Int32)) hx hb dX7_stepOn_156 (by decide) ?_
        refine lv_isub hx hb dX7_stepOn_158 ?_
        refine J_mnI hx hb hml hl.1 hown (hts _ q1923) (hts _ q291) (hts _ q118) (hts _ q292) (Nat.le_of_ble_eq_true rfl) (Nat.le_of_ble_eq_true rfl) (Nat.zero_le _) (Nat.zero_le _) dX7_stepOn_159 ?_
        refine M_put hx hb hts hown hK hM hJ hS 21 rfl rfl (hts _ q1704) rfl .int (by decide +kernel) rfl rfl dX7_stepOn_162 (fun H locs hM hS => ?_)
        obtain ⟨h36, eh36⟩ : ∃ y : Mem, y = up2 h 21 0 (mnI (100000 : Int32) ((((10 : Int32) * (h 21 0)) + r34) - (48 : Int32))) := ⟨_, rfl⟩
        rw [← eh36] at hM
        have hw := hw h36 eh36
        refine lv_aload_n hx hb dX7_stepOn_165 rfl (lv_at hl 0 rfl) ?_
        refine lv_dup hx hb dX7_stepOn_166 rfl ?_
        refine M_get hx hb hts hown hK hM 18 (v := .int (h36 18 0)) (by decide) (hts _ q1701) rfl dX7_stepOn_167 ?_
        refine lv_iconst (v := (1 : Int32)) hx hb dX7_stepOn_170 (by decide) ?_
        refine lv_iadd hx hb dX7_stepOn_171 ?_
        refine M_put hx hb hts hown hK hM hJ hS 18 rfl rfl (hts _ q1701) rfl .int (by decide +kernel) rfl rfl dX7_stepOn_172 (fun H locs hM hS => ?_)
        obtain ⟨h37, eh37⟩ : ∃ y : Mem, y = up2 h36 18 0 ((h36 18 0) + (1 : Int32)) := ⟨_, rfl⟩
        rw [← eh37] at hM
        have hw := hw h37 eh37
        refine lv_goto (tgt := 123) hx hb dX7_stepOn_175 (by decide) ?_
        exact ih123 h37 hw _ _ ls hM hS (lv_sub hl [0] rfl)
  have hL76 : ∀  (n76 : Nat) (h : Mem), wpLX7_stepOn_76 post    n76 h → JM p l e (headSpec (ws_ yX7_stepOn cX7_stepOn 2 none) ({ frames := 2, cells := 0, slots := 0, locals := 51 })).room s m ([.ref (ad 69)] : List Value).toArray below meth c (MQ below (MQv D cA E ad post) ([.ref (ad 69)] : List Value).toArray s 0 0 (MA ad)) D cA E ad 2 76 h [(0, .ref (ad 69))] [] := by
    intro  n76
    induction n76 with
    | zero => intro h hw; exact False.elim hw
    | succ n76 ih76 =>
      intro h hw H locs ls hM hS hl
      have hw : wpBX7_stepOn_76 post   (fun h => wpLX7_stepOn_76 post    n76 h)  h := hw
      unfold wpBX7_stepOn_76 at hw
      refine lv_aload_n hx hb dX7_stepOn_76 rfl (lv_at hl 0 rfl) ?_
      refine lv_aload_n hx hb dX7_stepOn_77 rfl (lv_at hl 0 rfl) ?_
      refine M_get hx hb hts hown hK hM 18 (v := .int (h 18 0)) (by decide) (hts _ q1701) rfl dX7_stepOn_78 ?_
      refine M_callIp (As := [.int (h 18 0)]) (rest := []) ⟨hx, hb, hml, hown, hts⟩ hK hZ hM hJ hS (metX7_byteAt l D cA z0 E ad h (h 18 0) _ hw) (cwV 1 hts (lw_V q1912 q1914 qs46 q130 q1915) rfl rfl rfl (by decide +kernel) ⟨Nat.le_of_ble_eq_true rfl, Nat.le_of_ble_eq_true rfl⟩) rfl hl.1 rfl (Nat.le_of_ble_eq_true rfl) dX7_stepOn_81 ⟨Nat.zero_le _, Nat.zero_le _⟩ (fun r39 H locs hw hM hS => ?_)
      refine M_callZSp (As := [.int r39]) (rest := []) ⟨hx, hb, hml, hown, hts⟩ hK hZ hM hJ hS (metX7_isLetter l D cA z0 E ad h r39 _ hw) (va_cwS 1 hts (lw_S q1916 q1917 q130 q1918) rfl rfl rfl (by decide +kernel) ⟨Nat.le_of_ble_eq_true rfl, Nat.le_of_ble_eq_true rfl⟩) rfl hl.1 rfl (Nat.le_of_ble_eq_true rfl) dX7_stepOn_84 ⟨Nat.zero_le _, Nat.zero_le _⟩ (fun r41 H locs hw hM hS => ?_)
      refine lv_if_eq (tgt := 103) hx hb dX7_stepOn_87 (by decide) (fun c43 => ?_) (fun c43 => ?_)
      · have c43 := b2i_f c43
        have hw := hw.2 c43
        refine lv_aload_n hx hb dX7_stepOn_103 rfl (lv_at hl 0 rfl) ?_
        refine lv_iconst (v := (1 : Int32)) hx hb dX7_stepOn_104 (by decide) ?_
        refine M_put hx hb hts hown hK hM hJ hS 20 rfl rfl (hts _ q1703) rfl .int (by decide +kernel) rfl rfl dX7_stepOn_105 (fun H locs hM hS => ?_)
        obtain ⟨h44, eh44⟩ : ∃ y : Mem, y = up2 h 20 0 (1 : Int32) := ⟨_, rfl⟩
        rw [← eh44] at hM
        have hw := hw h44 eh44
        refine lv_goto (tgt := 212) hx hb dX7_stepOn_108 (by decide) ?_
        exact hB212 h44 hw _ _ ls hM hS (lv_sub hl [0] rfl)
      · have c43 := b2i_t c43
        have hw := hw.1 c43
        refine lv_aload_n hx hb dX7_stepOn_90 rfl (lv_at hl 0 rfl) ?_
        refine lv_dup hx hb dX7_stepOn_91 rfl ?_
        refine M_get hx hb hts hown hK hM 18 (v := .int (h 18 0)) (by decide) (hts _ q1701) rfl dX7_stepOn_92 ?_
        refine lv_iconst (v := (1 : Int32)) hx hb dX7_stepOn_95 (by decide) ?_
        refine lv_iadd hx hb dX7_stepOn_96 ?_
        refine M_put hx hb hts hown hK hM hJ hS 18 rfl rfl (hts _ q1701) rfl .int (by decide +kernel) rfl rfl dX7_stepOn_97 (fun H locs hM hS => ?_)
        obtain ⟨h45, eh45⟩ : ∃ y : Mem, y = up2 h 18 0 ((h 18 0) + (1 : Int32)) := ⟨_, rfl⟩
        rw [← eh45] at hM
        have hw := hw h45 eh45
        refine lv_goto (tgt := 76) hx hb dX7_stepOn_100 (by decide) ?_
        exact ih76 h45 hw _ _ ls hM hS (lv_sub hl [0] rfl)
  have hL0 : ∀  (n0 : Nat) (h : Mem), wpLX7_stepOn_0 post    n0 h → JM p l e (headSpec (ws_ yX7_stepOn cX7_stepOn 2 none) ({ frames := 2, cells := 0, slots := 0, locals := 51 })).room s m ([.ref (ad 69)] : List Value).toArray below meth c (MQ below (MQv D cA E ad post) ([.ref (ad 69)] : List Value).toArray s 0 0 (MA ad)) D cA E ad 2 0 h [(0, .ref (ad 69))] [] := by
    intro  n0
    induction n0 with
    | zero => intro h hw; exact False.elim hw
    | succ n0 ih0 =>
      have hB26 : ∀ (h : Mem), wpBX7_stepOn_26 post  (fun h => wpLX7_stepOn_0 post    n0 h) h  → JM p l e (headSpec (ws_ yX7_stepOn cX7_stepOn 2 none) ({ frames := 2, cells := 0, slots := 0, locals := 51 })).room s m ([.ref (ad 69)] : List Value).toArray below meth c (MQ below (MQv D cA E ad post) ([.ref (ad 69)] : List Value).toArray s 0 0 (MA ad)) D cA E ad 2 26 h [(0, .ref (ad 69))] [] := by
        intro h hw H locs ls hM hS hl
        unfold wpBX7_stepOn_26 at hw
        refine lv_aload_n hx hb dX7_stepOn_26 rfl (lv_at hl 0 rfl) ?_
        refine lv_dup hx hb dX7_stepOn_27 rfl ?_
        refine M_get hx hb hts hown hK hM 18 (v := .int (h 18 0)) (by decide) (hts _ q1701) rfl dX7_stepOn_28 ?_
        refine lv_iconst (v := (1 : Int32)) hx hb dX7_stepOn_31 (by decide) ?_
        refine lv_iadd hx hb dX7_stepOn_32 ?_
        refine M_put hx hb hts hown hK hM hJ hS 18 rfl rfl (hts _ q1701) rfl .int (by decide +kernel) rfl rfl dX7_stepOn_33 (fun H locs hM hS => ?_)
        obtain ⟨h4, eh4⟩ : ∃ y : Mem, y = up2 h 18 0 ((h 18 0) + (1 : Int32)) := ⟨_, rfl⟩
        rw [← eh4] at hM
        have hw := hw h4 eh4
        refine lv_goto (tgt := 0) hx hb dX7_stepOn_36 (by decide) ?_
        exact ih0 h4 hw _ _ ls hM hS (lv_sub hl [0] rfl)
      intro h hw H locs ls hM hS hl
      have hw : wpBX7_stepOn_0 post   (fun h => wpLX7_stepOn_0 post    n0 h)  h := hw
      unfold wpBX7_stepOn_0 at hw
      refine lv_aload_n hx hb dX7_stepOn_0 rfl (lv_at hl 0 rfl) ?_
      refine lv_aload_n hx hb dX7_stepOn_1 rfl (lv_at hl 0 rfl) ?_
      refine M_get hx hb hts hown hK hM 18 (v := .int (h 18 0)) (by decide) (hts _ q1701) rfl dX7_stepOn_2 ?_
      refine M_callIp (As := [.int (h 18 0)]) (rest := []) ⟨hx, hb, hml, hown, hts⟩ hK hZ hM hJ hS (metX7_byteAt l D cA z0 E ad h (h 18 0) _ hw) (cwV 1 hts (lw_V q1912 q1914 qs46 q130 q1915) rfl rfl rfl (by decide +kernel) ⟨Nat.le_of_ble_eq_true rfl, Nat.le_of_ble_eq_true rfl⟩) rfl hl.1 rfl (Nat.le_of_ble_eq_true rfl) dX7_stepOn_5 ⟨Nat.zero_le _, Nat.zero_le _⟩ (fun r1 H locs hw hM hS => ?_)
      refine lv_bipush (v := (32 : Int32)) hx hb dX7_stepOn_8 (by decide) ?_
      refine lv_icmp_eq (tgt := 26) hx hb dX7_stepOn_10 (by decide) (fun c3 => ?_) (fun c3 => ?_)
      · have hw := hw.1 c3
        exact hB26 h hw _ _ ls hM hS (lv_sub hl [0] rfl)
      · have hw := hw.2 c3
        refine lv_aload_n hx hb dX7_stepOn_13 rfl (lv_at hl 0 rfl) ?_
        refine lv_aload_n hx hb dX7_stepOn_14 rfl (lv_at hl 0 rfl) ?_
        refine M_get hx hb hts hown hK hM 18 (v := .int (h 18 0)) (by decide) (hts _ q1701) rfl dX7_stepOn_15 ?_
        refine M_callIp (As := [.int (h 18 0)]) (rest := []) ⟨hx, hb, hml, hown, hts⟩ hK hZ hM hJ hS (metX7_byteAt l D cA z0 E ad h (h 18 0) _ hw) (cwV 1 hts (lw_V q1912 q1914 qs46 q130 q1915) rfl rfl rfl (by decide +kernel) ⟨Nat.le_of_ble_eq_true rfl, Nat.le_of_ble_eq_true rfl⟩) rfl hl.1 rfl (Nat.le_of_ble_eq_true rfl) dX7_stepOn_18 ⟨Nat.zero_le _, Nat.zero_le _⟩ (fun r5 H locs hw hM hS => ?_)
        refine lv_bipush (v := (10 : Int32)) hx hb dX7_stepOn_21 (by decide) ?_
        refine lv_icmp_ne (tgt := 39) hx hb dX7_stepOn_23 (by decide) (fun c7 => ?_) (fun c7 => ?_)
        · have hw := hw.2 c7
          refine lv_aload_n hx hb dX7_stepOn_39 rfl (lv_at hl 0 rfl) ?_
          refine lv_aload_n hx hb dX7_stepOn_40 rfl (lv_at hl 0 rfl) ?_
          refine M_get hx hb hts hown hK hM 18 (v := .int (h 18 0)) (by decide) (hts _ q1701) rfl dX7_stepOn_41 ?_
          refine M_put hx hb hts hown hK hM hJ hS 22 rfl rfl (hts _ q1705) rfl .int (by decide +kernel) rfl rfl dX7_stepOn_44 (fun H locs hM hS => ?_)
          obtain ⟨h8, eh8⟩ : ∃ y : Mem, y = up2 h 22 0 (h 18 0) := ⟨_, rfl⟩
          rw [← eh8] at hM
          have hw := hw h8 eh8
          refine lv_aload_n hx hb dX7_stepOn_47 rfl (lv_at hl 0 rfl) ?_
          refine lv_aload_n hx hb dX7_stepOn_48 rfl (lv_at hl 0 rfl) ?_
          refine M_get hx hb hts hown hK hM 18 (v := .int (h8 18 0)) (by decide) (hts _ q1701) rfl dX7_stepOn_49 ?_
          refine M_callIp (As := [.int (h8 18 0)]) (rest := []) ⟨hx, hb, hml, hown, hts⟩ hK hZ hM hJ hS (metX7_byteAt l D cA z0 E ad h8 (h8 18 0) _ hw) (cwV 1 hts (lw_V q1912 q1914 qs46 q130 q1915) rfl rfl rfl (by decide +kernel) ⟨Nat.le_of_ble_eq_true rfl, Nat.le_of_ble_eq_true rfl⟩) rfl hl.1 rfl (Nat.le_of_ble_eq_true rfl) dX7_stepOn_52 ⟨Nat.zero_le _, Nat.zero_le _⟩ (fun r9 H locs hw hM hS => ?_)
          refine lv_istore_n (lv' := [(1, .int r9), (0, .ref (ad 69))]) hx hb dX7_stepOn_55 rfl hl (by decide) rfl (fun ls hl => ?_)
          refine lv_iload_n hx hb dX7_stepOn_56 rfl (lv_at hl 0 rfl) ?_
          refine lv_iconst (v := (-1 : Int32)) hx hb dX7_stepOn_57 (by decide) ?_
          refine lv_icmp_ne (tgt := 69) hx hb dX7_stepOn_58 (by decide) (fun c11 => ?_) (fun c11 => ?_)
          · have hw := hw.2 c11
            refine lv_iload_n hx hb dX7_stepOn_69 rfl (lv_at hl 0 rfl) ?_
            refine M_callZSp (As := [.int r9]) (rest := []) ⟨hx, hb, hml, hown, hts⟩ hK hZ hM hJ hS (metX7_isLetter l D cA z0 E ad h8 r9 _ hw) (va_cwS 1 hts (lw_S q1916 q1917 q130 q1918) rfl rfl rfl (by decide +kernel) ⟨Nat.le_of_ble_eq_true rfl, Nat.le_of_ble_eq_true rfl⟩) rfl hl.1 rfl (Nat.le_of_ble_eq_true rfl) dX7_stepOn_70 ⟨Nat.zero_le _, Nat.zero_le _⟩ (fun r12 H locs hw hM hS => ?_)
            refine lv_if_eq (tgt := 111) hx hb dX7_stepOn_73 (by decide) (fun c14 => ?_) (fun c14 => ?_)
            · have c14 := b2i_f c14
              have hw := hw.2 c14
              refine lv_iload_n hx hb dX7_stepOn_111 rfl (lv_at hl 0 rfl) ?_
              refine M_callZSp (As := [.int r9]) (rest := []) ⟨hx, hb, hml, hown, hts⟩ hK hZ hM hJ hS (metX7_isDigit l D cA z0 E ad h8 r9 _ hw) (va_cwS 1 hts (lw_S q1919 q1920 q130 q1921) rfl rfl rfl (by decide +kernel) ⟨Nat.le_of_ble_eq_true rfl, Nat.le_of_ble_eq_true rfl⟩) rfl hl.1 rfl (Nat.le_of_ble_eq_true rfl) dX7_stepOn_112 ⟨Nat.zero_le _, Nat.zero_le _⟩ (fun r15 H locs hw hM hS => ?_)
              refine lv_if_eq (tgt := 186) hx hb dX7_stepOn_115 (by decide) (fun c17 => ?_) (fun c17 => ?_)
              · have c17 := b2i_f c17
                have hw := hw.2 c17
                refine lv_aload_n hx hb dX7_stepOn_186 rfl (lv_at hl 1 rfl) ?_
                refine lv_dup hx hb dX7_stepOn_187 rfl ?_
                refine M_get hx hb hts hown hK hM 18 (v := .int (h8 18 0)) (by decide) (hts _ q1701) rfl dX7_stepOn_188 ?_
                refine lv_iconst (v := (1 : Int32)) hx hb dX7_stepOn_191 (by decide) ?_
                refine lv_iadd hx hb dX7_stepOn_192 ?_
                refine M_put hx hb hts hown hK hM hJ hS 18 rfl rfl (hts _ q1701) rfl .int (by decide +kernel) rfl rfl dX7_stepOn_193 (fun H locs hM hS => ?_)
                obtain ⟨h18, eh18⟩ : ∃ y : Mem, y = up2 h8 18 0 ((h8 18 0) + (1 : Int32)) := ⟨_, rfl⟩
                rw [← eh18] at hM
                have hw := hw h18 eh18
                refine lv_aload_n hx hb dX7_stepOn_196 rfl (lv_at hl 1 rfl) ?_
                refine lv_iload_n hx hb dX7_stepOn_197 rfl (lv_at hl 0 rfl) ?_
                refine M_callZSp (As := [.int r9]) (rest := [.ref (ad 69)]) ⟨hx, hb, hml, hown, hts⟩ hK hZ hM hJ hS (metX7_isMark l D cA z0 E ad h18 r9 _ hw) (va_cwS 1 hts (lw_S q1924 q1925 q130 q1926) rfl rfl rfl (by decide +kernel) ⟨Nat.le_of_ble_eq_true rfl, Nat.le_of_ble_eq_true rfl⟩) rfl hl.1 rfl (Nat.le_of_ble_eq_true rfl) dX7_stepOn_198 ⟨Nat.zero_le _, Nat.zero_le _⟩ (fun r19 H locs hw hM hS => ?_)
                have hj21 : JM p l e (headSpec (ws_ yX7_stepOn cX7_stepOn 2 none) ({ frames := 2, cells := 0, slots := 0, locals := 51 })).room s m ([.ref (ad 69)] : List Value).toArray below meth c (MQ below (MQv D cA E ad post) ([.ref (ad 69)] : List Value).toArray s 0 0 (MA ad)) D cA E ad 2 209 h18 [(0, .ref (ad 69))] [.int (if r19 = true then (3 : Int32) else (4 : Int32)), .ref (ad 69)] := by
                  intro H locs ls hM hS hl
                  exact hB209 h18 (if r19 = true then (3 : Int32) else (4 : Int32)) hw _ _ ls hM hS (lv_sub hl [0] rfl)
                refine lv_if_eq (tgt := 208) hx hb dX7_stepOn_201 (by decide) (fun c24 => ?_) (fun c24 => ?_)
                · have c24 := b2i_f c24
                  refine lv_iconst (v := (4 : Int32)) hx hb dX7_stepOn_208 (by decide) ?_
                  have e25 : (if r19 = true then (3 : Int32) else (4 : Int32)) = (4 : Int32) := by rw [if_neg c24]
                  rw [e25] at hj21
                  exact hj21 _ _ ls hM hS (lv_sub hl [1] rfl)
                · have c24 := b2i_t c24
                  refine lv_iconst (v := (3 : Int32)) hx hb dX7_stepOn_204 (by decide) ?_
                  refine lv_goto (tgt := 209) hx hb dX7_stepOn_205 (by decide) ?_
                  have e26 : (if r19 = true then (3 : Int32) else (4 : Int32)) = (3 : Int32) := by rw [if_pos c24]
                  rw [e26] at hj21
                  exact hj21 _ _ ls hM hS (lv_sub hl [1] rfl)
              · have c17 := b2i_t c17
                have hw := hw.1 c17
                refine lv_aload_n hx hb dX7_stepOn_118 rfl (lv_at hl 1 rfl) ?_
                refine lv_iconst (v := (0 : Int32)) hx hb dX7_stepOn_119 (by decide) ?_
                refine M_put hx hb hts hown hK hM hJ hS 21 rfl rfl (hts _ q1704) rfl .int (by decide +kernel) rfl rfl dX7_stepOn_120 (fun H locs hM hS => ?_)
                obtain ⟨h27, eh27⟩ : ∃ y : Mem, y = up2 h8 21 0 (0 : Int32) := ⟨_, rfl⟩
                rw [← eh27] at hM
                have hw := hw h27 eh27
                obtain ⟨n38, hw⟩ := hw
                exact hL123 n38 h27 hw _ _ ls hM hS (lv_sub hl [1] rfl)
            · have c14 := b2i_t c14
              have hw := hw.1 c14
              obtain ⟨n46, hw⟩ := hw
              exact hL76 n46 h8 hw _ _ ls hM hS (lv_sub hl [1] rfl)
          · have hw := hw.1 c11
            refine lv_aload_n hx hb dX7_stepOn_61 rfl (lv_at hl 1 rfl) ?_
            refine lv_iconst (v := (0 : Int32)) hx hb dX7_stepOn_62 (by decide) ?_
            refine M_put hx hb hts hown hK hM hJ hS 20 rfl rfl (hts _ q1703) rfl .int (by decide +kernel) rfl rfl dX7_stepOn_63 (fun H locs hM hS => ?_)
            obtain ⟨h47, eh47⟩ : ∃ y : Mem, y = up2 h8 20 0 (0 : Int32) := ⟨_, rfl⟩
            rw [← eh47] at hM
            have hw := hw h47 eh47
            refine lv_goto (tgt := 212) hx hb dX7_stepOn_66 (by decide) ?_
            exact hB212 h47 hw _ _ ls hM hS (lv_sub hl [1] rfl)
        · have hw := hw.1 c7
          exact hB26 h hw _ _ ls hM hS (lv_sub hl [0] rfl)
  unfold wpX7_stepOn at hw
  obtain ⟨n48, hw⟩ := hw
  exact hL0 n48 h hw _ _ ls hM hS (lv_sub hl [0] rfl)

/-- wrong(I)V -/
def wpX7_wrong (post : Mem → Prop) (h : Mem) (a1 : Int32) : Prop :=
  (((h 24 0) = 0 → (∀ h2 : Mem, h2 = up2 h 24 0 a1 → (∀ h3 : Mem, h3 = up2 h2 25 0 (h2 22 0) → post h3))) ∧ (¬ (h 24 0) = 0 → post h))
set_option maxHeartbeats 4000000 in
set_option maxRecDepth 100000 in
theorem metX7_wrong (l : Launch) (D : va_G) (cA : Nat → ClassId) (z0 : Nat) (E : Nat → Nat → Nat) (ad : Nat → Nat) (h : Mem) (a1 : Int32) (post : Mem → Prop) (hw : wpX7_wrong post h a1) : MeV l D cA z0 E ad yX7_wrong (ws_ yX7_wrong cX7_wrong 2 none) ({ frames := 1, cells := 0, slots := 0, locals := 30 }) [.ref (ad 69), .int a1] h post := by
  refine Met.ofW (cc := cX7_wrong) (maxL := 2) (ret := none) (by decide) rfl ?_
  intro p e s m args below meth c s₁ B hml hv
  obtain ⟨rfl, hM, hK, hJ, hZ⟩ := hv
  have hx := B.exec
  have hb := B.bytes
  have hr := B.returns
  have hts := atoms_spec (ws := ws_ yX7_wrong cX7_wrong 2 none) B.pre
  have hts : ∀ w ∈ lw_all, w.before _ s = true := fun w h => hts w (List.mem_cons_of_mem _ h)
  have hown : s.vm.findClass RX7 = some m.cls := findClass_of_methodNamed B.named
  have hlocks := B.notSynchronized
  have hS : va_S (MA ad) s.heap s.heap [] := va_S.rf
  have hl := lv_entry ([.ref (ad 69), .int a1]) (n := 2) (Nat.le_of_ble_eq_true rfl)
  rw [lg_entry_eq]
  generalize (lg_sl ([.ref (ad 69), .int a1]) ++ List.replicate (2 - (lg_sl ([.ref (ad 69), .int a1])).length) Slot.unset).toArray = ls at hl ⊢
  have hl : lv_has ls 2 [(0, .ref (ad 69)), (1, .int a1)] := hl
  unfold wpX7_wrong at hw
  refine lv_aload_n hx hb dX7_wrong_0 rfl (lv_at hl 0 rfl) ?_
  refine M_get hx hb hts hown hK hM 24 (v := .int (h 24 0)) (by decide) (hts _ q1707) rfl dX7_wrong_1 ?_
  refine lv_if_eq (tgt := 8) hx hb dX7_wrong_4 (by decide) (fun c1 => ?_) (fun c1 => ?_)
  · have hw := hw.1 c1
    refine lv_aload_n hx hb dX7_wrong_8 rfl (lv_at hl 0 rfl) ?_
    refine lv_iload_n hx hb dX7_wrong_9 rfl (lv_at hl 1 rfl) ?_
    refine M_put hx hb hts hown hK hM hJ hS 24 rfl rfl (hts _ q1707) rfl .int (by decide +kernel) rfl rfl dX7_wrong_10 (fun H locs hM hS => ?_)
    obtain ⟨h2, eh2⟩ : ∃ y : Mem, y = up2 h 24 0 a1 := ⟨_, rfl⟩
    rw [← eh2] at hM
    have hw := hw h2 eh2
    refine lv_aload_n hx hb dX7_wrong_13 rfl (lv_at hl 0 rfl) ?_
    refine lv_aload_n hx hb dX7_wrong_14 rfl (lv_at hl 0 rfl) ?_
    refine M_get hx hb hts hown hK hM 22 (v := .int (h2 22 0)) (by decide) (hts _ q1705) rfl dX7_wrong_15 ?_
    refine M_put hx hb hts hown hK hM hJ hS 25 rfl rfl (hts _ q1708) rfl .int (by decide +kernel) rfl rfl dX7_wrong_18 (fun H locs hM hS => ?_)
    obtain ⟨h3, eh3⟩ : ∃ y : Mem, y = up2 h2 25 0 (h2 22 0) := ⟨_, rfl⟩
    rw [← eh3] at hM
    have hw := hw h3 eh3
    exact M_vret hx hb hr hlocks hM hS hw dX7_wrong_21
  · have hw := hw.2 c1
    exact M_vret hx hb hr hlocks hM hS hw dX7_wrong_7

/-- mark(I)V -/
def wpBX7_mark_20 (post : Mem → Prop) (a1 : Int32)  (h : Mem)   : Prop :=
  (((h 24 0) = 0 → (wpX7_stepOn (fun h4 => post h4) h )) ∧ (¬ (h 24 0) = 0 → post h))
def wpX7_mark (post : Mem → Prop) (h : Mem) (a1 : Int32) : Prop :=
  (((h 24 0) = 0 → (wpX7_isMarked (fun r5 => ((r5 = true → wpBX7_mark_20 post a1  h ) ∧ (¬ r5 = true → (wpX7_wrong (fun h9 => wpBX7_mark_20 post a1  h9 ) h (1 : Int32))))) h a1)) ∧ (¬ (h 24 0) = 0 → wpBX7_mark_20 post a1  h ))
set_option maxHeartbeats 4000000 in
set_option maxRecDepth 100000 in
theorem metX7_mark (l : Launch) (D : va_G) (cA : Nat → ClassId) (z0 : Nat) (E : Nat → Nat → Nat) (ad : Nat → Nat) (h : Mem) (a1 : Int32) (post : Mem → Prop) (hw : wpX7_mark post h a1) : MeV l D cA z0 E ad yX7_mark (ws_ yX7_mark cX7_mark 2 none) ({ frames := 3, cells := 0, slots := 0, locals := 72 }) [.ref (ad 69), .int a1] h post := by
  refine Met.ofW (cc := cX7_mark) (maxL := 2) (ret := none) (by decide) rfl ?_
  intro p e s m args below meth c s₁ B hml hv
  obtain ⟨rfl, hM, hK, hJ, hZ⟩ := hv
  have hx := B.exec
  have hb := B.bytes
  have hr := B.returns
  have hts := atoms_spec (ws := ws_ yX7_mark cX7_mark 2 none) B.pre
  have hts : ∀ w ∈ lw_all, w.before _ s = true := fun w h => hts w (List.mem_cons_of_mem _ h)
  have hown : s.vm.findClass RX7 = some m.cls := findClass_of_methodNamed B.named
  have hlocks := B.notSynchronized
  have hS : va_S (MA ad) s.heap s.heap [] := va_S.rf
  have hl := lv_entry ([.ref (ad 69), .int a1]) (n := 2) (Nat.le_of_ble_eq_true rfl)
  rw [lg_entry_eq]
  generalize (lg_sl ([.ref (ad 69), .int a1]) ++ List.replicate (2 - (lg_sl ([.ref (ad 69), .int a1])).length) Slot.unset).toArray = ls at hl ⊢
  have hl : lv_has ls 2 [(0, .ref (ad 69)), (1, .int a1)] := hl
  have hB20 : ∀ (h : Mem), wpBX7_mark_20 post a1  h  → JM p l e (headSpec (ws_ yX7_mark cX7_mark 2 none) ({ frames := 3, cells := 0, slots := 0, locals := 72 })).room s m ([.ref (ad 69), .int a1] : List Value).toArray below meth c (MQ below (MQv D cA E ad post) ([.ref (ad 69), .int a1] : List Value).toArray s 0 0 (MA ad)) D cA E ad 2 20 h [(0, .ref (ad 69))] [] := by
    intro h hw H locs ls hM hS hl
    unfold wpBX7_mark_20 at hw
    refine lv_aload_n hx hb dX7_mark_20 rfl (lv_at hl 0 rfl) ?_
    refine M_get hx hb hts hown hK hM 24 (v := .int (h 24 0)) (by decide) (hts _ q1707) rfl dX7_mark_21 ?_
    refine lv_if_ne (tgt := 31) hx hb dX7_mark_24 (by decide) (fun c2 => ?_) (fun c2 => ?_)
    · have hw := hw.2 c2
      exact M_vret hx hb hr hlocks hM hS hw dX7_mark_31
    · have hw := hw.1 c2
      refine lv_aload_n hx hb dX7_mark_27 rfl (lv_at hl 0 rfl) ?_
      refine M_callV (As := []) (rest := []) ⟨hx, hb, hml, hown, hts⟩ hK hZ hM hJ hS (metX7_stepOn l D cA z0 E ad h  _ hw) (cwV 0 hts (lw_V q1908 q1910 qs45 q130 q1911) rfl rfl rfl (by decide +kernel) ⟨Nat.le_of_ble_eq_true rfl, Nat.le_of_ble_eq_true rfl⟩) rfl hl.1 rfl (Nat.le_of_ble_eq_true rfl) dX7_mark_28 ⟨Nat.zero_le _, Nat.zero_le _⟩ (fun h4 H locs hw hM hS => ?_)
      exact M_vret hx hb hr hlocks hM hS hw dX7_mark_31
  unfold wpX7_mark at hw
  refine lv_aload_n hx hb dX7_mark_0 rfl (lv_at hl 0 rfl) ?_
  refine M_get hx hb hts hown hK hM 24 (v := .int (h 24 0)) (by decide) (hts _ q1707) rfl dX7_mark_1 ?_
  refine lv_if_ne (tgt := 20) hx hb dX7_mark_4 (by decide) (fun c1 => ?_) (fun c1 => ?_)
  · have hw := hw.2 c1
    exact hB20 h hw _ _ ls hM hS (lv_sub hl [0] rfl)
  · have hw := hw.1 c1
    refine lv_aload_n hx hb dX7_mark_7 rfl (lv_at hl 0 rfl) ?_
    refine lv_iload_n hx hb dX7_mark_8 rfl (lv_at hl 1 rfl) ?_
    refine M_callZp (As := [.int a1]) (rest := []) ⟨hx, hb, hml, hown, hts⟩ hK hZ hM hJ hS (metX7_isMarked l D cA z0 E ad h a1 _ hw) (cwV 1 hts (lw_V q1960 q1962 qs54 q130 q1963) rfl rfl rfl (by decide +kernel) ⟨Nat.le_of_ble_eq_true rfl, Nat.le_of_ble_eq_true rfl⟩) rfl hl.1 rfl (Nat.le_of_ble_eq_true rfl) dX7_mark_9 ⟨Nat.zero_le _, Nat.zero_le _⟩ (fun r5 H locs hw hM hS => ?_)
    refine lv_if_ne (tgt := 20) hx hb dX7_mark_12 (by decide) (fun c7 => ?_) (fun c7 => ?_)
    · have c7 := b2i_t c7
      have hw := hw.1 c7
      exact hB20 h hw _ _ ls hM hS (lv_sub hl [0] rfl)
    · have c7 := b2i_f c7
      have hw := hw.2 c7
      refine lv_aload_n hx hb dX7_mark_15 rfl (lv_at hl 0 rfl) ?_
      refine lv_iconst (v := (1 : Int32)) hx hb dX7_mark_16 (by decide) ?_
      refine M_callV (As := [.int (1 : Int32)]) (rest := []) ⟨hx, hb, hml, hown, hts⟩ hK hZ hM hJ hS (metX7_wrong l D cA z0 E ad h (1 : Int32) _ hw) (cwV 1 hts (lw_V q1944 q1946 qs50 q130 q1947) rfl rfl rfl (by decide +kernel) ⟨Nat.le_of_ble_eq_true rfl, Nat.le_of_ble_eq_true rfl⟩) rfl hl.1 rfl (Nat.le_of_ble_eq_true rfl) dX7_mark_17 ⟨Nat.zero_le _, Nat.zero_le _⟩ (fun h9 H locs hw hM hS => ?_)
      exact hB20 h9 hw _ _ ls hM hS (lv_sub hl [0] rfl)

/-- lay(I)V -/
def wpX7_lay (post : Mem → Prop) (h : Mem) (a1 : Int32) : Prop :=
  (((h 24 0) = 0 → (vp_in ((600 : Int32) + (h 3 11)) (mlen 14) ∧ (∀ h3 : Mem, h3 = up2 h 14 (ix ((600 : Int32) + (h 3 11))) a1 → (∀ h4 : Mem, h4 = up2 h3 3 11 ((h3 3 11) + (1 : Int32)) → post h4)))) ∧ (¬ (h 24 0) = 0 → post h))
set_option maxHeartbeats 4000000 in
set_option maxRecDepth 100000 in
theorem metX7_lay (l : Launch) (D : va_G) (cA : Nat → ClassId) (z0 : Nat) (E : Nat → Nat → Nat) (ad : Nat → Nat) (h : Mem) (a1 : Int32) (post : Mem → Prop) (hw : wpX7_lay post h a1) : MeV l D cA z0 E ad yX7_lay (ws_ yX7_lay cX7_lay 2 none) ({ frames := 1, cells := 0, slots := 0, locals := 30 }) [.ref (ad 69), .int a1] h post := by
  refine Met.ofW (cc := cX7_lay) (maxL := 2) (ret := none) (by decide) rfl ?_
  intro p e s m args below meth c s₁ B hml hv
  obtain ⟨rfl, hM, hK, hJ, hZ⟩ := hv
  have hx := B.exec
  have hb := B.bytes
  have hr := B.returns
  have hts := atoms_spec (ws := ws_ yX7_lay cX7_lay 2 none) B.pre
  have hts : ∀ w ∈ lw_all, w.before _ s = true := fun w h => hts w (List.mem_cons_of_mem _ h)
  have hown : s.vm.findClass RX7 = some m.cls := findClass_of_methodNamed B.named
  have hlocks := B.notSynchronized
  have hS : va_S (MA ad) s.heap s.heap [] := va_S.rf
  have hl := lv_entry ([.ref (ad 69), .int a1]) (n := 2) (Nat.le_of_ble_eq_true rfl)
  rw [lg_entry_eq]
  generalize (lg_sl ([.ref (ad 69), .int a1]) ++ List.replicate (2 - (lg_sl ([.ref (ad 69), .int a1])).length) Slot.unset).toArray = ls at hl ⊢
  have hl : lv_has ls 2 [(0, .ref (ad 69)), (1, .int a1)] := hl
  unfold wpX7_lay at hw
  refine lv_aload_n hx hb dX7_lay_0 rfl (lv_at hl 0 rfl) ?_
  refine M_get hx hb hts hown hK hM 24 (v := .int (h 24 0)) (by decide) (hts _ q1707) rfl dX7_lay_1 ?_
  refine lv_if_eq (tgt := 8) hx hb dX7_lay_4 (by decide) (fun c1 => ?_) (fun c1 => ?_)
  · have hw := hw.1 c1
    refine lv_aload_n hx hb dX7_lay_8 rfl (lv_at hl 0 rfl) ?_
    refine M_get hx hb hts hown hK hM 14 (v := .ref (ad 14)) (by decide) (hts _ q1697) rfl dX7_lay_9 ?_
    refine lv_sipush (v := (600 : Int32)) hx hb dX7_lay_12 (by decide) ?_
    refine lv_aload_n hx hb dX7_lay_15 rfl (lv_at hl 0 rfl) ?_
    refine M_get hx hb hts hown hK hM 3 (v := .ref (ad 3)) (by decide) (hts _ q1686) rfl dX7_lay_16 ?_
    refine lv_bipush (v := (11 : Int32)) hx hb dX7_lay_19 (by decide) ?_
    refine M_iald hx hb hK hM 3 rfl (j := 11) rfl (by unfold vp_in; decide) dX7_lay_21 ?_
    refine lv_iadd hx hb dX7_lay_22 ?_
    refine lv_iload_n hx hb dX7_lay_23 rfl (lv_at hl 1 rfl) ?_
    obtain ⟨hb2, hw⟩ := hw
    refine M_iast hx hb hK hM hJ hS 14 rfl (j := (ix ((600 : Int32) + (h 3 11)))) rfl hb2 dX7_lay_24 (fun H locs hM hS => ?_)
    obtain ⟨h3, eh3⟩ : ∃ y : Mem, y = up2 h 14 (ix ((600 : Int32) + (h 3 11))) a1 := ⟨_, rfl⟩
    rw [← eh3] at hM
    have hw := hw h3 eh3
    refine lv_aload_n hx hb dX7_lay_25 rfl (lv_at hl 0 rfl) ?_
    refine M_get hx hb hts hown hK hM 3 (v := .ref (ad 3)) (by decide) (hts _ q1686) rfl dX7_lay_26 ?_
    refine lv_bipush (v := (11 : Int32)) hx hb dX7_lay_29 (by decide) ?_
    refine lv_dup2_11 hx hb dX7_lay_31 rfl rfl ?_
    refine M_iald hx hb hK hM 3 rfl (j := 11) rfl (by unfold vp_in; decide) dX7_lay_32 ?_
    refine lv_iconst (v := (1 : Int32)) hx hb dX7_lay_33 (by decide) ?_
    refine lv_iadd hx hb dX7_lay_34 ?_
    refine M_iast hx hb hK hM hJ hS 3 rfl (j := 11) rfl (by unfold vp_in; decide) dX7_lay_35 (fun H locs hM hS => ?_)
    obtain ⟨h4, eh4⟩ : ∃ y : Mem, y = up2 h3 3 11 ((h3 3 11) + (1 : Int32)) := ⟨_, rfl⟩
    rw [← eh4] at hM
    have hw := hw h4 eh4
    exact M_vret hx hb hr hlocks hM hS hw dX7_lay_36
  · have hw := hw.2 c1
    exact M_vret hx hb hr hlocks hM hS hw dX7_lay_7

/-- numberNow(II)I -/
def wpBX7_numberNow_59 (post : Int32 → Mem → Prop) (a1 : Int32) (a2 : Int32)  (h : Mem)   : Prop :=
  post (if (h 24 0) = 0 then (h 21 0) else (0 : Int32)) h
def wpBX7_numberNow_54 (post : Int32 → Mem → Prop) (a1 : Int32) (a2 : Int32)  (h : Mem)   : Prop :=
  (wpX7_wrong (fun h5 => wpBX7_numberNow_59 post a1 a2  h5 ) h (2 : Int32))
def wpX7_numberNow (post : Int32 → Mem → Prop) (h : Mem) (a1 : Int32) (a2 : Int32) : Prop :=
  (((h 24 0) = 0 → (((h 20 0) = (2 : Int32) → (((4 : Int32) < ((h 23 0) - (h 22 0)) → wpBX7_numberNow_54 post a1 a2  h ) ∧ (¬ (4 : Int32) < ((h 23 0) - (h 22 0)) → (((h 21 0) < a1 → wpBX7_numberNow_54 post a1 a2  h ) ∧ (¬ (h 21 0) < a1 → (((h 21 0) ≤ a2 → wpBX7_numberNow_59 post a1 a2  h ) ∧ (¬ (h 21 0) ≤ a2 → wpBX7_numberNow_54 post a1 a2  h ))))))) ∧ (¬ (h 20 0) = (2 : Int32) → (wpX7_wrong (fun h13 => wpBX7_numberNow_59 post a1 a2  h13 ) h (1 : Int32))))) ∧ (¬ (h 24 0) = 0 → post (0 : Int32) h))
set_option maxHeartbeats 4000000 in
set_option maxRecDepth 100000 in
theorem metX7_numberNow (l : Launch) (D : va_G) (cA : Nat → ClassId) (z0 : Nat) (E : Nat → Nat → Nat) (ad : Nat → Nat) (h : Mem) (a1 : Int32) (a2 : Int32) (post : Int32 → Mem → Prop) (hw : wpX7_numberNow post h a1 a2) : MeI l D cA z0 E ad yX7_numberNow (ws_ yX7_numberNow cX7_numberNow 3 (some .int)) ({ frames := 2, cells := 0, slots := 0, locals := 51 }) [.ref (ad 69), .int a1, .int a2] h post := by
  refine Met.ofW (cc := cX7_numberNow) (maxL := 3) (ret := (some .int)) (by decide) rfl ?_
  intro p e s m args below meth c s₁ B hml hv
  obtain ⟨rfl, hM, hK, hJ, hZ⟩ := hv
  have hx := B.exec
  have hb := B.bytes
  have hr := B.returns
  have hts := atoms_spec (ws := ws_ yX7_numberNow cX7_numberNow 3 (some .int)) B.pre
  have hts : ∀ w ∈ lw_all, w.before _ s = true := fun w h => hts w (List.mem_cons_of_mem _ h)
  have hown : s.vm.findClass RX7 = some m.cls := findClass_of_methodNamed B.named
  have hlocks := B.notSynchronized
  have hS : va_S (MA ad) s.heap s.heap [] := va_S.rf
  have hl := lv_entry ([.ref (ad 69), .int a1, .int a2]) (n := 3) (Nat.le_of_ble_eq_true rfl)
  rw [lg_entry_eq]
  generalize (lg_sl ([.ref (ad 69), .int a1, .int a2]) ++ List.replicate (3 - (lg_sl ([.ref (ad 69), .int a1, .int a2])).length) Slot.unset).toArray = ls at hl ⊢
  have hl : lv_has ls 3 [(0, .ref (ad 69)), (1, .int a1), (2, .int a2)] := hl
  have hB59 : ∀ (h : Mem), wpBX7_numberNow_59 post a1 a2  h  → JM p l e (headSpec (ws_ yX7_numberNow cX7_numberNow 3 (some .int)) ({ frames := 2, cells := 0, slots := 0, locals := 51 })).room s m ([.ref (ad 69), .int a1, .int a2] : List Value).toArray below meth c (MQ below (MQi D cA E ad post) ([.ref (ad 69), .int a1, .int a2] : List Value).toArray s 0 0 (MA ad)) D cA E ad 3 59 h [(0, .ref (ad 69))] [] := by
    intro h hw H locs ls hM hS hl
    unfold wpBX7_numberNow_59 at hw
    refine lv_aload_n hx hb dX7_numberNow_59 rfl (lv_at hl 0 rfl) ?_
    refine M_get hx hb hts hown hK hM 24 (v := .int (h 24 0)) (by decide) (hts _ q1707) rfl dX7_numberNow_60 ?_
    have hj6 : JM p l e (headSpec (ws_ yX7_numberNow cX7_numberNow 3 (some .int)) ({ frames := 2, cells := 0, slots := 0, locals := 51 })).room s m ([.ref (ad 69), .int a1, .int a2] : List Value).toArray below meth c (MQ below (MQi D cA E ad post) ([.ref (ad 69), .int a1, .int a2] : List Value).toArray s 0 0 (MA ad)) D cA E ad 3 74 h [] [.int (if (h 24 0) = 0 then (h 21 0) else (0 : Int32))] := by
      intro H locs ls hM hS hl
      exact M_iret hx hb hr hlocks hM hS hw dX7_numberNow_74
    refine lv_if_ne (tgt := 73) hx hb dX7_numberNow_63 (by decide) (fun c7 => ?_) (fun c7 => ?_)
    · refine lv_iconst (v := (0 : Int32)) hx hb dX7_numberNow_73 (by decide) ?_
      have e8 : (if (h 24 0) = 0 then (h 21 0) else (0 : Int32)) = (0 : Int32) := by rw [if_neg c7]
      rw [e8] at hj6
      exact hj6 _ _ ls hM hS (lv_sub hl [] rfl)
    · refine lv_aload_n hx hb dX7_numberNow_66 rfl (lv_at hl 0 rfl) ?_
      refine M_get hx hb hts hown hK hM 21 (v := .int (h 21 0)) (by decide) (hts _ q1704) rfl dX7_numberNow_67 ?_
      refine lv_goto (tgt := 74) hx hb dX7_numberNow_70 (by decide) ?_
      have e9 : (if (h 24 0) = 0 then (h 21 0) else (0 : Int32)) = (h 21 0) := by rw [if_pos c7]
      rw [e9] at hj6
      exact hj6 _ _ ls hM hS (lv_sub hl [] rfl)
  have hB54 : ∀ (h : Mem), wpBX7_numberNow_54 post a1 a2  h  → JM p l e (headSpec (ws_ yX7_numberNow cX7_numberNow 3 (some .int)) ({ frames := 2, cells := 0, slots := 0, locals := 51 })).room s m ([.ref (ad 69), .int a1, .int a2] : List Value).toArray below meth c (MQ below (MQi D cA E ad post) ([.ref (ad 69), .int a1, .int a2] : List Value).toArray s 0 0 (MA ad)) D cA E ad 3 54 h [(0, .ref (ad 69))] [] := by
    intro h hw H locs ls hM hS hl
    unfold wpBX7_numberNow_54 at hw
    refine lv_aload_n hx hb dX7_numberNow_54 rfl (lv_at hl 0 rfl) ?_
    refine lv_iconst (v := (2 : Int32)) hx hb dX7_numberNow_55 (by decide) ?_
    refine M_callV (As := [.int (2 : Int32)]) (rest := []) ⟨hx, hb, hml, hown, hts⟩ hK hZ hM hJ hS (metX7_wrong l D cA z0 E ad h (2 : Int32) _ hw) (cwV 1 hts (lw_V q1944 q1946 qs50 q130 q1947) rfl rfl rfl (by decide +kernel) ⟨Nat.le_of_ble_eq_true rfl, Nat.le_of_ble_eq_true rfl⟩) rfl hl.1 rfl (Nat.le_of_ble_eq_true rfl) dX7_numberNow_56 ⟨Nat.zero_le _, Nat.zero_le _⟩ (fun h5 H locs hw hM hS => ?_)
    exact hB59 h5 hw _ _ ls hM hS (lv_sub hl [0] rfl)
  unfold wpX7_numberNow at hw
  refine lv_aload_n hx hb dX7_numberNow_0 rfl (lv_at hl 0 rfl) ?_
  refine M_get hx hb hts hown hK hM 24 (v := .int (h 24 0)) (by decide) (hts _ q1707) rfl dX7_numberNow_1 ?_
  refine lv_if_eq (tgt := 9) hx hb dX7_numberNow_4 (by decide) (fun c1 => ?_) (fun c1 => ?_)
  · have hw := hw.1 c1
    refine lv_aload_n hx hb dX7_numberNow_9 rfl (lv_at hl 0 rfl) ?_
    refine M_get hx hb hts hown hK hM 20 (v := .int (h 20 0)) (by decide) (hts _ q1703) rfl dX7_numberNow_10 ?_
    refine lv_iconst (v := (2 : Int32)) hx hb dX7_numberNow_13 (by decide) ?_
    refine lv_icmp_eq (tgt := 25) hx hb dX7_numberNow_14 (by decide) (fun c2 => ?_) (fun c2 => ?_)
    · have hw := hw.1 c2
      refine lv_aload_n hx hb dX7_numberNow_25 rfl (lv_at hl 0 rfl) ?_
      refine M_get hx hb hts hown hK hM 23 (v := .int (h 23 0)) (by decide) (hts _ q1706) rfl dX7_numberNow_26 ?_
      refine lv_aload_n hx hb dX7_numberNow_29 rfl (lv_at hl 0 rfl) ?_
      refine M_get hx hb hts hown hK hM 22 (v := .int (h 22 0)) (by decide) (hts _ q1705) rfl dX7_numberNow_30 ?_
      refine lv_isub hx hb dX7_numberNow_33 ?_
      refine lv_iconst (v := (4 : Int32)) hx hb dX7_numberNow_34 (by decide) ?_
      refine lv_icmp_gt (tgt := 54) hx hb dX7_numberNow_35 (by decide) (fun c3 => ?_) (fun c3 => ?_)
      · have hw := hw.1 c3
        exact hB54 h hw _ _ ls hM hS (lv_sub hl [0] rfl)
      · have hw := hw.2 c3
        refine lv_aload_n hx hb dX7_numberNow_38 rfl (lv_at hl 0 rfl) ?_
        refine M_get hx hb hts hown hK hM 21 (v := .int (h 21 0)) (by decide) (hts _ q1704) rfl dX7_numberNow_39 ?_
        refine lv_iload_n hx hb dX7_numberNow_42 rfl (lv_at hl 1 rfl) ?_
        refine lv_icmp_lt (tgt := 54) hx hb dX7_numberNow_43 (by decide) (fun c10 => ?_) (fun c10 => ?_)
        · have hw := hw.1 c10
          exact hB54 h hw _ _ ls hM hS (lv_sub hl [0] rfl)
        · have hw := hw.2 c10
          refine lv_aload_n hx hb dX7_numberNow_46 rfl (lv_at hl 0 rfl) ?_
          refine M_get hx hb hts hown hK hM 21 (v := .int (h 21 0)) (by decide) (hts _ q1704) rfl dX7_numberNow_47 ?_
          refine lv_iload_n hx hb dX7_numberNow_50 rfl (lv_at hl 2 rfl) ?_
          refine lv_icmp_le (tgt := 59) hx hb dX7_numberNow_51 (by decide) (fun c11 => ?_) (fun c11 => ?_)
          · have hw := hw.1 c11
            exact hB59 h hw _ _ ls hM hS (lv_sub hl [0] rfl)
          · have hw := hw.2 c11
            exact hB54 h hw _ _ ls hM hS (lv_sub hl [0] rfl)
    · have hw := hw.2 c2
      refine lv_aload_n hx hb dX7_numberNow_17 rfl (lv_at hl 0 rfl) ?_
      refine lv_iconst (v := (1 : Int32)) hx hb dX7_numberNow_18 (by decide) ?_
      refine M_callV (As := [.int (1 : Int32)]) (rest := []) ⟨hx, hb, hml, hown, hts⟩ hK hZ hM hJ hS (metX7_wrong l D cA z0 E ad h (1 : Int32) _ hw) (cwV 1 hts (lw_V q1944 q1946 qs50 q130 q1947) rfl rfl rfl (by decide +kernel) ⟨Nat.le_of_ble_eq_true rfl, Nat.le_of_ble_eq_true rfl⟩) rfl hl.1 rfl (Nat.le_of_ble_eq_true rfl) dX7_numberNow_19 ⟨Nat.zero_le _, Nat.zero_le _⟩ (fun h13 H locs hw hM hS => ?_)
      refine lv_goto (tgt := 59) hx hb dX7_numberNow_22 (by decide) ?_
      exact hB59 h13 hw _ _ ls hM hS (lv_sub hl [0] rfl)
  · have hw := hw.2 c1
    refine lv_iconst (v := (0 : Int32)) hx hb dX7_numberNow_7 (by decide) ?_
    exact M_iret hx hb hr hlocks hM hS hw dX7_numberNow_8

/-- readNumber(II)I -/
def wpX7_readNumber (post : Int32 → Mem → Prop) (h : Mem) (a1 : Int32) (a2 : Int32) : Prop :=
  (wpX7_numberNow (fun r1 h2 => (((h2 24 0) = 0 → (wpX7_stepOn (fun h5 => post r1 h5) h2 )) ∧ (¬ (h2 24 0) = 0 → post r1 h2))) h a1 a2)
set_option maxHeartbeats 4000000 in
set_option maxRecDepth 100000 in
theorem metX7_readNumber (l : Launch) (D : va_G) (cA : Nat → ClassId) (z0 : Nat) (E : Nat → Nat → Nat) (ad : Nat → Nat) (h : Mem) (a1 : Int32) (a2 : Int32) (post : Int32 → Mem → Prop) (hw : wpX7_readNumber post h a1 a2) : MeI l D cA z0 E ad yX7_readNumber (ws_ yX7_readNumber cX7_readNumber 4 (some .int)) ({ frames := 3, cells := 0, slots := 0, locals := 73 }) [.ref (ad 69), .int a1, .int a2] h post := by
  refine Met.ofW (cc := cX7_readNumber) (maxL := 4) (ret := (some .int)) (by decide) rfl ?_
  intro p e s m args below meth c s₁ B hml hv
  obtain ⟨rfl, hM, hK, hJ, hZ⟩ := hv
  have hx := B.exec
  have hb := B.bytes
  have hr := B.returns
  have hts := atoms_spec (ws := ws_ yX7_readNumber cX7_readNumber 4 (some .int)) B.pre
  have hts : ∀ w ∈ lw_all, w.before _ s = true := fun w h => hts w (List.mem_cons_of_mem _ h)
  have hown : s.vm.findClass RX7 = some m.cls := findClass_of_methodNamed B.named
  have hlocks := B.notSynchronized
  have hS : va_S (MA ad) s.heap s.heap [] := va_S.rf
  have hl := lv_entry ([.ref (ad 69), .int a1, .int a2]) (n := 4) (Nat.le_of_ble_eq_true rfl)
  rw [lg_entry_eq]
  generalize (lg_sl ([.ref (ad 69), .int a1, .int a2]) ++ List.replicate (4 - (lg_sl ([.ref (ad 69), .int a1, .int a2])).length) Slot.unset).toArray = ls at hl ⊢
  have hl : lv_has ls 4 [(0, .ref (ad 69)), (1, .int a1), (2, .int a2)] := hl
  unfold wpX7_readNumber at hw
  refine lv_aload_n hx hb dX7_readNumber_0 rfl (lv_at hl 0 rfl) ?_
  refine lv_iload_n hx hb dX7_readNumber_1 rfl (lv_at hl 1 rfl) ?_
  refine lv_iload_n hx hb dX7_readNumber_2 rfl (lv_at hl 2 rfl) ?_
  refine M_callI (As := [.int a1, .int a2]) (rest := []) ⟨hx, hb, hml, hown, hts⟩ hK hZ hM hJ hS (metX7_numberNow l D cA z0 E ad h a1 a2 _ hw) (cwV 2 hts (lw_V q1952 q1954 qs52 q130 q1955) rfl rfl rfl (by decide +kernel) ⟨Nat.le_of_ble_eq_true rfl, Nat.le_of_ble_eq_true rfl⟩) rfl hl.1 rfl (Nat.le_of_ble_eq_true rfl) dX7_readNumber_3 ⟨Nat.zero_le _, Nat.zero_le _⟩ (fun r1 h2 H locs hw hM hS => ?_)
  refine lv_istore_n (lv' := [(3, .int r1), (0, .ref (ad 69)), (1, .int a1), (2, .int a2)]) hx hb dX7_readNumber_6 rfl hl (by decide) rfl (fun ls hl => ?_)
  refine lv_aload_n hx hb dX7_readNumber_7 rfl (lv_at hl 1 rfl) ?_
  refine M_get hx hb hts hown hK hM 24 (v := .int (h2 24 0)) (by decide) (hts _ q1707) rfl dX7_readNumber_8 ?_
  refine lv_if_ne (tgt := 18) hx hb dX7_readNumber_11 (by decide) (fun c3 => ?_) (fun c3 => ?_)
  · have hw := hw.2 c3
    refine lv_iload_n hx hb dX7_readNumber_18 rfl (lv_at hl 0 rfl) ?_
    exact M_iret hx hb hr hlocks hM hS hw dX7_readNumber_19
  · have hw := hw.1 c3
    refine lv_aload_n hx hb dX7_readNumber_14 rfl (lv_at hl 1 rfl) ?_
    refine M_callV (As := []) (rest := []) ⟨hx, hb, hml, hown, hts⟩ hK hZ hM hJ hS (metX7_stepOn l D cA z0 E ad h2  _ hw) (cwV 0 hts (lw_V q1908 q1910 qs45 q130 q1911) rfl rfl rfl (by decide +kernel) ⟨Nat.le_of_ble_eq_true rfl, Nat.le_of_ble_eq_true rfl⟩) rfl hl.1 rfl (Nat.le_of_ble_eq_true rfl) dX7_readNumber_15 ⟨Nat.zero_le _, Nat.zero_le _⟩ (fun h5 H locs hw hM hS => ?_)
    refine lv_iload_n hx hb dX7_readNumber_18 rfl (lv_at hl 0 rfl) ?_
    exact M_iret hx hb hr hlocks hM hS hw dX7_readNumber_19

/-- which(Ljava/lang/String;)I -/
def wpBX7_which_2 (post : Int32 → Prop) (k1 : Nat)  (K2 : Int32 → Prop) (h : Mem)  (x2 : Int32) : Prop :=
  (((nI (wlen k1)) ≤ x2 → post (-1 : Int32)) ∧ (¬ (nI (wlen k1)) ≤ x2 → (vp_in x2 (wlen k1) ∧ (wpX7_is (fun r3 => ((r3 = true → post x2) ∧ (¬ r3 = true → K2 (x2 + (1 : Int32))))) h (widx k1 (ix x2))))))
def wpLX7_which_2 (post : Int32 → Prop) (k1 : Nat)  (h : Mem)  : Nat → (Int32) → Prop := LW (fun K s => wpBX7_which_2 post k1  (fun x2 => K x2) h  s)
def wpX7_which (post : Int32 → Prop) (h : Mem) (k1 : Nat) : Prop :=
  (∃ n, wpLX7_which_2 post k1  h n (0 : Int32))
set_option maxHeartbeats 4000000 in
set_option maxRecDepth 100000 in
theorem metX7_which (l : Launch) (D : va_G) (cA : Nat → ClassId) (z0 : Nat) (E : Nat → Nat → Nat) (ad : Nat → Nat) (h : Mem) (k1 : Nat) (post : Int32 → Prop) (hk1 : k1 < 2) (hw : wpX7_which post h k1) : MeI l D cA z0 E ad yX7_which (ws_ yX7_which cX7_which 3 (some .int)) ({ frames := 9, cells := 0, slots := 0, locals := 264 }) [.ref (ad 69), .ref (ad k1)] h (fun r h' => h' = h ∧ post r) := by
  refine Met.ofW (cc := cX7_which) (maxL := 3) (ret := (some .int)) (by decide) rfl ?_
  intro p e s m args below meth c s₁ B hml hv
  obtain ⟨rfl, hM, hK, hJ, hZ⟩ := hv
  have hx := B.exec
  have hb := B.bytes
  have hr := B.returns
  have hts := atoms_spec (ws := ws_ yX7_which cX7_which 3 (some .int)) B.pre
  have hts : ∀ w ∈ lw_all, w.before _ s = true := fun w h => hts w (List.mem_cons_of_mem _ h)
  have hown : s.vm.findClass RX7 = some m.cls := findClass_of_methodNamed B.named
  have hlocks := B.notSynchronized
  have hS : va_S (MA ad) s.heap s.heap [] := va_S.rf
  have hl := lv_entry ([.ref (ad 69), .ref (ad k1)]) (n := 3) (Nat.le_of_ble_eq_true rfl)
  rw [lg_entry_eq]
  generalize (lg_sl ([.ref (ad 69), .ref (ad k1)]) ++ List.replicate (3 - (lg_sl ([.ref (ad 69), .ref (ad k1)])).length) Slot.unset).toArray = ls at hl ⊢
  have hl : lv_has ls 3 [(0, .ref (ad 69)), (1, .ref (ad k1))] := hl
  have hL2 : ∀  (n2 : Nat) (x2 : Int32), wpLX7_which_2 post k1  h  n2 x2 → JM p l e (headSpec (ws_ yX7_which cX7_which 3 (some .int)) ({ frames := 9, cells := 0, slots := 0, locals := 264 })).room s m ([.ref (ad 69), .ref (ad k1)] : List Value).toArray below meth c (MQ below (MQi D cA E ad (fun r h' => h' = h ∧ post r)) ([.ref (ad 69), .ref (ad k1)] : List Value).toArray s 0 0 (MA ad)) D cA E ad 3 2 h [(0, .ref (ad 69)), (1, .ref (ad k1)), (2, .int x2)] [] := by
    intro  n2
    induction n2 with
    | zero => intro x2 hw; exact False.elim hw
    | succ n2 ih2 =>
      intro x2 hw H locs ls hM hS hl
      have hw : wpBX7_which_2 post k1  (fun x2 => wpLX7_which_2 post k1  h  n2 x2) h  x2 := hw
      unfold wpBX7_which_2 at hw
      refine lv_iload_n hx hb dX7_which_2 rfl (lv_at hl 2 rfl) ?_
      refine lv_aload_n hx hb dX7_which_3 rfl (lv_at hl 1 rfl) ?_
      refine M_alenw hx hb hK hM k1 hk1 dX7_which_4 ?_
      refine lv_icmp_ge (tgt := 26) hx hb dX7_which_5 (by decide) (fun c1 => ?_) (fun c1 => ?_)
      · have hw := hw.1 c1
        refine lv_iconst (v := (-1 : Int32)) hx hb dX7_which_26 (by decide) ?_
        exact M_iret hx hb hr hlocks hM hS ⟨rfl, hw⟩ dX7_which_27
      · have hw := hw.2 c1
        refine lv_aload_n hx hb dX7_which_8 rfl (lv_at hl 0 rfl) ?_
        refine lv_aload_n hx hb dX7_which_9 rfl (lv_at hl 1 rfl) ?_
        refine lv_iload_n hx hb dX7_which_10 rfl (lv_at hl 2 rfl) ?_
        obtain ⟨hb2, hw⟩ := hw
        refine M_aald hx hb hK hM k1 hk1 (j := (ix x2)) rfl hb2 dX7_which_11 ?_
        refine M_callZp (As := [.ref (E 0 (widx k1 (ix x2)))]) (rest := []) ⟨hx, hb, hml, hown, hts⟩ hK hZ hM hJ hS (metX7_is l D cA z0 E ad h (widx k1 (ix x2)) _ (by first | exact (widx_lt _ _) | rfl) hw) (cwV 1 hts (lw_V q1932 q1934 qs48 q130 q1935) rfl rfl rfl (by decide +kernel) ⟨Nat.le_of_ble_eq_true rfl, Nat.le_of_ble_eq_true rfl⟩) rfl hl.1 rfl (Nat.le_of_ble_eq_true rfl) dX7_which_12 ⟨Nat.zero_le _, Nat.zero_le _⟩ (fun r3 H locs hw hM hS => ?_)
        refine lv_if_eq (tgt := 20) hx hb dX7_which_15 (by decide) (fun c5 => ?_) (fun c5 => ?_)
        · have c5 := b2i_f c5
          have hw := hw.2 c5
          refine lv_iinc (v := (x2 + (1 : Int32))) (lv' := [(2, .int (x2 + (1 : Int32))), (0, .ref (ad 69)), (1, .ref (ad k1))]) hx hb dX7_which_20 hl (k := 2) rfl rfl (by decide) rfl (fun ls hl => ?_)
          refine lv_goto (tgt := 2) hx hb dX7_which_23 (by decide) ?_
          exact ih2 (x2 + (1 : Int32)) hw _ _ ls hM hS (lv_sub hl [1, 2, 0] rfl)
        · have c5 := b2i_t c5
          have hw := hw.1 c5
          refine lv_iload_n hx hb dX7_which_18 rfl (lv_at hl 2 rfl) ?_
          exact M_iret hx hb hr hlocks hM hS ⟨rfl, hw⟩ dX7_which_19
  unfold wpX7_which at hw
  refine lv_iconst (v := (0 : Int32)) hx hb dX7_which_0 (by decide) ?_
  refine lv_istore_n (lv' := [(2, .int (0 : Int32)), (0, .ref (ad 69)), (1, .ref (ad k1))]) hx hb dX7_which_1 rfl hl (by decide) rfl (fun ls hl => ?_)
  obtain ⟨n6, hw⟩ := hw
  exact hL2 n6 (0 : Int32) hw _ _ ls hM hS (lv_sub hl [1, 2, 0] rfl)

/-- readPart(I)V -/
def wpBX7_readPart_56 (wE : (Mem → Prop) → Mem → Int32 → Prop) (post : Mem → Prop) (a1 : Int32)  (h : Mem) (x2 : Int32)  : Prop :=
  (wpX7_lay (fun h14 => (((h14 24 0) = 0 → (wpX7_stepOn (fun h17 => post h17) h14 )) ∧ (¬ (h14 24 0) = 0 → post h14))) h ((-1 : Int32) - x2))
def wpX7_readPart (wE : (Mem → Prop) → Mem → Int32 → Prop) (post : Mem → Prop) (h : Mem) (a1 : Int32) : Prop :=
  (((h 24 0) = 0 → (((h 20 0) = (2 : Int32) → (wpX7_readNumber (fun r20 h21 => (wpX7_lay (fun h23 => post h23) h21 r20)) h (0 : Int32) (9999 : Int32))) ∧ (¬ (h 20 0) = (2 : Int32) → (((h 20 0) = (1 : Int32) → (wpX7_which (fun r10 => ((r10 = (-1 : Int32) → (wpX7_wrong (fun h19 => wpBX7_readPart_56 wE post a1  h19 r10) h (3 : Int32))) ∧ (¬ r10 = (-1 : Int32) → wpBX7_readPart_56 wE post a1  h r10))) h 1)) ∧ (¬ (h 20 0) = (1 : Int32) → (wpX7_mark (fun h5 => (wE (fun h7 => (wpX7_mark (fun h9 => post h9) h7 (41 : Int32))) h5 (a1 + (1 : Int32)))) h (40 : Int32))))))) ∧ (¬ (h 24 0) = 0 → post h))
set_option maxHeartbeats 4000000 in
set_option maxRecDepth 100000 in
theorem metX7_readPart (l : Launch) (D : va_G) (cA : Nat → ClassId) (z0 : Nat) (E : Nat → Nat → Nat) (ad : Nat → Nat) (wE : (Mem → Prop) → Mem → Int32 → Prop) (fE lE : Nat) (hE : ∀ (post : Mem → Prop) (h : Mem) (a1 : Int32), wE post h a1 → MeV l D cA z0 E ad yX7_readExpression (ws_ yX7_readExpression cX7_readExpression 3 none) ({ frames := fE, cells := 0, slots := 0, locals := lE }) [.ref (ad 69), .int a1] h post) (h : Mem) (a1 : Int32) (post : Mem → Prop) (hw : wpX7_readPart wE post h a1) : MeV l D cA z0 E ad yX7_readPart (ws_ yX7_readPart cX7_readPart 3 none) ({ frames := fE + 11, cells := 0, slots := 0, locals := lE + 286 }) [.ref (ad 69), .int a1] h post := by
  refine Met.ofW (cc := cX7_readPart) (maxL := 3) (ret := none) (by decide) rfl ?_
  intro p e s m args below meth c s₁ B hml hv
  obtain ⟨rfl, hM, hK, hJ, hZ⟩ := hv
  have hx := B.exec
  have hb := B.bytes
  have hr := B.returns
  have hts := atoms_spec (ws := ws_ yX7_readPart cX7_readPart 3 none) B.pre
  have hts : ∀ w ∈ lw_all, w.before _ s = true := fun w h => hts w (List.mem_cons_of_mem _ h)
  have hown : s.vm.findClass RX7 = some m.cls := findClass_of_methodNamed B.named
  have hlocks := B.notSynchronized
  have hS : va_S (MA ad) s.heap s.heap [] := va_S.rf
  have hl := lv_entry ([.ref (ad 69), .int a1]) (n := 3) (Nat.le_of_ble_eq_true rfl)
  rw [lg_entry_eq]
  generalize (lg_sl ([.ref (ad 69), .int a1]) ++ List.replicate (3 - (lg_sl ([.ref (ad 69), .int a1])).length) Slot.unset).toArray = ls at hl ⊢
  have hl : lv_has ls 3 [(0, .ref (ad 69)), (1, .int a1)] := hl
  have hB56 : ∀ (h : Mem) (x2 : Int32), wpBX7_readPart_56 wE post a1  h x2 → JM p l e (headSpec (ws_ yX7_readPart cX7_readPart 3 none) ({ frames := fE + 11, cells := 0, slots := 0, locals := lE + 286 })).room s m ([.ref (ad 69), .int a1] : List Value).toArray below meth c (MQ below (MQv D cA E ad post) ([.ref (ad 69), .int a1] : List Value).toArray s 0 0 (MA ad)) D cA E ad 3 56 h [(0, .ref (ad 69)), (2, .int x2)] [] := by
    intro h x2 hw H locs ls hM hS hl
    unfold wpBX7_readPart_56 at hw
    refine lv_aload_n hx hb dX7_readPart_56 rfl (lv_at hl 0 rfl) ?_
    refine lv_iconst (v := (-1 : Int32)) hx hb dX7_readPart_57 (by decide) ?_
    refine lv_iload_n hx hb dX7_readPart_58 rfl (lv_at hl 1 rfl) ?_
    refine lv_isub hx hb dX7_readPart_59 ?_
    refine M_callV (As := [.int ((-1 : Int32) - x2)]) (rest := []) ⟨hx, hb, hml, hown, hts⟩ hK hZ hM hJ hS (metX7_lay l D cA z0 E ad h ((-1 : Int32) - x2) _ hw) (cwV 1 hts (lw_V q1985 q1987 qs60 q130 q1988) rfl rfl rfl (by decide +kernel) ⟨(show (1) + 1 ≤ fE + 11 by omega), (show 8 + (2 + 11) + (30) ≤ lE + 286 by omega)⟩) rfl hl.1 rfl (Nat.le_of_ble_eq_true rfl) dX7_readPart_60 ⟨Nat.zero_le _, Nat.zero_le _⟩ (fun h14 H locs hw hM hS => ?_)
    refine lv_aload_n hx hb dX7_readPart_63 rfl (lv_at hl 0 rfl) ?_
    refine M_get hx hb hts hown hK hM 24 (v := .int (h14 24 0)) (by decide) (hts _ q1707) rfl dX7_readPart_64 ?_
    refine lv_if_ne (tgt := 74) hx hb dX7_readPart_67 (by decide) (fun c15 => ?_) (fun c15 => ?_)
    · have hw := hw.2 c15
      exact M_vret hx hb hr hlocks hM hS hw dX7_readPart_74
    · have hw := hw.1 c15
      refine lv_aload_n hx hb dX7_readPart_70 rfl (lv_at hl 0 rfl) ?_
      refine M_callV (As := []) (rest := []) ⟨hx, hb, hml, hown, hts⟩ hK hZ hM hJ hS (metX7_stepOn l D cA z0 E ad h14  _ hw) (cwV 0 hts (lw_V q1908 q1910 qs45 q130 q1911) rfl rfl rfl (by decide +kernel) ⟨(show (2) + 1 ≤ fE + 11 by omega), (show 8 + (2 + 11) + (51) ≤ lE + 286 by omega)⟩) rfl hl.1 rfl (Nat.le_of_ble_eq_true rfl) dX7_readPart_71 ⟨Nat.zero_le _, Nat.zero_le _⟩ (fun h17 H locs hw hM hS => ?_)
      exact M_vret hx hb hr hlocks hM hS hw dX7_readPart_74
  unfold wpX7_readPart at hw
  refine lv_aload_n hx hb dX7_readPart_0 rfl (lv_at hl 0 rfl) ?_
  refine M_get hx hb hts hown hK hM 24 (v := .int (h 24 0)) (by decide) (hts _ q1707) rfl dX7_readPart_1 ?_
  refine lv_if_eq (tgt := 8) hx hb dX7_readPart_4 (by decide) (fun c1 => ?_) (fun c1 => ?_)
  · have hw := hw.1 c1
    refine lv_aload_n hx hb dX7_readPart_8 rfl (lv_at hl 0 rfl) ?_
    refine M_get hx hb hts hown hK hM 20 (v := .int (h 20 0)) (by decide) (hts _ q1703) rfl dX7_readPart_9 ?_
    refine lv_iconst (v := (2 : Int32)) hx hb dX7_readPart_12 (by decide) ?_
    refine lv_icmp_ne (tgt := 29) hx hb dX7_readPart_13 (by decide) (fun c2 => ?_) (fun c2 => ?_)
    · have hw := hw.2 c2
      refine lv_aload_n hx hb dX7_readPart_29 rfl (lv_at hl 0 rfl) ?_
      refine M_get hx hb hts hown hK hM 20 (v := .int (h 20 0)) (by decide) (hts _ q1703) rfl dX7_readPart_30 ?_
      refine lv_iconst (v := (1 : Int32)) hx hb dX7_readPart_33 (by decide) ?_
      refine lv_icmp_ne (tgt := 75) hx hb dX7_readPart_34 (by decide) (fun c3 => ?_) (fun c3 => ?_)
      · have hw := hw.2 c3
        refine lv_aload_n hx hb dX7_readPart_75 rfl (lv_at hl 0 rfl) ?_
        refine lv_bipush (v := (40 : Int32)) hx hb dX7_readPart_76 (by decide) ?_
        refine M_callV (As := [.int (40 : Int32)]) (rest := []) ⟨hx, hb, hml, hown, hts⟩ hK hZ hM hJ hS (metX7_mark l D cA z0 E ad h (40 : Int32) _ hw) (cwV 1 hts (lw_V q1989 q1991 qs61 q130 q1992) rfl rfl rfl (by decide +kernel) ⟨(show (3) + 1 ≤ fE + 11 by omega), (show 8 + (2 + 11) + (72) ≤ lE + 286 by omega)⟩) rfl hl.1 rfl (Nat.le_of_ble_eq_true rfl) dX7_readPart_78 ⟨Nat.zero_le _, Nat.zero_le _⟩ (fun h5 H locs hw hM hS => ?_)
        refine lv_aload_n hx hb dX7_readPart_81 rfl (lv_at hl 0 rfl) ?_
        refine lv_iload_n hx hb dX7_readPart_82 rfl (lv_at hl 1 rfl) ?_
        refine lv_iconst (v := (1 : Int32)) hx hb dX7_readPart_83 (by decide) ?_
        refine lv_iadd hx hb dX7_readPart_84 ?_
        refine M_callV (As := [.int (a1 + (1 : Int32))]) (rest := []) ⟨hx, hb, hml, hown, hts⟩ hK hZ hM hJ hS (hE _ h5 (a1 + (1 : Int32)) hw) (cwV 1 hts (lw_V q1956 q1958 qs53 q130 q1959) rfl rfl rfl (by decide +kernel) ⟨(show (fE + 0) + 1 ≤ fE + 11 by omega), (show 8 + (3 + 11) + (lE + 0) ≤ lE + 286 by omega)⟩) rfl hl.1 rfl (Nat.le_of_ble_eq_true rfl) dX7_readPart_85 ⟨Nat.zero_le _, Nat.zero_le _⟩ (fun h7 H locs hw hM hS => ?_)
        refine lv_aload_n hx hb dX7_readPart_88 rfl (lv_at hl 0 rfl) ?_
        refine lv_bipush (v := (41 : Int32)) hx hb dX7_readPart_89 (by decide) ?_
        refine M_callV (As := [.int (41 : Int32)]) (rest := []) ⟨hx, hb, hml, hown, hts⟩ hK hZ hM hJ hS (metX7_mark l D cA z0 E ad h7 (41 : Int32) _ hw) (cwV 1 hts (lw_V q1989 q1991 qs61 q130 q1992) rfl rfl rfl (by decide +kernel) ⟨(show (3) + 1 ≤ fE + 11 by omega), (show 8 + (2 + 11) + (72) ≤ lE + 286 by omega)⟩) rfl hl.1 rfl (Nat.le_of_ble_eq_true rfl) dX7_readPart_91 ⟨Nat.zero_le _, Nat.zero_le _⟩ (fun h9 H locs hw hM hS => ?_)
        exact M_vret hx hb hr hlocks hM hS hw dX7_readPart_94
      · have hw := hw.1 c3
        refine lv_aload_n hx hb dX7_readPart_37 rfl (lv_at hl 0 rfl) ?_
        refine lv_aload_n hx hb dX7_readPart_38 rfl (lv_at hl 0 rfl) ?_
        refine M_get hx hb hts hown hK hM 1 (v := .ref (ad 1)) (by decide) (hts _ q1684) rfl dX7_readPart_39 ?_
        refine M_callIp (As := [.ref (ad 1)]) (rest := []) ⟨hx, hb, hml, hown, hts⟩ hK hZ hM hJ hS (metX7_which l D cA z0 E ad h 1 _ (by first | exact (by decide) | rfl) hw) (cwV 1 hts (lw_V q1940 q1942 qs49 q130 q1943) rfl rfl rfl (by decide +kernel) ⟨(show (9) + 1 ≤ fE + 11 by omega), (show 8 + (3 + 11) + (264) ≤ lE + 286 by omega)⟩) rfl hl.1 rfl (Nat.le_of_ble_eq_true rfl) dX7_readPart_42 ⟨Nat.zero_le _, Nat.zero_le _⟩ (fun r10 H locs hw hM hS => ?_)
        refine lv_istore_n (lv' := [(2, .int r10), (0, .ref (ad 69)), (1, .int a1)]) hx hb dX7_readPart_45 rfl hl (by decide) rfl (fun ls hl => ?_)
        refine lv_iload_n hx hb dX7_readPart_46 rfl (lv_at hl 0 rfl) ?_
        refine lv_iconst (v := (-1 : Int32)) hx hb dX7_readPart_47 (by decide) ?_
        refine lv_icmp_ne (tgt := 56) hx hb dX7_readPart_48 (by decide) (fun c12 => ?_) (fun c12 => ?_)
        · have hw := hw.2 c12
          exact hB56 h r10 hw _ _ ls hM hS (lv_sub hl [1, 0] rfl)
        · have hw := hw.1 c12
          refine lv_aload_n hx hb dX7_readPart_51 rfl (lv_at hl 1 rfl) ?_
          refine lv_iconst (v := (3 : Int32)) hx hb dX7_readPart_52 (by decide) ?_
          refine M_callV (As := [.int (3 : Int32)]) (rest := []) ⟨hx, hb, hml, hown, hts⟩ hK hZ hM hJ hS (metX7_wrong l D cA z0 E ad h (3 : Int32) _ hw) (cwV 1 hts (lw_V q1944 q1946 qs50 q130 q1947) rfl rfl rfl (by decide +kernel) ⟨(show (1) + 1 ≤ fE + 11 by omega), (show 8 + (2 + 11) + (30) ≤ lE + 286 by omega)⟩) rfl hl.1 rfl (Nat.le_of_ble_eq_true rfl) dX7_readPart_53 ⟨Nat.zero_le _, Nat.zero_le _⟩ (fun h19 H locs hw hM hS => ?_)
          exact hB56 h19 r10 hw _ _ ls hM hS (lv_sub hl [1, 0] rfl)
    · have hw := hw.1 c2
      refine lv_aload_n hx hb dX7_readPart_16 rfl (lv_at hl 0 rfl) ?_
      refine lv_aload_n hx hb dX7_readPart_17 rfl (lv_at hl 0 rfl) ?_
      refine lv_iconst (v := (0 : Int32)) hx hb dX7_readPart_18 (by decide) ?_
      refine lv_sipush (v := (9999 : Int32)) hx hb dX7_readPart_19 (by decide) ?_
      refine M_callI (As := [.int (0 : Int32), .int (9999 : Int32)]) (rest := [.ref (ad 69)]) ⟨hx, hb, hml, hown, hts⟩ hK hZ hM hJ hS (metX7_readNumber l D cA z0 E ad h (0 : Int32) (9999 : Int32) _ hw) (cwV 2 hts (lw_V q1948 q1950 qs51 q130 q1951) rfl rfl rfl (by decide +kernel) ⟨(show (3) + 1 ≤ fE + 11 by omega), (show 8 + (4 + 11) + (73) ≤ lE + 286 by omega)⟩) rfl hl.1 rfl (Nat.le_of_ble_eq_true rfl) dX7_readPart_22 ⟨Nat.zero_le _, Nat.zero_le _⟩ (fun r20 h21 H locs hw hM hS => ?_)
      refine M_callV (As := [.int r20]) (rest := []) ⟨hx, hb, hml, hown, hts⟩ hK hZ hM hJ hS (metX7_lay l D cA z0 E ad h21 r20 _ hw) (cwV 1 hts (lw_V q1985 q1987 qs60 q130 q1988) rfl rfl rfl (by decide +kernel) ⟨(show (1) + 1 ≤ fE + 11 by omega), (show 8 + (2 + 11) + (30) ≤ lE + 286 by omega)⟩) rfl hl.1 rfl (Nat.le_of_ble_eq_true rfl) dX7_readPart_25 ⟨Nat.zero_le _, Nat.zero_le _⟩ (fun h23 H locs hw hM hS => ?_)
      exact M_vret hx hb hr hlocks hM hS hw dX7_readPart_28
  · have hw := hw.2 c1
    exact M_vret hx hb hr hlocks hM hS hw dX7_readPart_7

/-- readProduct(I)V -/
def wpBX7_readProduct_39 (wE : (Mem → Prop) → Mem → Int32 → Prop) (post : Mem → Prop) (a1 : Int32) (K5 : Mem → Prop) (h : Mem)  (s0 : Int32) : Prop :=
  (wpX7_stepOn (fun h10 => (wpX7_readPart wE (fun h12 => (wpX7_lay (fun h14 => K5 h14) h12 s0)) h10 a1)) h )
def wpBX7_readProduct_23 (wE : (Mem → Prop) → Mem → Int32 → Prop) (post : Mem → Prop) (a1 : Int32) (K5 : Mem → Prop) (h : Mem)   : Prop :=
  (wpX7_isMarked (fun r6 => wpBX7_readProduct_39 wE post a1 K5 h (if r6 = true then (-22 : Int32) else (-23 : Int32))) h (42 : Int32))
def wpBX7_readProduct_5 (wE : (Mem → Prop) → Mem → Int32 → Prop) (post : Mem → Prop) (a1 : Int32)  (K5 : Mem → Prop)  (h : Mem) : Prop :=
  (wpX7_isMarked (fun r3 => ((r3 = true → wpBX7_readProduct_23 wE post a1 K5 h ) ∧ (¬ r3 = true → (wpX7_isMarked (fun r18 => ((r18 = true → wpBX7_readProduct_23 wE post a1 K5 h ) ∧ (¬ r18 = true → post h))) h (47 : Int32))))) h (42 : Int32))
def wpLX7_readProduct_5 (wE : (Mem → Prop) → Mem → Int32 → Prop) (post : Mem → Prop) (a1 : Int32)   : Nat → (Mem) → Prop := LW (fun K s => wpBX7_readProduct_5 wE post a1  (fun h => K h)  s)
def wpX7_readProduct (wE : (Mem → Prop) → Mem → Int32 → Prop) (post : Mem → Prop) (h : Mem) (a1 : Int32) : Prop :=
  (wpX7_readPart wE (fun h2 => (∃ n, wpLX7_readProduct_5 wE post a1   n h2)) h a1)
set_option maxHeartbeats 4000000 in
set_option maxRecDepth 100000 in
theorem metX7_readProduct (l : Launch) (D : va_G) (cA : Nat → ClassId) (z0 : Nat) (E : Nat → Nat → Nat) (ad : Nat → Nat) (wE : (Mem → Prop) → Mem → Int32 → Prop) (fE lE : Nat) (hE : ∀ (post : Mem → Prop) (h : Mem) (a1 : Int32), wE post h a1 → MeV l D cA z0 E ad yX7_readExpression (ws_ yX7_readExpression cX7_readExpression 3 none) ({ frames := fE, cells := 0, slots := 0, locals := lE }) [.ref (ad 69), .int a1] h post) (h : Mem) (a1 : Int32) (post : Mem → Prop) (hw : wpX7_readProduct wE post h a1) : MeV l D cA z0 E ad yX7_readProduct (ws_ yX7_readProduct cX7_readProduct 3 none) ({ frames := fE + 13, cells := 0, slots := 0, locals := lE + 308 }) [.ref (ad 69), .int a1] h post := by
  refine Met.ofW (cc := cX7_readProduct) (maxL := 3) (ret := none) (by decide) rfl ?_
  intro p e s m args below meth c s₁ B hml hv
  obtain ⟨rfl, hM, hK, hJ, hZ⟩ := hv
  have hx := B.exec
  have hb := B.bytes
  have hr := B.returns
  have hts := atoms_spec (ws := ws_ yX7_readProduct cX7_readProduct 3 none) B.pre
  have hts : ∀ w ∈ lw_all, w.before _ s = true := fun w h => hts w (List.mem_cons_of_mem _ h)
  have hown : s.vm.findClass RX7 = some m.cls := findClass_of_methodNamed B.named
  have hlocks := B.notSynchronized
  have hS : va_S (MA ad) s.heap s.heap [] := va_S.rf
  have hl := lv_entry ([.ref (ad 69), .int a1]) (n := 3) (Nat.le_of_ble_eq_true rfl)
  rw [lg_entry_eq]
  generalize (lg_sl ([.ref (ad 69), .int a1]) ++ List.replicate (3 - (lg_sl ([.ref (ad 69), .int a1])).length) Slot.unset).toArray = ls at hl ⊢
  have hl : lv_has ls 3 [(0, .ref (ad 69)), (1, .int a1)] := hl
  have hL5 : ∀  (n5 : Nat) (h : Mem), wpLX7_readProduct_5 wE post a1   n5 h → JM p l e (headSpec (ws_ yX7_readProduct cX7_readProduct 3 none) ({ frames := fE + 13, cells := 0, slots := 0, locals := lE + 308 })).room s m ([.ref (ad 69), .int a1] : List Value).toArray below meth c (MQ below (MQv D cA E ad post) ([.ref (ad 69), .int a1] : List Value).toArray s 0 0 (MA ad)) D cA E ad 3 5 h [(0, .ref (ad 69)), (1, .int a1)] [] := by
    intro  n5
    induction n5 with
    | zero => intro h hw; exact False.elim hw
    | succ n5 ih5 =>
      have hB39 : ∀ (h : Mem)  (s0 : Int32), wpBX7_readProduct_39 wE post a1 (fun h => wpLX7_readProduct_5 wE post a1   n5 h) h s0 → JM p l e (headSpec (ws_ yX7_readProduct cX7_readProduct 3 none) ({ frames := fE + 13, cells := 0, slots := 0, locals := lE + 308 })).room s m ([.ref (ad 69), .int a1] : List Value).toArray below meth c (MQ below (MQv D cA E ad post) ([.ref (ad 69), .int a1] : List Value).toArray s 0 0 (MA ad)) D cA E ad 3 39 h [(0, .ref (ad 69)), (1, .int a1)] [.int s0] := by
        intro h s0 hw H locs ls hM hS hl
        unfold wpBX7_readProduct_39 at hw
        refine lv_istore_n (lv' := [(2, .int s0), (0, .ref (ad 69)), (1, .int a1)]) hx hb dX7_readProduct_39 rfl hl (by decide) rfl (fun ls hl => ?_)
        refine lv_aload_n hx hb dX7_readProduct_40 rfl (lv_at hl 1 rfl) ?_
        refine M_callV (As := []) (rest := []) ⟨hx, hb, hml, hown, hts⟩ hK hZ hM hJ hS (metX7_stepOn l D cA z0 E ad h  _ hw) (cwV 0 hts (lw_V q1908 q1910 qs45 q130 q1911) rfl rfl rfl (by decide +kernel) ⟨(show (2) + 1 ≤ fE + 13 by omega), (show 8 + (2 + 11) + (51) ≤ lE + 308 by omega)⟩) rfl hl.1 rfl (Nat.le_of_ble_eq_true rfl) dX7_readProduct_41 ⟨Nat.zero_le _, Nat.zero_le _⟩ (fun h10 H locs hw hM hS => ?_)
        refine lv_aload_n hx hb dX7_readProduct_44 rfl (lv_at hl 1 rfl) ?_
        refine lv_iload_n hx hb dX7_readProduct_45 rfl (lv_at hl 2 rfl) ?_
        refine M_callV (As := [.int a1]) (rest := []) ⟨hx, hb, hml, hown, hts⟩ hK hZ hM hJ hS (metX7_readPart l D cA z0 E ad wE fE lE hE h10 a1 _ hw) (cwV 1 hts (lw_V q1981 q1983 qs59 q130 q1984) rfl rfl rfl (by decide +kernel) ⟨(show (fE + 11) + 1 ≤ fE + 13 by omega), (show 8 + (3 + 11) + (lE + 286) ≤ lE + 308 by omega)⟩) rfl hl.1 rfl (Nat.le_of_ble_eq_true rfl) dX7_readProduct_46 ⟨Nat.zero_le _, Nat.zero_le _⟩ (fun h12 H locs hw hM hS => ?_)
        refine lv_aload_n hx hb dX7_readProduct_49 rfl (lv_at hl 1 rfl) ?_
        refine lv_iload_n hx hb dX7_readProduct_50 rfl (lv_at hl 0 rfl) ?_
        refine M_callV (As := [.int s0]) (rest := []) ⟨hx, hb, hml, hown, hts⟩ hK hZ hM hJ hS (metX7_lay l D cA z0 E ad h12 s0 _ hw) (cwV 1 hts (lw_V q1985 q1987 qs60 q130 q1988) rfl rfl rfl (by decide +kernel) ⟨(show (1) + 1 ≤ fE + 13 by omega), (show 8 + (2 + 11) + (30) ≤ lE + 308 by omega)⟩) rfl hl.1 rfl (Nat.le_of_ble_eq_true rfl) dX7_readProduct_51 ⟨Nat.zero_le _, Nat.zero_le _⟩ (fun h14 H locs hw hM hS => ?_)
        refine lv_goto (tgt := 5) hx hb dX7_readProduct_54 (by decide) ?_
        exact ih5 h14 hw _ _ ls hM hS (lv_sub hl [1, 2] rfl)
      have hB23 : ∀ (h : Mem), wpBX7_readProduct_23 wE post a1 (fun h => wpLX7_readProduct_5 wE post a1   n5 h) h  → JM p l e (headSpec (ws_ yX7_readProduct cX7_readProduct 3 none) ({ frames := fE + 13, cells := 0, slots := 0, locals := lE + 308 })).room s m ([.ref (ad 69), .int a1] : List Value).toArray below meth c (MQ below (MQv D cA E ad post) ([.ref (ad 69), .int a1] : List Value).toArray s 0 0 (MA ad)) D cA E ad 3 23 h [(0, .ref (ad 69)), (1, .int a1)] [] := by
        intro h hw H locs ls hM hS hl
        unfold wpBX7_readProduct_23 at hw
        refine lv_aload_n hx hb dX7_readProduct_23 rfl (lv_at hl 0 rfl) ?_
        refine lv_bipush (v := (42 : Int32)) hx hb dX7_readProduct_24 (by decide) ?_
        refine M_callZp (As := [.int (42 : Int32)]) (rest := []) ⟨hx, hb, hml, hown, hts⟩ hK hZ hM hJ hS (metX7_isMarked l D cA z0 E ad h (42 : Int32) _ hw) (cwV 1 hts (lw_V q1960 q1962 qs54 q130 q1963) rfl rfl rfl (by decide +kernel) ⟨(show (1) + 1 ≤ fE + 13 by omega), (show 8 + (2 + 11) + (30) ≤ lE + 308 by omega)⟩) rfl hl.1 rfl (Nat.le_of_ble_eq_true rfl) dX7_readProduct_26 ⟨Nat.zero_le _, Nat.zero_le _⟩ (fun r6 H locs hw hM hS => ?_)
        have hj8 : JM p l e (headSpec (ws_ yX7_readProduct cX7_readProduct 3 none) ({ frames := fE + 13, cells := 0, slots := 0, locals := lE + 308 })).room s m ([.ref (ad 69), .int a1] : List Value).toArray below meth c (MQ below (MQv D cA E ad post) ([.ref (ad 69), .int a1] : List Value).toArray s 0 0 (MA ad)) D cA E ad 3 39 h [(0, .ref (ad 69)), (1, .int a1)] [.int (if r6 = true then (-22 : Int32) else (-23 : Int32))] := by
          intro H locs ls hM hS hl
          exact hB39 h (if r6 = true then (-22 : Int32) else (-23 : Int32)) hw _ _ ls hM hS (lv_sub hl [0, 1] rfl)
        refine lv_if_eq (tgt := 37) hx hb dX7_readProduct_29 (by decide) (fun c15 => ?_) (fun c15 => ?_)
        · have c15 := b2i_f c15
          refine lv_bipush (v := (-23 : Int32)) hx hb dX7_readProduct_37 (by decide) ?_
          have e16 : (if r6 = true then (-22 : Int32) else (-23 : Int32)) = (-23 : Int32) := by rw [if_neg c15]
          rw [e16] at hj8
          exact hj8 _ _ ls hM hS (lv_sub hl [0, 1] rfl)
        · have c15 := b2i_t c15
          refine lv_bipush (v := (-22 : Int32)) hx hb dX7_readProduct_32 (by decide) ?_
          refine lv_goto (tgt := 39) hx hb dX7_readProduct_34 (by decide) ?_
          have e17 : (if r6 = true then (-22 : Int32) else (-23 : Int32)) = (-22 : Int32) := by rw [if_pos c15]
          rw [e17] at hj8
          exact hj8 _ _ ls hM hS (lv_sub hl [0, 1] rfl)
      intro h hw H locs ls hM hS hl
      have hw : wpBX7_readProduct_5 wE post a1  (fun h => wpLX7_readProduct_5 wE post a1   n5 h)  h := hw
      unfold wpBX7_readProduct_5 at hw
      refine lv_aload_n hx hb dX7_readProduct_5 rfl (lv_at hl 0 rfl) ?_
      refine lv_bipush (v := (42 : Int32)) hx hb dX7_readProduct_6 (by decide) ?_
      refine M_callZp (As := [.int (42 : Int32)]) (rest := []) ⟨hx, hb, hml, hown, hts⟩ hK hZ hM hJ hS (metX7_isMarked l D cA z0 E ad h (42 : Int32) _ hw) (cwV 1 hts (lw_V q1960 q1962 qs54 q130 q1963) rfl rfl rfl (by decide +kernel) ⟨(show (1) + 1 ≤ fE + 13 by omega), (show 8 + (2 + 11) + (30) ≤ lE + 308 by omega)⟩) rfl hl.1 rfl (Nat.le_of_ble_eq_true rfl) dX7_readProduct_8 ⟨Nat.zero_le _, Nat.zero_le _⟩ (fun r3 H locs hw hM hS => ?_)
      refine lv_if_ne (tgt := 23) hx hb dX7_readProduct_11 (by decide) (fun c5 => ?_) (fun c5 => ?_)
      · have c5 := b2i_t c5
        have hw := hw.1 c5
        exact hB23 h hw _ _ ls hM hS (lv_sub hl [0, 1] rfl)
      · have c5 := b2i_f c5
        have hw := hw.2 c5
        refine lv_aload_n hx hb dX7_readProduct_14 rfl (lv_at hl 0 rfl) ?_
        refine lv_bipush (v := (47 : Int32)) hx hb dX7_readProduct_15 (by decide) ?_
        refine M_callZp (As := [.int (47 : Int32)]) (rest := []) ⟨hx, hb, hml, hown, hts⟩ hK hZ hM hJ hS (metX7_isMarked l D cA z0 E ad h (47 : Int32) _ hw) (cwV 1 hts (lw_V q1960 q1962 qs54 q130 q1963) rfl rfl rfl (by decide +kernel) ⟨(show (1) + 1 ≤ fE + 13 by omega), (show 8 + (2 + 11) + (30) ≤ lE + 308 by omega)⟩) rfl hl.1 rfl (Nat.le_of_ble_eq_true rfl) dX7_readProduct_17 ⟨Nat.zero_le _, Nat.zero_le _⟩ (fun r18 H locs hw hM hS => ?_)
        refine lv_if_eq (tgt := 57) hx hb dX7_readProduct_20 (by decide) (fun c20 => ?_) (fun c20 => ?_)
        · have c20 := b2i_f c20
          have hw := hw.2 c20
          exact M_vret hx hb hr hlocks hM hS hw dX7_readProduct_57
        · have c20 := b2i_t c20
          have hw := hw.1 c20
          exact hB23 h hw _ _ ls hM hS (lv_sub hl [0, 1] rfl)
  unfold wpX7_readProduct at hw
  refine lv_aload_n hx hb dX7_readProduct_0 rfl (lv_at hl 0 rfl) ?_
  refine lv_iload_n hx hb dX7_readProduct_1 rfl (lv_at hl 1 rfl) ?_
  refine M_callV (As := [.int a1]) (rest := []) ⟨hx, hb, hml, hown, hts⟩ hK hZ hM hJ hS (metX7_readPart l D cA z0 E ad wE fE lE hE h a1 _ hw) (cwV 1 hts (lw_V q1981 q1983 qs59 q130 q1984) rfl rfl rfl (by decide +kernel) ⟨(show (fE + 11) + 1 ≤ fE + 13 by omega), (show 8 + (3 + 11) + (lE + 286) ≤ lE + 308 by omega)⟩) rfl hl.1 rfl (Nat.le_of_ble_eq_true rfl) dX7_readProduct_2 ⟨Nat.zero_le _, Nat.zero_le _⟩ (fun h2 H locs hw hM hS => ?_)
  obtain ⟨n21, hw⟩ := hw
  exact hL5 n21 h2 hw _ _ ls hM hS (lv_sub hl [0, 1] rfl)

/-- readSum(I)V -/
def wpBX7_readSum_39 (wE : (Mem → Prop) → Mem → Int32 → Prop) (post : Mem → Prop) (a1 : Int32) (K5 : Mem → Prop) (h : Mem)  (s0 : Int32) : Prop :=
  (wpX7_stepOn (fun h10 => (wpX7_readProduct wE (fun h12 => (wpX7_lay (fun h14 => K5 h14) h12 s0)) h10 a1)) h )
def wpBX7_readSum_23 (wE : (Mem → Prop) → Mem → Int32 → Prop) (post : Mem → Prop) (a1 : Int32) (K5 : Mem → Prop) (h : Mem)   : Prop :=
  (wpX7_isMarked (fun r6 => wpBX7_readSum_39 wE post a1 K5 h (if r6 = true then (-20 : Int32) else (-21 : Int32))) h (43 : Int32))
def wpBX7_readSum_5 (wE : (Mem → Prop) → Mem → Int32 → Prop) (post : Mem → Prop) (a1 : Int32)  (K5 : Mem → Prop)  (h : Mem) : Prop :=
  (wpX7_isMarked (fun r3 => ((r3 = true → wpBX7_readSum_23 wE post a1 K5 h ) ∧ (¬ r3 = true → (wpX7_isMarked (fun r18 => ((r18 = true → wpBX7_readSum_23 wE post a1 K5 h ) ∧ (¬ r18 = true → post h))) h (45 : Int32))))) h (43 : Int32))
def wpLX7_readSum_5 (wE : (Mem → Prop) → Mem → Int32 → Prop) (post : Mem → Prop) (a1 : Int32)   : Nat → (Mem) → Prop := LW (fun K s => wpBX7_readSum_5 wE post a1  (fun h => K h)  s)
def wpX7_readSum (wE : (Mem → Prop) → Mem → Int32 → Prop) (post : Mem → Prop) (h : Mem) (a1 : Int32) : Prop :=
  (wpX7_readProduct wE (fun h2 => (∃ n, wpLX7_readSum_5 wE post a1   n h2)) h a1)
set_option maxHeartbeats 4000000 in
set_option maxRecDepth 100000 in
theorem metX7_readSum (l : Launch) (D : va_G) (cA : Nat → ClassId) (z0 : Nat) (E : Nat → Nat → Nat) (ad : Nat → Nat) (wE : (Mem → Prop) → Mem → Int32 → Prop) (fE lE : Nat) (hE : ∀ (post : Mem → Prop) (h : Mem) (a1 : Int32), wE post h a1 → MeV l D cA z0 E ad yX7_readExpression (ws_ yX7_readExpression cX7_readExpression 3 none) ({ frames := fE, cells := 0, slots := 0, locals := lE }) [.ref (ad 69), .int a1] h post) (h : Mem) (a1 : Int32) (post : Mem → Prop) (hw : wpX7_readSum wE post h a1) : MeV l D cA z0 E ad yX7_readSum (ws_ yX7_readSum cX7_readSum 3 none) ({ frames := fE + 15, cells := 0, slots := 0, locals := lE + 330 }) [.ref (ad 69), .int a1] h post := by
  refine Met.ofW (cc := cX7_readSum) (maxL := 3) (ret := none) (by decide) rfl ?_
  intro p e s m args below meth c s₁ B hml hv
  obtain ⟨rfl, hM, hK, hJ, hZ⟩ := hv
  have hx := B.exec
  have hb := B.bytes
  have hr := B.returns
  have hts := atoms_spec (ws := ws_ yX7_readSum cX7_readSum 3 none) B.pre
  have hts : ∀ w ∈ lw_all, w.before _ s = true := fun w h => hts w (List.mem_cons_of_mem _ h)
  have hown : s.vm.findClass RX7 = some m.cls := findClass_of_methodNamed B.named
  have hlocks := B.notSynchronized
  have hS : va_S (MA ad) s.heap s.heap [] := va_S.rf
  have hl := lv_entry ([.ref (ad 69), .int a1]) (n := 3) (Nat.le_of_ble_eq_true rfl)
  rw [lg_entry_eq]
  generalize (lg_sl ([.ref (ad 69), .int a1]) ++ List.replicate (3 - (lg_sl ([.ref (ad 69), .int a1])).length) Slot.unset).toArray = ls at hl ⊢
  have hl : lv_has ls 3 [(0, .ref (ad 69)), (1, .int a1)] := hl
  have hL5 : ∀  (n5 : Nat) (h : Mem), wpLX7_readSum_5 wE post a1   n5 h → JM p l e (headSpec (ws_ yX7_readSum cX7_readSum 3 none) ({ frames := fE + 15, cells := 0, slots := 0, locals := lE + 330 })).room s m ([.ref (ad 69), .int a1] : List Value).toArray below meth c (MQ below (MQv D cA E ad post) ([.ref (ad 69), .int a1] : List Value).toArray s 0 0 (MA ad)) D cA E ad 3 5 h [(0, .ref (ad 69)), (1, .int a1)] [] := by
    intro  n5
    induction n5 with
    | zero => intro h hw; exact False.elim hw
    | succ n5 ih5 =>
      have hB39 : ∀ (h : Mem)  (s0 : Int32), wpBX7_readSum_39 wE post a1 (fun h => wpLX7_readSum_5 wE post a1   n5 h) h s0 → JM p l e (headSpec (ws_ yX7_readSum cX7_readSum 3 none) ({ frames := fE + 15, cells := 0, slots := 0, locals := lE + 330 })).room s m ([.ref (ad 69), .int a1] : List Value).toArray below meth c (MQ below (MQv D cA E ad post) ([.ref (ad 69), .int a1] : List Value).toArray s 0 0 (MA ad)) D cA E ad 3 39 h [(0, .ref (ad 69)), (1, .int a1)] [.int s0] := by
        intro h s0 hw H locs ls hM hS hl
        unfold wpBX7_readSum_39 at hw
        refine lv_istore_n (lv' := [(2, .int s0), (0, .ref (ad 69)), (1, .int a1)]) hx hb dX7_readSum_39 rfl hl (by decide) rfl (fun ls hl => ?_)
        refine lv_aload_n hx hb dX7_readSum_40 rfl (lv_at hl 1 rfl) ?_
        refine M_callV (As := []) (rest := []) ⟨hx, hb, hml, hown, hts⟩ hK hZ hM hJ hS (metX7_stepOn l D cA z0 E ad h  _ hw) (cwV 0 hts (lw_V q1908 q1910 qs45 q130 q1911) rfl rfl rfl (by decide +kernel) ⟨(show (2) + 1 ≤ fE + 15 by omega), (show 8 + (2 + 11) + (51) ≤ lE + 330 by omega)⟩) rfl hl.1 rfl (Nat.le_of_ble_eq_true rfl) dX7_readSum_41 ⟨Nat.zero_le _, Nat.zero_le _⟩ (fun h10 H locs hw hM hS => ?_)
        refine lv_aload_n hx hb dX7_readSum_44 rfl (lv_at hl 1 rfl) ?_
        refine lv_iload_n hx hb dX7_readSum_45 rfl (lv_at hl 2 rfl) ?_
        refine M_callV (As := [.int a1]) (rest := []) ⟨hx, hb, hml, hown, hts⟩ hK hZ hM hJ hS (metX7_readProduct l D cA z0 E ad wE fE lE hE h10 a1 _ hw) (cwV 1 hts (lw_V q1977 q1979 qs58 q130 q1980) rfl rfl rfl (by decide +kernel) ⟨(show (fE + 13) + 1 ≤ fE + 15 by omega), (show 8 + (3 + 11) + (lE + 308) ≤ lE + 330 by omega)⟩) rfl hl.1 rfl (Nat.le_of_ble_eq_true rfl) dX7_readSum_46 ⟨Nat.zero_le _, Nat.zero_le _⟩ (fun h12 H locs hw hM hS => ?_)
        refine lv_aload_n hx hb dX7_readSum_49 rfl (lv_at hl 1 rfl) ?_
        refine lv_iload_n hx hb dX7_readSum_50 rfl (lv_at hl 0 rfl) ?_
        refine M_callV (As := [.int s0]) (rest := []) ⟨hx, hb, hml, hown, hts⟩ hK hZ hM hJ hS (metX7_lay l D cA z0 E ad h12 s0 _ hw) (cwV 1 hts (lw_V q1985 q1987 qs60 q130 q1988) rfl rfl rfl (by decide +kernel) ⟨(show (1) + 1 ≤ fE + 15 by omega), (show 8 + (2 + 11) + (30) ≤ lE + 330 by omega)⟩) rfl hl.1 rfl (Nat.le_of_ble_eq_true rfl) dX7_readSum_51 ⟨Nat.zero_le _, Nat.zero_le _⟩ (fun h14 H locs hw hM hS => ?_)
        refine lv_goto (tgt := 5) hx hb dX7_readSum_54 (by decide) ?_
        exact ih5 h14 hw _ _ ls hM hS (lv_sub hl [1, 2] rfl)
      have hB23 : ∀ (h : Mem), wpBX7_readSum_23 wE post a1 (fun h => wpLX7_readSum_5 wE post a1   n5 h) h  → JM p l e (headSpec (ws_ yX7_readSum cX7_readSum 3 none) ({ frames := fE + 15, cells := 0, slots := 0, locals := lE + 330 })).room s m ([.ref (ad 69), .int a1] : List Value).toArray below meth c (MQ below (MQv D cA E ad post) ([.ref (ad 69), .int a1] : List Value).toArray s 0 0 (MA ad)) D cA E ad 3 23 h [(0, .ref (ad 69)), (1, .int a1)] [] := by
        intro h hw H locs ls hM hS hl
        unfold wpBX7_readSum_23 at hw
        refine lv_aload_n hx hb dX7_readSum_23 rfl (lv_at hl 0 rfl) ?_
        refine lv_bipush (v := (43 : Int32)) hx hb dX7_readSum_24 (by decide) ?_
        refine M_callZp (As := [.int (43 : Int32)]) (rest := []) ⟨hx, hb, hml, hown, hts⟩ hK hZ hM hJ hS (metX7_isMarked l D cA z0 E ad h (43 : Int32) _ hw) (cwV 1 hts (lw_V q1960 q1962 qs54 q130 q1963) rfl rfl rfl (by decide +kernel) ⟨(show (1) + 1 ≤ fE + 15 by omega), (show 8 + (2 + 11) + (30) ≤ lE + 330 by omega)⟩) rfl hl.1 rfl (Nat.le_of_ble_eq_true rfl) dX7_readSum_26 ⟨Nat.zero_le _, Nat.zero_le _⟩ (fun r6 H locs hw hM hS => ?_)
        have hj8 : JM p l e (headSpec (ws_ yX7_readSum cX7_readSum 3 none) ({ frames := fE + 15, cells := 0, slots := 0, locals := lE + 330 })).room s m ([.ref (ad 69), .int a1] : List Value).toArray below meth c (MQ below (MQv D cA E ad post) ([.ref (ad 69), .int a1] : List Value).toArray s 0 0 (MA ad)) D cA E ad 3 39 h [(0, .ref (ad 69)), (1, .int a1)] [.int (if r6 = true then (-20 : Int32) else (-21 : Int32))] := by
          intro H locs ls hM hS hl
          exact hB39 h (if r6 = true then (-20 : Int32) else (-21 : Int32)) hw _ _ ls hM hS (lv_sub hl [0, 1] rfl)
        refine lv_if_eq (tgt := 37) hx hb dX7_readSum_29 (by decide) (fun c15 => ?_) (fun c15 => ?_)
        · have c15 := b2i_f c15
          refine lv_bipush (v := (-21 : Int32)) hx hb dX7_readSum_37 (by decide) ?_
          have e16 : (if r6 = true then (-20 : Int32) else (-21 : Int32)) = (-21 : Int32) := by rw [if_neg c15]
          rw [e16] at hj8
          exact hj8 _ _ ls hM hS (lv_sub hl [0, 1] rfl)
        · have c15 := b2i_t c15
          refine lv_bipush (v := (-20 : Int32)) hx hb dX7_readSum_32 (by decide) ?_
          refine lv_goto (tgt := 39) hx hb dX7_readSum_34 (by decide) ?_
          have e17 : (if r6 = true then (-20 : Int32) else (-21 : Int32)) = (-20 : Int32) := by rw [if_pos c15]
          rw [e17] at hj8
          exact hj8 _ _ ls hM hS (lv_sub hl [0, 1] rfl)
      intro h hw H locs ls hM hS hl
      have hw : wpBX7_readSum_5 wE post a1  (fun h => wpLX7_readSum_5 wE post a1   n5 h)  h := hw
      unfold wpBX7_readSum_5 at hw
      refine lv_aload_n hx hb dX7_readSum_5 rfl (lv_at hl 0 rfl) ?_
      refine lv_bipush (v := (43 : Int32)) hx hb dX7_readSum_6 (by decide) ?_
      refine M_callZp (As := [.int (43 : Int32)]) (rest := []) ⟨hx, hb, hml, hown, hts⟩ hK hZ hM hJ hS (metX7_isMarked l D cA z0 E ad h (43 : Int32) _ hw) (cwV 1 hts (lw_V q1960 q1962 qs54 q130 q1963) rfl rfl rfl (by decide +kernel) ⟨(show (1) + 1 ≤ fE + 15 by omega), (show 8 + (2 + 11) + (30) ≤ lE + 330 by omega)⟩) rfl hl.1 rfl (Nat.le_of_ble_eq_true rfl) dX7_readSum_8 ⟨Nat.zero_le _, Nat.zero_le _⟩ (fun r3 H locs hw hM hS => ?_)
      refine lv_if_ne (tgt := 23) hx hb dX7_readSum_11 (by decide) (fun c5 => ?_) (fun c5 => ?_)
      · have c5 := b2i_t c5
        have hw := hw.1 c5
        exact hB23 h hw _ _ ls hM hS (lv_sub hl [0, 1] rfl)
      · have c5 := b2i_f c5
        have hw := hw.2 c5
        refine lv_aload_n hx hb dX7_readSum_14 rfl (lv_at hl 0 rfl) ?_
        refine lv_bipush (v := (45 : Int32)) hx hb dX7_readSum_15 (by decide) ?_
        refine M_callZp (As := [.int (45 : Int32)]) (rest := []) ⟨hx, hb, hml, hown, hts⟩ hK hZ hM hJ hS (metX7_isMarked l D cA z0 E ad h (45 : Int32) _ hw) (cwV 1 hts (lw_V q1960 q1962 qs54 q130 q1963) rfl rfl rfl (by decide +kernel) ⟨(show (1) + 1 ≤ fE + 15 by omega), (show 8 + (2 + 11) + (30) ≤ lE + 330 by omega)⟩) rfl hl.1 rfl (Nat.le_of_ble_eq_true rfl) dX7_readSum_17 ⟨Nat.zero_le _, Nat.zero_le _⟩ (fun r18 H locs hw hM hS => ?_)
        refine lv_if_eq (tgt := 57) hx hb dX7_readSum_20 (by decide) (fun c20 => ?_) (fun c20 => ?_)
        · have c20 := b2i_f c20
          have hw := hw.2 c20
          exact M_vret hx hb hr hlocks hM hS hw dX7_readSum_57
        · have c20 := b2i_t c20
          have hw := hw.1 c20
          exact hB23 h hw _ _ ls hM hS (lv_sub hl [0, 1] rfl)
  unfold wpX7_readSum at hw
  refine lv_aload_n hx hb dX7_readSum_0 rfl (lv_at hl 0 rfl) ?_
  refine lv_iload_n hx hb dX7_readSum_1 rfl (lv_at hl 1 rfl) ?_
  refine M_callV (As := [.int a1]) (rest := []) ⟨hx, hb, hml, hown, hts⟩ hK hZ hM hJ hS (metX7_readProduct l D cA z0 E ad wE fE lE hE h a1 _ hw) (cwV 1 hts (lw_V q1977 q1979 qs58 q130 q1980) rfl rfl rfl (by decide +kernel) ⟨(show (fE + 13) + 1 ≤ fE + 15 by omega), (show 8 + (3 + 11) + (lE + 308) ≤ lE + 330 by omega)⟩) rfl hl.1 rfl (Nat.le_of_ble_eq_true rfl) dX7_readSum_2 ⟨Nat.zero_le _, Nat.zero_le _⟩ (fun h2 H locs hw hM hS => ?_)
  obtain ⟨n21, hw⟩ := hw
  exact hL5 n21 h2 hw _ _ ls hM hS (lv_sub hl [0, 1] rfl)

/-- readNot(I)V -/
def wpBX7_readNot_96 (wE : (Mem → Prop) → Mem → Int32 → Prop) (post : Mem → Prop) (a1 : Int32)  (K96 : Mem → Int32 → Prop) (x2 : Int32) (h : Mem) (x3 : Int32) : Prop :=
  ((x2 ≤ x3 → post h) ∧ (¬ x2 ≤ x3 → (wpX7_lay (fun h20 => K96 h20 (x3 + (1 : Int32))) h (-28 : Int32))))
def wpLX7_readNot_96 (wE : (Mem → Prop) → Mem → Int32 → Prop) (post : Mem → Prop) (a1 : Int32)  (x2 : Int32) : Nat → (Mem × Int32) → Prop := LW (fun K s => wpBX7_readNot_96 wE post a1  (fun h x3 => K (h, x3)) x2 s.1 s.2)
def wpBX7_readNot_79 (wE : (Mem → Prop) → Mem → Int32 → Prop) (post : Mem → Prop) (a1 : Int32)  (h : Mem) (x2 : Int32) (s0 : Int32) : Prop :=
  (wpX7_stepOn (fun h13 => (wpX7_readSum wE (fun h15 => (wpX7_lay (fun h17 => (∃ n, wpLX7_readNot_96 wE post a1  x2 n (h17, (0 : Int32)))) h15 s0)) h13 a1)) h )
def wpBX7_readNot_63 (wE : (Mem → Prop) → Mem → Int32 → Prop) (post : Mem → Prop) (a1 : Int32)  (h : Mem) (x2 : Int32)  : Prop :=
  (wpX7_isMarked (fun r9 => wpBX7_readNot_79 wE post a1  h x2 (if r9 = true then (-24 : Int32) else (-25 : Int32))) h (60 : Int32))
def wpBX7_readNot_23 (wE : (Mem → Prop) → Mem → Int32 → Prop) (post : Mem → Prop) (a1 : Int32) (K2 : Mem → Int32 → Prop) (h : Mem) (x2 : Int32)  : Prop :=
  (((h 24 0) = 0 → (wpX7_stepOn (fun h32 => K2 h32 (x2 + (1 : Int32))) h )) ∧ (¬ (h 24 0) = 0 → K2 h (x2 + (1 : Int32))))
def wpBX7_readNot_2 (wE : (Mem → Prop) → Mem → Int32 → Prop) (post : Mem → Prop) (a1 : Int32)  (K2 : Mem → Int32 → Prop)  (h : Mem) (x2 : Int32) : Prop :=
  (wpX7_is (fun r1 => ((r1 = true → ((x2 = (6 : Int32) → (wpX7_wrong (fun h34 => wpBX7_readNot_23 wE post a1 K2 h34 x2) h (2 : Int32))) ∧ (¬ x2 = (6 : Int32) → wpBX7_readNot_23 wE post a1 K2 h x2))) ∧ (¬ r1 = true → (wpX7_readSum wE (fun h5 => (wpX7_isMarked (fun r6 => ((r6 = true → wpBX7_readNot_63 wE post a1  h5 x2) ∧ (¬ r6 = true → (wpX7_isMarked (fun r25 => ((r25 = true → wpBX7_readNot_63 wE post a1  h5 x2) ∧ (¬ r25 = true → (∃ n, wpLX7_readNot_96 wE post a1  x2 n (h5, (0 : Int32)))))) h5 (61 : Int32))))) h5 (60 : Int32))) h a1)))) h 14)
def wpLX7_readNot_2 (wE : (Mem → Prop) → Mem → Int32 → Prop) (post : Mem → Prop) (a1 : Int32)   : Nat → (Mem × Int32) → Prop := LW (fun K s => wpBX7_readNot_2 wE post a1  (fun h x2 => K (h, x2))  s.1 s.2)
def wpX7_readNot (wE : (Mem → Prop) → Mem → Int32 → Prop) (post : Mem → Prop) (h : Mem) (a1 : Int32) : Prop :=
  (∃ n, wpLX7_readNot_2 wE post a1   n (h, (0 : Int32)))
set_option maxHeartbeats 4000000 in
set_option maxRecDepth 100000 in
theorem metX7_readNot (l : Launch) (D : va_G) (cA : Nat → ClassId) (z0 : Nat) (E : Nat → Nat → Nat) (ad : Nat → Nat) (wE : (Mem → Prop) → Mem → Int32 → Prop) (fE lE : Nat) (hE : ∀ (post : Mem → Prop) (h : Mem) (a1 : Int32), wE post h a1 → MeV l D cA z0 E ad yX7_readExpression (ws_ yX7_readExpression cX7_readExpression 3 none) ({ frames := fE, cells := 0, slots := 0, locals := lE }) [.ref (ad 69), .int a1] h post) (h : Mem) (a1 : Int32) (post : Mem → Prop) (hw : wpX7_readNot wE post h a1) : MeV l D cA z0 E ad yX7_readNot (ws_ yX7_readNot cX7_readNot 4 none) ({ frames := fE + 17, cells := 0, slots := 0, locals := lE + 352 }) [.ref (ad 69), .int a1] h post := by
  refine Met.ofW (cc := cX7_readNot) (maxL := 4) (ret := none) (by decide) rfl ?_
  intro p e s m args below meth c s₁ B hml hv
  obtain ⟨rfl, hM, hK, hJ, hZ⟩ := hv
  have hx := B.exec
  have hb := B.bytes
  have hr := B.returns
  have hts := atoms_spec (ws := ws_ yX7_readNot cX7_readNot 4 none) B.pre
  have hts : ∀ w ∈ lw_all, w.before _ s = true := fun w h => hts w (List.mem_cons_of_mem _ h)
  have hown : s.vm.findClass RX7 = some m.cls := findClass_of_methodNamed B.named
  have hlocks := B.notSynchronized
  have hS : va_S (MA ad) s.heap s.heap [] := va_S.rf
  have hl := lv_entry ([.ref (ad 69), .int a1]) (n := 4) (Nat.le_of_ble_eq_true rfl)
  rw [lg_entry_eq]
  generalize (lg_sl ([.ref (ad 69), .int a1]) ++ List.replicate (4 - (lg_sl ([.ref (ad 69), .int a1])).length) Slot.unset).toArray = ls at hl ⊢
  have hl : lv_has ls 4 [(0, .ref (ad 69)), (1, .int a1)] := hl
  have hL96 : ∀ (x2 : Int32) (n96 : Nat) (h : Mem) (x3 : Int32), wpLX7_readNot_96 wE post a1  x2 n96 (h, x3) → JM p l e (headSpec (ws_ yX7_readNot cX7_readNot 4 none) ({ frames := fE + 17, cells := 0, slots := 0, locals := lE + 352 })).room s m ([.ref (ad 69), .int a1] : List Value).toArray below meth c (MQ below (MQv D cA E ad post) ([.ref (ad 69), .int a1] : List Value).toArray s 0 0 (MA ad)) D cA E ad 4 96 h [(0, .ref (ad 69)), (2, .int x2), (3, .int x3)] [] := by
    intro x2 n96
    induction n96 with
    | zero => intro h x3 hw; exact False.elim hw
    | succ n96 ih96 =>
      intro h x3 hw H locs ls hM hS hl
      have hw : wpBX7_readNot_96 wE post a1  (fun h x3 => wpLX7_readNot_96 wE post a1  x2 n96 (h, x3)) x2 h x3 := hw
      unfold wpBX7_readNot_96 at hw
      refine lv_iload_n hx hb dX7_readNot_96 rfl (lv_at hl 2 rfl) ?_
      refine lv_iload_n hx hb dX7_readNot_97 rfl (lv_at hl 1 rfl) ?_
      refine lv_icmp_ge (tgt := 113) hx hb dX7_readNot_98 (by decide) (fun c18 => ?_) (fun c18 => ?_)
      · have hw := hw.1 c18
        exact M_vret hx hb hr hlocks hM hS hw dX7_readNot_113
      · have hw := hw.2 c18
        refine lv_aload_n hx hb dX7_readNot_101 rfl (lv_at hl 0 rfl) ?_
        refine lv_bipush (v := (-28 : Int32)) hx hb dX7_readNot_102 (by decide) ?_
        refine M_callV (As := [.int (-28 : Int32)]) (rest := []) ⟨hx, hb, hml, hown, hts⟩ hK hZ hM hJ hS (metX7_lay l D cA z0 E ad h (-28 : Int32) _ hw) (cwV 1 hts (lw_V q1985 q1987 qs60 q130 q1988) rfl rfl rfl (by decide +kernel) ⟨(show (1) + 1 ≤ fE + 17 by omega), (show 8 + (2 + 11) + (30) ≤ lE + 352 by omega)⟩) rfl hl.1 rfl (Nat.le_of_ble_eq_true rfl) dX7_readNot_104 ⟨Nat.zero_le _, Nat.zero_le _⟩ (fun h20 H locs hw hM hS => ?_)
        refine lv_iinc (v := (x3 + (1 : Int32))) (lv' := [(3, .int (x3 + (1 : Int32))), (0, .ref (ad 69)), (2, .int x2)]) hx hb dX7_readNot_107 hl (k := 2) rfl rfl (by decide) rfl (fun ls hl => ?_)
        refine lv_goto (tgt := 96) hx hb dX7_readNot_110 (by decide) ?_
        exact ih96 h20 (x3 + (1 : Int32)) hw _ _ ls hM hS (lv_sub hl [1, 2, 0] rfl)
  have hB79 : ∀ (h : Mem) (x2 : Int32) (s0 : Int32), wpBX7_readNot_79 wE post a1  h x2 s0 → JM p l e (headSpec (ws_ yX7_readNot cX7_readNot 4 none) ({ frames := fE + 17, cells := 0, slots := 0, locals := lE + 352 })).room s m ([.ref (ad 69), .int a1] : List Value).toArray below meth c (MQ below (MQv D cA E ad post) ([.ref (ad 69), .int a1] : List Value).toArray s 0 0 (MA ad)) D cA E ad 4 79 h [(0, .ref (ad 69)), (1, .int a1), (2, .int x2)] [.int s0] := by
    intro h x2 s0 hw H locs ls hM hS hl
    unfold wpBX7_readNot_79 at hw
    refine lv_istore_n (lv' := [(3, .int s0), (0, .ref (ad 69)), (1, .int a1), (2, .int x2)]) hx hb dX7_readNot_79 rfl hl (by decide) rfl (fun ls hl => ?_)
    refine lv_aload_n hx hb dX7_readNot_80 rfl (lv_at hl 1 rfl) ?_
    refine M_callV (As := []) (rest := []) ⟨hx, hb, hml, hown, hts⟩ hK hZ hM hJ hS (metX7_stepOn l D cA z0 E ad h  _ hw) (cwV 0 hts (lw_V q1908 q1910 qs45 q130 q1911) rfl rfl rfl (by decide +kernel) ⟨(show (2) + 1 ≤ fE + 17 by omega), (show 8 + (2 + 11) + (51) ≤ lE + 352 by omega)⟩) rfl hl.1 rfl (Nat.le_of_ble_eq_true rfl) dX7_readNot_81 ⟨Nat.zero_le _, Nat.zero_le _⟩ (fun h13 H locs hw hM hS => ?_)
    refine lv_aload_n hx hb dX7_readNot_84 rfl (lv_at hl 1 rfl) ?_
    refine lv_iload_n hx hb dX7_readNot_85 rfl (lv_at hl 2 rfl) ?_
    refine M_callV (As := [.int a1]) (rest := []) ⟨hx, hb, hml, hown, hts⟩ hK hZ hM hJ hS (metX7_readSum l D cA z0 E ad wE fE lE hE h13 a1 _ hw) (cwV 1 hts (lw_V q1973 q1975 qs57 q130 q1976) rfl rfl rfl (by decide +kernel) ⟨(show (fE + 15) + 1 ≤ fE + 17 by omega), (show 8 + (3 + 11) + (lE + 330) ≤ lE + 352 by omega)⟩) rfl hl.1 rfl (Nat.le_of_ble_eq_true rfl) dX7_readNot_86 ⟨Nat.zero_le _, Nat.zero_le _⟩ (fun h15 H locs hw hM hS => ?_)
    refine lv_aload_n hx hb dX7_readNot_89 rfl (lv_at hl 1 rfl) ?_
    refine lv_iload_n hx hb dX7_readNot_90 rfl (lv_at hl 0 rfl) ?_
    refine M_callV (As := [.int s0]) (rest := []) ⟨hx, hb, hml, hown, hts⟩ hK hZ hM hJ hS (metX7_lay l D cA z0 E ad h15 s0 _ hw) (cwV 1 hts (lw_V q1985 q1987 qs60 q130 q1988) rfl rfl rfl (by decide +kernel) ⟨(show (1) + 1 ≤ fE + 17 by omega), (show 8 + (2 + 11) + (30) ≤ lE + 352 by omega)⟩) rfl hl.1 rfl (Nat.le_of_ble_eq_true rfl) dX7_readNot_91 ⟨Nat.zero_le _, Nat.zero_le _⟩ (fun h17 H locs hw hM hS => ?_)
    refine lv_iconst (v := (0 : Int32)) hx hb dX7_readNot_94 (by decide) ?_
    refine lv_istore_n (lv' := [(3, .int (0 : Int32)), (0, .ref (ad 69)), (1, .int a1), (2, .int x2)]) hx hb dX7_readNot_95 rfl hl (by decide) rfl (fun ls hl => ?_)
    obtain ⟨n21, hw⟩ := hw
    exact hL96 x2 n21 h17 (0 : Int32) hw _ _ ls hM hS (lv_sub hl [1, 3, 0] rfl)
  have hB63 : ∀ (h : Mem) (x2 : Int32), wpBX7_readNot_63 wE post a1  h x2 → JM p l e (headSpec (ws_ yX7_readNot cX7_readNot 4 none) ({ frames := fE + 17, cells := 0, slots := 0, locals := lE + 352 })).room s m ([.ref (ad 69), .int a1] : List Value).toArray below meth c (MQ below (MQv D cA E ad post) ([.ref (ad 69), .int a1] : List Value).toArray s 0 0 (MA ad)) D cA E ad 4 63 h [(0, .ref (ad 69)), (1, .int a1), (2, .int x2)] [] := by
    intro h x2 hw H locs ls hM hS hl
    unfold wpBX7_readNot_63 at hw
    refine lv_aload_n hx hb dX7_readNot_63 rfl (lv_at hl 0 rfl) ?_
    refine lv_bipush (v := (60 : Int32)) hx hb dX7_readNot_64 (by decide) ?_
    refine M_callZp (As := [.int (60 : Int32)]) (rest := []) ⟨hx, hb, hml, hown, hts⟩ hK hZ hM hJ hS (metX7_isMarked l D cA z0 E ad h (60 : Int32) _ hw) (cwV 1 hts (lw_V q1960 q1962 qs54 q130 q1963) rfl rfl rfl (by decide +kernel) ⟨(show (1) + 1 ≤ fE + 17 by omega), (show 8 + (2 + 11) + (30) ≤ lE + 352 by omega)⟩) rfl hl.1 rfl (Nat.le_of_ble_eq_true rfl) dX7_readNot_66 ⟨Nat.zero_le _, Nat.zero_le _⟩ (fun r9 H locs hw hM hS => ?_)
    have hj11 : JM p l e (headSpec (ws_ yX7_readNot cX7_readNot 4 none) ({ frames := fE + 17, cells := 0, slots := 0, locals := lE + 352 })).room s m ([.ref (ad 69), .int a1] : List Value).toArray below meth c (MQ below (MQv D cA E ad post) ([.ref (ad 69), .int a1] : List Value).toArray s 0 0 (MA ad)) D cA E ad 4 79 h [(0, .ref (ad 69)), (1, .int a1), (2, .int x2)] [.int (if r9 = true then (-24 : Int32) else (-25 : Int32))] := by
      intro H locs ls hM hS hl
      exact hB79 h x2 (if r9 = true then (-24 : Int32) else (-25 : Int32)) hw _ _ ls hM hS (lv_sub hl [0, 1, 2] rfl)
    refine lv_if_eq (tgt := 77) hx hb dX7_readNot_69 (by decide) (fun c22 => ?_) (fun c22 => ?_)
    · have c22 := b2i_f c22
      refine lv_bipush (v := (-25 : Int32)) hx hb dX7_readNot_77 (by decide) ?_
      have e23 : (if r9 = true then (-24 : Int32) else (-25 : Int32)) = (-25 : Int32) := by rw [if_neg c22]
      rw [e23] at hj11
      exact hj11 _ _ ls hM hS (lv_sub hl [0, 1, 2] rfl)
    · have c22 := b2i_t c22
      refine lv_bipush (v := (-24 : Int32)) hx hb dX7_readNot_72 (by decide) ?_
      refine lv_goto (tgt := 79) hx hb dX7_readNot_74 (by decide) ?_
      have e24 : (if r9 = true then (-24 : Int32) else (-25 : Int32)) = (-24 : Int32) := by rw [if_pos c22]
      rw [e24] at hj11
      exact hj11 _ _ ls hM hS (lv_sub hl [0, 1, 2] rfl)
  have hL2 : ∀  (n2 : Nat) (h : Mem) (x2 : Int32), wpLX7_readNot_2 wE post a1   n2 (h, x2) → JM p l e (headSpec (ws_ yX7_readNot cX7_readNot 4 none) ({ frames := fE + 17, cells := 0, slots := 0, locals := lE + 352 })).room s m ([.ref (ad 69), .int a1] : List Value).toArray below meth c (MQ below (MQv D cA E ad post) ([.ref (ad 69), .int a1] : List Value).toArray s 0 0 (MA ad)) D cA E ad 4 2 h [(0, .ref (ad 69)), (1, .int a1), (2, .int x2)] [] := by
    intro  n2
    induction n2 with
    | zero => intro h x2 hw; exact False.elim hw
    | succ n2 ih2 =>
      have hB23 : ∀ (h : Mem) (x2 : Int32), wpBX7_readNot_23 wE post a1 (fun h x2 => wpLX7_readNot_2 wE post a1   n2 (h, x2)) h x2 → JM p l e (headSpec (ws_ yX7_readNot cX7_readNot 4 none) ({ frames := fE + 17, cells := 0, slots := 0, locals := lE + 352 })).room s m ([.ref (ad 69), .int a1] : List Value).toArray below meth c (MQ below (MQv D cA E ad post) ([.ref (ad 69), .int a1] : List Value).toArray s 0 0 (MA ad)) D cA E ad 4 23 h [(0, .ref (ad 69)), (1, .int a1), (2, .int x2)] [] := by
        intro h x2 hw H locs ls hM hS hl
        unfold wpBX7_readNot_23 at hw
        refine lv_iinc (v := (x2 + (1 : Int32))) (lv' := [(2, .int (x2 + (1 : Int32))), (0, .ref (ad 69)), (1, .int a1)]) hx hb dX7_readNot_23 hl (k := 2) rfl rfl (by decide) rfl (fun ls hl => ?_)
        refine lv_aload_n hx hb dX7_readNot_26 rfl (lv_at hl 1 rfl) ?_
        refine M_get hx hb hts hown hK hM 24 (v := .int (h 24 0)) (by decide) (hts _ q1707) rfl dX7_readNot_27 ?_
        refine lv_if_ne (tgt := 2) hx hb dX7_readNot_30 (by decide) (fun c30 => ?_) (fun c30 => ?_)
        · have hw := hw.2 c30
          exact ih2 h (x2 + (1 : Int32)) hw _ _ ls hM hS (lv_sub hl [1, 2, 0] rfl)
        · have hw := hw.1 c30
          refine lv_aload_n hx hb dX7_readNot_33 rfl (lv_at hl 1 rfl) ?_
          refine M_callV (As := []) (rest := []) ⟨hx, hb, hml, hown, hts⟩ hK hZ hM hJ hS (metX7_stepOn l D cA z0 E ad h  _ hw) (cwV 0 hts (lw_V q1908 q1910 qs45 q130 q1911) rfl rfl rfl (by decide +kernel) ⟨(show (2) + 1 ≤ fE + 17 by omega), (show 8 + (2 + 11) + (51) ≤ lE + 352 by omega)⟩) rfl hl.1 rfl (Nat.le_of_ble_eq_true rfl) dX7_readNot_34 ⟨Nat.zero_le _, Nat.zero_le _⟩ (fun h32 H locs hw hM hS => ?_)
          refine lv_goto (tgt := 2) hx hb dX7_readNot_37 (by decide) ?_
          exact ih2 h32 (x2 + (1 : Int32)) hw _ _ ls hM hS (lv_sub hl [1, 2, 0] rfl)
      intro h x2 hw H locs ls hM hS hl
      have hw : wpBX7_readNot_2 wE post a1  (fun h x2 => wpLX7_readNot_2 wE post a1   n2 (h, x2))  h x2 := hw
      unfold wpBX7_readNot_2 at hw
      refine lv_aload_n hx hb dX7_readNot_2 rfl (lv_at hl 0 rfl) ?_
      refine va_ldcSw hx hb hown (hZ.ldc 38 rfl) dX7_readNot_3 ?_
      refine M_callZp (As := [.ref (E 0 14)]) (rest := []) ⟨hx, hb, hml, hown, hts⟩ hK hZ hM hJ hS (metX7_is l D cA z0 E ad h 14 _ (by first | exact (by decide) | rfl) hw) (cwV 1 hts (lw_V q1932 q1934 qs48 q130 q1935) rfl rfl rfl (by decide +kernel) ⟨(show (8) + 1 ≤ fE + 17 by omega), (show 8 + (4 + 11) + (241) ≤ lE + 352 by omega)⟩) rfl hl.1 rfl (Nat.le_of_ble_eq_true rfl) dX7_readNot_6 ⟨Nat.zero_le _, Nat.zero_le _⟩ (fun r1 H locs hw hM hS => ?_)
      refine lv_if_eq (tgt := 40) hx hb dX7_readNot_9 (by decide) (fun c3 => ?_) (fun c3 => ?_)
      · have c3 := b2i_f c3
        have hw := hw.2 c3
        refine lv_aload_n hx hb dX7_readNot_40 rfl (lv_at hl 0 rfl) ?_
        refine lv_iload_n hx hb dX7_readNot_41 rfl (lv_at hl 1 rfl) ?_
        refine M_callV (As := [.int a1]) (rest := []) ⟨hx, hb, hml, hown, hts⟩ hK hZ hM hJ hS (metX7_readSum l D cA z0 E ad wE fE lE hE h a1 _ hw) (cwV 1 hts (lw_V q1973 q1975 qs57 q130 q1976) rfl rfl rfl (by decide +kernel) ⟨(show (fE + 15) + 1 ≤ fE + 17 by omega), (show 8 + (3 + 11) + (lE + 330) ≤ lE + 352 by omega)⟩) rfl hl.1 rfl (Nat.le_of_ble_eq_true rfl) dX7_readNot_42 ⟨Nat.zero_le _, Nat.zero_le _⟩ (fun h5 H locs hw hM hS => ?_)
        refine lv_aload_n hx hb dX7_readNot_45 rfl (lv_at hl 0 rfl) ?_
        refine lv_bipush (v := (60 : Int32)) hx hb dX7_readNot_46 (by decide) ?_
        refine M_callZp (As := [.int (60 : Int32)]) (rest := []) ⟨hx, hb, hml, hown, hts⟩ hK hZ hM hJ hS (metX7_isMarked l D cA z0 E ad h5 (60 : Int32) _ hw) (cwV 1 hts (lw_V q1960 q1962 qs54 q130 q1963) rfl rfl rfl (by decide +kernel) ⟨(show (1) + 1 ≤ fE + 17 by omega), (show 8 + (2 + 11) + (30) ≤ lE + 352 by omega)⟩) rfl hl.1 rfl (Nat.le_of_ble_eq_true rfl) dX7_readNot_48 ⟨Nat.zero_le _, Nat.zero_le _⟩ (fun r6 H locs hw hM hS => ?_)
        refine lv_if_ne (tgt := 63) hx hb dX7_readNot_51 (by decide) (fun c8 => ?_) (fun c8 => ?_)
        · have c8 := b2i_t c8
          have hw := hw.1 c8
          exact hB63 h5 x2 hw _ _ ls hM hS (lv_sub hl [0, 1, 2] rfl)
        · have c8 := b2i_f c8
          have hw := hw.2 c8
          refine lv_aload_n hx hb dX7_readNot_54 rfl (lv_at hl 0 rfl) ?_
          refine lv_bipush (v := (61 : Int32)) hx hb dX7_readNot_55 (by decide) ?_
          refine M_callZp (As := [.int (61 : Int32)]) (rest := []) ⟨hx, hb, hml, hown, hts⟩ hK hZ hM hJ hS (metX7_isMarked l D cA z0 E ad h5 (61 : Int32) _ hw) (cwV 1 hts (lw_V q1960 q1962 qs54 q130 q1963) rfl rfl rfl (by decide +kernel) ⟨(show (1) + 1 ≤ fE + 17 by omega), (show 8 + (2 + 11) + (30) ≤ lE + 352 by omega)⟩) rfl hl.1 rfl (Nat.le_of_ble_eq_true rfl) dX7_readNot_57 ⟨Nat.zero_le _, Nat.zero_le _⟩ (fun r25 H locs hw hM hS => ?_)
          refine lv_if_eq (tgt := 94) hx hb dX7_readNot_60 (by decide) (fun c27 => ?_) (fun c27 => ?_)
          · have c27 := b2i_f c27
            have hw := hw.2 c27
            refine lv_iconst (v := (0 : Int32)) hx hb dX7_readNot_94 (by decide) ?_
            refine lv_istore_n (lv' := [(3, .int (0 : Int32)), (0, .ref (ad 69)), (1, .int a1), (2, .int x2)]) hx hb dX7_readNot_95 rfl hl (by decide) rfl (fun ls hl => ?_)
            obtain ⟨n28, hw⟩ := hw
            exact hL96 x2 n28 h5 (0 : Int32) hw _ _ ls hM hS (lv_sub hl [1, 3, 0] rfl)
          · have c27 := b2i_t c27
            have hw := hw.1 c27
            exact hB63 h5 x2 hw _ _ ls hM hS (lv_sub hl [0, 1, 2] rfl)
      · have c3 := b2i_t c3
        have hw := hw.1 c3
        refine lv_iload_n hx hb dX7_readNot_12 rfl (lv_at hl 2 rfl) ?_
        refine lv_bipush (v := (6 : Int32)) hx hb dX7_readNot_13 (by decide) ?_
        refine lv_icmp_ne (tgt := 23) hx hb dX7_readNot_15 (by decide) (fun c29 => ?_) (fun c29 => ?_)
        · have hw := hw.2 c29
          exact hB23 h x2 hw _ _ ls hM hS (lv_sub hl [0, 1, 2] rfl)
        · have hw := hw.1 c29
          refine lv_aload_n hx hb dX7_readNot_18 rfl (lv_at hl 0 rfl) ?_
          refine lv_iconst (v := (2 : Int32)) hx hb dX7_readNot_19 (by decide) ?_
          refine M_callV (As := [.int (2 : Int32)]) (rest := []) ⟨hx, hb, hml, hown, hts⟩ hK hZ hM hJ hS (metX7_wrong l D cA z0 E ad h (2 : Int32) _ hw) (cwV 1 hts (lw_V q1944 q1946 qs50 q130 q1947) rfl rfl rfl (by decide +kernel) ⟨(show (1) + 1 ≤ fE + 17 by omega), (show 8 + (2 + 11) + (30) ≤ lE + 352 by omega)⟩) rfl hl.1 rfl (Nat.le_of_ble_eq_true rfl) dX7_readNot_20 ⟨Nat.zero_le _, Nat.zero_le _⟩ (fun h34 H locs hw hM hS => ?_)
          exact hB23 h34 x2 hw _ _ ls hM hS (lv_sub hl [0, 1, 2] rfl)
  unfold wpX7_readNot at hw
  refine lv_iconst (v := (0 : Int32)) hx hb dX7_readNot_0 (by decide) ?_
  refine lv_istore_n (lv' := [(2, .int (0 : Int32)), (0, .ref (ad 69)), (1, .int a1)]) hx hb dX7_readNot_1 rfl hl (by decide) rfl (fun ls hl => ?_)
  obtain ⟨n35, hw⟩ := hw
  exact hL2 n35 h (0 : Int32) hw _ _ ls hM hS (lv_sub hl [1, 2, 0] rfl)

/-- readAnd(I)V -/
def wpBX7_readAnd_5 (wE : (Mem → Prop) → Mem → Int32 → Prop) (post : Mem → Prop) (a1 : Int32)  (K5 : Mem → Prop)  (h : Mem) : Prop :=
  (wpX7_is (fun r3 => ((r3 = true → (wpX7_stepOn (fun h7 => (wpX7_readNot wE (fun h9 => (wpX7_lay (fun h11 => K5 h11) h9 (-26 : Int32))) h7 a1)) h )) ∧ (¬ r3 = true → post h))) h 13)
def wpLX7_readAnd_5 (wE : (Mem → Prop) → Mem → Int32 → Prop) (post : Mem → Prop) (a1 : Int32)   : Nat → (Mem) → Prop := LW (fun K s => wpBX7_readAnd_5 wE post a1  (fun h => K h)  s)
def wpX7_readAnd (wE : (Mem → Prop) → Mem → Int32 → Prop) (post : Mem → Prop) (h : Mem) (a1 : Int32) : Prop :=
  (wpX7_readNot wE (fun h2 => (∃ n, wpLX7_readAnd_5 wE post a1   n h2)) h a1)
set_option maxHeartbeats 4000000 in
set_option maxRecDepth 100000 in
theorem metX7_readAnd (l : Launch) (D : va_G) (cA : Nat → ClassId) (z0 : Nat) (E : Nat → Nat → Nat) (ad : Nat → Nat) (wE : (Mem → Prop) → Mem → Int32 → Prop) (fE lE : Nat) (hE : ∀ (post : Mem → Prop) (h : Mem) (a1 : Int32), wE post h a1 → MeV l D cA z0 E ad yX7_readExpression (ws_ yX7_readExpression cX7_readExpression 3 none) ({ frames := fE, cells := 0, slots := 0, locals := lE }) [.ref (ad 69), .int a1] h post) (h : Mem) (a1 : Int32) (post : Mem → Prop) (hw : wpX7_readAnd wE post h a1) : MeV l D cA z0 E ad yX7_readAnd (ws_ yX7_readAnd cX7_readAnd 2 none) ({ frames := fE + 19, cells := 0, slots := 0, locals := lE + 375 }) [.ref (ad 69), .int a1] h post := by
  refine Met.ofW (cc := cX7_readAnd) (maxL := 2) (ret := none) (by decide) rfl ?_
  intro p e s m args below meth c s₁ B hml hv
  obtain ⟨rfl, hM, hK, hJ, hZ⟩ := hv
  have hx := B.exec
  have hb := B.bytes
  have hr := B.returns
  have hts := atoms_spec (ws := ws_ yX7_readAnd cX7_readAnd 2 none) B.pre
  have hts : ∀ w ∈ lw_all, w.before _ s = true := fun w h => hts w (List.mem_cons_of_mem _ h)
  have hown : s.vm.findClass RX7 = some m.cls := findClass_of_methodNamed B.named
  have hlocks := B.notSynchronized
  have hS : va_S (MA ad) s.heap s.heap [] := va_S.rf
  have hl := lv_entry ([.ref (ad 69), .int a1]) (n := 2) (Nat.le_of_ble_eq_true rfl)
  rw [lg_entry_eq]
  generalize (lg_sl ([.ref (ad 69), .int a1]) ++ List.replicate (2 - (lg_sl ([.ref (ad 69), .int a1])).length) Slot.unset).toArray = ls at hl ⊢
  have hl : lv_has ls 2 [(0, .ref (ad 69)), (1, .int a1)] := hl
  have hL5 : ∀  (n5 : Nat) (h : Mem), wpLX7_readAnd_5 wE post a1   n5 h → JM p l e (headSpec (ws_ yX7_readAnd cX7_readAnd 2 none) ({ frames := fE + 19, cells := 0, slots := 0, locals := lE + 375 })).room s m ([.ref (ad 69), .int a1] : List Value).toArray below meth c (MQ below (MQv D cA E ad post) ([.ref (ad 69), .int a1] : List Value).toArray s 0 0 (MA ad)) D cA E ad 2 5 h [(0, .ref (ad 69)), (1, .int a1)] [] := by
    intro  n5
    induction n5 with
    | zero => intro h hw; exact False.elim hw
    | succ n5 ih5 =>
      intro h hw H locs ls hM hS hl
      have hw : wpBX7_readAnd_5 wE post a1  (fun h => wpLX7_readAnd_5 wE post a1   n5 h)  h := hw
      unfold wpBX7_readAnd_5 at hw
      refine lv_aload_n hx hb dX7_readAnd_5 rfl (lv_at hl 0 rfl) ?_
      refine va_ldcSw hx hb hown (hZ.ldc 39 rfl) dX7_readAnd_6 ?_
      refine M_callZp (As := [.ref (E 0 13)]) (rest := []) ⟨hx, hb, hml, hown, hts⟩ hK hZ hM hJ hS (metX7_is l D cA z0 E ad h 13 _ (by first | exact (by decide) | rfl) hw) (cwV 1 hts (lw_V q1932 q1934 qs48 q130 q1935) rfl rfl rfl (by decide +kernel) ⟨(show (8) + 1 ≤ fE + 19 by omega), (show 8 + (4 + 11) + (241) ≤ lE + 375 by omega)⟩) rfl hl.1 rfl (Nat.le_of_ble_eq_true rfl) dX7_readAnd_9 ⟨Nat.zero_le _, Nat.zero_le _⟩ (fun r3 H locs hw hM hS => ?_)
      refine lv_if_eq (tgt := 33) hx hb dX7_readAnd_12 (by decide) (fun c5 => ?_) (fun c5 => ?_)
      · have c5 := b2i_f c5
        have hw := hw.2 c5
        exact M_vret hx hb hr hlocks hM hS hw dX7_readAnd_33
      · have c5 := b2i_t c5
        have hw := hw.1 c5
        refine lv_aload_n hx hb dX7_readAnd_15 rfl (lv_at hl 0 rfl) ?_
        refine M_callV (As := []) (rest := []) ⟨hx, hb, hml, hown, hts⟩ hK hZ hM hJ hS (metX7_stepOn l D cA z0 E ad h  _ hw) (cwV 0 hts (lw_V q1908 q1910 qs45 q130 q1911) rfl rfl rfl (by decide +kernel) ⟨(show (2) + 1 ≤ fE + 19 by omega), (show 8 + (2 + 11) + (51) ≤ lE + 375 by omega)⟩) rfl hl.1 rfl (Nat.le_of_ble_eq_true rfl) dX7_readAnd_16 ⟨Nat.zero_le _, Nat.zero_le _⟩ (fun h7 H locs hw hM hS => ?_)
        refine lv_aload_n hx hb dX7_readAnd_19 rfl (lv_at hl 0 rfl) ?_
        refine lv_iload_n hx hb dX7_readAnd_20 rfl (lv_at hl 1 rfl) ?_
        refine M_callV (As := [.int a1]) (rest := []) ⟨hx, hb, hml, hown, hts⟩ hK hZ hM hJ hS (metX7_readNot l D cA z0 E ad wE fE lE hE h7 a1 _ hw) (cwV 1 hts (lw_V q1968 q1970 qs56 q130 q1971) rfl rfl rfl (by decide +kernel) ⟨(show (fE + 17) + 1 ≤ fE + 19 by omega), (show 8 + (4 + 11) + (lE + 352) ≤ lE + 375 by omega)⟩) rfl hl.1 rfl (Nat.le_of_ble_eq_true rfl) dX7_readAnd_21 ⟨Nat.zero_le _, Nat.zero_le _⟩ (fun h9 H locs hw hM hS => ?_)
        refine lv_aload_n hx hb dX7_readAnd_24 rfl (lv_at hl 0 rfl) ?_
        refine lv_bipush (v := (-26 : Int32)) hx hb dX7_readAnd_25 (by decide) ?_
        refine M_callV (As := [.int (-26 : Int32)]) (rest := []) ⟨hx, hb, hml, hown, hts⟩ hK hZ hM hJ hS (metX7_lay l D cA z0 E ad h9 (-26 : Int32) _ hw) (cwV 1 hts (lw_V q1985 q1987 qs60 q130 q1988) rfl rfl rfl (by decide +kernel) ⟨(show (1) + 1 ≤ fE + 19 by omega), (show 8 + (2 + 11) + (30) ≤ lE + 375 by omega)⟩) rfl hl.1 rfl (Nat.le_of_ble_eq_true rfl) dX7_readAnd_27 ⟨Nat.zero_le _, Nat.zero_le _⟩ (fun h11 H locs hw hM hS => ?_)
        refine lv_goto (tgt := 5) hx hb dX7_readAnd_30 (by decide) ?_
        exact ih5 h11 hw _ _ ls hM hS (lv_sub hl [0, 1] rfl)
  unfold wpX7_readAnd at hw
  refine lv_aload_n hx hb dX7_readAnd_0 rfl (lv_at hl 0 rfl) ?_
  refine lv_iload_n hx hb dX7_readAnd_1 rfl (lv_at hl 1 rfl) ?_
  refine M_callV (As := [.int a1]) (rest := []) ⟨hx, hb, hml, hown, hts⟩ hK hZ hM hJ hS (metX7_readNot l D cA z0 E ad wE fE lE hE h a1 _ hw) (cwV 1 hts (lw_V q1968 q1970 qs56 q130 q1971) rfl rfl rfl (by decide +kernel) ⟨(show (fE + 17) + 1 ≤ fE + 19 by omega), (show 8 + (4 + 11) + (lE + 352) ≤ lE + 375 by omega)⟩) rfl hl.1 rfl (Nat.le_of_ble_eq_true rfl) dX7_readAnd_2 ⟨Nat.zero_le _, Nat.zero_le _⟩ (fun h2 H locs hw hM hS => ?_)
  obtain ⟨n12, hw⟩ := hw
  exact hL5 n12 h2 hw _ _ ls hM hS (lv_sub hl [0, 1] rfl)

/-- readExpression(I)V -/
def wpBX7_readExpression_67 (wE : (Mem → Prop) → Mem → Int32 → Prop) (post : Mem → Prop) (a1 : Int32)  (K67 : Mem → Prop)  (h : Mem) : Prop :=
  (wpX7_is (fun r7 => ((r7 = true → (wpX7_stepOn (fun h11 => (wpX7_readAnd wE (fun h13 => (wpX7_lay (fun h15 => K67 h15) h13 (-27 : Int32))) h11 a1)) h )) ∧ (¬ r7 = true → post h))) h 12)
def wpLX7_readExpression_67 (wE : (Mem → Prop) → Mem → Int32 → Prop) (post : Mem → Prop) (a1 : Int32)   : Nat → (Mem) → Prop := LW (fun K s => wpBX7_readExpression_67 wE post a1  (fun h => K h)  s)
def wpBX7_readExpression_62 (wE : (Mem → Prop) → Mem → Int32 → Prop) (post : Mem → Prop) (a1 : Int32)  (h : Mem)   : Prop :=
  (wpX7_readAnd wE (fun h6 => (∃ n, wpLX7_readExpression_67 wE post a1   n h6)) h a1)
def wpBX7_readExpression_38 (wE : (Mem → Prop) → Mem → Int32 → Prop) (post : Mem → Prop) (a1 : Int32)  (h : Mem)  (s0 : Int32) : Prop :=
  ((s0 = 0 → (wpX7_wrong (fun h20 => wpBX7_readExpression_62 wE post a1  h20 ) h (1 : Int32))) ∧ (¬ s0 = 0 → ((a1 = (6 : Int32) → (wpX7_wrong (fun h18 => wpBX7_readExpression_62 wE post a1  h18 ) h (2 : Int32))) ∧ (¬ a1 = (6 : Int32) → wpBX7_readExpression_62 wE post a1  h ))))
def wpBX7_readExpression_33 (wE : (Mem → Prop) → Mem → Int32 → Prop) (post : Mem → Prop) (a1 : Int32)  (h : Mem)   : Prop :=
  wpBX7_readExpression_38 wE post a1  h (1 : Int32)
def wpRX7_readExpression (wE : (Mem → Prop) → Mem → Int32 → Prop) (post : Mem → Prop) (h : Mem) (a1 : Int32) : Prop :=
  (((h 24 0) = 0 → (((h 20 0) = (2 : Int32) → wpBX7_readExpression_33 wE post a1  h ) ∧ (¬ (h 20 0) = (2 : Int32) → (((h 20 0) = (1 : Int32) → wpBX7_readExpression_33 wE post a1  h ) ∧ (¬ (h 20 0) = (1 : Int32) → (wpX7_isMarked (fun r22 => wpBX7_readExpression_38 wE post a1  h (if r22 = true then (1 : Int32) else (0 : Int32))) h (40 : Int32))))))) ∧ (¬ (h 24 0) = 0 → post h))
def wpX7_readExpression : Nat → (Mem → Prop) → Mem → Int32 → Prop
  | 0 => fun _ _ _ => False
  | d + 1 => wpRX7_readExpression (wpX7_readExpression d)
set_option maxHeartbeats 4000000 in
set_option maxRecDepth 100000 in
theorem metRX7_readExpression (l : Launch) (D : va_G) (cA : Nat → ClassId) (z0 : Nat) (E : Nat → Nat → Nat) (ad : Nat → Nat) (wE : (Mem → Prop) → Mem → Int32 → Prop) (fE lE : Nat) (hE : ∀ (post : Mem → Prop) (h : Mem) (a1 : Int32), wE post h a1 → MeV l D cA z0 E ad yX7_readExpression (ws_ yX7_readExpression cX7_readExpression 3 none) ({ frames := fE, cells := 0, slots := 0, locals := lE }) [.ref (ad 69), .int a1] h post) (h : Mem) (a1 : Int32) (post : Mem → Prop) (hw : wpRX7_readExpression wE post h a1) : MeV l D cA z0 E ad yX7_readExpression (ws_ yX7_readExpression cX7_readExpression 3 none) ({ frames := fE + 21, cells := 0, slots := 0, locals := lE + 396 }) [.ref (ad 69), .int a1] h post := by
  refine Met.ofW (cc := cX7_readExpression) (maxL := 3) (ret := none) (by decide) rfl ?_
  intro p e s m args below meth c s₁ B hml hv
  obtain ⟨rfl, hM, hK, hJ, hZ⟩ := hv
  have hx := B.exec
  have hb := B.bytes
  have hr := B.returns
  have hts := atoms_spec (ws := ws_ yX7_readExpression cX7_readExpression 3 none) B.pre
  have hts : ∀ w ∈ lw_all, w.before _ s = true := fun w h => hts w (List.mem_cons_of_mem _ h)
  have hown : s.vm.findClass RX7 = some m.cls := findClass_of_methodNamed B.named
  have hlocks := B.notSynchronized
  have hS : va_S (MA ad) s.heap s.heap [] := va_S.rf
  have hl := lv_entry ([.ref (ad 69), .int a1]) (n := 3) (Nat.le_of_ble_eq_true rfl)
  rw [lg_entry_eq]
  generalize (lg_sl ([.ref (ad 69), .int a1]) ++ List.replicate (3 - (lg_sl ([.ref (ad 69), .int a1])).length) Slot.unset).toArray = ls at hl ⊢
  have hl : lv_has ls 3 [(0, .ref (ad 69)), (1, .int a1)] := hl
  have hL67 : ∀  (n67 : Nat) (h : Mem), wpLX7_readExpression_67 wE post a1   n67 h → JM p l e (headSpec (ws_ yX7_readExpression cX7_readExpression 3 none) ({ frames := fE + 21, cells := 0, slots := 0, locals := lE + 396 })).room s m ([.ref (ad 69), .int a1] : List Value).toArray below meth c (MQ below (MQv D cA E ad post) ([.ref (ad 69), .int a1] : List Value).toArray s 0 0 (MA ad)) D cA E ad 3 67 h [(0, .ref (ad 69)), (1, .int a1)] [] := by
    intro  n67
    induction n67 with
    | zero => intro h hw; exact False.elim hw
    | succ n67 ih67 =>
      intro h hw H locs ls hM hS hl
      have hw : wpBX7_readExpression_67 wE post a1  (fun h => wpLX7_readExpression_67 wE post a1   n67 h)  h := hw
      unfold wpBX7_readExpression_67 at hw
      refine lv_aload_n hx hb dX7_readExpression_67 rfl (lv_at hl 0 rfl) ?_
      refine va_ldcSw hx hb hown (hZ.ldc 40 rfl) dX7_readExpression_68 ?_
      refine M_callZp (As := [.ref (E 0 12)]) (rest := []) ⟨hx, hb, hml, hown, hts⟩ hK hZ hM hJ hS (metX7_is l D cA z0 E ad h 12 _ (by first | exact (by decide) | rfl) hw) (cwV 1 hts (lw_V q1932 q1934 qs48 q130 q1935) rfl rfl rfl (by decide +kernel) ⟨(show (8) + 1 ≤ fE + 21 by omega), (show 8 + (4 + 11) + (241) ≤ lE + 396 by omega)⟩) rfl hl.1 rfl (Nat.le_of_ble_eq_true rfl) dX7_readExpression_71 ⟨Nat.zero_le _, Nat.zero_le _⟩ (fun r7 H locs hw hM hS => ?_)
      refine lv_if_eq (tgt := 95) hx hb dX7_readExpression_74 (by decide) (fun c9 => ?_) (fun c9 => ?_)
      · have c9 := b2i_f c9
        have hw := hw.2 c9
        exact M_vret hx hb hr hlocks hM hS hw dX7_readExpression_95
      · have c9 := b2i_t c9
        have hw := hw.1 c9
        refine lv_aload_n hx hb dX7_readExpression_77 rfl (lv_at hl 0 rfl) ?_
        refine M_callV (As := []) (rest := []) ⟨hx, hb, hml, hown, hts⟩ hK hZ hM hJ hS (metX7_stepOn l D cA z0 E ad h  _ hw) (cwV 0 hts (lw_V q1908 q1910 qs45 q130 q1911) rfl rfl rfl (by decide +kernel) ⟨(show (2) + 1 ≤ fE + 21 by omega), (show 8 + (2 + 11) + (51) ≤ lE + 396 by omega)⟩) rfl hl.1 rfl (Nat.le_of_ble_eq_true rfl) dX7_readExpression_78 ⟨Nat.zero_le _, Nat.zero_le _⟩ (fun h11 H locs hw hM hS => ?_)
        refine lv_aload_n hx hb dX7_readExpression_81 rfl (lv_at hl 0 rfl) ?_
        refine lv_iload_n hx hb dX7_readExpression_82 rfl (lv_at hl 1 rfl) ?_
        refine M_callV (As := [.int a1]) (rest := []) ⟨hx, hb, hml, hown, hts⟩ hK hZ hM hJ hS (metX7_readAnd l D cA z0 E ad wE fE lE hE h11 a1 _ hw) (cwV 1 hts (lw_V q1964 q1966 qs55 q130 q1967) rfl rfl rfl (by decide +kernel) ⟨(show (fE + 19) + 1 ≤ fE + 21 by omega), (show 8 + (2 + 11) + (lE + 375) ≤ lE + 396 by omega)⟩) rfl hl.1 rfl (Nat.le_of_ble_eq_true rfl) dX7_readExpression_83 ⟨Nat.zero_le _, Nat.zero_le _⟩ (fun h13 H locs hw hM hS => ?_)
        refine lv_aload_n hx hb dX7_readExpression_86 rfl (lv_at hl 0 rfl) ?_
        refine lv_bipush (v := (-27 : Int32)) hx hb dX7_readExpression_87 (by decide) ?_
        refine M_callV (As := [.int (-27 : Int32)]) (rest := []) ⟨hx, hb, hml, hown, hts⟩ hK hZ hM hJ hS (metX7_lay l D cA z0 E ad h13 (-27 : Int32) _ hw) (cwV 1 hts (lw_V q1985 q1987 qs60 q130 q1988) rfl rfl rfl (by decide +kernel) ⟨(show (1) + 1 ≤ fE + 21 by omega), (show 8 + (2 + 11) + (30) ≤ lE + 396 by omega)⟩) rfl hl.1 rfl (Nat.le_of_ble_eq_true rfl) dX7_readExpression_89 ⟨Nat.zero_le _, Nat.zero_le _⟩ (fun h15 H locs hw hM hS => ?_)
        refine lv_goto (tgt := 67) hx hb dX7_readExpression_92 (by decide) ?_
        exact ih67 h15 hw _ _ ls hM hS (lv_sub hl [0, 1] rfl)
  have hB62 : ∀ (h : Mem), wpBX7_readExpression_62 wE post a1  h  → JM p l e (headSpec (ws_ yX7_readExpression cX7_readExpression 3 none) ({ frames := fE + 21, cells := 0, slots := 0, locals := lE + 396 })).room s m ([.ref (ad 69), .int a1] : List Value).toArray below meth c (MQ below (MQv D cA E ad post) ([.ref (ad 69), .int a1] : List Value).toArray s 0 0 (MA ad)) D cA E ad 3 62 h [(0, .ref (ad 69)), (1, .int a1)] [] := by
    intro h hw H locs ls hM hS hl
    unfold wpBX7_readExpression_62 at hw
    refine lv_aload_n hx hb dX7_readExpression_62 rfl (lv_at hl 0 rfl) ?_
    refine lv_iload_n hx hb dX7_readExpression_63 rfl (lv_at hl 1 rfl) ?_
    refine M_callV (As := [.int a1]) (rest := []) ⟨hx, hb, hml, hown, hts⟩ hK hZ hM hJ hS (metX7_readAnd l D cA z0 E ad wE fE lE hE h a1 _ hw) (cwV 1 hts (lw_V q1964 q1966 qs55 q130 q1967) rfl rfl rfl (by decide +kernel) ⟨(show (fE + 19) + 1 ≤ fE + 21 by omega), (show 8 + (2 + 11) + (lE + 375) ≤ lE + 396 by omega)⟩) rfl hl.1 rfl (Nat.le_of_ble_eq_true rfl) dX7_readExpression_64 ⟨Nat.zero_le _, Nat.zero_le _⟩ (fun h6 H locs hw hM hS => ?_)
    obtain ⟨n16, hw⟩ := hw
    exact hL67 n16 h6 hw _ _ ls hM hS (lv_sub hl [0, 1] rfl)
  have hB38 : ∀ (h : Mem)  (s0 : Int32), wpBX7_readExpression_38 wE post a1  h s0 → JM p l e (headSpec (ws_ yX7_readExpression cX7_readExpression 3 none) ({ frames := fE + 21, cells := 0, slots := 0, locals := lE + 396 })).room s m ([.ref (ad 69), .int a1] : List Value).toArray below meth c (MQ below (MQv D cA E ad post) ([.ref (ad 69), .int a1] : List Value).toArray s 0 0 (MA ad)) D cA E ad 3 38 h [(0, .ref (ad 69)), (1, .int a1)] [.int s0] := by
    intro h s0 hw H locs ls hM hS hl
    unfold wpBX7_readExpression_38 at hw
    refine lv_istore_n (lv' := [(2, .int s0), (0, .ref (ad 69)), (1, .int a1)]) hx hb dX7_readExpression_38 rfl hl (by decide) rfl (fun ls hl => ?_)
    refine lv_iload_n hx hb dX7_readExpression_39 rfl (lv_at hl 0 rfl) ?_
    refine lv_if_ne (tgt := 51) hx hb dX7_readExpression_40 (by decide) (fun c3 => ?_) (fun c3 => ?_)
    · have hw := hw.2 c3
      refine lv_iload_n hx hb dX7_readExpression_51 rfl (lv_at hl 2 rfl) ?_
      refine lv_bipush (v := (6 : Int32)) hx hb dX7_readExpression_52 (by decide) ?_
      refine lv_icmp_ne (tgt := 62) hx hb dX7_readExpression_54 (by decide) (fun c4 => ?_) (fun c4 => ?_)
      · have hw := hw.2 c4
        exact hB62 h hw _ _ ls hM hS (lv_sub hl [1, 2] rfl)
      · have hw := hw.1 c4
        refine lv_aload_n hx hb dX7_readExpression_57 rfl (lv_at hl 1 rfl) ?_
        refine lv_iconst (v := (2 : Int32)) hx hb dX7_readExpression_58 (by decide) ?_
        refine M_callV (As := [.int (2 : Int32)]) (rest := []) ⟨hx, hb, hml, hown, hts⟩ hK hZ hM hJ hS (metX7_wrong l D cA z0 E ad h (2 : Int32) _ hw) (cwV 1 hts (lw_V q1944 q1946 qs50 q130 q1947) rfl rfl rfl (by decide +kernel) ⟨(show (1) + 1 ≤ fE + 21 by omega), (show 8 + (2 + 11) + (30) ≤ lE + 396 by omega)⟩) rfl hl.1 rfl (Nat.le_of_ble_eq_true rfl) dX7_readExpression_59 ⟨Nat.zero_le _, Nat.zero_le _⟩ (fun h18 H locs hw hM hS => ?_)
        exact hB62 h18 hw _ _ ls hM hS (lv_sub hl [1, 2] rfl)
    · have hw := hw.1 c3
      refine lv_aload_n hx hb dX7_readExpression_43 rfl (lv_at hl 1 rfl) ?_
      refine lv_iconst (v := (1 : Int32)) hx hb dX7_readExpression_44 (by decide) ?_
      refine M_callV (As := [.int (1 : Int32)]) (rest := []) ⟨hx, hb, hml, hown, hts⟩ hK hZ hM hJ hS (metX7_wrong l D cA z0 E ad h (1 : Int32) _ hw) (cwV 1 hts (lw_V q1944 q1946 qs50 q130 q1947) rfl rfl rfl (by decide +kernel) ⟨(show (1) + 1 ≤ fE + 21 by omega), (show 8 + (2 + 11) + (30) ≤ lE + 396 by omega)⟩) rfl hl.1 rfl (Nat.le_of_ble_eq_true rfl) dX7_readExpression_45 ⟨Nat.zero_le _, Nat.zero_le _⟩ (fun h20 H locs hw hM hS => ?_)
      refine lv_goto (tgt := 62) hx hb dX7_readExpression_48 (by decide) ?_
      exact hB62 h20 hw _ _ ls hM hS (lv_sub hl [1, 2] rfl)
  have hB33 : ∀ (h : Mem), wpBX7_readExpression_33 wE post a1  h  → JM p l e (headSpec (ws_ yX7_readExpression cX7_readExpression 3 none) ({ frames := fE + 21, cells := 0, slots := 0, locals := lE + 396 })).room s m ([.ref (ad 69), .int a1] : List Value).toArray below meth c (MQ below (MQv D cA E ad post) ([.ref (ad 69), .int a1] : List Value).toArray s 0 0 (MA ad)) D cA E ad 3 33 h [(0, .ref (ad 69)), (1, .int a1)] [] := by
    intro h hw H locs ls hM hS hl
    unfold wpBX7_readExpression_33 at hw
    refine lv_iconst (v := (1 : Int32)) hx hb dX7_readExpression_33 (by decide) ?_
    refine lv_goto (tgt := 38) hx hb dX7_readExpression_34 (by decide) ?_
    exact hB38 h (1 : Int32) hw _ _ ls hM hS (lv_sub hl [0, 1] rfl)
  unfold wpRX7_readExpression at hw
  refine lv_aload_n hx hb dX7_readExpression_0 rfl (lv_at hl 0 rfl) ?_
  refine M_get hx hb hts hown hK hM 24 (v := .int (h 24 0)) (by decide) (hts _ q1707) rfl dX7_readExpression_1 ?_
  refine lv_if_eq (tgt := 8) hx hb dX7_readExpression_4 (by decide) (fun c1 => ?_) (fun c1 => ?_)
  · have hw := hw.1 c1
    refine lv_aload_n hx hb dX7_readExpression_8 rfl (lv_at hl 0 rfl) ?_
    refine M_get hx hb hts hown hK hM 20 (v := .int (h 20 0)) (by decide) (hts _ q1703) rfl dX7_readExpression_9 ?_
    refine lv_iconst (v := (2 : Int32)) hx hb dX7_readExpression_12 (by decide) ?_
    refine lv_icmp_eq (tgt := 33) hx hb dX7_readExpression_13 (by decide) (fun c2 => ?_) (fun c2 => ?_)
    · have hw := hw.1 c2
      exact hB33 h hw _ _ ls hM hS (lv_sub hl [0, 1] rfl)
    · have hw := hw.2 c2
      refine lv_aload_n hx hb dX7_readExpression_16 rfl (lv_at hl 0 rfl) ?_
      refine M_get hx hb hts hown hK hM 20 (v := .int (h 20 0)) (by decide) (hts _ q1703) rfl dX7_readExpression_17 ?_
      refine lv_iconst (v := (1 : Int32)) hx hb dX7_readExpression_20 (by decide) ?_
      refine lv_icmp_eq (tgt := 33) hx hb dX7_readExpression_21 (by decide) (fun c21 => ?_) (fun c21 => ?_)
      · have hw := hw.1 c21
        exact hB33 h hw _ _ ls hM hS (lv_sub hl [0, 1] rfl)
      · have hw := hw.2 c21
        refine lv_aload_n hx hb dX7_readExpression_24 rfl (lv_at hl 0 rfl) ?_
        refine lv_bipush (v := (40 : Int32)) hx hb dX7_readExpression_25 (by decide) ?_
        refine M_callZp (As := [.int (40 : Int32)]) (rest := []) ⟨hx, hb, hml, hown, hts⟩ hK hZ hM hJ hS (metX7_isMarked l D cA z0 E ad h (40 : Int32) _ hw) (cwV 1 hts (lw_V q1960 q1962 qs54 q130 q1963) rfl rfl rfl (by decide +kernel) ⟨(show (1) + 1 ≤ fE + 21 by omega), (show 8 + (2 + 11) + (30) ≤ lE + 396 by omega)⟩) rfl hl.1 rfl (Nat.le_of_ble_eq_true rfl) dX7_readExpression_27 ⟨Nat.zero_le _, Nat.zero_le _⟩ (fun r22 H locs hw hM hS => ?_)
        have hj24 : JM p l e (headSpec (ws_ yX7_readExpression cX7_readExpression 3 none) ({ frames := fE + 21, cells := 0, slots := 0, locals := lE + 396 })).room s m ([.ref (ad 69), .int a1] : List Value).toArray below meth c (MQ below (MQv D cA E ad post) ([.ref (ad 69), .int a1] : List Value).toArray s 0 0 (MA ad)) D cA E ad 3 38 h [(0, .ref (ad 69)), (1, .int a1)] [.int (if r22 = true then (1 : Int32) else (0 : Int32))] := by
          intro H locs ls hM hS hl
          exact hB38 h (if r22 = true then (1 : Int32) else (0 : Int32)) hw _ _ ls hM hS (lv_sub hl [0, 1] rfl)
        refine lv_if_eq (tgt := 37) hx hb dX7_readExpression_30 (by decide) (fun c25 => ?_) (fun c25 => ?_)
        · have c25 := b2i_f c25
          refine lv_iconst (v := (0 : Int32)) hx hb dX7_readExpression_37 (by decide) ?_
          have e26 : (if r22 = true then (1 : Int32) else (0 : Int32)) = (0 : Int32) := by rw [if_neg c25]
          rw [e26] at hj24
          exact hj24 _ _ ls hM hS (lv_sub hl [0, 1] rfl)
        · have c25 := b2i_t c25
          refine lv_iconst (v := (1 : Int32)) hx hb dX7_readExpression_33 (by decide) ?_
          refine lv_goto (tgt := 38) hx hb dX7_readExpression_34 (by decide) ?_
          have e27 : (if r22 = true then (1 : Int32) else (0 : Int32)) = (1 : Int32) := by rw [if_pos c25]
          rw [e27] at hj24
          exact hj24 _ _ ls hM hS (lv_sub hl [0, 1] rfl)
  · have hw := hw.2 c1
    exact M_vret hx hb hr hlocks hM hS hw dX7_readExpression_7
theorem metX7_readExpression (l : Launch) (D : va_G) (cA : Nat → ClassId) (z0 : Nat) (E : Nat → Nat → Nat) (ad : Nat → Nat) (d : Nat) : ∀ (h : Mem) (a1 : Int32) (post : Mem → Prop) (hw : wpX7_readExpression d post h a1), MeV l D cA z0 E ad yX7_readExpression (ws_ yX7_readExpression cX7_readExpression 3 none) ({ frames := 21 * d, cells := 0, slots := 0, locals := 396 * d }) [.ref (ad 69), .int a1] h post := by
  induction d with
  | zero => intro h a1 post hw; exact False.elim hw
  | succ d ih => intro h a1 post hw; exact metRX7_readExpression l D cA z0 E ad (wpX7_readExpression d) (21 * d) (396 * d) (fun post h a1 hw => ih h a1 post hw) h a1 post hw

/-- isOf(II)Z -/
def wpX7_isOf (post : Bool → Prop) (h : Mem) (a0 : Int32) (a1 : Int32) : Prop :=
  post (if ((a0 >>> (a1 &&& 31)) &&& (1 : Int32)) = (1 : Int32) then true else false)
set_option maxHeartbeats 4000000 in
set_option maxRecDepth 100000 in
theorem metX7_isOf (l : Launch) (D : va_G) (cA : Nat → ClassId) (z0 : Nat) (E : Nat → Nat → Nat) (ad : Nat → Nat) (h : Mem) (a0 : Int32) (a1 : Int32) (post : Bool → Prop) (hw : wpX7_isOf post h a0 a1) : MeZ l D cA z0 E ad yX7_isOf (ws_ yX7_isOf cX7_isOf 2 (some .boolean)) ({ frames := 1, cells := 0, slots := 0, locals := 30 }) [.int a0, .int a1] h (fun r h' => h' = h ∧ post r) := by
  refine Met.ofW (cc := cX7_isOf) (maxL := 2) (ret := (some .boolean)) (by decide) rfl ?_
  intro p e s m args below meth c s₁ B hml hv
  obtain ⟨rfl, hM, hK, hJ, hZ⟩ := hv
  have hx := B.exec
  have hb := B.bytes
  have hr := B.returns
  have hts := atoms_spec (ws := ws_ yX7_isOf cX7_isOf 2 (some .boolean)) B.pre
  have hts : ∀ w ∈ lw_all, w.before _ s = true := fun w h => hts w (List.mem_cons_of_mem _ h)
  have hown : s.vm.findClass RX7 = some m.cls := findClass_of_methodNamed B.named
  have hlocks := B.notSynchronized
  have hS : va_S (MA ad) s.heap s.heap [] := va_S.rf
  have hl := lv_entry ([.int a0, .int a1]) (n := 2) (Nat.le_of_ble_eq_true rfl)
  rw [lg_entry_eq]
  generalize (lg_sl ([.int a0, .int a1]) ++ List.replicate (2 - (lg_sl ([.int a0, .int a1])).length) Slot.unset).toArray = ls at hl ⊢
  have hl : lv_has ls 2 [(0, .int a0), (1, .int a1)] := hl
  unfold wpX7_isOf at hw
  refine lv_iload_n hx hb dX7_isOf_0 rfl (lv_at hl 0 rfl) ?_
  refine lv_iload_n hx hb dX7_isOf_1 rfl (lv_at hl 1 rfl) ?_
  refine lv_ishr hx hb dX7_isOf_2 ?_
  refine lv_iconst (v := (1 : Int32)) hx hb dX7_isOf_3 (by decide) ?_
  refine lv_iand hx hb dX7_isOf_4 ?_
  refine lv_iconst (v := (1 : Int32)) hx hb dX7_isOf_5 (by decide) ?_
  have hj1 : JM p l e (headSpec (ws_ yX7_isOf cX7_isOf 2 (some .boolean)) ({ frames := 1, cells := 0, slots := 0, locals := 30 })).room s m ([.int a0, .int a1] : List Value).toArray below meth c (MQ below (MQz D cA E ad (fun r h' => h' = h ∧ post r)) ([.int a0, .int a1] : List Value).toArray s 0 0 (MA ad)) D cA E ad 2 14 h [] [.int (if ((a0 >>> (a1 &&& 31)) &&& (1 : Int32)) = (1 : Int32) then (1 : Int32) else (0 : Int32))] := by
    intro H locs ls hM hS hl
    exact M_zret hx hb hr hlocks hM hS ⟨_, (b2i_pick rfl rfl), ⟨rfl, hw⟩⟩ dX7_isOf_14
  refine lv_icmp_ne (tgt := 13) hx hb dX7_isOf_6 (by decide) (fun c2 => ?_) (fun c2 => ?_)
  · refine lv_iconst (v := (0 : Int32)) hx hb dX7_isOf_13 (by decide) ?_
    have e3 : (if ((a0 >>> (a1 &&& 31)) &&& (1 : Int32)) = (1 : Int32) then (1 : Int32) else (0 : Int32)) = (0 : Int32) := by rw [if_neg c2]
    rw [e3] at hj1
    exact hj1 _ _ ls hM hS (lv_sub hl [] rfl)
  · refine lv_iconst (v := (1 : Int32)) hx hb dX7_isOf_9 (by decide) ?_
    refine lv_goto (tgt := 14) hx hb dX7_isOf_10 (by decide) ?_
    have e4 : (if ((a0 >>> (a1 &&& 31)) &&& (1 : Int32)) = (1 : Int32) then (1 : Int32) else (0 : Int32)) = (1 : Int32) := by rw [if_pos c2]
    rw [e4] at hj1
    exact hj1 _ _ ls hM hS (lv_sub hl [] rfl)

/-- personNow()I -/
def wpBX7_personNow_32 (post : Int32 → Mem → Prop)   (h : Mem) (x1 : Int32)  : Prop :=
  post (if (h 24 0) = 0 then x1 else (0 : Int32)) h
def wpX7_personNow (post : Int32 → Mem → Prop) (h : Mem)  : Prop :=
  (wpX7_numberNow (fun r1 h2 => (((h2 24 0) = 0 → ((r1 < (h2 3 6) → wpBX7_personNow_32 post   h2 r1) ∧ (¬ r1 < (h2 3 6) → (wpX7_wrong (fun h10 => wpBX7_personNow_32 post   h10 r1) h2 (3 : Int32))))) ∧ (¬ (h2 24 0) = 0 → wpBX7_personNow_32 post   h2 r1))) h (0 : Int32) (9999 : Int32))
set_option maxHeartbeats 4000000 in
set_option maxRecDepth 100000 in
theorem metX7_personNow (l : Launch) (D : va_G) (cA : Nat → ClassId) (z0 : Nat) (E : Nat → Nat → Nat) (ad : Nat → Nat) (h : Mem)  (post : Int32 → Mem → Prop) (hw : wpX7_personNow post h ) : MeI l D cA z0 E ad yX7_personNow (ws_ yX7_personNow cX7_personNow 2 (some .int)) ({ frames := 3, cells := 0, slots := 0, locals := 73 }) [.ref (ad 69)] h post := by
  refine Met.ofW (cc := cX7_personNow) (maxL := 2) (ret := (some .int)) (by decide) rfl ?_
  intro p e s m args below meth c s₁ B hml hv
  obtain ⟨rfl, hM, hK, hJ, hZ⟩ := hv
  have hx := B.exec
  have hb := B.bytes
  have hr := B.returns
  have hts := atoms_spec (ws := ws_ yX7_personNow cX7_personNow 2 (some .int)) B.pre
  have hts : ∀ w ∈ lw_all, w.before _ s = true := fun w h => hts w (List.mem_cons_of_mem _ h)
  have hown : s.vm.findClass RX7 = some m.cls := findClass_of_methodNamed B.named
  have hlocks := B.notSynchronized
  have hS : va_S (MA ad) s.heap s.heap [] := va_S.rf
  have hl := lv_entry ([.ref (ad 69)]) (n := 2) (Nat.le_of_ble_eq_true rfl)
  rw [lg_entry_eq]
  generalize (lg_sl ([.ref (ad 69)]) ++ List.replicate (2 - (lg_sl ([.ref (ad 69)])).length) Slot.unset).toArray = ls at hl ⊢
  have hl : lv_has ls 2 [(0, .ref (ad 69))] := hl
  have hB32 : ∀ (h : Mem) (x1 : Int32), wpBX7_personNow_32 post   h x1 → JM p l e (headSpec (ws_ yX7_personNow cX7_personNow 2 (some .int)) ({ frames := 3, cells := 0, slots := 0, locals := 73 })).room s m ([.ref (ad 69)] : List Value).toArray below meth c (MQ below (MQi D cA E ad post) ([.ref (ad 69)] : List Value).toArray s 0 0 (MA ad)) D cA E ad 2 32 h [(0, .ref (ad 69)), (1, .int x1)] [] := by
    intro h x1 hw H locs ls hM hS hl
    unfold wpBX7_personNow_32 at hw
    refine lv_aload_n hx hb dX7_personNow_32 rfl (lv_at hl 0 rfl) ?_
    refine M_get hx hb hts hown hK hM 24 (v := .int (h 24 0)) (by decide) (hts _ q1707) rfl dX7_personNow_33 ?_
    have hj4 : JM p l e (headSpec (ws_ yX7_personNow cX7_personNow 2 (some .int)) ({ frames := 3, cells := 0, slots := 0, locals := 73 })).room s m ([.ref (ad 69)] : List Value).toArray below meth c (MQ below (MQi D cA E ad post) ([.ref (ad 69)] : List Value).toArray s 0 0 (MA ad)) D cA E ad 2 44 h [] [.int (if (h 24 0) = 0 then x1 else (0 : Int32))] := by
      intro H locs ls hM hS hl
      exact M_iret hx hb hr hlocks hM hS hw dX7_personNow_44
    refine lv_if_ne (tgt := 43) hx hb dX7_personNow_36 (by decide) (fun c5 => ?_) (fun c5 => ?_)
    · refine lv_iconst (v := (0 : Int32)) hx hb dX7_personNow_43 (by decide) ?_
      have e6 : (if (h 24 0) = 0 then x1 else (0 : Int32)) = (0 : Int32) := by rw [if_neg c5]
      rw [e6] at hj4
      exact hj4 _ _ ls hM hS (lv_sub hl [] rfl)
    · refine lv_iload_n hx hb dX7_personNow_39 rfl (lv_at hl 1 rfl) ?_
      refine lv_goto (tgt := 44) hx hb dX7_personNow_40 (by decide) ?_
      have e7 : (if (h 24 0) = 0 then x1 else (0 : Int32)) = x1 := by rw [if_pos c5]
      rw [e7] at hj4
      exact hj4 _ _ ls hM hS (lv_sub hl [] rfl)
  unfold wpX7_personNow at hw
  refine lv_aload_n hx hb dX7_personNow_0 rfl (lv_at hl 0 rfl) ?_
  refine lv_iconst (v := (0 : Int32)) hx hb dX7_personNow_1 (by decide) ?_
  refine lv_sipush (v := (9999 : Int32)) hx hb dX7_personNow_2 (by decide) ?_
  refine M_callI (As := [.int (0 : Int32), .int (9999 : Int32)]) (rest := []) ⟨hx, hb, hml, hown, hts⟩ hK hZ hM hJ hS (metX7_numberNow l D cA z0 E ad h (0 : Int32) (9999 : Int32) _ hw) (cwV 2 hts (lw_V q1952 q1954 qs52 q130 q1955) rfl rfl rfl (by decide +kernel) ⟨Nat.le_of_ble_eq_true rfl, Nat.le_of_ble_eq_true rfl⟩) rfl hl.1 rfl (Nat.le_of_ble_eq_true rfl) dX7_personNow_5 ⟨Nat.zero_le _, Nat.zero_le _⟩ (fun r1 h2 H locs hw hM hS => ?_)
  refine lv_istore_n (lv' := [(1, .int r1), (0, .ref (ad 69))]) hx hb dX7_personNow_8 rfl hl (by decide) rfl (fun ls hl => ?_)
  refine lv_aload_n hx hb dX7_personNow_9 rfl (lv_at hl 1 rfl) ?_
  refine M_get hx hb hts hown hK hM 24 (v := .int (h2 24 0)) (by decide) (hts _ q1707) rfl dX7_personNow_10 ?_
  refine lv_if_ne (tgt := 32) hx hb dX7_personNow_13 (by decide) (fun c3 => ?_) (fun c3 => ?_)
  · have hw := hw.2 c3
    exact hB32 h2 r1 hw _ _ ls hM hS (lv_sub hl [1, 0] rfl)
  · have hw := hw.1 c3
    refine lv_iload_n hx hb dX7_personNow_16 rfl (lv_at hl 0 rfl) ?_
    refine lv_aload_n hx hb dX7_personNow_17 rfl (lv_at hl 1 rfl) ?_
    refine M_get hx hb hts hown hK hM 3 (v := .ref (ad 3)) (by decide) (hts _ q1686) rfl dX7_personNow_18 ?_
    refine lv_bipush (v := (6 : Int32)) hx hb dX7_personNow_21 (by decide) ?_
    refine M_iald hx hb hK hM 3 rfl (j := 6) rfl (by unfold vp_in; decide) dX7_personNow_23 ?_
    refine lv_icmp_lt (tgt := 32) hx hb dX7_personNow_24 (by decide) (fun c8 => ?_) (fun c8 => ?_)
    · have hw := hw.1 c8
      exact hB32 h2 r1 hw _ _ ls hM hS (lv_sub hl [1, 0] rfl)
    · have hw := hw.2 c8
      refine lv_aload_n hx hb dX7_personNow_27 rfl (lv_at hl 1 rfl) ?_
      refine lv_iconst (v := (3 : Int32)) hx hb dX7_personNow_28 (by decide) ?_
      refine M_callV (As := [.int (3 : Int32)]) (rest := []) ⟨hx, hb, hml, hown, hts⟩ hK hZ hM hJ hS (metX7_wrong l D cA z0 E ad h2 (3 : Int32) _ hw) (cwV 1 hts (lw_V q1944 q1946 qs50 q130 q1947) rfl rfl rfl (by decide +kernel) ⟨Nat.le_of_ble_eq_true rfl, Nat.le_of_ble_eq_true rfl⟩) rfl hl.1 rfl (Nat.le_of_ble_eq_true rfl) dX7_personNow_29 ⟨Nat.zero_le _, Nat.zero_le _⟩ (fun h10 H locs hw hM hS => ?_)
      exact hB32 h10 r1 hw _ _ ls hM hS (lv_sub hl [1, 0] rfl)

/-- readLoaf()V -/
def wpBX7_readLoaf_210 (post : Mem → Prop)   (h : Mem) (x1 : Int32) (x2 : Int32)  : Prop :=
  (vp_in x1 (mlen 11) ∧ (∀ h24 : Mem, h24 = up2 h 11 (ix x1) x2 → (∀ h25 : Mem, h25 = up2 h24 3 7 ((h24 3 7) + (1 : Int32)) → post h25)))
def wpBX7_readLoaf_170 (post : Mem → Prop)  (K117 : Mem → Int32 → Int32 → Prop) (h : Mem) (x1 : Int32) (x2 : Int32) (x3 : Int32) (x4 : Int32)  : Prop :=
  (((h 24 0) = 0 → (vp_in (((6 : Int32) * x1) + x2) (mlen 12) ∧ (∀ h33 : Mem, h33 = up2 h 12 (ix (((6 : Int32) * x1) + x2)) x4 → (wpX7_stepOn (fun h35 => K117 h35 (x2 + (1 : Int32)) (x3 ||| ((1 : Int32) <<< (x4 &&& 31)))) h33 )))) ∧ (¬ (h 24 0) = 0 → K117 h x2 x3))
def wpBX7_readLoaf_143 (post : Mem → Prop)  (K117 : Mem → Int32 → Int32 → Prop) (h : Mem) (x1 : Int32) (x2 : Int32) (x3 : Int32)  : Prop :=
  (wpX7_personNow (fun r28 h29 => (((h29 24 0) = 0 → (wpX7_isOf (fun r36 => ((r36 = true → (wpX7_wrong (fun h40 => wpBX7_readLoaf_170 post  K117 h40 x1 x2 x3 r28) h29 (4 : Int32))) ∧ (¬ r36 = true → wpBX7_readLoaf_170 post  K117 h29 x1 x2 x3 r28))) h29 x3 r28)) ∧ (¬ (h29 24 0) = 0 → wpBX7_readLoaf_170 post  K117 h29 x1 x2 x3 r28))) h )
def wpBX7_readLoaf_117 (post : Mem → Prop)   (K117 : Mem → Int32 → Int32 → Prop) (x1 : Int32) (h : Mem) (x2 : Int32) (x3 : Int32) : Prop :=
  (((h 24 0) = 0 → (((h 20 0) = (2 : Int32) → ((x2 = (6 : Int32) → (wpX7_wrong (fun h42 => wpBX7_readLoaf_143 post  K117 h42 x1 x2 x3) h (2 : Int32))) ∧ (¬ x2 = (6 : Int32) → wpBX7_readLoaf_143 post  K117 h x1 x2 x3))) ∧ (¬ (h 20 0) = (2 : Int32) → wpBX7_readLoaf_210 post   h x1 x2))) ∧ (¬ (h 24 0) = 0 → wpBX7_readLoaf_210 post   h x1 x2))
def wpLX7_readLoaf_117 (post : Mem → Prop)   (x1 : Int32) : Nat → (Mem × Int32 × Int32) → Prop := LW (fun K s => wpBX7_readLoaf_117 post   (fun h x2 x3 => K (h, x2, x3)) x1 s.1 s.2.1 s.2.2)
def wpBX7_readLoaf_17 (post : Mem → Prop)   (h : Mem)   : Prop :=
  (((h 24 0) = 0 → (wpX7_stepOn (fun h4 => (wpX7_readNumber (fun r5 h6 => (vp_in ((6 : Int32) + (h4 3 7)) (mlen 7) ∧ (∀ h8 : Mem, h8 = up2 h6 7 (ix ((6 : Int32) + (h4 3 7))) r5 → (wpX7_readNumber (fun r9 h10 => (vp_in ((6 : Int32) + (h4 3 7)) (mlen 8) ∧ (∀ h12 : Mem, h12 = up2 h10 8 (ix ((6 : Int32) + (h4 3 7))) r9 → (wpX7_readNumber (fun r13 h14 => (vp_in ((6 : Int32) + (h4 3 7)) (mlen 9) ∧ (∀ h16 : Mem, h16 = up2 h14 9 (ix ((6 : Int32) + (h4 3 7))) r13 → (wpX7_readNumber (fun r17 h18 => (vp_in ((6 : Int32) + (h4 3 7)) (mlen 10) ∧ (∀ h20 : Mem, h20 = up2 h18 10 (ix ((6 : Int32) + (h4 3 7))) r17 → (((h20 24 0) = 0 → (((h20 20 0) = (2 : Int32) → (∃ n, wpLX7_readLoaf_117 post   ((6 : Int32) + (h4 3 7)) n (h20, (0 : Int32), (0 : Int32)))) ∧ (¬ (h20 20 0) = (2 : Int32) → (wpX7_wrong (fun h47 => (∃ n, wpLX7_readLoaf_117 post   ((6 : Int32) + (h4 3 7)) n (h47, (0 : Int32), (0 : Int32)))) h20 (1 : Int32))))) ∧ (¬ (h20 24 0) = 0 → (∃ n, wpLX7_readLoaf_117 post   ((6 : Int32) + (h4 3 7)) n (h20, (0 : Int32), (0 : Int32)))))))) h16 (1 : Int32) (23 : Int32))))) h12 (0 : Int32) (23 : Int32))))) h8 (1 : Int32) (999 : Int32))))) h4 (0 : Int32) (9 : Int32))) h )) ∧ (¬ (h 24 0) = 0 → post h))
def wpX7_readLoaf (post : Mem → Prop) (h : Mem)  : Prop :=
  (((h 3 7) = (6 : Int32) → (wpX7_wrong (fun h50 => wpBX7_readLoaf_17 post   h50 ) h (2 : Int32))) ∧ (¬ (h 3 7) = (6 : Int32) → wpBX7_readLoaf_17 post   h ))
set_option maxHeartbeats 4000000 in
set_option maxRecDepth 100000 in
theorem metX7_readLoaf (l : Launch) (D : va_G) (cA : Nat → ClassId) (z0 : Nat) (E : Nat → Nat → Nat) (ad : Nat → Nat) (h : Mem)  (post : Mem → Prop) (hw : wpX7_readLoaf post h ) : MeV l D cA z0 E ad yX7_readLoaf (ws_ yX7_readLoaf cX7_readLoaf 5 none) ({ frames := 4, cells := 0, slots := 0, locals := 96 }) [.ref (ad 69)] h post := by
  refine Met.ofW (cc := cX7_readLoaf) (maxL := 5) (ret := none) (by decide) rfl ?_
  intro p e s m args below meth c s₁ B hml hv
  obtain ⟨rfl, hM, hK, hJ, hZ⟩ := hv
  have hx := B.exec
  have hb := B.bytes
  have hr := B.returns
  have hts := atoms_spec (ws := ws_ yX7_readLoaf cX7_readLoaf 5 none) B.pre
  have hts : ∀ w ∈ lw_all, w.before _ s = true := fun w h => hts w (List.mem_cons_of_mem _ h)
  have hown : s.vm.findClass RX7 = some m.cls := findClass_of_methodNamed B.named
  have hlocks := B.notSynchronized
  have hS : va_S (MA ad) s.heap s.heap [] := va_S.rf
  have hl := lv_entry ([.ref (ad 69)]) (n := 5) (Nat.le_of_ble_eq_true rfl)
  rw [lg_entry_eq]
  generalize (lg_sl ([.ref (ad 69)]) ++ List.replicate (5 - (lg_sl ([.ref (ad 69)])).length) Slot.unset).toArray = ls at hl ⊢
  have hl : lv_has ls 5 [(0, .ref (ad 69))] := hl
  have hB210 : ∀ (h : Mem) (x1 : Int32) (x2 : Int32), wpBX7_readLoaf_210 post   h x1 x2 → JM p l e (headSpec (ws_ yX7_readLoaf cX7_readLoaf 5 none) ({ frames := 4, cells := 0, slots := 0, locals := 96 })).room s m ([.ref (ad 69)] : List Value).toArray below meth c (MQ below (MQv D cA E ad post) ([.ref (ad 69)] : List Value).toArray s 0 0 (MA ad)) D cA E ad 5 210 h [(0, .ref (ad 69)), (1, .int x1), (2, .int x2)] [] := by
    intro h x1 x2 hw H locs ls hM hS hl
    unfold wpBX7_readLoaf_210 at hw
    refine lv_aload_n hx hb dX7_readLoaf_210 rfl (lv_at hl 0 rfl) ?_
    refine M_get hx hb hts hown hK hM 11 (v := .ref (ad 11)) (by decide) (hts _ q1694) rfl dX7_readLoaf_211 ?_
    refine lv_iload_n hx hb dX7_readLoaf_214 rfl (lv_at hl 1 rfl) ?_
    refine lv_iload_n hx hb dX7_readLoaf_215 rfl (lv_at hl 2 rfl) ?_
    obtain ⟨hb23, hw⟩ := hw
    refine M_iast hx hb hK hM hJ hS 11 rfl (j := (ix x1)) rfl hb23 dX7_readLoaf_216 (fun H locs hM hS => ?_)
    obtain ⟨h24, eh24⟩ : ∃ y : Mem, y = up2 h 11 (ix x1) x2 := ⟨_, rfl⟩
    rw [← eh24] at hM
    have hw := hw h24 eh24
    refine lv_aload_n hx hb dX7_readLoaf_217 rfl (lv_at hl 0 rfl) ?_
    refine M_get hx hb hts hown hK hM 3 (v := .ref (ad 3)) (by decide) (hts _ q1686) rfl dX7_readLoaf_218 ?_
    refine lv_bipush (v := (7 : Int32)) hx hb dX7_readLoaf_221 (by decide) ?_
    refine lv_dup2_11 hx hb dX7_readLoaf_223 rfl rfl ?_
    refine M_iald hx hb hK hM 3 rfl (j := 7) rfl (by unfold vp_in; decide) dX7_readLoaf_224 ?_
    refine lv_iconst (v := (1 : Int32)) hx hb dX7_readLoaf_225 (by decide) ?_
    refine lv_iadd hx hb dX7_readLoaf_226 ?_
    refine M_iast hx hb hK hM hJ hS 3 rfl (j := 7) rfl (by unfold vp_in; decide) dX7_readLoaf_227 (fun H locs hM hS => ?_)
    obtain ⟨h25, eh25⟩ : ∃ y : Mem, y = up2 h24 3 7 ((h24 3 7) + (1 : Int32)) := ⟨_, rfl⟩
    rw [← eh25] at hM
    have hw := hw h25 eh25
    exact M_vret hx hb hr hlocks hM hS hw dX7_readLoaf_228
  have hL117 : ∀ (x1 : Int32) (n117 : Nat) (h : Mem) (x2 : Int32) (x3 : Int32), wpLX7_readLoaf_117 post   x1 n117 (h, x2, x3) → JM p l e (headSpec (ws_ yX7_readLoaf cX7_readLoaf 5 none) ({ frames := 4, cells := 0, slots := 0, locals := 96 })).room s m ([.ref (ad 69)] : List Value).toArray below meth c (MQ below (MQv D cA E ad post) ([.ref (ad 69)] : List Value).toArray s 0 0 (MA ad)) D cA E ad 5 117 h [(0, .ref (ad 69)), (1, .int x1), (2, .int x2), (3, .int x3)] [] := by
    intro x1 n117
    induction n117 with
    | zero => intro h x2 x3 hw; exact False.elim hw
    | succ n117 ih117 =>
      have hB170 : ∀ (h : Mem) (x2 : Int32) (x3 : Int32) (x4 : Int32), wpBX7_readLoaf_170 post  (fun h x2 x3 => wpLX7_readLoaf_117 post   x1 n117 (h, x2, x3)) h x1 x2 x3 x4 → JM p l e (headSpec (ws_ yX7_readLoaf cX7_readLoaf 5 none) ({ frames := 4, cells := 0, slots := 0, locals := 96 })).room s m ([.ref (ad 69)] : List Value).toArray below meth c (MQ below (MQv D cA E ad post) ([.ref (ad 69)] : List Value).toArray s 0 0 (MA ad)) D cA E ad 5 170 h [(0, .ref (ad 69)), (1, .int x1), (2, .int x2), (3, .int x3), (4, .int x4)] [] := by
        intro h x2 x3 x4 hw H locs ls hM hS hl
        unfold wpBX7_readLoaf_170 at hw
        refine lv_aload_n hx hb dX7_readLoaf_170 rfl (lv_at hl 0 rfl) ?_
        refine M_get hx hb hts hown hK hM 24 (v := .int (h 24 0)) (by decide) (hts _ q1707) rfl dX7_readLoaf_171 ?_
        refine lv_if_eq (tgt := 180) hx hb dX7_readLoaf_174 (by decide) (fun c31 => ?_) (fun c31 => ?_)
        · have hw := hw.1 c31
          refine lv_iload_n hx hb dX7_readLoaf_180 rfl (lv_at hl 3 rfl) ?_
          refine lv_iconst (v := (1 : Int32)) hx hb dX7_readLoaf_181 (by decide) ?_
          refine lv_iload hx hb dX7_readLoaf_182 (lv_at hl 4 rfl) ?_
          refine lv_ishl hx hb dX7_readLoaf_184 ?_
          refine lv_ior hx hb dX7_readLoaf_185 ?_
          refine lv_istore_n (lv' := [(3, .int (x3 ||| ((1 : Int32) <<< (x4 &&& 31)))), (0, .ref (ad 69)), (1, .int x1), (2, .int x2), (4, .int x4)]) hx hb dX7_readLoaf_186 rfl hl (by decide) rfl (fun ls hl => ?_)
          refine lv_aload_n hx hb dX7_readLoaf_187 rfl (lv_at hl 1 rfl) ?_
          refine M_get hx hb hts hown hK hM 12 (v := .ref (ad 12)) (by decide) (hts _ q1695) rfl dX7_readLoaf_188 ?_
          refine lv_bipush (v := (6 : Int32)) hx hb dX7_readLoaf_191 (by decide) ?_
          refine lv_iload_n hx hb dX7_readLoaf_193 rfl (lv_at hl 2 rfl) ?_
          refine lv_imul hx hb dX7_readLoaf_194 ?_
          refine lv_iload_n hx hb dX7_readLoaf_195 rfl (lv_at hl 3 rfl) ?_
          refine lv_iadd hx hb dX7_readLoaf_196 ?_
          refine lv_iload hx hb dX7_readLoaf_197 (lv_at hl 4 rfl) ?_
          obtain ⟨hb32, hw⟩ := hw
          refine M_iast hx hb hK hM hJ hS 12 rfl (j := (ix (((6 : Int32) * x1) + x2))) rfl hb32 dX7_readLoaf_199 (fun H locs hM hS => ?_)
          obtain ⟨h33, eh33⟩ : ∃ y : Mem, y = up2 h 12 (ix (((6 : Int32) * x1) + x2)) x4 := ⟨_, rfl⟩
          rw [← eh33] at hM
          have hw := hw h33 eh33
          refine lv_iinc (v := (x2 + (1 : Int32))) (lv' := [(2, .int (x2 + (1 : Int32))), (3, .int (x3 ||| ((1 : Int32) <<< (x4 &&& 31)))), (0, .ref (ad 69)), (1, .int x1), (4, .int x4)]) hx hb dX7_readLoaf_200 hl (k := 3) rfl rfl (by decide) rfl (fun ls hl => ?_)
          refine lv_aload_n hx hb dX7_readLoaf_203 rfl (lv_at hl 2 rfl) ?_
          refine M_callV (As := []) (rest := []) ⟨hx, hb, hml, hown, hts⟩ hK hZ hM hJ hS (metX7_stepOn l D cA z0 E ad h33  _ hw) (cwV 0 hts (lw_V q1908 q1910 qs45 q130 q1911) rfl rfl rfl (by decide +kernel) ⟨Nat.le_of_ble_eq_true rfl, Nat.le_of_ble_eq_true rfl⟩) rfl hl.1 rfl (Nat.le_of_ble_eq_true rfl) dX7_readLoaf_204 ⟨Nat.zero_le _, Nat.zero_le _⟩ (fun h35 H locs hw hM hS => ?_)
          refine lv_goto (tgt := 117) hx hb dX7_readLoaf_207 (by decide) ?_
          exact ih117 h35 (x2 + (1 : Int32)) (x3 ||| ((1 : Int32) <<< (x4 &&& 31))) hw _ _ ls hM hS (lv_sub hl [2, 3, 0, 1] rfl)
        · have hw := hw.2 c31
          refine lv_goto (tgt := 117) hx hb dX7_readLoaf_177 (by decide) ?_
          exact ih117 h x2 x3 hw _ _ ls hM hS (lv_sub hl [0, 1, 2, 3] rfl)
      have hB143 : ∀ (h : Mem) (x2 : Int32) (x3 : Int32), wpBX7_readLoaf_143 post  (fun h x2 x3 => wpLX7_readLoaf_117 post   x1 n117 (h, x2, x3)) h x1 x2 x3 → JM p l e (headSpec (ws_ yX7_readLoaf cX7_readLoaf 5 none) ({ frames := 4, cells := 0, slots := 0, locals := 96 })).room s m ([.ref (ad 69)] : List Value).toArray below meth c (MQ below (MQv D cA E ad post) ([.ref (ad 69)] : List Value).toArray s 0 0 (MA ad)) D cA E ad 5 143 h [(0, .ref (ad 69)), (1, .int x1), (2, .int x2), (3, .int x3)] [] := by
        intro h x2 x3 hw H locs ls hM hS hl
        unfold wpBX7_readLoaf_143 at hw
        refine lv_aload_n hx hb dX7_readLoaf_143 rfl (lv_at hl 0 rfl) ?_
        refine M_callI (As := []) (rest := []) ⟨hx, hb, hml, hown, hts⟩ hK hZ hM hJ hS (metX7_personNow l D cA z0 E ad h  _ hw) (cwV 0 hts (lw_V q2004 q2006 qs64 q130 q2007) rfl rfl rfl (by decide +kernel) ⟨Nat.le_of_ble_eq_true rfl, Nat.le_of_ble_eq_true rfl⟩) rfl hl.1 rfl (Nat.le_of_ble_eq_true rfl) dX7_readLoaf_144 ⟨Nat.zero_le _, Nat.zero_le _⟩ (fun r28 h29 H locs hw hM hS => ?_)
        refine lv_istore (lv' := [(4, .int r28), (0, .ref (ad 69)), (1, .int x1), (2, .int x2), (3, .int x3)]) hx hb dX7_readLoaf_147 hl (by decide) rfl (fun ls hl => ?_)
        refine lv_aload_n hx hb dX7_readLoaf_149 rfl (lv_at hl 1 rfl) ?_
        refine M_get hx hb hts hown hK hM 24 (v := .int (h29 24 0)) (by decide) (hts _ q1707) rfl dX7_readLoaf_150 ?_
        refine lv_if_ne (tgt := 170) hx hb dX7_readLoaf_153 (by decide) (fun c30 => ?_) (fun c30 => ?_)
        · have hw := hw.2 c30
          exact hB170 h29 x2 x3 r28 hw _ _ ls hM hS (lv_sub hl [1, 2, 3, 4, 0] rfl)
        · have hw := hw.1 c30
          refine lv_iload_n hx hb dX7_readLoaf_156 rfl (lv_at hl 4 rfl) ?_
          refine lv_iload hx hb dX7_readLoaf_157 (lv_at hl 0 rfl) ?_
          refine M_callZSp (As := [.int x3, .int r28]) (rest := []) ⟨hx, hb, hml, hown, hts⟩ hK hZ hM hJ hS (metX7_isOf l D cA z0 E ad h29 x3 r28 _ hw) (va_cwS 2 hts (lw_S q2008 q2009 q130 q2010) rfl rfl rfl (by decide +kernel) ⟨Nat.le_of_ble_eq_true rfl, Nat.le_of_ble_eq_true rfl⟩) rfl hl.1 rfl (Nat.le_of_ble_eq_true rfl) dX7_readLoaf_159 ⟨Nat.zero_le _, Nat.zero_le _⟩ (fun r36 H locs hw hM hS => ?_)
          refine lv_if_eq (tgt := 170) hx hb dX7_readLoaf_162 (by decide) (fun c38 => ?_) (fun c38 => ?_)
          · have c38 := b2i_f c38
            have hw := hw.2 c38
            exact hB170 h29 x2 x3 r28 hw _ _ ls hM hS (lv_sub hl [1, 2, 3, 4, 0] rfl)
          · have c38 := b2i_t c38
            have hw := hw.1 c38
            refine lv_aload_n hx hb dX7_readLoaf_165 rfl (lv_at hl 1 rfl) ?_
            refine lv_iconst (v := (4 : Int32)) hx hb dX7_readLoaf_166 (by decide) ?_
            refine M_callV (As := [.int (4 : Int32)]) (rest := []) ⟨hx, hb, hml, hown, hts⟩ hK hZ hM hJ hS (metX7_wrong l D cA z0 E ad h29 (4 : Int32) _ hw) (cwV 1 hts (lw_V q1944 q1946 qs50 q130 q1947) rfl rfl rfl (by decide +kernel) ⟨Nat.le_of_ble_eq_true rfl, Nat.le_of_ble_eq_true rfl⟩) rfl hl.1 rfl (Nat.le_of_ble_eq_true rfl) dX7_readLoaf_167 ⟨Nat.zero_le _, Nat.zero_le _⟩ (fun h40 H locs hw hM hS => ?_)
            exact hB170 h40 x2 x3 r28 hw _ _ ls hM hS (lv_sub hl [1, 2, 3, 4, 0] rfl)
      intro h x2 x3 hw H locs ls hM hS hl
      have hw : wpBX7_readLoaf_117 post   (fun h x2 x3 => wpLX7_readLoaf_117 post   x1 n117 (h, x2, x3)) x1 h x2 x3 := hw
      unfold wpBX7_readLoaf_117 at hw
      refine lv_aload_n hx hb dX7_readLoaf_117 rfl (lv_at hl 0 rfl) ?_
      refine M_get hx hb hts hown hK hM 24 (v := .int (h 24 0)) (by decide) (hts _ q1707) rfl dX7_readLoaf_118 ?_
      refine lv_if_ne (tgt := 210) hx hb dX7_readLoaf_121 (by decide) (fun c22 => ?_) (fun c22 => ?_)
      · have hw := hw.2 c22
        exact hB210 h x1 x2 hw _ _ ls hM hS (lv_sub hl [0, 1, 2] rfl)
      · have hw := hw.1 c22
        refine lv_aload_n hx hb dX7_readLoaf_124 rfl (lv_at hl 0 rfl) ?_
        refine M_get hx hb hts hown hK hM 20 (v := .int (h 20 0)) (by decide) (hts _ q1703) rfl dX7_readLoaf_125 ?_
        refine lv_iconst (v := (2 : Int32)) hx hb dX7_readLoaf_128 (by decide) ?_
        refine lv_icmp_ne (tgt := 210) hx hb dX7_readLoaf_129 (by decide) (fun c26 => ?_) (fun c26 => ?_)
        · have hw := hw.2 c26
          exact hB210 h x1 x2 hw _ _ ls hM hS (lv_sub hl [0, 1, 2] rfl)
        · have hw := hw.1 c26
          refine lv_iload_n hx hb dX7_readLoaf_132 rfl (lv_at hl 2 rfl) ?_
          refine lv_bipush (v := (6 : Int32)) hx hb dX7_readLoaf_133 (by decide) ?_
          refine lv_icmp_ne (tgt := 143) hx hb dX7_readLoaf_135 (by decide) (fun c27 => ?_) (fun c27 => ?_)
          · have hw := hw.2 c27
            exact hB143 h x2 x3 hw _ _ ls hM hS (lv_sub hl [0, 1, 2, 3] rfl)
          · have hw := hw.1 c27
            refine lv_aload_n hx hb dX7_readLoaf_138 rfl (lv_at hl 0 rfl) ?_
            refine lv_iconst (v := (2 : Int32)) hx hb dX7_readLoaf_139 (by decide) ?_
            refine M_callV (As := [.int (2 : Int32)]) (rest := []) ⟨hx, hb, hml, hown, hts⟩ hK hZ hM hJ hS (metX7_wrong l D cA z0 E ad h (2 : Int32) _ hw) (cwV 1 hts (lw_V q1944 q1946 qs50 q130 q1947) rfl rfl rfl (by decide +kernel) ⟨Nat.le_of_ble_eq_true rfl, Nat.le_of_ble_eq_true rfl⟩) rfl hl.1 rfl (Nat.le_of_ble_eq_true rfl) dX7_readLoaf_140 ⟨Nat.zero_le _, Nat.zero_le _⟩ (fun h42 H locs hw hM hS => ?_)
            exact hB143 h42 x2 x3 hw _ _ ls hM hS (lv_sub hl [0, 1, 2, 3] rfl)
  have hB17 : ∀ (h : Mem), wpBX7_readLoaf_17 post   h  → JM p l e (headSpec (ws_ yX7_readLoaf cX7_readLoaf 5 none) ({ frames := 4, cells := 0, slots := 0, locals := 96 })).room s m ([.ref (ad 69)] : List Value).toArray below meth c (MQ below (MQv D cA E ad post) ([.ref (ad 69)] : List Value).toArray s 0 0 (MA ad)) D cA E ad 5 17 h [(0, .ref (ad 69))] [] := by
    intro h hw H locs ls hM hS hl
    unfold wpBX7_readLoaf_17 at hw
    refine lv_aload_n hx hb dX7_readLoaf_17 rfl (lv_at hl 0 rfl) ?_
    refine M_get hx hb hts hown hK hM 24 (v := .int (h 24 0)) (by decide) (hts _ q1707) rfl dX7_readLoaf_18 ?_
    refine lv_if_eq (tgt := 25) hx hb dX7_readLoaf_21 (by decide) (fun c2 => ?_) (fun c2 => ?_)
    · have hw := hw.1 c2
      refine lv_aload_n hx hb dX7_readLoaf_25 rfl (lv_at hl 0 rfl) ?_
      refine M_callV (As := []) (rest := []) ⟨hx, hb, hml, hown, hts⟩ hK hZ hM hJ hS (metX7_stepOn l D cA z0 E ad h  _ hw) (cwV 0 hts (lw_V q1908 q1910 qs45 q130 q1911) rfl rfl rfl (by decide +kernel) ⟨Nat.le_of_ble_eq_true rfl, Nat.le_of_ble_eq_true rfl⟩) rfl hl.1 rfl (Nat.le_of_ble_eq_true rfl) dX7_readLoaf_26 ⟨Nat.zero_le _, Nat.zero_le _⟩ (fun h4 H locs hw hM hS => ?_)
      refine lv_bipush (v := (6 : Int32)) hx hb dX7_readLoaf_29 (by decide) ?_
      refine lv_aload_n hx hb dX7_readLoaf_31 rfl (lv_at hl 0 rfl) ?_
      refine M_get hx hb hts hown hK hM 3 (v := .ref (ad 3)) (by decide) (hts _ q1686) rfl dX7_readLoaf_32 ?_
      refine lv_bipush (v := (7 : Int32)) hx hb dX7_readLoaf_35 (by decide) ?_
      refine M_iald hx hb hK hM 3 rfl (j := 7) rfl (by unfold vp_in; decide) dX7_readLoaf_37 ?_
      refine lv_iadd hx hb dX7_readLoaf_38 ?_
      refine lv_istore_n (lv' := [(1, .int ((6 : Int32) + (h4 3 7))), (0, .ref (ad 69))]) hx hb dX7_readLoaf_39 rfl hl (by decide) rfl (fun ls hl => ?_)
      refine lv_aload_n hx hb dX7_readLoaf_40 rfl (lv_at hl 1 rfl) ?_
      refine M_get hx hb hts hown hK hM 7 (v := .ref (ad 7)) (by decide) (hts _ q1690) rfl dX7_readLoaf_41 ?_
      refine lv_iload_n hx hb dX7_readLoaf_44 rfl (lv_at hl 0 rfl) ?_
      refine lv_aload_n hx hb dX7_readLoaf_45 rfl (lv_at hl 1 rfl) ?_
      refine lv_iconst (v := (0 : Int32)) hx hb dX7_readLoaf_46 (by decide) ?_
      refine lv_bipush (v := (9 : Int32)) hx hb dX7_readLoaf_47 (by decide) ?_
      refine M_callI (As := [.int (0 : Int32), .int (9 : Int32)]) (rest := [.int ((6 : Int32) + (h4 3 7)), .ref (ad 7)]) ⟨hx, hb, hml, hown, hts⟩ hK hZ hM hJ hS (metX7_readNumber l D cA z0 E ad h4 (0 : Int32) (9 : Int32) _ hw) (cwV 2 hts (lw_V q1948 q1950 qs51 q130 q1951) rfl rfl rfl (by decide +kernel) ⟨Nat.le_of_ble_eq_true rfl, Nat.le_of_ble_eq_true rfl⟩) rfl hl.1 rfl (Nat.le_of_ble_eq_true rfl) dX7_readLoaf_49 ⟨Nat.zero_le _, Nat.zero_le _⟩ (fun r5 h6 H locs hw hM hS => ?_)
      obtain ⟨hb7, hw⟩ := hw
      refine M_iast hx hb hK hM hJ hS 7 rfl (j := (ix ((6 : Int32) + (h4 3 7)))) rfl hb7 dX7_readLoaf_52 (fun H locs hM hS => ?_)
      obtain ⟨h8, eh8⟩ : ∃ y : Mem, y = up2 h6 7 (ix ((6 : Int32) + (h4 3 7))) r5 := ⟨_, rfl⟩
      rw [← eh8] at hM
      have hw := hw h8 eh8
      refine lv_aload_n hx hb dX7_readLoaf_53 rfl (lv_at hl 1 rfl) ?_
      refine M_get hx hb hts hown hK hM 8 (v := .ref (ad 8)) (by decide) (hts _ q1691) rfl dX7_readLoaf_54 ?_
      refine lv_iload_n hx hb dX7_readLoaf_57 rfl (lv_at hl 0 rfl) ?_
      refine lv_aload_n hx hb dX7_readLoaf_58 rfl (lv_at hl 1 rfl) ?_
      refine lv_iconst (v := (1 : Int32)) hx hb dX7_readLoaf_59 (by decide) ?_
      refine lv_sipush (v := (999 : Int32)) hx hb dX7_readLoaf_60 (by decide) ?_
      refine M_callI (As := [.int (1 : Int32), .int (999 : Int32)]) (rest := [.int ((6 : Int32) + (h4 3 7)), .ref (ad 8)]) ⟨hx, hb, hml, hown, hts⟩ hK hZ hM hJ hS (metX7_readNumber l D cA z0 E ad h8 (1 : Int32) (999 : Int32) _ hw) (cwV 2 hts (lw_V q1948 q1950 qs51 q130 q1951) rfl rfl rfl (by decide +kernel) ⟨Nat.le_of_ble_eq_true rfl, Nat.le_of_ble_eq_true rfl⟩) rfl hl.1 rfl (Nat.le_of_ble_eq_true rfl) dX7_readLoaf_63 ⟨Nat.zero_le _, Nat.zero_le _⟩ (fun r9 h10 H locs hw hM hS => ?_)
      obtain ⟨hb11, hw⟩ := hw
      refine M_iast hx hb hK hM hJ hS 8 rfl (j := (ix ((6 : Int32) + (h4 3 7)))) rfl hb11 dX7_readLoaf_66 (fun H locs hM hS => ?_)
      obtain ⟨h12, eh12⟩ : ∃ y : Mem, y = up2 h10 8 (ix ((6 : Int32) + (h4 3 7))) r9 := ⟨_, rfl⟩
      rw [← eh12] at hM
      have hw := hw h12 eh12
      refine lv_aload_n hx hb dX7_readLoaf_67 rfl (lv_at hl 1 rfl) ?_
      refine M_get hx hb hts hown hK hM 9 (v := .ref (ad 9)) (by decide) (hts _ q1692) rfl dX7_readLoaf_68 ?_
      refine lv_iload_n hx hb dX7_readLoaf_71 rfl (lv_at hl 0 rfl) ?_
      refine lv_aload_n hx hb dX7_readLoaf_72 rfl (lv_at hl 1 rfl) ?_
      refine lv_iconst (v := (0 : Int32)) hx hb dX7_readLoaf_73 (by decide) ?_
      refine lv_bipush (v := (23 : Int32)) hx hb dX7_readLoaf_74 (by decide) ?_
      refine M_callI (As := [.int (0 : Int32), .int (23 : Int32)]) (rest := [.int ((6 : Int32) + (h4 3 7)), .ref (ad 9)]) ⟨hx, hb, hml, hown, hts⟩ hK hZ hM hJ hS (metX7_readNumber l D cA z0 E ad h12 (0 : Int32) (23 : Int32) _ hw) (cwV 2 hts (lw_V q1948 q1950 qs51 q130 q1951) rfl rfl rfl (by decide +kernel) ⟨Nat.le_of_ble_eq_true rfl, Nat.le_of_ble_eq_true rfl⟩) rfl hl.1 rfl (Nat.le_of_ble_eq_true rfl) dX7_readLoaf_76 ⟨Nat.zero_le _, Nat.zero_le _⟩ (fun r13 h14 H locs hw hM hS => ?_)
      obtain ⟨hb15, hw⟩ := hw
      refine M_iast hx hb hK hM hJ hS 9 rfl (j := (ix ((6 : Int32) + (h4 3 7)))) rfl hb15 dX7_readLoaf_79 (fun H locs hM hS => ?_)
      obtain ⟨h16, eh16⟩ : ∃ y : Mem, y = up2 h14 9 (ix ((6 : Int32) + (h4 3 7))) r13 := ⟨_, rfl⟩
      rw [← eh16] at hM
      have hw := hw h16 eh16
      refine lv_aload_n hx hb dX7_readLoaf_80 rfl (lv_at hl 1 rfl) ?_
      refine M_get hx hb hts hown hK hM 10 (v := .ref (ad 10)) (by decide) (hts _ q1693) rfl dX7_readLoaf_81 ?_
      refine lv_iload_n hx hb dX7_readLoaf_84 rfl (lv_at hl 0 rfl) ?_
      refine lv_aload_n hx hb dX7_readLoaf_85 rfl (lv_at hl 1 rfl) ?_
      refine lv_iconst (v := (1 : Int32)) hx hb dX7_readLoaf_86 (by decide) ?_
      refine lv_bipush (v := (23 : Int32)) hx hb dX7_readLoaf_87 (by decide) ?_
      refine M_callI (As := [.int (1 : Int32), .int (23 : Int32)]) (rest := [.int ((6 : Int32) + (h4 3 7)), .ref (ad 10)]) ⟨hx, hb, hml, hown, hts⟩ hK hZ hM hJ hS (metX7_readNumber l D cA z0 E ad h16 (1 : Int32) (23 : Int32) _ hw) (cwV 2 hts (lw_V q1948 q1950 qs51 q130 q1951) rfl rfl rfl (by decide +kernel) ⟨Nat.le_of_ble_eq_true rfl, Nat.le_of_ble_eq_true rfl⟩) rfl hl.1 rfl (Nat.le_of_ble_eq_true rfl) dX7_readLoaf_89 ⟨Nat.zero_le _, Nat.zero_le _⟩ (fun r17 h18 H locs hw hM hS => ?_)
      obtain ⟨hb19, hw⟩ := hw
      refine M_iast hx hb hK hM hJ hS 10 rfl (j := (ix ((6 : Int32) + (h4 3 7)))) rfl hb19 dX7_readLoaf_92 (fun H locs hM hS => ?_)
      obtain ⟨h20, eh20⟩ : ∃ y : Mem, y = up2 h18 10 (ix ((6 : Int32) + (h4 3 7))) r17 := ⟨_, rfl⟩
      rw [← eh20] at hM
      have hw := hw h20 eh20
      refine lv_iconst (v := (0 : Int32)) hx hb dX7_readLoaf_93 (by decide) ?_
      refine lv_istore_n (lv' := [(2, .int (0 : Int32)), (1, .int ((6 : Int32) + (h4 3 7))), (0, .ref (ad 69))]) hx hb dX7_readLoaf_94 rfl hl (by decide) rfl (fun ls hl => ?_)
      refine lv_iconst (v := (0 : Int32)) hx hb dX7_readLoaf_95 (by decide) ?_
      refine lv_istore_n (lv' := [(3, .int (0 : Int32)), (2, .int (0 : Int32)), (1, .int ((6 : Int32) + (h4 3 7))), (0, .ref (ad 69))]) hx hb dX7_readLoaf_96 rfl hl (by decide) rfl (fun ls hl => ?_)
      refine lv_aload_n hx hb dX7_readLoaf_97 rfl (lv_at hl 3 rfl) ?_
      refine M_get hx hb hts hown hK hM 24 (v := .int (h20 24 0)) (by decide) (hts _ q1707) rfl dX7_readLoaf_98 ?_
      refine lv_if_ne (tgt := 117) hx hb dX7_readLoaf_101 (by decide) (fun c21 => ?_) (fun c21 => ?_)
      · have hw := hw.2 c21
        obtain ⟨n43, hw⟩ := hw
        exact hL117 ((6 : Int32) + (h4 3 7)) n43 h20 (0 : Int32) (0 : Int32) hw _ _ ls hM hS (lv_sub hl [3, 2, 1, 0] rfl)
      · have hw := hw.1 c21
        refine lv_aload_n hx hb dX7_readLoaf_104 rfl (lv_at hl 3 rfl) ?_
        refine M_get hx hb hts hown hK hM 20 (v := .int (h20 20 0)) (by decide) (hts _ q1703) rfl dX7_readLoaf_105 ?_
        refine lv_iconst (v := (2 : Int32)) hx hb dX7_readLoaf_108 (by decide) ?_
        refine lv_icmp_eq (tgt := 117) hx hb dX7_readLoaf_109 (by decide) (fun c44 => ?_) (fun c44 => ?_)
        · have hw := hw.1 c44
          obtain ⟨n45, hw⟩ := hw
          exact hL117 ((6 : Int32) + (h4 3 7)) n45 h20 (0 : Int32) (0 : Int32) hw _ _ ls hM hS (lv_sub hl [3, 2, 1, 0] rfl)
        · have hw := hw.2 c44
          refine lv_aload_n hx hb dX7_readLoaf_112 rfl (lv_at hl 3 rfl) ?_
          refine lv_iconst (v := (1 : Int32)) hx hb dX7_readLoaf_113 (by decide) ?_
          refine M_callV (As := [.int (1 : Int32)]) (rest := []) ⟨hx, hb, hml, hown, hts⟩ hK hZ hM hJ hS (metX7_wrong l D cA z0 E ad h20 (1 : Int32) _ hw) (cwV 1 hts (lw_V q1944 q1946 qs50 q130 q1947) rfl rfl rfl (by decide +kernel) ⟨Nat.le_of_ble_eq_true rfl, Nat.le_of_ble_eq_true rfl⟩) rfl hl.1 rfl (Nat.le_of_ble_eq_true rfl) dX7_readLoaf_114 ⟨Nat.zero_le _, Nat.zero_le _⟩ (fun h47 H locs hw hM hS => ?_)
          obtain ⟨n48, hw⟩ := hw
          exact hL117 ((6 : Int32) + (h4 3 7)) n48 h47 (0 : Int32) (0 : Int32) hw _ _ ls hM hS (lv_sub hl [3, 2, 1, 0] rfl)
    · have hw := hw.2 c2
      exact M_vret hx hb hr hlocks hM hS hw dX7_readLoaf_24
  unfold wpX7_readLoaf at hw
  refine lv_aload_n hx hb dX7_readLoaf_0 rfl (lv_at hl 0 rfl) ?_
  refine M_get hx hb hts hown hK hM 3 (v := .ref (ad 3)) (by decide) (hts _ q1686) rfl dX7_readLoaf_1 ?_
  refine lv_bipush (v := (7 : Int32)) hx hb dX7_readLoaf_4 (by decide) ?_
  refine M_iald hx hb hK hM 3 rfl (j := 7) rfl (by unfold vp_in; decide) dX7_readLoaf_6 ?_
  refine lv_bipush (v := (6 : Int32)) hx hb dX7_readLoaf_7 (by decide) ?_
  refine lv_icmp_ne (tgt := 17) hx hb dX7_readLoaf_9 (by decide) (fun c1 => ?_) (fun c1 => ?_)
  · have hw := hw.2 c1
    exact hB17 h hw _ _ ls hM hS (lv_sub hl [0] rfl)
  · have hw := hw.1 c1
    refine lv_aload_n hx hb dX7_readLoaf_12 rfl (lv_at hl 0 rfl) ?_
    refine lv_iconst (v := (2 : Int32)) hx hb dX7_readLoaf_13 (by decide) ?_
    refine M_callV (As := [.int (2 : Int32)]) (rest := []) ⟨hx, hb, hml, hown, hts⟩ hK hZ hM hJ hS (metX7_wrong l D cA z0 E ad h (2 : Int32) _ hw) (cwV 1 hts (lw_V q1944 q1946 qs50 q130 q1947) rfl rfl rfl (by decide +kernel) ⟨Nat.le_of_ble_eq_true rfl, Nat.le_of_ble_eq_true rfl⟩) rfl hl.1 rfl (Nat.le_of_ble_eq_true rfl) dX7_readLoaf_14 ⟨Nat.zero_le _, Nat.zero_le _⟩ (fun h50 H locs hw hM hS => ?_)
    exact hB17 h50 hw _ _ ls hM hS (lv_sub hl [0] rfl)

/-- couple(II)I -/
def wpX7_couple (post : Int32 → Prop) (h : Mem) (a0 : Int32) (a1 : Int32) : Prop :=
  post (((8 : Int32) * a0) + a1)
set_option maxHeartbeats 4000000 in
set_option maxRecDepth 100000 in
theorem metX7_couple (l : Launch) (D : va_G) (cA : Nat → ClassId) (z0 : Nat) (E : Nat → Nat → Nat) (ad : Nat → Nat) (h : Mem) (a0 : Int32) (a1 : Int32) (post : Int32 → Prop) (hw : wpX7_couple post h a0 a1) : MeI l D cA z0 E ad yX7_couple (ws_ yX7_couple cX7_couple 2 (some .int)) ({ frames := 1, cells := 0, slots := 0, locals := 30 }) [.int a0, .int a1] h (fun r h' => h' = h ∧ post r) := by
  refine Met.ofW (cc := cX7_couple) (maxL := 2) (ret := (some .int)) (by decide) rfl ?_
  intro p e s m args below meth c s₁ B hml hv
  obtain ⟨rfl, hM, hK, hJ, hZ⟩ := hv
  have hx := B.exec
  have hb := B.bytes
  have hr := B.returns
  have hts := atoms_spec (ws := ws_ yX7_couple cX7_couple 2 (some .int)) B.pre
  have hts : ∀ w ∈ lw_all, w.before _ s = true := fun w h => hts w (List.mem_cons_of_mem _ h)
  have hown : s.vm.findClass RX7 = some m.cls := findClass_of_methodNamed B.named
  have hlocks := B.notSynchronized
  have hS : va_S (MA ad) s.heap s.heap [] := va_S.rf
  have hl := lv_entry ([.int a0, .int a1]) (n := 2) (Nat.le_of_ble_eq_true rfl)
  rw [lg_entry_eq]
  generalize (lg_sl ([.int a0, .int a1]) ++ List.replicate (2 - (lg_sl ([.int a0, .int a1])).length) Slot.unset).toArray = ls at hl ⊢
  have hl : lv_has ls 2 [(0, .int a0), (1, .int a1)] := hl
  unfold wpX7_couple at hw
  refine lv_bipush (v := (8 : Int32)) hx hb dX7_couple_0 (by decide) ?_
  refine lv_iload_n hx hb dX7_couple_2 rfl (lv_at hl 0 rfl) ?_
  refine lv_imul hx hb dX7_couple_3 ?_
  refine lv_iload_n hx hb dX7_couple_4 rfl (lv_at hl 1 rfl) ?_
  refine lv_iadd hx hb dX7_couple_5 ?_
  exact M_iret hx hb hr hlocks hM hS ⟨rfl, hw⟩ dX7_couple_6

/-- readMet()V -/
def wpBX7_readMet_78 (post : Mem → Prop)   (h : Mem) (x1 : Int32) (x2 : Int32)  : Prop :=
  (wpX7_readNumber (fun r12 h13 => (((h13 24 0) = 0 → (wpX7_couple (fun r15 => (wpX7_couple (fun r17 => (vp_in ((64 : Int32) + r17) (mlen 13) ∧ (vp_in ((64 : Int32) + r15) (mlen 13) ∧ (∀ h21 : Mem, h21 = up2 h13 13 (ix ((64 : Int32) + r15)) (mxI (h13 13 (ix ((64 : Int32) + r17))) (-r12)) → (wpX7_couple (fun r22 => (wpX7_couple (fun r24 => (vp_in ((64 : Int32) + r24) (mlen 13) ∧ (vp_in ((64 : Int32) + r22) (mlen 13) ∧ (∀ h28 : Mem, h28 = up2 h21 13 (ix ((64 : Int32) + r22)) (h21 13 (ix ((64 : Int32) + r24))) → (∀ h29 : Mem, h29 = up2 h28 3 8 ((h28 3 8) + (1 : Int32)) → post h29))))) h21 x1 x2)) h21 x2 x1))))) h13 x1 x2)) h13 x1 x2)) ∧ (¬ (h13 24 0) = 0 → post h13))) h (0 : Int32) (999 : Int32))
def wpBX7_readMet_67 (post : Mem → Prop)   (h : Mem) (x1 : Int32) (x2 : Int32)  : Prop :=
  (((h 24 0) = 0 → (wpX7_stepOn (fun h31 => wpBX7_readMet_78 post   h31 x1 x2) h )) ∧ (¬ (h 24 0) = 0 → wpBX7_readMet_78 post   h x1 x2))
def wpBX7_readMet_45 (post : Mem → Prop)   (h : Mem) (x1 : Int32)  : Prop :=
  (wpX7_personNow (fun r8 h9 => (((h9 24 0) = 0 → ((x1 = r8 → (wpX7_wrong (fun h34 => wpBX7_readMet_67 post   h34 x1 r8) h9 (4 : Int32))) ∧ (¬ x1 = r8 → wpBX7_readMet_67 post   h9 x1 r8))) ∧ (¬ (h9 24 0) = 0 → wpBX7_readMet_67 post   h9 x1 r8))) h )
def wpBX7_readMet_17 (post : Mem → Prop)   (h : Mem)   : Prop :=
  (((h 24 0) = 0 → (wpX7_stepOn (fun h4 => (wpX7_personNow (fun r5 h6 => (((h6 24 0) = 0 → (wpX7_stepOn (fun h36 => wpBX7_readMet_45 post   h36 r5) h6 )) ∧ (¬ (h6 24 0) = 0 → wpBX7_readMet_45 post   h6 r5))) h4 )) h )) ∧ (¬ (h 24 0) = 0 → post h))
def wpX7_readMet (post : Mem → Prop) (h : Mem)  : Prop :=
  (((h 3 8) = (16 : Int32) → (wpX7_wrong (fun h38 => wpBX7_readMet_17 post   h38 ) h (2 : Int32))) ∧ (¬ (h 3 8) = (16 : Int32) → wpBX7_readMet_17 post   h ))
set_option maxHeartbeats 4000000 in
set_option maxRecDepth 100000 in
theorem metX7_readMet (l : Launch) (D : va_G) (cA : Nat → ClassId) (z0 : Nat) (E : Nat → Nat → Nat) (ad : Nat → Nat) (h : Mem)  (post : Mem → Prop) (hw : wpX7_readMet post h ) : MeV l D cA z0 E ad yX7_readMet (ws_ yX7_readMet cX7_readMet 5 none) ({ frames := 4, cells := 0, slots := 0, locals := 96 }) [.ref (ad 69)] h post := by
  refine Met.ofW (cc := cX7_readMet) (maxL := 5) (ret := none) (by decide) rfl ?_
  intro p e s m args below meth c s₁ B hml hv
  obtain ⟨rfl, hM, hK, hJ, hZ⟩ := hv
  have hx := B.exec
  have hb := B.bytes
  have hr := B.returns
  have hts := atoms_spec (ws := ws_ yX7_readMet cX7_readMet 5 none) B.pre
  have hts : ∀ w ∈ lw_all, w.before _ s = true := fun w h => hts w (List.mem_cons_of_mem _ h)
  have hown : s.vm.findClass RX7 = some m.cls := findClass_of_methodNamed B.named
  have hlocks := B.notSynchronized
  have hS : va_S (MA ad) s.heap s.heap [] := va_S.rf
  have hl := lv_entry ([.ref (ad 69)]) (n := 5) (Nat.le_of_ble_eq_true rfl)
  rw [lg_entry_eq]
  generalize (lg_sl ([.ref (ad 69)]) ++ List.replicate (5 - (lg_sl ([.ref (ad 69)])).length) Slot.unset).toArray = ls at hl ⊢
  have hl : lv_has ls 5 [(0, .ref (ad 69))] := hl
  have hB78 : ∀ (h : Mem) (x1 : Int32) (x2 : Int32), wpBX7_readMet_78 post   h x1 x2 → JM p l e (headSpec (ws_ yX7_readMet cX7_readMet 5 none) ({ frames := 4, cells := 0, slots := 0, locals := 96 })).room s m ([.ref (ad 69)] : List Value).toArray below meth c (MQ below (MQv D cA E ad post) ([.ref (ad 69)] : List Value).toArray s 0 0 (MA ad)) D cA E ad 5 78 h [(0, .ref (ad 69)), (1, .int x1), (2, .int x2)] [] := by
    intro h x1 x2 hw H locs ls hM hS hl
    unfold wpBX7_readMet_78 at hw
    refine lv_aload_n hx hb dX7_readMet_78 rfl (lv_at hl 0 rfl) ?_
    refine lv_iconst (v := (0 : Int32)) hx hb dX7_readMet_79 (by decide) ?_
    refine lv_sipush (v := (999 : Int32)) hx hb dX7_readMet_80 (by decide) ?_
    refine M_callI (As := [.int (0 : Int32), .int (999 : Int32)]) (rest := []) ⟨hx, hb, hml, hown, hts⟩ hK hZ hM hJ hS (metX7_readNumber l D cA z0 E ad h (0 : Int32) (999 : Int32) _ hw) (cwV 2 hts (lw_V q1948 q1950 qs51 q130 q1951) rfl rfl rfl (by decide +kernel) ⟨Nat.le_of_ble_eq_true rfl, Nat.le_of_ble_eq_true rfl⟩) rfl hl.1 rfl (Nat.le_of_ble_eq_true rfl) dX7_readMet_83 ⟨Nat.zero_le _, Nat.zero_le _⟩ (fun r12 h13 H locs hw hM hS => ?_)
    refine lv_istore_n (lv' := [(3, .int r12), (0, .ref (ad 69)), (1, .int x1), (2, .int x2)]) hx hb dX7_readMet_86 rfl hl (by decide) rfl (fun ls hl => ?_)
    refine lv_aload_n hx hb dX7_readMet_87 rfl (lv_at hl 1 rfl) ?_
    refine M_get hx hb hts hown hK hM 24 (v := .int (h13 24 0)) (by decide) (hts _ q1707) rfl dX7_readMet_88 ?_
    refine lv_if_eq (tgt := 95) hx hb dX7_readMet_91 (by decide) (fun c14 => ?_) (fun c14 => ?_)
    · have hw := hw.1 c14
      refine lv_bipush (v := (64 : Int32)) hx hb dX7_readMet_95 (by decide) ?_
      refine lv_istore (lv' := [(4, .int (64 : Int32)), (3, .int r12), (0, .ref (ad 69)), (1, .int x1), (2, .int x2)]) hx hb dX7_readMet_97 hl (by decide) rfl (fun ls hl => ?_)
      refine lv_aload_n hx hb dX7_readMet_99 rfl (lv_at hl 2 rfl) ?_
      refine M_get hx hb hts hown hK hM 13 (v := .ref (ad 13)) (by decide) (hts _ q1696) rfl dX7_readMet_100 ?_
      refine lv_iload hx hb dX7_readMet_103 (lv_at hl 0 rfl) ?_
      refine lv_iload_n hx hb dX7_readMet_105 rfl (lv_at hl 3 rfl) ?_
      refine lv_iload_n hx hb dX7_readMet_106 rfl (lv_at hl 4 rfl) ?_
      refine M_callISp (As := [.int x1, .int x2]) (rest := [.int (64 : Int32), .ref (ad 13)]) ⟨hx, hb, hml, hown, hts⟩ hK hZ hM hJ hS (metX7_couple l D cA z0 E ad h13 x1 x2 _ hw) (va_cwS 2 hts (lw_S q2016 q2017 q130 q2018) rfl rfl rfl (by decide +kernel) ⟨Nat.le_of_ble_eq_true rfl, Nat.le_of_ble_eq_true rfl⟩) rfl hl.1 rfl (Nat.le_of_ble_eq_true rfl) dX7_readMet_107 ⟨Nat.zero_le _, Nat.zero_le _⟩ (fun r15 H locs hw hM hS => ?_)
      refine lv_iadd hx hb dX7_readMet_110 ?_
      refine lv_aload_n hx hb dX7_readMet_111 rfl (lv_at hl 2 rfl) ?_
      refine M_get hx hb hts hown hK hM 13 (v := .ref (ad 13)) (by decide) (hts _ q1696) rfl dX7_readMet_112 ?_
      refine lv_iload hx hb dX7_readMet_115 (lv_at hl 0 rfl) ?_
      refine lv_iload_n hx hb dX7_readMet_117 rfl (lv_at hl 3 rfl) ?_
      refine lv_iload_n hx hb dX7_readMet_118 rfl (lv_at hl 4 rfl) ?_
      refine M_callISp (As := [.int x1, .int x2]) (rest := [.int (64 : Int32), .ref (ad 13), .int ((64 : Int32) + r15), .ref (ad 13)]) ⟨hx, hb, hml, hown, hts⟩ hK hZ hM hJ hS (metX7_couple l D cA z0 E ad h13 x1 x2 _ hw) (va_cwS 2 hts (lw_S q2016 q2017 q130 q2018) rfl rfl rfl (by decide +kernel) ⟨Nat.le_of_ble_eq_true rfl, Nat.le_of_ble_eq_true rfl⟩) rfl hl.1 rfl (Nat.le_of_ble_eq_true rfl) dX7_readMet_119 ⟨Nat.zero_le _, Nat.zero_le _⟩ (fun r17 H locs hw hM hS => ?_)
      refine lv_iadd hx hb dX7_readMet_122 ?_
      obtain ⟨hb19, hw⟩ := hw
      refine M_iald hx hb hK hM 13 rfl (j := (ix ((64 : Int32) + r17))) rfl hb19 dX7_readMet_123 ?_
      refine lv_iload_n hx hb dX7_readMet_124 rfl (lv_at hl 1 rfl) ?_
      refine lv_ineg hx hb dX7_readMet_125 ?_
      refine J_mxI hx hb hml hl.1 hown (hts _ q2019) (hts _ q273) (hts _ q118) (hts _ q274) (Nat.le_of_ble_eq_true rfl) (Nat.le_of_ble_eq_true rfl) (Nat.zero_le _) (Nat.zero_le _) dX7_readMet_126 ?_
      obtain ⟨hb20, hw⟩ := hw
      refine M_iast hx hb hK hM hJ hS 13 rfl (j := (ix ((64 : Int32) + r15))) rfl hb20 dX7_readMet_129 (fun H locs hM hS => ?_)
      obtain ⟨h21, eh21⟩ : ∃ y : Mem, y = up2 h13 13 (ix ((64 : Int32) + r15)) (mxI (h13 13 (ix ((64 : Int32) + r17))) (-r12)) := ⟨_, rfl⟩
      rw [← eh21] at hM
      have hw := hw h21 eh21
      refine lv_aload_n hx hb dX7_readMet_130 rfl (lv_at hl 2 rfl) ?_
      refine M_get hx hb hts hown hK hM 13 (v := .ref (ad 13)) (by decide) (hts _ q1696) rfl dX7_readMet_131 ?_
      refine lv_iload hx hb dX7_readMet_134 (lv_at hl 0 rfl) ?_
      refine lv_iload_n hx hb dX7_readMet_136 rfl (lv_at hl 4 rfl) ?_
      refine lv_iload_n hx hb dX7_readMet_137 rfl (lv_at hl 3 rfl) ?_
      refine M_callISp (As := [.int x2, .int x1]) (rest := [.int (64 : Int32), .ref (ad 13)]) ⟨hx, hb, hml, hown, hts⟩ hK hZ hM hJ hS (metX7_couple l D cA z0 E ad h21 x2 x1 _ hw) (va_cwS 2 hts (lw_S q2016 q2017 q130 q2018) rfl rfl rfl (by decide +kernel) ⟨Nat.le_of_ble_eq_true rfl, Nat.le_of_ble_eq_true rfl⟩) rfl hl.1 rfl (Nat.le_of_ble_eq_true rfl) dX7_readMet_138 ⟨Nat.zero_le _, Nat.zero_le _⟩ (fun r22 H locs hw hM hS => ?_)
      refine lv_iadd hx hb dX7_readMet_141 ?_
      refine lv_aload_n hx hb dX7_readMet_142 rfl (lv_at hl 2 rfl) ?_
      refine M_get hx hb hts hown hK hM 13 (v := .ref (ad 13)) (by decide) (hts _ q1696) rfl dX7_readMet_143 ?_
      refine lv_iload hx hb dX7_readMet_146 (lv_at hl 0 rfl) ?_
      refine lv_iload_n hx hb dX7_readMet_148 rfl (lv_at hl 3 rfl) ?_
      refine lv_iload_n hx hb dX7_readMet_149 rfl (lv_at hl 4 rfl) ?_
      refine M_callISp (As := [.int x1, .int x2]) (rest := [.int (64 : Int32), .ref (ad 13), .int ((64 : Int32) + r22), .ref (ad 13)]) ⟨hx, hb, hml, hown, hts⟩ hK hZ hM hJ hS (metX7_couple l D cA z0 E ad h21 x1 x2 _ hw) (va_cwS 2 hts (lw_S q2016 q2017 q130 q2018) rfl rfl rfl (by decide +kernel) ⟨Nat.le_of_ble_eq_true rfl, Nat.le_of_ble_eq_true rfl⟩) rfl hl.1 rfl (Nat.le_of_ble_eq_true rfl) dX7_readMet_150 ⟨Nat.zero_le _, Nat.zero_le _⟩ (fun r24 H locs hw hM hS => ?_)
      refine lv_iadd hx hb dX7_readMet_153 ?_
      obtain ⟨hb26, hw⟩ := hw
      refine M_iald hx hb hK hM 13 rfl (j := (ix ((64 : Int32) + r24))) rfl hb26 dX7_readMet_154 ?_
      obtain ⟨hb27, hw⟩ := hw
      refine M_iast hx hb hK hM hJ hS 13 rfl (j := (ix ((64 : Int32) + r22))) rfl hb27 dX7_readMet_155 (fun H locs hM hS => ?_)
      obtain ⟨h28, eh28⟩ : ∃ y : Mem, y = up2 h21 13 (ix ((64 : Int32) + r22)) (h21 13 (ix ((64 : Int32) + r24))) := ⟨_, rfl⟩
      rw [← eh28] at hM
      have hw := hw h28 eh28
      refine lv_aload_n hx hb dX7_readMet_156 rfl (lv_at hl 2 rfl) ?_
      refine M_get hx hb hts hown hK hM 3 (v := .ref (ad 3)) (by decide) (hts _ q1686) rfl dX7_readMet_157 ?_
      refine lv_bipush (v := (8 : Int32)) hx hb dX7_readMet_160 (by decide) ?_
      refine lv_dup2_11 hx hb dX7_readMet_162 rfl rfl ?_
      refine M_iald hx hb hK hM 3 rfl (j := 8) rfl (by unfold vp_in; decide) dX7_readMet_163 ?_
      refine lv_iconst (v := (1 : Int32)) hx hb dX7_readMet_164 (by decide) ?_
      refine lv_iadd hx hb dX7_readMet_165 ?_
      refine M_iast hx hb hK hM hJ hS 3 rfl (j := 8) rfl (by unfold vp_in; decide) dX7_readMet_166 (fun H locs hM hS => ?_)
      obtain ⟨h29, eh29⟩ : ∃ y : Mem, y = up2 h28 3 8 ((h28 3 8) + (1 : Int32)) := ⟨_, rfl⟩
      rw [← eh29] at hM
      have hw := hw h29 eh29
      exact M_vret hx hb hr hlocks hM hS hw dX7_readMet_167
    · have hw := hw.2 c14
      exact M_vret hx hb hr hlocks hM hS hw dX7_readMet_94
  have hB67 : ∀ (h : Mem) (x1 : Int32) (x2 : Int32), wpBX7_readMet_67 post   h x1 x2 → JM p l e (headSpec (ws_ yX7_readMet cX7_readMet 5 none) ({ frames := 4, cells := 0, slots := 0, locals := 96 })).room s m ([.ref (ad 69)] : List Value).toArray below meth c (MQ below (MQv D cA E ad post) ([.ref (ad 69)] : List Value).toArray s 0 0 (MA ad)) D cA E ad 5 67 h [(0, .ref (ad 69)), (1, .int x1), (2, .int x2)] [] := by
    intro h x1 x2 hw H locs ls hM hS hl
    unfold wpBX7_readMet_67 at hw
    refine lv_aload_n hx hb dX7_readMet_67 rfl (lv_at hl 0 rfl) ?_
    refine M_get hx hb hts hown hK hM 24 (v := .int (h 24 0)) (by decide) (hts _ q1707) rfl dX7_readMet_68 ?_
    refine lv_if_ne (tgt := 78) hx hb dX7_readMet_71 (by decide) (fun c11 => ?_) (fun c11 => ?_)
    · have hw := hw.2 c11
      exact hB78 h x1 x2 hw _ _ ls hM hS (lv_sub hl [0, 1, 2] rfl)
    · have hw := hw.1 c11
      refine lv_aload_n hx hb dX7_readMet_74 rfl (lv_at hl 0 rfl) ?_
      refine M_callV (As := []) (rest := []) ⟨hx, hb, hml, hown, hts⟩ hK hZ hM hJ hS (metX7_stepOn l D cA z0 E ad h  _ hw) (cwV 0 hts (lw_V q1908 q1910 qs45 q130 q1911) rfl rfl rfl (by decide +kernel) ⟨Nat.le_of_ble_eq_true rfl, Nat.le_of_ble_eq_true rfl⟩) rfl hl.1 rfl (Nat.le_of_ble_eq_true rfl) dX7_readMet_75 ⟨Nat.zero_le _, Nat.zero_le _⟩ (fun h31 H locs hw hM hS => ?_)
      exact hB78 h31 x1 x2 hw _ _ ls hM hS (lv_sub hl [0, 1, 2] rfl)
  have hB45 : ∀ (h : Mem) (x1 : Int32), wpBX7_readMet_45 post   h x1 → JM p l e (headSpec (ws_ yX7_readMet cX7_readMet 5 none) ({ frames := 4, cells := 0, slots := 0, locals := 96 })).room s m ([.ref (ad 69)] : List Value).toArray below meth c (MQ below (MQv D cA E ad post) ([.ref (ad 69)] : List Value).toArray s 0 0 (MA ad)) D cA E ad 5 45 h [(0, .ref (ad 69)), (1, .int x1)] [] := by
    intro h x1 hw H locs ls hM hS hl
    unfold wpBX7_readMet_45 at hw
    refine lv_aload_n hx hb dX7_readMet_45 rfl (lv_at hl 0 rfl) ?_
    refine M_callI (As := []) (rest := []) ⟨hx, hb, hml, hown, hts⟩ hK hZ hM hJ hS (metX7_personNow l D cA z0 E ad h  _ hw) (cwV 0 hts (lw_V q2004 q2006 qs64 q130 q2007) rfl rfl rfl (by decide +kernel) ⟨Nat.le_of_ble_eq_true rfl, Nat.le_of_ble_eq_true rfl⟩) rfl hl.1 rfl (Nat.le_of_ble_eq_true rfl) dX7_readMet_46 ⟨Nat.zero_le _, Nat.zero_le _⟩ (fun r8 h9 H locs hw hM hS => ?_)
    refine lv_istore_n (lv' := [(2, .int r8), (0, .ref (ad 69)), (1, .int x1)]) hx hb dX7_readMet_49 rfl hl (by decide) rfl (fun ls hl => ?_)
    refine lv_aload_n hx hb dX7_readMet_50 rfl (lv_at hl 1 rfl) ?_
    refine M_get hx hb hts hown hK hM 24 (v := .int (h9 24 0)) (by decide) (hts _ q1707) rfl dX7_readMet_51 ?_
    refine lv_if_ne (tgt := 67) hx hb dX7_readMet_54 (by decide) (fun c10 => ?_) (fun c10 => ?_)
    · have hw := hw.2 c10
      exact hB67 h9 x1 r8 hw _ _ ls hM hS (lv_sub hl [1, 2, 0] rfl)
    · have hw := hw.1 c10
      refine lv_iload_n hx hb dX7_readMet_57 rfl (lv_at hl 2 rfl) ?_
      refine lv_iload_n hx hb dX7_readMet_58 rfl (lv_at hl 0 rfl) ?_
      refine lv_icmp_ne (tgt := 67) hx hb dX7_readMet_59 (by decide) (fun c32 => ?_) (fun c32 => ?_)
      · have hw := hw.2 c32
        exact hB67 h9 x1 r8 hw _ _ ls hM hS (lv_sub hl [1, 2, 0] rfl)
      · have hw := hw.1 c32
        refine lv_aload_n hx hb dX7_readMet_62 rfl (lv_at hl 1 rfl) ?_
        refine lv_iconst (v := (4 : Int32)) hx hb dX7_readMet_63 (by decide) ?_
        refine M_callV (As := [.int (4 : Int32)]) (rest := []) ⟨hx, hb, hml, hown, hts⟩ hK hZ hM hJ hS (metX7_wrong l D cA z0 E ad h9 (4 : Int32) _ hw) (cwV 1 hts (lw_V q1944 q1946 qs50 q130 q1947) rfl rfl rfl (by decide +kernel) ⟨Nat.le_of_ble_eq_true rfl, Nat.le_of_ble_eq_true rfl⟩) rfl hl.1 rfl (Nat.le_of_ble_eq_true rfl) dX7_readMet_64 ⟨Nat.zero_le _, Nat.zero_le _⟩ (fun h34 H locs hw hM hS => ?_)
        exact hB67 h34 x1 r8 hw _ _ ls hM hS (lv_sub hl [1, 2, 0] rfl)
  have hB17 : ∀ (h : Mem), wpBX7_readMet_17 post   h  → JM p l e (headSpec (ws_ yX7_readMet cX7_readMet 5 none) ({ frames := 4, cells := 0, slots := 0, locals := 96 })).room s m ([.ref (ad 69)] : List Value).toArray below meth c (MQ below (MQv D cA E ad post) ([.ref (ad 69)] : List Value).toArray s 0 0 (MA ad)) D cA E ad 5 17 h [(0, .ref (ad 69))] [] := by
    intro h hw H locs ls hM hS hl
    unfold wpBX7_readMet_17 at hw
    refine lv_aload_n hx hb dX7_readMet_17 rfl (lv_at hl 0 rfl) ?_
    refine M_get hx hb hts hown hK hM 24 (v := .int (h 24 0)) (by decide) (hts _ q1707) rfl dX7_readMet_18 ?_
    refine lv_if_eq (tgt := 25) hx hb dX7_readMet_21 (by decide) (fun c2 => ?_) (fun c2 => ?_)
    · have hw := hw.1 c2
      refine lv_aload_n hx hb dX7_readMet_25 rfl (lv_at hl 0 rfl) ?_
      refine M_callV (As := []) (rest := []) ⟨hx, hb, hml, hown, hts⟩ hK hZ hM hJ hS (metX7_stepOn l D cA z0 E ad h  _ hw) (cwV 0 hts (lw_V q1908 q1910 qs45 q130 q1911) rfl rfl rfl (by decide +kernel) ⟨Nat.le_of_ble_eq_true rfl, Nat.le_of_ble_eq_true rfl⟩) rfl hl.1 rfl (Nat.le_of_ble_eq_true rfl) dX7_readMet_26 ⟨Nat.zero_le _, Nat.zero_le _⟩ (fun h4 H locs hw hM hS => ?_)
      refine lv_aload_n hx hb dX7_readMet_29 rfl (lv_at hl 0 rfl) ?_
      refine M_callI (As := []) (rest := []) ⟨hx, hb, hml, hown, hts⟩ hK hZ hM hJ hS (metX7_personNow l D cA z0 E ad h4  _ hw) (cwV 0 hts (lw_V q2004 q2006 qs64 q130 q2007) rfl rfl rfl (by decide +kernel) ⟨Nat.le_of_ble_eq_true rfl, Nat.le_of_ble_eq_true rfl⟩) rfl hl.1 rfl (Nat.le_of_ble_eq_true rfl) dX7_readMet_30 ⟨Nat.zero_le _, Nat.zero_le _⟩ (fun r5 h6 H locs hw hM hS => ?_)
      refine lv_istore_n (lv' := [(1, .int r5), (0, .ref (ad 69))]) hx hb dX7_readMet_33 rfl hl (by decide) rfl (fun ls hl => ?_)
      refine lv_aload_n hx hb dX7_readMet_34 rfl (lv_at hl 1 rfl) ?_
      refine M_get hx hb hts hown hK hM 24 (v := .int (h6 24 0)) (by decide) (hts _ q1707) rfl dX7_readMet_35 ?_
      refine lv_if_ne (tgt := 45) hx hb dX7_readMet_38 (by decide) (fun c7 => ?_) (fun c7 => ?_)
      · have hw := hw.2 c7
        exact hB45 h6 r5 hw _ _ ls hM hS (lv_sub hl [1, 0] rfl)
      · have hw := hw.1 c7
        refine lv_aload_n hx hb dX7_readMet_41 rfl (lv_at hl 1 rfl) ?_
        refine M_callV (As := []) (rest := []) ⟨hx, hb, hml, hown, hts⟩ hK hZ hM hJ hS (metX7_stepOn l D cA z0 E ad h6  _ hw) (cwV 0 hts (lw_V q1908 q1910 qs45 q130 q1911) rfl rfl rfl (by decide +kernel) ⟨Nat.le_of_ble_eq_true rfl, Nat.le_of_ble_eq_true rfl⟩) rfl hl.1 rfl (Nat.le_of_ble_eq_true rfl) dX7_readMet_42 ⟨Nat.zero_le _, Nat.zero_le _⟩ (fun h36 H locs hw hM hS => ?_)
        exact hB45 h36 r5 hw _ _ ls hM hS (lv_sub hl [1, 0] rfl)
    · have hw := hw.2 c2
      exact M_vret hx hb hr hlocks hM hS hw dX7_readMet_24
  unfold wpX7_readMet at hw
  refine lv_aload_n hx hb dX7_readMet_0 rfl (lv_at hl 0 rfl) ?_
  refine M_get hx hb hts hown hK hM 3 (v := .ref (ad 3)) (by decide) (hts _ q1686) rfl dX7_readMet_1 ?_
  refine lv_bipush (v := (8 : Int32)) hx hb dX7_readMet_4 (by decide) ?_
  refine M_iald hx hb hK hM 3 rfl (j := 8) rfl (by unfold vp_in; decide) dX7_readMet_6 ?_
  refine lv_bipush (v := (16 : Int32)) hx hb dX7_readMet_7 (by decide) ?_
  refine lv_icmp_ne (tgt := 17) hx hb dX7_readMet_9 (by decide) (fun c1 => ?_) (fun c1 => ?_)
  · have hw := hw.2 c1
    exact hB17 h hw _ _ ls hM hS (lv_sub hl [0] rfl)
  · have hw := hw.1 c1
    refine lv_aload_n hx hb dX7_readMet_12 rfl (lv_at hl 0 rfl) ?_
    refine lv_iconst (v := (2 : Int32)) hx hb dX7_readMet_13 (by decide) ?_
    refine M_callV (As := [.int (2 : Int32)]) (rest := []) ⟨hx, hb, hml, hown, hts⟩ hK hZ hM hJ hS (metX7_wrong l D cA z0 E ad h (2 : Int32) _ hw) (cwV 1 hts (lw_V q1944 q1946 qs50 q130 q1947) rfl rfl rfl (by decide +kernel) ⟨Nat.le_of_ble_eq_true rfl, Nat.le_of_ble_eq_true rfl⟩) rfl hl.1 rfl (Nat.le_of_ble_eq_true rfl) dX7_readMet_14 ⟨Nat.zero_le _, Nat.zero_le _⟩ (fun h38 H locs hw hM hS => ?_)
    exact hB17 h38 hw _ _ ls hM hS (lv_sub hl [0] rfl)

/-- readPerson(I)V -/
def wpBX7_readPerson_64 (post : Mem → Prop) (a1 : Int32)  (h : Mem) (x2 : Int32)  : Prop :=
  (((h 24 0) = 0 → (wpX7_stepOn (fun h5 => (vp_in x2 (mlen 4) ∧ (∀ h7 : Mem, h7 = up2 h5 4 (ix x2) a1 → (wpX7_readNumber (fun r8 h9 => (vp_in x2 (mlen 5) ∧ (∀ h11 : Mem, h11 = up2 h9 5 (ix x2) r8 → (wpX7_readNumber (fun r12 h13 => (vp_in x2 (mlen 6) ∧ (∀ h15 : Mem, h15 = up2 h13 6 (ix x2) r12 → (∀ h16 : Mem, h16 = up2 h15 3 6 ((h15 3 6) + (1 : Int32)) → post h16)))) h11 (0 : Int32) (9 : Int32))))) h7 (0 : Int32) (9 : Int32))))) h )) ∧ (¬ (h 24 0) = 0 → post h))
def wpBX7_readPerson_58 (post : Mem → Prop) (a1 : Int32)  (h : Mem) (x2 : Int32)  : Prop :=
  (wpX7_wrong (fun h19 => wpBX7_readPerson_64 post a1  h19 x2) h (6 : Int32))
def wpX7_readPerson (post : Mem → Prop) (h : Mem) (a1 : Int32) : Prop :=
  (((h 3 6) = (8 : Int32) → (wpX7_wrong (fun h23 => wpBX7_readPerson_64 post a1  h23 ((8 : Int32) + (h 3 6))) h (2 : Int32))) ∧ (¬ (h 3 6) = (8 : Int32) → ((a1 = (3 : Int32) → (((h 3 6) = 0 → wpBX7_readPerson_58 post a1  h ((8 : Int32) + (h 3 6))) ∧ (¬ (h 3 6) = 0 → (vp_in (((8 : Int32) + (h 3 6)) - (1 : Int32)) (mlen 4) ∧ (((h 4 (ix (((8 : Int32) + (h 3 6)) - (1 : Int32)))) = (3 : Int32) → wpBX7_readPerson_58 post a1  h ((8 : Int32) + (h 3 6))) ∧ (¬ (h 4 (ix (((8 : Int32) + (h 3 6)) - (1 : Int32)))) = (3 : Int32) → wpBX7_readPerson_64 post a1  h ((8 : Int32) + (h 3 6)))))))) ∧ (¬ a1 = (3 : Int32) → wpBX7_readPerson_64 post a1  h ((8 : Int32) + (h 3 6))))))
set_option maxHeartbeats 4000000 in
set_option maxRecDepth 100000 in
theorem metX7_readPerson (l : Launch) (D : va_G) (cA : Nat → ClassId) (z0 : Nat) (E : Nat → Nat → Nat) (ad : Nat → Nat) (h : Mem) (a1 : Int32) (post : Mem → Prop) (hw : wpX7_readPerson post h a1) : MeV l D cA z0 E ad yX7_readPerson (ws_ yX7_readPerson cX7_readPerson 3 none) ({ frames := 4, cells := 0, slots := 0, locals := 96 }) [.ref (ad 69), .int a1] h post := by
  refine Met.ofW (cc := cX7_readPerson) (maxL := 3) (ret := none) (by decide) rfl ?_
  intro p e s m args below meth c s₁ B hml hv
  obtain ⟨rfl, hM, hK, hJ, hZ⟩ := hv
  have hx := B.exec
  have hb := B.bytes
  have hr := B.returns
  have hts := atoms_spec (ws := ws_ yX7_readPerson cX7_readPerson 3 none) B.pre
  have hts : ∀ w ∈ lw_all, w.before _ s = true := fun w h => hts w (List.mem_cons_of_mem _ h)
  have hown : s.vm.findClass RX7 = some m.cls := findClass_of_methodNamed B.named
  have hlocks := B.notSynchronized
  have hS : va_S (MA ad) s.heap s.heap [] := va_S.rf
  have hl := lv_entry ([.ref (ad 69), .int a1]) (n := 3) (Nat.le_of_ble_eq_true rfl)
  rw [lg_entry_eq]
  generalize (lg_sl ([.ref (ad 69), .int a1]) ++ List.replicate (3 - (lg_sl ([.ref (ad 69), .int a1])).length) Slot.unset).toArray = ls at hl ⊢
  have hl : lv_has ls 3 [(0, .ref (ad 69)), (1, .int a1)] := hl
  have hB64 : ∀ (h : Mem) (x2 : Int32), wpBX7_readPerson_64 post a1  h x2 → JM p l e (headSpec (ws_ yX7_readPerson cX7_readPerson 3 none) ({ frames := 4, cells := 0, slots := 0, locals := 96 })).room s m ([.ref (ad 69), .int a1] : List Value).toArray below meth c (MQ below (MQv D cA E ad post) ([.ref (ad 69), .int a1] : List Value).toArray s 0 0 (MA ad)) D cA E ad 3 64 h [(0, .ref (ad 69)), (1, .int a1), (2, .int x2)] [] := by
    intro h x2 hw H locs ls hM hS hl
    unfold wpBX7_readPerson_64 at hw
    refine lv_aload_n hx hb dX7_readPerson_64 rfl (lv_at hl 0 rfl) ?_
    refine M_get hx hb hts hown hK hM 24 (v := .int (h 24 0)) (by decide) (hts _ q1707) rfl dX7_readPerson_65 ?_
    refine lv_if_eq (tgt := 72) hx hb dX7_readPerson_68 (by decide) (fun c3 => ?_) (fun c3 => ?_)
    · have hw := hw.1 c3
      refine lv_aload_n hx hb dX7_readPerson_72 rfl (lv_at hl 0 rfl) ?_
      refine M_callV (As := []) (rest := []) ⟨hx, hb, hml, hown, hts⟩ hK hZ hM hJ hS (metX7_stepOn l D cA z0 E ad h  _ hw) (cwV 0 hts (lw_V q1908 q1910 qs45 q130 q1911) rfl rfl rfl (by decide +kernel) ⟨Nat.le_of_ble_eq_true rfl, Nat.le_of_ble_eq_true rfl⟩) rfl hl.1 rfl (Nat.le_of_ble_eq_true rfl) dX7_readPerson_73 ⟨Nat.zero_le _, Nat.zero_le _⟩ (fun h5 H locs hw hM hS => ?_)
      refine lv_aload_n hx hb dX7_readPerson_76 rfl (lv_at hl 0 rfl) ?_
      refine M_get hx hb hts hown hK hM 4 (v := .ref (ad 4)) (by decide) (hts _ q1687) rfl dX7_readPerson_77 ?_
      refine lv_iload_n hx hb dX7_readPerson_80 rfl (lv_at hl 2 rfl) ?_
      refine lv_iload_n hx hb dX7_readPerson_81 rfl (lv_at hl 1 rfl) ?_
      obtain ⟨hb6, hw⟩ := hw
      refine M_iast hx hb hK hM hJ hS 4 rfl (j := (ix x2)) rfl hb6 dX7_readPerson_82 (fun H locs hM hS => ?_)
      obtain ⟨h7, eh7⟩ : ∃ y : Mem, y = up2 h5 4 (ix x2) a1 := ⟨_, rfl⟩
      rw [← eh7] at hM
      have hw := hw h7 eh7
      refine lv_aload_n hx hb dX7_readPerson_83 rfl (lv_at hl 0 rfl) ?_
      refine M_get hx hb hts hown hK hM 5 (v := .ref (ad 5)) (by decide) (hts _ q1688) rfl dX7_readPerson_84 ?_
      refine lv_iload_n hx hb dX7_readPerson_87 rfl (lv_at hl 2 rfl) ?_
      refine lv_aload_n hx hb dX7_readPerson_88 rfl (lv_at hl 0 rfl) ?_
      refine lv_iconst (v := (0 : Int32)) hx hb dX7_readPerson_89 (by decide) ?_
      refine lv_bipush (v := (9 : Int32)) hx hb dX7_readPerson_90 (by decide) ?_
      refine M_callI (As := [.int (0 : Int32), .int (9 : Int32)]) (rest := [.int x2, .ref (ad 5)]) ⟨hx, hb, hml, hown, hts⟩ hK hZ hM hJ hS (metX7_readNumber l D cA z0 E ad h7 (0 : Int32) (9 : Int32) _ hw) (cwV 2 hts (lw_V q1948 q1950 qs51 q130 q1951) rfl rfl rfl (by decide +kernel) ⟨Nat.le_of_ble_eq_true rfl, Nat.le_of_ble_eq_true rfl⟩) rfl hl.1 rfl (Nat.le_of_ble_eq_true rfl) dX7_readPerson_92 ⟨Nat.zero_le _, Nat.zero_le _⟩ (fun r8 h9 H locs hw hM hS => ?_)
      obtain ⟨hb10, hw⟩ := hw
      refine M_iast hx hb hK hM hJ hS 5 rfl (j := (ix x2)) rfl hb10 dX7_readPerson_95 (fun H locs hM hS => ?_)
      obtain ⟨h11, eh11⟩ : ∃ y : Mem, y = up2 h9 5 (ix x2) r8 := ⟨_, rfl⟩
      rw [← eh11] at hM
      have hw := hw h11 eh11
      refine lv_aload_n hx hb dX7_readPerson_96 rfl (lv_at hl 0 rfl) ?_
      refine M_get hx hb hts hown hK hM 6 (v := .ref (ad 6)) (by decide) (hts _ q1689) rfl dX7_readPerson_97 ?_
      refine lv_iload_n hx hb dX7_readPerson_100 rfl (lv_at hl 2 rfl) ?_
      refine lv_aload_n hx hb dX7_readPerson_101 rfl (lv_at hl 0 rfl) ?_
      refine lv_iconst (v := (0 : Int32)) hx hb dX7_readPerson_102 (by decide) ?_
      refine lv_bipush (v := (9 : Int32)) hx hb dX7_readPerson_103 (by decide) ?_
      refine M_callI (As := [.int (0 : Int32), .int (9 : Int32)]) (rest := [.int x2, .ref (ad 6)]) ⟨hx, hb, hml, hown, hts⟩ hK hZ hM hJ hS (metX7_readNumber l D cA z0 E ad h11 (0 : Int32) (9 : Int32) _ hw) (cwV 2 hts (lw_V q1948 q1950 qs51 q130 q1951) rfl rfl rfl (by decide +kernel) ⟨Nat.le_of_ble_eq_true rfl, Nat.le_of_ble_eq_true rfl⟩) rfl hl.1 rfl (Nat.le_of_ble_eq_true rfl) dX7_readPerson_105 ⟨Nat.zero_le _, Nat.zero_le _⟩ (fun r12 h13 H locs hw hM hS => ?_)
      obtain ⟨hb14, hw⟩ := hw
      refine M_iast hx hb hK hM hJ hS 6 rfl (j := (ix x2)) rfl hb14 dX7_readPerson_108 (fun H locs hM hS => ?_)
      obtain ⟨h15, eh15⟩ : ∃ y : Mem, y = up2 h13 6 (ix x2) r12 := ⟨_, rfl⟩
      rw [← eh15] at hM
      have hw := hw h15 eh15
      refine lv_aload_n hx hb dX7_readPerson_109 rfl (lv_at hl 0 rfl) ?_
      refine M_get hx hb hts hown hK hM 3 (v := .ref (ad 3)) (by decide) (hts _ q1686) rfl dX7_readPerson_110 ?_
      refine lv_bipush (v := (6 : Int32)) hx hb dX7_readPerson_113 (by decide) ?_
      refine lv_dup2_11 hx hb dX7_readPerson_115 rfl rfl ?_
      refine M_iald hx hb hK hM 3 rfl (j := 6) rfl (by unfold vp_in; decide) dX7_readPerson_116 ?_
      refine lv_iconst (v := (1 : Int32)) hx hb dX7_readPerson_117 (by decide) ?_
      refine lv_iadd hx hb dX7_readPerson_118 ?_
      refine M_iast hx hb hK hM hJ hS 3 rfl (j := 6) rfl (by unfold vp_in; decide) dX7_readPerson_119 (fun H locs hM hS => ?_)
      obtain ⟨h16, eh16⟩ : ∃ y : Mem, y = up2 h15 3 6 ((h15 3 6) + (1 : Int32)) := ⟨_, rfl⟩
      rw [← eh16] at hM
      have hw := hw h16 eh16
      exact M_vret hx hb hr hlocks hM hS hw dX7_readPerson_120
    · have hw := hw.2 c3
      exact M_vret hx hb hr hlocks hM hS hw dX7_readPerson_71
  have hB58 : ∀ (h : Mem) (x2 : Int32), wpBX7_readPerson_58 post a1  h x2 → JM p l e (headSpec (ws_ yX7_readPerson cX7_readPerson 3 none) ({ frames := 4, cells := 0, slots := 0, locals := 96 })).room s m ([.ref (ad 69), .int a1] : List Value).toArray below meth c (MQ below (MQv D cA E ad post) ([.ref (ad 69), .int a1] : List Value).toArray s 0 0 (MA ad)) D cA E ad 3 58 h [(0, .ref (ad 69)), (1, .int a1), (2, .int x2)] [] := by
    intro h x2 hw H locs ls hM hS hl
    unfold wpBX7_readPerson_58 at hw
    refine lv_aload_n hx hb dX7_readPerson_58 rfl (lv_at hl 0 rfl) ?_
    refine lv_bipush (v := (6 : Int32)) hx hb dX7_readPerson_59 (by decide) ?_
    refine M_callV (As := [.int (6 : Int32)]) (rest := []) ⟨hx, hb, hml, hown, hts⟩ hK hZ hM hJ hS (metX7_wrong l D cA z0 E ad h (6 : Int32) _ hw) (cwV 1 hts (lw_V q1944 q1946 qs50 q130 q1947) rfl rfl rfl (by decide +kernel) ⟨Nat.le_of_ble_eq_true rfl, Nat.le_of_ble_eq_true rfl⟩) rfl hl.1 rfl (Nat.le_of_ble_eq_true rfl) dX7_readPerson_61 ⟨Nat.zero_le _, Nat.zero_le _⟩ (fun h19 H locs hw hM hS => ?_)
    exact hB64 h19 x2 hw _ _ ls hM hS (lv_sub hl [0, 1, 2] rfl)
  unfold wpX7_readPerson at hw
  refine lv_bipush (v := (8 : Int32)) hx hb dX7_readPerson_0 (by decide) ?_
  refine lv_aload_n hx hb dX7_readPerson_2 rfl (lv_at hl 0 rfl) ?_
  refine M_get hx hb hts hown hK hM 3 (v := .ref (ad 3)) (by decide) (hts _ q1686) rfl dX7_readPerson_3 ?_
  refine lv_bipush (v := (6 : Int32)) hx hb dX7_readPerson_6 (by decide) ?_
  refine M_iald hx hb hK hM 3 rfl (j := 6) rfl (by unfold vp_in; decide) dX7_readPerson_8 ?_
  refine lv_iadd hx hb dX7_readPerson_9 ?_
  refine lv_istore_n (lv' := [(2, .int ((8 : Int32) + (h 3 6))), (0, .ref (ad 69)), (1, .int a1)]) hx hb dX7_readPerson_10 rfl hl (by decide) rfl (fun ls hl => ?_)
  refine lv_aload_n hx hb dX7_readPerson_11 rfl (lv_at hl 1 rfl) ?_
  refine M_get hx hb hts hown hK hM 3 (v := .ref (ad 3)) (by decide) (hts _ q1686) rfl dX7_readPerson_12 ?_
  refine lv_bipush (v := (6 : Int32)) hx hb dX7_readPerson_15 (by decide) ?_
  refine M_iald hx hb hK hM 3 rfl (j := 6) rfl (by unfold vp_in; decide) dX7_readPerson_17 ?_
  refine lv_bipush (v := (8 : Int32)) hx hb dX7_readPerson_18 (by decide) ?_
  refine lv_icmp_ne (tgt := 31) hx hb dX7_readPerson_20 (by decide) (fun c1 => ?_) (fun c1 => ?_)
  · have hw := hw.2 c1
    refine lv_iload_n hx hb dX7_readPerson_31 rfl (lv_at hl 2 rfl) ?_
    refine lv_iconst (v := (3 : Int32)) hx hb dX7_readPerson_32 (by decide) ?_
    refine lv_icmp_ne (tgt := 64) hx hb dX7_readPerson_33 (by decide) (fun c2 => ?_) (fun c2 => ?_)
    · have hw := hw.2 c2
      exact hB64 h ((8 : Int32) + (h 3 6)) hw _ _ ls hM hS (lv_sub hl [1, 2, 0] rfl)
    · have hw := hw.1 c2
      refine lv_aload_n hx hb dX7_readPerson_36 rfl (lv_at hl 1 rfl) ?_
      refine M_get hx hb hts hown hK hM 3 (v := .ref (ad 3)) (by decide) (hts _ q1686) rfl dX7_readPerson_37 ?_
      refine lv_bipush (v := (6 : Int32)) hx hb dX7_readPerson_40 (by decide) ?_
      refine M_iald hx hb hK hM 3 rfl (j := 6) rfl (by unfold vp_in; decide) dX7_readPerson_42 ?_
      refine lv_if_eq (tgt := 58) hx hb dX7_readPerson_43 (by decide) (fun c17 => ?_) (fun c17 => ?_)
      · have hw := hw.1 c17
        exact hB58 h ((8 : Int32) + (h 3 6)) hw _ _ ls hM hS (lv_sub hl [1, 2, 0] rfl)
      · have hw := hw.2 c17
        refine lv_aload_n hx hb dX7_readPerson_46 rfl (lv_at hl 1 rfl) ?_
        refine M_get hx hb hts hown hK hM 4 (v := .ref (ad 4)) (by decide) (hts _ q1687) rfl dX7_readPerson_47 ?_
        refine lv_iload_n hx hb dX7_readPerson_50 rfl (lv_at hl 0 rfl) ?_
        refine lv_iconst (v := (1 : Int32)) hx hb dX7_readPerson_51 (by decide) ?_
        refine lv_isub hx hb dX7_readPerson_52 ?_
        obtain ⟨hb20, hw⟩ := hw
        refine M_iald hx hb hK hM 4 rfl (j := (ix (((8 : Int32) + (h 3 6)) - (1 : Int32)))) rfl hb20 dX7_readPerson_53 ?_
        refine lv_iconst (v := (3 : Int32)) hx hb dX7_readPerson_54 (by decide) ?_
        refine lv_icmp_ne (tgt := 64) hx hb dX7_readPerson_55 (by decide) (fun c21 => ?_) (fun c21 => ?_)
        · have hw := hw.2 c21
          exact hB64 h ((8 : Int32) + (h 3 6)) hw _ _ ls hM hS (lv_sub hl [1, 2, 0] rfl)
        · have hw := hw.1 c21
          exact hB58 h ((8 : Int32) + (h 3 6)) hw _ _ ls hM hS (lv_sub hl [1, 2, 0] rfl)
  · have hw := hw.1 c1
    refine lv_aload_n hx hb dX7_readPerson_23 rfl (lv_at hl 1 rfl) ?_
    refine lv_iconst (v := (2 : Int32)) hx hb dX7_readPerson_24 (by decide) ?_
    refine M_callV (As := [.int (2 : Int32)]) (rest := []) ⟨hx, hb, hml, hown, hts⟩ hK hZ hM hJ hS (metX7_wrong l D cA z0 E ad h (2 : Int32) _ hw) (cwV 1 hts (lw_V q1944 q1946 qs50 q130 q1947) rfl rfl rfl (by decide +kernel) ⟨Nat.le_of_ble_eq_true rfl, Nat.le_of_ble_eq_true rfl⟩) rfl hl.1 rfl (Nat.le_of_ble_eq_true rfl) dX7_readPerson_25 ⟨Nat.zero_le _, Nat.zero_le _⟩ (fun h23 H locs hw hM hS => ?_)
    refine lv_goto (tgt := 64) hx hb dX7_readPerson_28 (by decide) ?_
    exact hB64 h23 ((8 : Int32) + (h 3 6)) hw _ _ ls hM hS (lv_sub hl [1, 2, 0] rfl)

/-- readLine(I)I -/
def wpBX7_readLine_184 (post : Int32 → Mem → Prop) (a1 : Int32)  (h : Mem) (x2 : Int32)  : Prop :=
  (wpX7_mark (fun h24 => post (a1 ||| x2) h24) h (59 : Int32))
def wpBX7_readLine_79 (post : Int32 → Mem → Prop) (a1 : Int32)  (h : Mem) (x2 : Int32)  : Prop :=
  ((x2 = (1 : Int32) → (wpX7_readNumber (fun r39 h40 => (∀ h41 : Mem, h41 = up2 h40 3 9 r39 → wpBX7_readLine_184 post a1  h41 x2)) h (1 : Int32) (999 : Int32))) ∧ (¬ x2 = (1 : Int32) → ((x2 = (2 : Int32) → (wpX7_readNumber (fun r36 h37 => (∀ h38 : Mem, h38 = up2 h37 3 10 r36 → wpBX7_readLine_184 post a1  h38 x2)) h (1 : Int32) (23 : Int32))) ∧ (¬ x2 = (2 : Int32) → (wpX7_readExpression 9 (fun h35 => wpBX7_readLine_184 post a1  h35 x2) h (0 : Int32))))))
def wpBX7_readLine_64 (post : Int32 → Mem → Prop) (a1 : Int32)  (h : Mem) (x2 : Int32) (x3 : Int32)  : Prop :=
  ((x2 ≤ 0 → ((x3 = (-1 : Int32) → (wpX7_is (fun r15 => ((r15 = true → (wpX7_readLoaf (fun h28 => wpBX7_readLine_184 post a1  h28 x2) h )) ∧ (¬ r15 = true → (wpX7_is (fun r18 => ((r18 = true → (wpX7_readMet (fun h26 => wpBX7_readLine_184 post a1  h26 x2) h )) ∧ (¬ r18 = true → (wpX7_wrong (fun h22 => wpBX7_readLine_184 post a1  h22 x2) h (1 : Int32))))) h 2)))) h 1)) ∧ (¬ x3 = (-1 : Int32) → (wpX7_readPerson (fun h30 => wpBX7_readLine_184 post a1  h30 x2) h x3)))) ∧ (¬ x2 ≤ 0 → (((h 24 0) = 0 → (wpX7_stepOn (fun h43 => wpBX7_readLine_79 post a1  h43 x2) h )) ∧ (¬ (h 24 0) = 0 → wpBX7_readLine_79 post a1  h x2))))
def wpBX7_readLine_43 (post : Int32 → Mem → Prop) (a1 : Int32)  (h : Mem)  (s0 : Int32) : Prop :=
  (wpX7_which (fun r10 => (((s0 &&& a1) = 0 → wpBX7_readLine_64 post a1  h s0 r10) ∧ (¬ (s0 &&& a1) = 0 → (wpX7_wrong (fun h45 => wpBX7_readLine_64 post a1  h45 s0 r10) h (5 : Int32))))) h 0)
def wpX7_readLine (post : Int32 → Mem → Prop) (h : Mem) (a1 : Int32) : Prop :=
  (wpX7_is (fun r1 => ((r1 = true → wpBX7_readLine_43 post a1  h (1 : Int32)) ∧ (¬ r1 = true → (wpX7_is (fun r4 => ((r4 = true → wpBX7_readLine_43 post a1  h (2 : Int32)) ∧ (¬ r4 = true → (wpX7_is (fun r7 => wpBX7_readLine_43 post a1  h (if r7 = true then (4 : Int32) else (0 : Int32))) h 5)))) h 4)))) h 3)
set_option maxHeartbeats 4000000 in
set_option maxRecDepth 100000 in
theorem metX7_readLine (l : Launch) (D : va_G) (cA : Nat → ClassId) (z0 : Nat) (E : Nat → Nat → Nat) (ad : Nat → Nat) (h : Mem) (a1 : Int32) (post : Int32 → Mem → Prop) (hw : wpX7_readLine post h a1) : MeI l D cA z0 E ad yX7_readLine (ws_ yX7_readLine cX7_readLine 4 (some .int)) ({ frames := 190, cells := 0, slots := 0, locals := 3586 }) [.ref (ad 69), .int a1] h post := by
  refine Met.ofW (cc := cX7_readLine) (maxL := 4) (ret := (some .int)) (by decide) rfl ?_
  intro p e s m args below meth c s₁ B hml hv
  obtain ⟨rfl, hM, hK, hJ, hZ⟩ := hv
  have hx := B.exec
  have hb := B.bytes
  have hr := B.returns
  have hts := atoms_spec (ws := ws_ yX7_readLine cX7_readLine 4 (some .int)) B.pre
  have hts : ∀ w ∈ lw_all, w.before _ s = true := fun w h => hts w (List.mem_cons_of_mem _ h)
  have hown : s.vm.findClass RX7 = some m.cls := findClass_of_methodNamed B.named
  have hlocks := B.notSynchronized
  have hS : va_S (MA ad) s.heap s.heap [] := va_S.rf
  have hl := lv_entry ([.ref (ad 69), .int a1]) (n := 4) (Nat.le_of_ble_eq_true rfl)
  rw [lg_entry_eq]
  generalize (lg_sl ([.ref (ad 69), .int a1]) ++ List.replicate (4 - (lg_sl ([.ref (ad 69), .int a1])).length) Slot.unset).toArray = ls at hl ⊢
  have hl : lv_has ls 4 [(0, .ref (ad 69)), (1, .int a1)] := hl
  have hB184 : ∀ (h : Mem) (x2 : Int32), wpBX7_readLine_184 post a1  h x2 → JM p l e (headSpec (ws_ yX7_readLine cX7_readLine 4 (some .int)) ({ frames := 190, cells := 0, slots := 0, locals := 3586 })).room s m ([.ref (ad 69), .int a1] : List Value).toArray below meth c (MQ below (MQi D cA E ad post) ([.ref (ad 69), .int a1] : List Value).toArray s 0 0 (MA ad)) D cA E ad 4 184 h [(0, .ref (ad 69)), (1, .int a1), (2, .int x2)] [] := by
    intro h x2 hw H locs ls hM hS hl
    unfold wpBX7_readLine_184 at hw
    refine lv_aload_n hx hb dX7_readLine_184 rfl (lv_at hl 0 rfl) ?_
    refine lv_bipush (v := (59 : Int32)) hx hb dX7_readLine_185 (by decide) ?_
    refine M_callV (As := [.int (59 : Int32)]) (rest := []) ⟨hx, hb, hml, hown, hts⟩ hK hZ hM hJ hS (metX7_mark l D cA z0 E ad h (59 : Int32) _ hw) (cwV 1 hts (lw_V q1989 q1991 qs61 q130 q1992) rfl rfl rfl (by decide +kernel) ⟨Nat.le_of_ble_eq_true rfl, Nat.le_of_ble_eq_true rfl⟩) rfl hl.1 rfl (Nat.le_of_ble_eq_true rfl) dX7_readLine_187 ⟨Nat.zero_le _, Nat.zero_le _⟩ (fun h24 H locs hw hM hS => ?_)
    refine lv_iload_n hx hb dX7_readLine_190 rfl (lv_at hl 1 rfl) ?_
    refine lv_iload_n hx hb dX7_readLine_191 rfl (lv_at hl 2 rfl) ?_
    refine lv_ior hx hb dX7_readLine_192 ?_
    exact M_iret hx hb hr hlocks hM hS hw dX7_readLine_193
  have hB79 : ∀ (h : Mem) (x2 : Int32), wpBX7_readLine_79 post a1  h x2 → JM p l e (headSpec (ws_ yX7_readLine cX7_readLine 4 (some .int)) ({ frames := 190, cells := 0, slots := 0, locals := 3586 })).room s m ([.ref (ad 69), .int a1] : List Value).toArray below meth c (MQ below (MQi D cA E ad post) ([.ref (ad 69), .int a1] : List Value).toArray s 0 0 (MA ad)) D cA E ad 4 79 h [(0, .ref (ad 69)), (1, .int a1), (2, .int x2)] [] := by
    intro h x2 hw H locs ls hM hS hl
    unfold wpBX7_readLine_79 at hw
    refine lv_iload_n hx hb dX7_readLine_79 rfl (lv_at hl 2 rfl) ?_
    refine lv_iconst (v := (1 : Int32)) hx hb dX7_readLine_80 (by decide) ?_
    refine lv_icmp_ne (tgt := 102) hx hb dX7_readLine_81 (by decide) (fun c32 => ?_) (fun c32 => ?_)
    · have hw := hw.2 c32
      refine lv_iload_n hx hb dX7_readLine_102 rfl (lv_at hl 2 rfl) ?_
      refine lv_iconst (v := (2 : Int32)) hx hb dX7_readLine_103 (by decide) ?_
      refine lv_icmp_ne (tgt := 124) hx hb dX7_readLine_104 (by decide) (fun c33 => ?_) (fun c33 => ?_)
      · have hw := hw.2 c33
        refine lv_aload_n hx hb dX7_readLine_124 rfl (lv_at hl 0 rfl) ?_
        refine lv_iconst (v := (0 : Int32)) hx hb dX7_readLine_125 (by decide) ?_
        refine M_callV (As := [.int (0 : Int32)]) (rest := []) ⟨hx, hb, hml, hown, hts⟩ hK hZ hM hJ hS (metX7_readExpression l D cA z0 E ad 9 h (0 : Int32) _ hw) (cwV 1 hts (lw_V q1956 q1958 qs53 q130 q1959) rfl rfl rfl (by decide +kernel) ⟨Nat.le_of_ble_eq_true rfl, Nat.le_of_ble_eq_true rfl⟩) rfl hl.1 rfl (Nat.le_of_ble_eq_true rfl) dX7_readLine_126 ⟨Nat.zero_le _, Nat.zero_le _⟩ (fun h35 H locs hw hM hS => ?_)
        refine lv_goto (tgt := 184) hx hb dX7_readLine_129 (by decide) ?_
        exact hB184 h35 x2 hw _ _ ls hM hS (lv_sub hl [0, 1, 2] rfl)
      · have hw := hw.1 c33
        refine lv_aload_n hx hb dX7_readLine_107 rfl (lv_at hl 0 rfl) ?_
        refine M_get hx hb hts hown hK hM 3 (v := .ref (ad 3)) (by decide) (hts _ q1686) rfl dX7_readLine_108 ?_
        refine lv_bipush (v := (10 : Int32)) hx hb dX7_readLine_111 (by decide) ?_
        refine lv_aload_n hx hb dX7_readLine_113 rfl (lv_at hl 0 rfl) ?_
        refine lv_iconst (v := (1 : Int32)) hx hb dX7_readLine_114 (by decide) ?_
        refine lv_bipush (v := (23 : Int32)) hx hb dX7_readLine_115 (by decide) ?_
        refine M_callI (As := [.int (1 : Int32), .int (23 : Int32)]) (rest := [.int (10 : Int32), .ref (ad 3)]) ⟨hx, hb, hml, hown, hts⟩ hK hZ hM hJ hS (metX7_readNumber l D cA z0 E ad h (1 : Int32) (23 : Int32) _ hw) (cwV 2 hts (lw_V q1948 q1950 qs51 q130 q1951) rfl rfl rfl (by decide +kernel) ⟨Nat.le_of_ble_eq_true rfl, Nat.le_of_ble_eq_true rfl⟩) rfl hl.1 rfl (Nat.le_of_ble_eq_true rfl) dX7_readLine_117 ⟨Nat.zero_le _, Nat.zero_le _⟩ (fun r36 h37 H locs hw hM hS => ?_)
        refine M_iast hx hb hK hM hJ hS 3 rfl (j := 10) rfl (by unfold vp_in; decide) dX7_readLine_120 (fun H locs hM hS => ?_)
        obtain ⟨h38, eh38⟩ : ∃ y : Mem, y = up2 h37 3 10 r36 := ⟨_, rfl⟩
        rw [← eh38] at hM
        have hw := hw h38 eh38
        refine lv_goto (tgt := 184) hx hb dX7_readLine_121 (by decide) ?_
        exact hB184 h38 x2 hw _ _ ls hM hS (lv_sub hl [0, 1, 2] rfl)
    · have hw := hw.1 c32
      refine lv_aload_n hx hb dX7_readLine_84 rfl (lv_at hl 0 rfl) ?_
      refine M_get hx hb hts hown hK hM 3 (v := .ref (ad 3)) (by decide) (hts _ q1686) rfl dX7_readLine_85 ?_
      refine lv_bipush (v := (9 : Int32)) hx hb dX7_readLine_88 (by decide) ?_
      refine lv_aload_n hx hb dX7_readLine_90 rfl (lv_at hl 0 rfl) ?_
      refine lv_iconst (v := (1 : Int32)) hx hb dX7_readLine_91 (by decide) ?_
      refine lv_sipush (v := (999 : Int32)) hx hb dX7_readLine_92 (by decide) ?_
      refine M_callI (As := [.int (1 : Int32), .int (999 : Int32)]) (rest := [.int (9 : Int32), .ref (ad 3)]) ⟨hx, hb, hml, hown, hts⟩ hK hZ hM hJ hS (metX7_readNumber l D cA z0 E ad h (1 : Int32) (999 : Int32) _ hw) (cwV 2 hts (lw_V q1948 q1950 qs51 q130 q1951) rfl rfl rfl (by decide +kernel) ⟨Nat.le_of_ble_eq_true rfl, Nat.le_of_ble_eq_true rfl⟩) rfl hl.1 rfl (Nat.le_of_ble_eq_true rfl) dX7_readLine_95 ⟨Nat.zero_le _, Nat.zero_le _⟩ (fun r39 h40 H locs hw hM hS => ?_)
      refine M_iast hx hb hK hM hJ hS 3 rfl (j := 9) rfl (by unfold vp_in; decide) dX7_readLine_98 (fun H locs hM hS => ?_)
      obtain ⟨h41, eh41⟩ : ∃ y : Mem, y = up2 h40 3 9 r39 := ⟨_, rfl⟩
      rw [← eh41] at hM
      have hw := hw h41 eh41
      refine lv_goto (tgt := 184) hx hb dX7_readLine_99 (by decide) ?_
      exact hB184 h41 x2 hw _ _ ls hM hS (lv_sub hl [0, 1, 2] rfl)
  have hB64 : ∀ (h : Mem) (x2 : Int32) (x3 : Int32), wpBX7_readLine_64 post a1  h x2 x3 → JM p l e (headSpec (ws_ yX7_readLine cX7_readLine 4 (some .int)) ({ frames := 190, cells := 0, slots := 0, locals := 3586 })).room s m ([.ref (ad 69), .int a1] : List Value).toArray below meth c (MQ below (MQi D cA E ad post) ([.ref (ad 69), .int a1] : List Value).toArray s 0 0 (MA ad)) D cA E ad 4 64 h [(0, .ref (ad 69)), (1, .int a1), (2, .int x2), (3, .int x3)] [] := by
    intro h x2 x3 hw H locs ls hM hS hl
    unfold wpBX7_readLine_64 at hw
    refine lv_iload_n hx hb dX7_readLine_64 rfl (lv_at hl 2 rfl) ?_
    refine lv_if_le (tgt := 132) hx hb dX7_readLine_65 (by decide) (fun c13 => ?_) (fun c13 => ?_)
    · have hw := hw.1 c13
      refine lv_iload_n hx hb dX7_readLine_132 rfl (lv_at hl 3 rfl) ?_
      refine lv_iconst (v := (-1 : Int32)) hx hb dX7_readLine_133 (by decide) ?_
      refine lv_icmp_eq (tgt := 145) hx hb dX7_readLine_134 (by decide) (fun c14 => ?_) (fun c14 => ?_)
      · have hw := hw.1 c14
        refine lv_aload_n hx hb dX7_readLine_145 rfl (lv_at hl 0 rfl) ?_
        refine va_ldcSw hx hb hown (hZ.ldc 44 rfl) dX7_readLine_146 ?_
        refine M_callZp (As := [.ref (E 0 1)]) (rest := []) ⟨hx, hb, hml, hown, hts⟩ hK hZ hM hJ hS (metX7_is l D cA z0 E ad h 1 _ (by first | exact (by decide) | rfl) hw) (cwV 1 hts (lw_V q1932 q1934 qs48 q130 q1935) rfl rfl rfl (by decide +kernel) ⟨Nat.le_of_ble_eq_true rfl, Nat.le_of_ble_eq_true rfl⟩) rfl hl.1 rfl (Nat.le_of_ble_eq_true rfl) dX7_readLine_149 ⟨Nat.zero_le _, Nat.zero_le _⟩ (fun r15 H locs hw hM hS => ?_)
        refine lv_if_eq (tgt := 162) hx hb dX7_readLine_152 (by decide) (fun c17 => ?_) (fun c17 => ?_)
        · have c17 := b2i_f c17
          have hw := hw.2 c17
          refine lv_aload_n hx hb dX7_readLine_162 rfl (lv_at hl 0 rfl) ?_
          refine va_ldcSw hx hb hown (hZ.ldc 45 rfl) dX7_readLine_163 ?_
          refine M_callZp (As := [.ref (E 0 2)]) (rest := []) ⟨hx, hb, hml, hown, hts⟩ hK hZ hM hJ hS (metX7_is l D cA z0 E ad h 2 _ (by first | exact (by decide) | rfl) hw) (cwV 1 hts (lw_V q1932 q1934 qs48 q130 q1935) rfl rfl rfl (by decide +kernel) ⟨Nat.le_of_ble_eq_true rfl, Nat.le_of_ble_eq_true rfl⟩) rfl hl.1 rfl (Nat.le_of_ble_eq_true rfl) dX7_readLine_166 ⟨Nat.zero_le _, Nat.zero_le _⟩ (fun r18 H locs hw hM hS => ?_)
          refine lv_if_eq (tgt := 179) hx hb dX7_readLine_169 (by decide) (fun c20 => ?_) (fun c20 => ?_)
          · have c20 := b2i_f c20
            have hw := hw.2 c20
            refine lv_aload_n hx hb dX7_readLine_179 rfl (lv_at hl 0 rfl) ?_
            refine lv_iconst (v := (1 : Int32)) hx hb dX7_readLine_180 (by decide) ?_
            refine M_callV (As := [.int (1 : Int32)]) (rest := []) ⟨hx, hb, hml, hown, hts⟩ hK hZ hM hJ hS (metX7_wrong l D cA z0 E ad h (1 : Int32) _ hw) (cwV 1 hts (lw_V q1944 q1946 qs50 q130 q1947) rfl rfl rfl (by decide +kernel) ⟨Nat.le_of_ble_eq_true rfl, Nat.le_of_ble_eq_true rfl⟩) rfl hl.1 rfl (Nat.le_of_ble_eq_true rfl) dX7_readLine_181 ⟨Nat.zero_le _, Nat.zero_le _⟩ (fun h22 H locs hw hM hS => ?_)
            exact hB184 h22 x2 hw _ _ ls hM hS (lv_sub hl [0, 1, 2] rfl)
          · have c20 := b2i_t c20
            have hw := hw.1 c20
            refine lv_aload_n hx hb dX7_readLine_172 rfl (lv_at hl 0 rfl) ?_
            refine M_callV (As := []) (rest := []) ⟨hx, hb, hml, hown, hts⟩ hK hZ hM hJ hS (metX7_readMet l D cA z0 E ad h  _ hw) (cwV 0 hts (lw_V q2012 q2014 qs65 q130 q2015) rfl rfl rfl (by decide +kernel) ⟨Nat.le_of_ble_eq_true rfl, Nat.le_of_ble_eq_true rfl⟩) rfl hl.1 rfl (Nat.le_of_ble_eq_true rfl) dX7_readLine_173 ⟨Nat.zero_le _, Nat.zero_le _⟩ (fun h26 H locs hw hM hS => ?_)
            refine lv_goto (tgt := 184) hx hb dX7_readLine_176 (by decide) ?_
            exact hB184 h26 x2 hw _ _ ls hM hS (lv_sub hl [0, 1, 2] rfl)
        · have c17 := b2i_t c17
          have hw := hw.1 c17
          refine lv_aload_n hx hb dX7_readLine_155 rfl (lv_at hl 0 rfl) ?_
          refine M_callV (As := []) (rest := []) ⟨hx, hb, hml, hown, hts⟩ hK hZ hM hJ hS (metX7_readLoaf l D cA z0 E ad h  _ hw) (cwV 0 hts (lw_V q2000 q2002 qs63 q130 q2003) rfl rfl rfl (by decide +kernel) ⟨Nat.le_of_ble_eq_true rfl, Nat.le_of_ble_eq_true rfl⟩) rfl hl.1 rfl (Nat.le_of_ble_eq_true rfl) dX7_readLine_156 ⟨Nat.zero_le _, Nat.zero_le _⟩ (fun h28 H locs hw hM hS => ?_)
          refine lv_goto (tgt := 184) hx hb dX7_readLine_159 (by decide) ?_
          exact hB184 h28 x2 hw _ _ ls hM hS (lv_sub hl [0, 1, 2] rfl)
      · have hw := hw.2 c14
        refine lv_aload_n hx hb dX7_readLine_137 rfl (lv_at hl 0 rfl) ?_
        refine lv_iload_n hx hb dX7_readLine_138 rfl (lv_at hl 3 rfl) ?_
        refine M_callV (As := [.int x3]) (rest := []) ⟨hx, hb, hml, hown, hts⟩ hK hZ hM hJ hS (metX7_readPerson l D cA z0 E ad h x3 _ hw) (cwV 1 hts (lw_V q1995 q1997 qs62 q130 q1998) rfl rfl rfl (by decide +kernel) ⟨Nat.le_of_ble_eq_true rfl, Nat.le_of_ble_eq_true rfl⟩) rfl hl.1 rfl (Nat.le_of_ble_eq_true rfl) dX7_readLine_139 ⟨Nat.zero_le _, Nat.zero_le _⟩ (fun h30 H locs hw hM hS => ?_)
        refine lv_goto (tgt := 184) hx hb dX7_readLine_142 (by decide) ?_
        exact hB184 h30 x2 hw _ _ ls hM hS (lv_sub hl [0, 1, 2] rfl)
    · have hw := hw.2 c13
      refine lv_aload_n hx hb dX7_readLine_68 rfl (lv_at hl 0 rfl) ?_
      refine M_get hx hb hts hown hK hM 24 (v := .int (h 24 0)) (by decide) (hts _ q1707) rfl dX7_readLine_69 ?_
      refine lv_if_ne (tgt := 79) hx hb dX7_readLine_72 (by decide) (fun c31 => ?_) (fun c31 => ?_)
      · have hw := hw.2 c31
        exact hB79 h x2 hw _ _ ls hM hS (lv_sub hl [0, 1, 2] rfl)
      · have hw := hw.1 c31
        refine lv_aload_n hx hb dX7_readLine_75 rfl (lv_at hl 0 rfl) ?_
        refine M_callV (As := []) (rest := []) ⟨hx, hb, hml, hown, hts⟩ hK hZ hM hJ hS (metX7_stepOn l D cA z0 E ad h  _ hw) (cwV 0 hts (lw_V q1908 q1910 qs45 q130 q1911) rfl rfl rfl (by decide +kernel) ⟨Nat.le_of_ble_eq_true rfl, Nat.le_of_ble_eq_true rfl⟩) rfl hl.1 rfl (Nat.le_of_ble_eq_true rfl) dX7_readLine_76 ⟨Nat.zero_le _, Nat.zero_le _⟩ (fun h43 H locs hw hM hS => ?_)
        exact hB79 h43 x2 hw _ _ ls hM hS (lv_sub hl [0, 1, 2] rfl)
  have hB43 : ∀ (h : Mem)  (s0 : Int32), wpBX7_readLine_43 post a1  h s0 → JM p l e (headSpec (ws_ yX7_readLine cX7_readLine 4 (some .int)) ({ frames := 190, cells := 0, slots := 0, locals := 3586 })).room s m ([.ref (ad 69), .int a1] : List Value).toArray below meth c (MQ below (MQi D cA E ad post) ([.ref (ad 69), .int a1] : List Value).toArray s 0 0 (MA ad)) D cA E ad 4 43 h [(0, .ref (ad 69)), (1, .int a1)] [.int s0] := by
    intro h s0 hw H locs ls hM hS hl
    unfold wpBX7_readLine_43 at hw
    refine lv_istore_n (lv' := [(2, .int s0), (0, .ref (ad 69)), (1, .int a1)]) hx hb dX7_readLine_43 rfl hl (by decide) rfl (fun ls hl => ?_)
    refine lv_aload_n hx hb dX7_readLine_44 rfl (lv_at hl 1 rfl) ?_
    refine lv_aload_n hx hb dX7_readLine_45 rfl (lv_at hl 1 rfl) ?_
    refine M_get hx hb hts hown hK hM 0 (v := .ref (ad 0)) (by decide) (hts _ q1683) rfl dX7_readLine_46 ?_
    refine M_callIp (As := [.ref (ad 0)]) (rest := []) ⟨hx, hb, hml, hown, hts⟩ hK hZ hM hJ hS (metX7_which l D cA z0 E ad h 0 _ (by first | exact (by decide) | rfl) hw) (cwV 1 hts (lw_V q1940 q1942 qs49 q130 q1943) rfl rfl rfl (by decide +kernel) ⟨Nat.le_of_ble_eq_true rfl, Nat.le_of_ble_eq_true rfl⟩) rfl hl.1 rfl (Nat.le_of_ble_eq_true rfl) dX7_readLine_49 ⟨Nat.zero_le _, Nat.zero_le _⟩ (fun r10 H locs hw hM hS => ?_)
    refine lv_istore_n (lv' := [(3, .int r10), (2, .int s0), (0, .ref (ad 69)), (1, .int a1)]) hx hb dX7_readLine_52 rfl hl (by decide) rfl (fun ls hl => ?_)
    refine lv_iload_n hx hb dX7_readLine_53 rfl (lv_at hl 1 rfl) ?_
    refine lv_iload_n hx hb dX7_readLine_54 rfl (lv_at hl 3 rfl) ?_
    refine lv_iand hx hb dX7_readLine_55 ?_
    refine lv_if_eq (tgt := 64) hx hb dX7_readLine_56 (by decide) (fun c12 => ?_) (fun c12 => ?_)
    · have hw := hw.1 c12
      exact hB64 h s0 r10 hw _ _ ls hM hS (lv_sub hl [2, 3, 1, 0] rfl)
    · have hw := hw.2 c12
      refine lv_aload_n hx hb dX7_readLine_59 rfl (lv_at hl 2 rfl) ?_
      refine lv_iconst (v := (5 : Int32)) hx hb dX7_readLine_60 (by decide) ?_
      refine M_callV (As := [.int (5 : Int32)]) (rest := []) ⟨hx, hb, hml, hown, hts⟩ hK hZ hM hJ hS (metX7_wrong l D cA z0 E ad h (5 : Int32) _ hw) (cwV 1 hts (lw_V q1944 q1946 qs50 q130 q1947) rfl rfl rfl (by decide +kernel) ⟨Nat.le_of_ble_eq_true rfl, Nat.le_of_ble_eq_true rfl⟩) rfl hl.1 rfl (Nat.le_of_ble_eq_true rfl) dX7_readLine_61 ⟨Nat.zero_le _, Nat.zero_le _⟩ (fun h45 H locs hw hM hS => ?_)
      exact hB64 h45 s0 r10 hw _ _ ls hM hS (lv_sub hl [2, 3, 1, 0] rfl)
  unfold wpX7_readLine at hw
  refine lv_aload_n hx hb dX7_readLine_0 rfl (lv_at hl 0 rfl) ?_
  refine va_ldcSw hx hb hown (hZ.ldc 41 rfl) dX7_readLine_1 ?_
  refine M_callZp (As := [.ref (E 0 3)]) (rest := []) ⟨hx, hb, hml, hown, hts⟩ hK hZ hM hJ hS (metX7_is l D cA z0 E ad h 3 _ (by first | exact (by decide) | rfl) hw) (cwV 1 hts (lw_V q1932 q1934 qs48 q130 q1935) rfl rfl rfl (by decide +kernel) ⟨Nat.le_of_ble_eq_true rfl, Nat.le_of_ble_eq_true rfl⟩) rfl hl.1 rfl (Nat.le_of_ble_eq_true rfl) dX7_readLine_4 ⟨Nat.zero_le _, Nat.zero_le _⟩ (fun r1 H locs hw hM hS => ?_)
  refine lv_if_eq (tgt := 14) hx hb dX7_readLine_7 (by decide) (fun c3 => ?_) (fun c3 => ?_)
  · have c3 := b2i_f c3
    have hw := hw.2 c3
    refine lv_aload_n hx hb dX7_readLine_14 rfl (lv_at hl 0 rfl) ?_
    refine va_ldcSw hx hb hown (hZ.ldc 42 rfl) dX7_readLine_15 ?_
    refine M_callZp (As := [.ref (E 0 4)]) (rest := []) ⟨hx, hb, hml, hown, hts⟩ hK hZ hM hJ hS (metX7_is l D cA z0 E ad h 4 _ (by first | exact (by decide) | rfl) hw) (cwV 1 hts (lw_V q1932 q1934 qs48 q130 q1935) rfl rfl rfl (by decide +kernel) ⟨Nat.le_of_ble_eq_true rfl, Nat.le_of_ble_eq_true rfl⟩) rfl hl.1 rfl (Nat.le_of_ble_eq_true rfl) dX7_readLine_18 ⟨Nat.zero_le _, Nat.zero_le _⟩ (fun r4 H locs hw hM hS => ?_)
    refine lv_if_eq (tgt := 28) hx hb dX7_readLine_21 (by decide) (fun c6 => ?_) (fun c6 => ?_)
    · have c6 := b2i_f c6
      have hw := hw.2 c6
      refine lv_aload_n hx hb dX7_readLine_28 rfl (lv_at hl 0 rfl) ?_
      refine va_ldcSw hx hb hown (hZ.ldc 43 rfl) dX7_readLine_29 ?_
      refine M_callZp (As := [.ref (E 0 5)]) (rest := []) ⟨hx, hb, hml, hown, hts⟩ hK hZ hM hJ hS (metX7_is l D cA z0 E ad h 5 _ (by first | exact (by decide) | rfl) hw) (cwV 1 hts (lw_V q1932 q1934 qs48 q130 q1935) rfl rfl rfl (by decide +kernel) ⟨Nat.le_of_ble_eq_true rfl, Nat.le_of_ble_eq_true rfl⟩) rfl hl.1 rfl (Nat.le_of_ble_eq_true rfl) dX7_readLine_32 ⟨Nat.zero_le _, Nat.zero_le _⟩ (fun r7 H locs hw hM hS => ?_)
      have hj9 : JM p l e (headSpec (ws_ yX7_readLine cX7_readLine 4 (some .int)) ({ frames := 190, cells := 0, slots := 0, locals := 3586 })).room s m ([.ref (ad 69), .int a1] : List Value).toArray below meth c (MQ below (MQi D cA E ad post) ([.ref (ad 69), .int a1] : List Value).toArray s 0 0 (MA ad)) D cA E ad 4 43 h [(0, .ref (ad 69)), (1, .int a1)] [.int (if r7 = true then (4 : Int32) else (0 : Int32))] := by
        intro H locs ls hM hS hl
        exact hB43 h (if r7 = true then (4 : Int32) else (0 : Int32)) hw _ _ ls hM hS (lv_sub hl [0, 1] rfl)
      refine lv_if_eq (tgt := 42) hx hb dX7_readLine_35 (by decide) (fun c46 => ?_) (fun c46 => ?_)
      · have c46 := b2i_f c46
        refine lv_iconst (v := (0 : Int32)) hx hb dX7_readLine_42 (by decide) ?_
        have e47 : (if r7 = true then (4 : Int32) else (0 : Int32)) = (0 : Int32) := by rw [if_neg c46]
        rw [e47] at hj9
        exact hj9 _ _ ls hM hS (lv_sub hl [0, 1] rfl)
      · have c46 := b2i_t c46
        refine lv_iconst (v := (4 : Int32)) hx hb dX7_readLine_38 (by decide) ?_
        refine lv_goto (tgt := 43) hx hb dX7_readLine_39 (by decide) ?_
        have e48 : (if r7 = true then (4 : Int32) else (0 : Int32)) = (4 : Int32) := by rw [if_pos c46]
        rw [e48] at hj9
        exact hj9 _ _ ls hM hS (lv_sub hl [0, 1] rfl)
    · have c6 := b2i_t c6
      have hw := hw.1 c6
      refine lv_iconst (v := (2 : Int32)) hx hb dX7_readLine_24 (by decide) ?_
      refine lv_goto (tgt := 43) hx hb dX7_readLine_25 (by decide) ?_
      exact hB43 h (2 : Int32) hw _ _ ls hM hS (lv_sub hl [0, 1] rfl)
  · have c3 := b2i_t c3
    have hw := hw.1 c3
    refine lv_iconst (v := (1 : Int32)) hx hb dX7_readLine_10 (by decide) ?_
    refine lv_goto (tgt := 43) hx hb dX7_readLine_11 (by decide) ?_
    exact hB43 h (1 : Int32) hw _ _ ls hM hS (lv_sub hl [0, 1] rfl)
