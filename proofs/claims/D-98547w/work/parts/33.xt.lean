/-! the walks of the component's methods that may throw, printed by tools/gent.py: X1_count X1_person X1_loaf X1_met X1_knows X1_may X1_why X1_carried X1_see X1_balk X1_slice X1_fairest X1_who X1_whom X1_game X1_season -/
/-- StrangeKnives.count(I)I -/
def wpX1_count (post : Int32 → Mem → Prop) (h : Mem) (T : TT) (px : Nat → Prop) (a1 : Int32) : Prop :=
  (wpX1_within (fun r1 => ((r1 = true → ((a1 = (0 : Int32) → (wpX1_people (fun r3 => post r3 h) h T )) ∧ (¬ a1 = (0 : Int32) → ((a1 = (1 : Int32) → (wpX1_loaves (fun r4 => post r4 h) h T )) ∧ (¬ a1 = (1 : Int32) → ((a1 = (2 : Int32) → post (nI (T 0 3)) h) ∧ (¬ a1 = (2 : Int32) → ((a1 = (3 : Int32) → post (nI (T 0 4)) h) ∧ (¬ a1 = (3 : Int32) → ((a1 = (4 : Int32) → post (h 43 0) h) ∧ (¬ a1 = (4 : Int32) → ((a1 = (5 : Int32) → post (h 44 0) h) ∧ (¬ a1 = (5 : Int32) → ((a1 = (6 : Int32) → (wpX1_cutMany (fun r5 => post r5 h) h T )) ∧ (¬ a1 = (6 : Int32) → ((a1 = (7 : Int32) → (wpX1_couples (fun r6 => post r6 h) h T 40)) ∧ (¬ a1 = (7 : Int32) → ((a1 = (8 : Int32) → post (h 28 0) h) ∧ (¬ a1 = (8 : Int32) → ((a1 = (9 : Int32) → post (h 29 0) h) ∧ (¬ a1 = (9 : Int32) → ((a1 = (10 : Int32) → post (h 30 0) h) ∧ (¬ a1 = (10 : Int32) → ((a1 = (11 : Int32) → post (h 7 0) h) ∧ (¬ a1 = (11 : Int32) → (vp_in (a1 - (12 : Int32)) (Xlen 27) ∧ post (h 27 (ix (a1 - (12 : Int32)))) h)))))))))))))))))))))))))) ∧ (¬ r1 = true → px 0))) h a1 (0 : Int32) (14 : Int32))
set_option maxHeartbeats 4000000 in
set_option maxRecDepth 100000 in
theorem metX1_count (l : Launch) (hlt : l.stackTraces = false) (D : va_G) (cA : Nat → ClassId) (z0 : Nat) (E : Nat → Nat → Nat) (tw : Nat → Nat) (N : Nat → Prop) (ad : Nat → Nat) (sz : Nat) (h : Mem) (T : TT) (px : Nat → Prop) (a1 : Int32) (hn0 : T 0 0 < 2 ^ 31) (hn1 : T 0 1 < 2 ^ 31) (post : Int32 → Mem → Prop) (hw : wpX1_count post h T px a1) : MeTI l D cA z0 E T tw N ad sz yX1_count (ws_ yX1_count cX1_count 2 (some .int)) ({ frames := 9, cells := 1, slots := 6, locals := 293 }) [.ref (ad 17), .int a1] h post px 1 6 := by
  refine vx_ofW (cc := cX1_count) (maxL := 2) (ret := (some .int)) (by decide) rfl ?_
  intro p e s m args below meth c s₁ B hml het hv
  obtain ⟨rfl, hsz, hM, hJ, hN, hT, hK, hZ⟩ := hv
  have hx := B.exec
  have hb := B.bytes
  have hr := B.returns
  have hts := atoms_spec (ws := ws_ yX1_count cX1_count 2 (some .int)) B.pre
  have hts : ∀ w ∈ lw_all, w.before _ s = true := fun w h => hts w (List.mem_cons_of_mem _ h)
  have hown : s.vm.findClass RX1 = some m.cls := findClass_of_methodNamed B.named
  have hlocks := B.notSynchronized
  subst hsz
  have hA : ∀ q, XA ad q → XB ad s.heap.size q := fun _ h => Or.inl h
  have hBz : ∀ q, XB ad s.heap.size q → z0 ≤ q := XB.z hZ hJ
  have hNA : ∀ q, N q → q < s.heap.size → ¬ XB ad s.heap.size q := fun q h h2 h3 => h3.elim (hN q h) (fun h4 => absurd h4 (Nat.not_le.mpr h2))
  have hS : va_S (XB ad s.heap.size) s.heap s.heap [] := va_S.rf
  have hl := lv_entry ([.ref (ad 17), .int a1]) (n := 2) (Nat.le_of_ble_eq_true rfl)
  rw [lg_entry_eq]
  generalize (lg_sl ([.ref (ad 17), .int a1]) ++ List.replicate (2 - (lg_sl ([.ref (ad 17), .int a1])).length) Slot.unset).toArray = ls at hl ⊢
  have hl : lv_has ls 2 [(0, .ref (ad 17)), (1, .int a1)] := hl
  obtain ⟨h0, eh0⟩ : ∃ y : Mem, y = h := ⟨_, rfl⟩
  rw [← eh0]
  unfold wpX1_count at hw
  refine lv_iload_n hx hb dX1_count_0 rfl (lv_at hl 1 rfl) ?_
  refine lv_iconst (v := (0 : Int32)) hx hb dX1_count_1 (by decide) ?_
  refine lv_bipush (v := (14 : Int32)) hx hb dX1_count_2 (by decide) ?_
  refine RN_callZ (As := [.int a1, .int (0 : Int32), .int (14 : Int32)]) (rest := []) ⟨hx, hb, hml, hown, hts⟩ hS (metX1_within l h a1 (0 : Int32) (14 : Int32) _ hw) (va_cwS 3 hts (lw_S q847 q848 q104 q849) rfl rfl rfl (by decide +kernel) ⟨Nat.le_of_ble_eq_true rfl, Nat.le_of_ble_eq_true rfl⟩) rfl hl.1 rfl (Nat.le_of_ble_eq_true rfl) dX1_count_4 ⟨Nat.le_of_ble_eq_true rfl, Nat.le_of_ble_eq_true rfl⟩ (fun r1 H locs hw hk hS => ?_)
  have hM := hM.kept hk
  refine XT_there ⟨hx, hb, hml, hown, hts⟩ eh0.symm hlt hZ hJ hM hS het hlocks (a := (b2i r1)) (fun c => hw.2 (b2i_f c)) q1394 ⟨Nat.le_of_ble_eq_true rfl, Nat.le_of_ble_eq_true rfl⟩ hl.1 (Nat.le_of_ble_eq_true rfl) dX1_count_7 ⟨Nat.le_of_ble_eq_true rfl, Nat.le_of_ble_eq_true rfl⟩ (Nat.le_of_ble_eq_true rfl) (Nat.le_of_ble_eq_true rfl) (fun c2 H locs hM hS => ?_)
  have c2 := b2i_t c2
  have hw := hw.1 c2
  refine lv_iload_n hx hb dX1_count_10 rfl (lv_at hl 1 rfl) ?_
  by_cases c11_0 : a1 = (0 : Int32)
  · have hw := hw.1 c11_0
    refine lv_swIn (v := (0 : Int32)) (tgt := 72) hx hb c11_0 dX1_count_11 (by decide) (by decide) rfl (by decide) ?_
    refine lv_aload_n hx hb dX1_count_72 rfl (lv_at hl 0 rfl) ?_
    refine RX_callI (As := []) (rest := []) ⟨hx, hb, hml, hown, hts⟩ hS hBz hK hZ (hT.at hS hNA) hM (metX1_people l D cA z0 E tw N ad h T  _ hw) (cwV 0 hts (lw_V q792 q794 qs6 q104 q795) rfl rfl rfl (by decide +kernel) ⟨Nat.le_of_ble_eq_true rfl, Nat.le_of_ble_eq_true rfl⟩) rfl hl.1 rfl (Nat.le_of_ble_eq_true rfl) dX1_count_73 ⟨Nat.le_of_ble_eq_true rfl, Nat.le_of_ble_eq_true rfl⟩ (fun r3 H locs hw hk hS => ?_)
    have hM := hM.kept hk
    exact XT_iret hx hb hr hlocks hM hS hw (Nat.le_of_ble_eq_true rfl) (Nat.le_of_ble_eq_true rfl) dX1_count_76
  have hw := hw.2 c11_0
  by_cases c11_1 : a1 = (1 : Int32)
  · have hw := hw.1 c11_1
    refine lv_swIn (v := (1 : Int32)) (tgt := 77) hx hb c11_1 dX1_count_11 (by decide) (by decide) rfl (by decide) ?_
    refine lv_aload_n hx hb dX1_count_77 rfl (lv_at hl 0 rfl) ?_
    refine RX_callI (As := []) (rest := []) ⟨hx, hb, hml, hown, hts⟩ hS hBz hK hZ (hT.at hS hNA) hM (metX1_loaves l D cA z0 E tw N ad h T  _ hw) (cwV 0 hts (lw_V q860 q862 qs9 q104 q863) rfl rfl rfl (by decide +kernel) ⟨Nat.le_of_ble_eq_true rfl, Nat.le_of_ble_eq_true rfl⟩) rfl hl.1 rfl (Nat.le_of_ble_eq_true rfl) dX1_count_78 ⟨Nat.le_of_ble_eq_true rfl, Nat.le_of_ble_eq_true rfl⟩ (fun r4 H locs hw hk hS => ?_)
    have hM := hM.kept hk
    exact XT_iret hx hb hr hlocks hM hS hw (Nat.le_of_ble_eq_true rfl) (Nat.le_of_ble_eq_true rfl) dX1_count_81
  have hw := hw.2 c11_1
  by_cases c11_2 : a1 = (2 : Int32)
  · have hw := hw.1 c11_2
    refine lv_swIn (v := (2 : Int32)) (tgt := 82) hx hb c11_2 dX1_count_11 (by decide) (by decide) rfl (by decide) ?_
    refine lv_aload_n hx hb dX1_count_82 rfl (lv_at hl 0 rfl) ?_
    refine X_get17 hx hb hts hown hK hM 0 (v := .ref (tw 9)) (by decide) (hts _ q724) rfl dX1_count_83 ?_
    refine T_fldN hx hb hts hown hK (hT.at hS hNA) 0 (v := .int (nI (T 0 3))) (by decide) (hZ.2.1.nF 10 rfl) (fun _ _ => rfl) dX1_count_86 ?_
    exact XT_iret hx hb hr hlocks hM hS hw (Nat.le_of_ble_eq_true rfl) (Nat.le_of_ble_eq_true rfl) dX1_count_89
  have hw := hw.2 c11_2
  by_cases c11_3 : a1 = (3 : Int32)
  · have hw := hw.1 c11_3
    refine lv_swIn (v := (3 : Int32)) (tgt := 90) hx hb c11_3 dX1_count_11 (by decide) (by decide) rfl (by decide) ?_
    refine lv_aload_n hx hb dX1_count_90 rfl (lv_at hl 0 rfl) ?_
    refine X_get17 hx hb hts hown hK hM 0 (v := .ref (tw 9)) (by decide) (hts _ q724) rfl dX1_count_91 ?_
    refine T_fldN hx hb hts hown hK (hT.at hS hNA) 1 (v := .int (nI (T 0 4))) (by decide) (hZ.2.1.nF 11 rfl) (fun _ _ => rfl) dX1_count_94 ?_
    exact XT_iret hx hb hr hlocks hM hS hw (Nat.le_of_ble_eq_true rfl) (Nat.le_of_ble_eq_true rfl) dX1_count_97
  have hw := hw.2 c11_3
  by_cases c11_4 : a1 = (4 : Int32)
  · have hw := hw.1 c11_4
    refine lv_swIn (v := (4 : Int32)) (tgt := 98) hx hb c11_4 dX1_count_11 (by decide) (by decide) rfl (by decide) ?_
    refine lv_aload_n hx hb dX1_count_98 rfl (lv_at hl 0 rfl) ?_
    refine X_get17 hx hb hts hown hK hM 3 (v := .ref (ad 45)) (by decide) (hts _ q727) rfl dX1_count_99 ?_
    refine X_get45N hx hb hts hown hK hM 3 (v := .int (h 43 0)) (by decide) (hZ.2.1.nF 12 rfl) rfl dX1_count_102 ?_
    exact XT_iret hx hb hr hlocks hM hS hw (Nat.le_of_ble_eq_true rfl) (Nat.le_of_ble_eq_true rfl) dX1_count_105
  have hw := hw.2 c11_4
  by_cases c11_5 : a1 = (5 : Int32)
  · have hw := hw.1 c11_5
    refine lv_swIn (v := (5 : Int32)) (tgt := 106) hx hb c11_5 dX1_count_11 (by decide) (by decide) rfl (by decide) ?_
    refine lv_aload_n hx hb dX1_count_106 rfl (lv_at hl 0 rfl) ?_
    refine X_get17 hx hb hts hown hK hM 3 (v := .ref (ad 45)) (by decide) (hts _ q727) rfl dX1_count_107 ?_
    refine X_get45N hx hb hts hown hK hM 4 (v := .int (h 44 0)) (by decide) (hZ.2.1.nF 13 rfl) rfl dX1_count_110 ?_
    exact XT_iret hx hb hr hlocks hM hS hw (Nat.le_of_ble_eq_true rfl) (Nat.le_of_ble_eq_true rfl) dX1_count_113
  have hw := hw.2 c11_5
  by_cases c11_6 : a1 = (6 : Int32)
  · have hw := hw.1 c11_6
    refine lv_swIn (v := (6 : Int32)) (tgt := 114) hx hb c11_6 dX1_count_11 (by decide) (by decide) rfl (by decide) ?_
    refine lv_aload_n hx hb dX1_count_114 rfl (lv_at hl 0 rfl) ?_
    refine RX_callI (As := []) (rest := []) ⟨hx, hb, hml, hown, hts⟩ hS hBz hK hZ (hT.at hS hNA) hM (metX1_cutMany l D cA z0 E tw N ad h T  _ hw) (cwV 0 hts (lw_V q864 q866 qs10 q104 q867) rfl rfl rfl (by decide +kernel) ⟨Nat.le_of_ble_eq_true rfl, Nat.le_of_ble_eq_true rfl⟩) rfl hl.1 rfl (Nat.le_of_ble_eq_true rfl) dX1_count_115 ⟨Nat.le_of_ble_eq_true rfl, Nat.le_of_ble_eq_true rfl⟩ (fun r5 H locs hw hk hS => ?_)
    have hM := hM.kept hk
    exact XT_iret hx hb hr hlocks hM hS hw (Nat.le_of_ble_eq_true rfl) (Nat.le_of_ble_eq_true rfl) dX1_count_118
  have hw := hw.2 c11_6
  by_cases c11_7 : a1 = (7 : Int32)
  · have hw := hw.1 c11_7
    refine lv_swIn (v := (7 : Int32)) (tgt := 119) hx hb c11_7 dX1_count_11 (by decide) (by decide) rfl (by decide) ?_
    refine lv_aload_n hx hb dX1_count_119 rfl (lv_at hl 0 rfl) ?_
    refine lv_aload_n hx hb dX1_count_120 rfl (lv_at hl 0 rfl) ?_
    refine X_get17 hx hb hts hown hK hM 3 (v := .ref (ad 45)) (by decide) (hts _ q727) rfl dX1_count_121 ?_
    refine RX_callI (As := [.ref (ad 45)]) (rest := []) ⟨hx, hb, hml, hown, hts⟩ hS hBz hK hZ (hT.at hS hNA) hM (metX1_couples l D cA z0 E tw N ad h T 40 _ (by decide) hw) (cwV 1 hts (lw_V q1412 q1414 qs35 q104 q1415) rfl rfl rfl (by decide +kernel) ⟨Nat.le_of_ble_eq_true rfl, Nat.le_of_ble_eq_true rfl⟩) rfl hl.1 rfl (Nat.le_of_ble_eq_true rfl) dX1_count_124 ⟨Nat.le_of_ble_eq_true rfl, Nat.le_of_ble_eq_true rfl⟩ (fun r6 H locs hw hk hS => ?_)
    have hM := hM.kept hk
    exact XT_iret hx hb hr hlocks hM hS hw (Nat.le_of_ble_eq_true rfl) (Nat.le_of_ble_eq_true rfl) dX1_count_127
  have hw := hw.2 c11_7
  by_cases c11_8 : a1 = (8 : Int32)
  · have hw := hw.1 c11_8
    refine lv_swIn (v := (8 : Int32)) (tgt := 128) hx hb c11_8 dX1_count_11 (by decide) (by decide) rfl (by decide) ?_
    refine lv_aload_n hx hb dX1_count_128 rfl (lv_at hl 0 rfl) ?_
    refine X_get17 hx hb hts hown hK hM 1 (v := .ref (ad 31)) (by decide) (hts _ q725) rfl dX1_count_129 ?_
    refine X_get31N hx hb hts hown hK hM 8 (v := .int (h 28 0)) (by decide) (hZ.2.1.nF 6 rfl) rfl dX1_count_132 ?_
    exact XT_iret hx hb hr hlocks hM hS hw (Nat.le_of_ble_eq_true rfl) (Nat.le_of_ble_eq_true rfl) dX1_count_135
  have hw := hw.2 c11_8
  by_cases c11_9 : a1 = (9 : Int32)
  · have hw := hw.1 c11_9
    refine lv_swIn (v := (9 : Int32)) (tgt := 136) hx hb c11_9 dX1_count_11 (by decide) (by decide) rfl (by decide) ?_
    refine lv_aload_n hx hb dX1_count_136 rfl (lv_at hl 0 rfl) ?_
    refine X_get17 hx hb hts hown hK hM 1 (v := .ref (ad 31)) (by decide) (hts _ q725) rfl dX1_count_137 ?_
    refine X_get31N hx hb hts hown hK hM 9 (v := .int (h 29 0)) (by decide) (hZ.2.1.nF 7 rfl) rfl dX1_count_140 ?_
    exact XT_iret hx hb hr hlocks hM hS hw (Nat.le_of_ble_eq_true rfl) (Nat.le_of_ble_eq_true rfl) dX1_count_143
  have hw := hw.2 c11_9
  by_cases c11_10 : a1 = (10 : Int32)
  · have hw := hw.1 c11_10
    refine lv_swIn (v := (10 : Int32)) (tgt := 144) hx hb c11_10 dX1_count_11 (by decide) (by decide) rfl (by decide) ?_
    refine lv_aload_n hx hb dX1_count_144 rfl (lv_at hl 0 rfl) ?_
    refine X_get17 hx hb hts hown hK hM 1 (v := .ref (ad 31)) (by decide) (hts _ q725) rfl dX1_count_145 ?_
    refine X_get31N hx hb hts hown hK hM 10 (v := .int (h 30 0)) (by decide) (hZ.2.1.nF 8 rfl) rfl dX1_count_148 ?_
    exact XT_iret hx hb hr hlocks hM hS hw (Nat.le_of_ble_eq_true rfl) (Nat.le_of_ble_eq_true rfl) dX1_count_151
  have hw := hw.2 c11_10
  by_cases c11_11 : a1 = (11 : Int32)
  · have hw := hw.1 c11_11
    refine lv_swIn (v := (11 : Int32)) (tgt := 152) hx hb c11_11 dX1_count_11 (by decide) (by decide) rfl (by decide) ?_
    refine lv_aload_n hx hb dX1_count_152 rfl (lv_at hl 0 rfl) ?_
    refine X_get17 hx hb hts hown hK hM 7 (v := .int (h 7 0)) (by decide) (hts _ q731) rfl dX1_count_153 ?_
    exact XT_iret hx hb hr hlocks hM hS hw (Nat.le_of_ble_eq_true rfl) (Nat.le_of_ble_eq_true rfl) dX1_count_156
  have hw := hw.2 c11_11
  have hsw : a1.toInt < (0 : Int) ∨ (11 : Int) < a1.toInt := by
    refine sw_out (fun k h1 h2 => ?_)
    rcases (show k = 0 ∨ k = 1 ∨ k = 2 ∨ k = 3 ∨ k = 4 ∨ k = 5 ∨ k = 6 ∨ k = 7 ∨ k = 8 ∨ k = 9 ∨ k = 10 ∨ k = 11 by omega) with rfl | rfl | rfl | rfl | rfl | rfl | rfl | rfl | rfl | rfl | rfl | rfl
    · exact c11_0
    · exact c11_1
    · exact c11_2
    · exact c11_3
    · exact c11_4
    · exact c11_5
    · exact c11_6
    · exact c11_7
    · exact c11_8
    · exact c11_9
    · exact c11_10
    · exact c11_11
  refine lv_tableOut (tgt := 157) hx hb dX1_count_11 hsw (by decide) ?_
  refine lv_aload_n hx hb dX1_count_157 rfl (lv_at hl 0 rfl) ?_
  refine X_get17 hx hb hts hown hK hM 1 (v := .ref (ad 31)) (by decide) (hts _ q725) rfl dX1_count_158 ?_
  refine X_get31N hx hb hts hown hK hM 7 (v := .ref (ad 27)) (by decide) (hZ.2.1.nF 4 rfl) rfl dX1_count_161 ?_
  refine lv_iload_n hx hb dX1_count_164 rfl (lv_at hl 1 rfl) ?_
  refine lv_bipush (v := (12 : Int32)) hx hb dX1_count_165 (by decide) ?_
  refine lv_isub hx hb dX1_count_167 ?_
  obtain ⟨hv7, hw⟩ := hw
  refine X_iald hx hb hK hM 27 rfl (j := (ix (a1 - (12 : Int32)))) rfl hv7 dX1_count_168 ?_
  exact XT_iret hx hb hr hlocks hM hS hw (Nat.le_of_ble_eq_true rfl) (Nat.le_of_ble_eq_true rfl) dX1_count_169

/-- StrangeKnives.person(II)I -/
def wpX1_person (post : Int32 → Mem → Prop) (h : Mem) (T : TT) (px : Nat → Prop) (a1 : Int32) (a2 : Int32) : Prop :=
  ((∀ p1 : Nat, p1 < T 0 0 → a1 = nI p1 → (wpX1_within (fun r2 => ((r2 = true → ((a2 = 0 → post (nI (T 1 p1)) h) ∧ (¬ a2 = 0 → ((a2 = (1 : Int32) → post (nI (T 2 p1)) h) ∧ (¬ a2 = (1 : Int32) → ((a2 = (2 : Int32) → post (nI (T 3 p1)) h) ∧ (¬ a2 = (2 : Int32) → ((a2 = (3 : Int32) → (vp_in a1 (8) ∧ post (twI T (ix a1)) h)) ∧ (¬ a2 = (3 : Int32) → ((a2 = (4 : Int32) → (vp_in a1 (Xlen 42) ∧ post (h 42 (ix a1)) h)) ∧ (¬ a2 = (4 : Int32) → (wpX1_knownBy (fun r9 => post r9 h) h T a1)))))))))))) ∧ (¬ r2 = true → px 0))) h a2 (0 : Int32) (5 : Int32))) ∧ ((∀ i : Nat, i < T 0 0 → ¬ a1 = nI i) → px 0))
set_option maxHeartbeats 4000000 in
set_option maxRecDepth 100000 in
theorem metX1_person (l : Launch) (hlt : l.stackTraces = false) (D : va_G) (cA : Nat → ClassId) (z0 : Nat) (E : Nat → Nat → Nat) (tw : Nat → Nat) (N : Nat → Prop) (ad : Nat → Nat) (sz : Nat) (h : Mem) (T : TT) (px : Nat → Prop) (a1 : Int32) (a2 : Int32) (hn0 : T 0 0 < 2 ^ 31) (hn1 : T 0 1 < 2 ^ 31) (post : Int32 → Mem → Prop) (hw : wpX1_person post h T px a1 a2) : MeTI l D cA z0 E T tw N ad sz yX1_person (ws_ yX1_person cX1_person 4 (some .int)) ({ frames := 13, cells := 2, slots := 12, locals := 421 }) [.ref (ad 17), .int a1, .int a2] h post px 2 12 := by
  refine vx_ofW (cc := cX1_person) (maxL := 4) (ret := (some .int)) (by decide) rfl ?_
  intro p e s m args below meth c s₁ B hml het hv
  obtain ⟨rfl, hsz, hM, hJ, hN, hT, hK, hZ⟩ := hv
  have hx := B.exec
  have hb := B.bytes
  have hr := B.returns
  have hts := atoms_spec (ws := ws_ yX1_person cX1_person 4 (some .int)) B.pre
  have hts : ∀ w ∈ lw_all, w.before _ s = true := fun w h => hts w (List.mem_cons_of_mem _ h)
  have hown : s.vm.findClass RX1 = some m.cls := findClass_of_methodNamed B.named
  have hlocks := B.notSynchronized
  subst hsz
  have hA : ∀ q, XA ad q → XB ad s.heap.size q := fun _ h => Or.inl h
  have hBz : ∀ q, XB ad s.heap.size q → z0 ≤ q := XB.z hZ hJ
  have hNA : ∀ q, N q → q < s.heap.size → ¬ XB ad s.heap.size q := fun q h h2 h3 => h3.elim (hN q h) (fun h4 => absurd h4 (Nat.not_le.mpr h2))
  have hS : va_S (XB ad s.heap.size) s.heap s.heap [] := va_S.rf
  have hl := lv_entry ([.ref (ad 17), .int a1, .int a2]) (n := 4) (Nat.le_of_ble_eq_true rfl)
  rw [lg_entry_eq]
  generalize (lg_sl ([.ref (ad 17), .int a1, .int a2]) ++ List.replicate (4 - (lg_sl ([.ref (ad 17), .int a1, .int a2])).length) Slot.unset).toArray = ls at hl ⊢
  have hl : lv_has ls 4 [(0, .ref (ad 17)), (1, .int a1), (2, .int a2)] := hl
  obtain ⟨h0, eh0⟩ : ∃ y : Mem, y = h := ⟨_, rfl⟩
  rw [← eh0]
  unfold wpX1_person at hw
  refine lv_aload_n hx hb dX1_person_0 rfl (lv_at hl 0 rfl) ?_
  refine lv_iload_n hx hb dX1_person_1 rfl (lv_at hl 1 rfl) ?_
  refine XT_pers ⟨hx, hb, hml, hown, hts⟩ eh0.symm hlt hK hZ (hT.at hS hNA) hJ hM hS het hlocks hn0 (a := a1) hw.2 (cwV 1 hts (lw_V q1427 q1429 qs37 q104 q1430) rfl rfl rfl (by decide +kernel) ⟨Nat.le_of_ble_eq_true rfl, Nat.le_of_ble_eq_true rfl⟩) hl.1 (Nat.le_of_ble_eq_true rfl) dX1_person_2 ⟨Nat.le_of_ble_eq_true rfl, Nat.le_of_ble_eq_true rfl⟩ (Nat.le_of_ble_eq_true rfl) (Nat.le_of_ble_eq_true rfl) (fun p1 hp1 ep1 H locs hM hS => ?_)
  have hw := hw.1 p1 hp1 ep1
  refine lv_astore_n (lv' := [(3, .ref (tw (100 + p1))), (0, .ref (ad 17)), (1, .int a1), (2, .int a2)]) hx hb dX1_person_5 rfl hl (by decide) rfl (fun ls hl => ?_)
  refine lv_iload_n hx hb dX1_person_6 rfl (lv_at hl 3 rfl) ?_
  refine lv_iconst (v := (0 : Int32)) hx hb dX1_person_7 (by decide) ?_
  refine lv_iconst (v := (5 : Int32)) hx hb dX1_person_8 (by decide) ?_
  refine RN_callZ (As := [.int a2, .int (0 : Int32), .int (5 : Int32)]) (rest := []) ⟨hx, hb, hml, hown, hts⟩ hS (metX1_within l h a2 (0 : Int32) (5 : Int32) _ hw) (va_cwS 3 hts (lw_S q847 q848 q104 q849) rfl rfl rfl (by decide +kernel) ⟨Nat.le_of_ble_eq_true rfl, Nat.le_of_ble_eq_true rfl⟩) rfl hl.1 rfl (Nat.le_of_ble_eq_true rfl) dX1_person_9 ⟨Nat.le_of_ble_eq_true rfl, Nat.le_of_ble_eq_true rfl⟩ (fun r2 H locs hw hk hS => ?_)
  have hM := hM.kept hk
  refine XT_there ⟨hx, hb, hml, hown, hts⟩ eh0.symm hlt hZ hJ hM hS het hlocks (a := (b2i r2)) (fun c => hw.2 (b2i_f c)) q1394 ⟨Nat.le_of_ble_eq_true rfl, Nat.le_of_ble_eq_true rfl⟩ hl.1 (Nat.le_of_ble_eq_true rfl) dX1_person_12 ⟨Nat.le_of_ble_eq_true rfl, Nat.le_of_ble_eq_true rfl⟩ (Nat.le_of_ble_eq_true rfl) (Nat.le_of_ble_eq_true rfl) (fun c3 H locs hM hS => ?_)
  have c3 := b2i_t c3
  have hw := hw.1 c3
  refine lv_iload_n hx hb dX1_person_15 rfl (lv_at hl 3 rfl) ?_
  refine lv_if_ne (tgt := 26) hx hb dX1_person_16 (by decide) (fun c4 => ?_) (fun c4 => ?_)
  · have hw := hw.2 c4
    refine lv_iload_n hx hb dX1_person_26 rfl (lv_at hl 3 rfl) ?_
    refine lv_iconst (v := (1 : Int32)) hx hb dX1_person_27 (by decide) ?_
    refine lv_icmp_ne (tgt := 38) hx hb dX1_person_28 (by decide) (fun c5 => ?_) (fun c5 => ?_)
    · have hw := hw.2 c5
      refine lv_iload_n hx hb dX1_person_38 rfl (lv_at hl 3 rfl) ?_
      refine lv_iconst (v := (2 : Int32)) hx hb dX1_person_39 (by decide) ?_
      refine lv_icmp_ne (tgt := 50) hx hb dX1_person_40 (by decide) (fun c6 => ?_) (fun c6 => ?_)
      · have hw := hw.2 c6
        refine lv_iload_n hx hb dX1_person_50 rfl (lv_at hl 3 rfl) ?_
        refine lv_iconst (v := (3 : Int32)) hx hb dX1_person_51 (by decide) ?_
        refine lv_icmp_ne (tgt := 67) hx hb dX1_person_52 (by decide) (fun c7 => ?_) (fun c7 => ?_)
        · have hw := hw.2 c7
          refine lv_iload_n hx hb dX1_person_67 rfl (lv_at hl 3 rfl) ?_
          refine lv_iconst (v := (4 : Int32)) hx hb dX1_person_68 (by decide) ?_
          refine lv_icmp_ne (tgt := 84) hx hb dX1_person_69 (by decide) (fun c8 => ?_) (fun c8 => ?_)
          · have hw := hw.2 c8
            refine lv_aload_n hx hb dX1_person_84 rfl (lv_at hl 1 rfl) ?_
            refine lv_iload_n hx hb dX1_person_85 rfl (lv_at hl 2 rfl) ?_
            refine RX_callI (As := [.int a1]) (rest := []) ⟨hx, hb, hml, hown, hts⟩ hS hBz hK hZ (hT.at hS hNA) hM (metX1_knownBy l D cA z0 E tw N ad h T a1 _ hw) (cwV 1 hts (lw_V q933 q935 qs15 q104 q936) rfl rfl rfl (by decide +kernel) ⟨Nat.le_of_ble_eq_true rfl, Nat.le_of_ble_eq_true rfl⟩) rfl hl.1 rfl (Nat.le_of_ble_eq_true rfl) dX1_person_86 ⟨Nat.le_of_ble_eq_true rfl, Nat.le_of_ble_eq_true rfl⟩ (fun r9 H locs hw hk hS => ?_)
            have hM := hM.kept hk
            exact XT_iret hx hb hr hlocks hM hS hw (Nat.le_of_ble_eq_true rfl) (Nat.le_of_ble_eq_true rfl) dX1_person_89
          · have hw := hw.1 c8
            refine lv_aload_n hx hb dX1_person_72 rfl (lv_at hl 1 rfl) ?_
            refine X_get17 hx hb hts hown hK hM 3 (v := .ref (ad 45)) (by decide) (hts _ q727) rfl dX1_person_73 ?_
            refine X_get45N hx hb hts hown hK hM 2 (v := .ref (ad 42)) (by decide) (hZ.2.1.nF 15 rfl) rfl dX1_person_76 ?_
            refine lv_iload_n hx hb dX1_person_79 rfl (lv_at hl 2 rfl) ?_
            obtain ⟨hv10, hw⟩ := hw
            refine X_iald hx hb hK hM 42 rfl (j := (ix a1)) rfl hv10 dX1_person_80 ?_
            refine lv_goto (tgt := 89) hx hb dX1_person_81 (by decide) ?_
            exact XT_iret hx hb hr hlocks hM hS hw (Nat.le_of_ble_eq_true rfl) (Nat.le_of_ble_eq_true rfl) dX1_person_89
        · have hw := hw.1 c7
          refine lv_aload_n hx hb dX1_person_55 rfl (lv_at hl 1 rfl) ?_
          refine X_get17 hx hb hts hown hK hM 0 (v := .ref (tw 9)) (by decide) (hts _ q724) rfl dX1_person_56 ?_
          refine T_fldN hx hb hts hown hK (hT.at hS hNA) 5 (v := .ref (tw 4)) (by decide) (hZ.2.1.nF 14 rfl) (fun _ _ => rfl) dX1_person_59 ?_
          refine lv_iload_n hx hb dX1_person_62 rfl (lv_at hl 2 rfl) ?_
          obtain ⟨hv11, hw⟩ := hw
          refine T_twin hx hb hK (hT.at hS hNA) hv11 dX1_person_63 ?_
          refine lv_goto (tgt := 89) hx hb dX1_person_64 (by decide) ?_
          exact XT_iret hx hb hr hlocks hM hS hw (Nat.le_of_ble_eq_true rfl) (Nat.le_of_ble_eq_true rfl) dX1_person_89
      · have hw := hw.1 c6
        refine lv_aload_n hx hb dX1_person_43 rfl (lv_at hl 0 rfl) ?_
        refine P_fld hx hb hts hown hK (hT.at hS hNA) p1 hp1 1 (v := .int (nI (T 3 p1))) (by decide) (hts _ q1356) rfl dX1_person_44 ?_
        refine lv_goto (tgt := 89) hx hb dX1_person_47 (by decide) ?_
        exact XT_iret hx hb hr hlocks hM hS hw (Nat.le_of_ble_eq_true rfl) (Nat.le_of_ble_eq_true rfl) dX1_person_89
    · have hw := hw.1 c5
      refine lv_aload_n hx hb dX1_person_31 rfl (lv_at hl 0 rfl) ?_
      refine P_fld hx hb hts hown hK (hT.at hS hNA) p1 hp1 0 (v := .int (nI (T 2 p1))) (by decide) (hts _ q1353) rfl dX1_person_32 ?_
      refine lv_goto (tgt := 89) hx hb dX1_person_35 (by decide) ?_
      exact XT_iret hx hb hr hlocks hM hS hw (Nat.le_of_ble_eq_true rfl) (Nat.le_of_ble_eq_true rfl) dX1_person_89
  · have hw := hw.1 c4
    refine lv_aload_n hx hb dX1_person_19 rfl (lv_at hl 0 rfl) ?_
    refine P_kind ⟨hx, hb, hml, hown, hts⟩ hS hK (hT.at hS hNA) q1432 ⟨Nat.le_of_ble_eq_true rfl, Nat.le_of_ble_eq_true rfl⟩ p1 hp1 hl.1 (Nat.le_of_ble_eq_true rfl) dX1_person_20 ⟨Nat.le_of_ble_eq_true rfl, Nat.le_of_ble_eq_true rfl⟩ (fun H locs hk hS => ?_)
    have hM := hM.kept hk
    refine lv_goto (tgt := 89) hx hb dX1_person_23 (by decide) ?_
    exact XT_iret hx hb hr hlocks hM hS hw (Nat.le_of_ble_eq_true rfl) (Nat.le_of_ble_eq_true rfl) dX1_person_89

/-- StrangeKnives.loaf(II)I -/
def wpBX1_loaf_87 (post : Int32 → Mem → Prop) (T : TT) (px : Nat → Prop) (a1 : Int32) (a2 : Int32)  (K87 : Int32 → Int32 → Prop) (h : Mem) (x3 : Nat) (x4 : Int32) (x5 : Int32) : Prop :=
  (((nI (T 8 x3)) ≤ x5 → post x4 h) ∧ (¬ (nI (T 8 x3)) ≤ x5 → (vp_in x5 (T 8 x3) ∧ K87 (x4 ||| ((1 : Int32) <<< ((nI (T 9 (6 * x3 + ix x5))) &&& 31))) (x5 + (1 : Int32)))))
def wpLX1_loaf_87 (post : Int32 → Mem → Prop) (T : TT) (px : Nat → Prop) (a1 : Int32) (a2 : Int32)  (h : Mem) (x3 : Nat) : Nat → (Int32 × Int32) → Prop := LW (fun K s => wpBX1_loaf_87 post T px a1 a2  (fun x4 x5 => K (x4, x5)) h x3 s.1 s.2)
def wpBX1_loaf_142 (post : Int32 → Mem → Prop) (T : TT) (px : Nat → Prop) (a1 : Int32) (a2 : Int32)  (K142 : Int32 → Int32 → Prop) (h : Mem)  (x4 : Int32) (x5 : Int32) : Prop :=
  (wpX1_people (fun r9 => ((r9 ≤ x5 → post x4 h) ∧ (¬ r9 ≤ x5 → (wpX6_may (fun r11 => K142 (if r11 = 0 then (x4 ||| ((1 : Int32) <<< (x5 &&& 31))) else x4) (x5 + (1 : Int32))) (sub h 40) T x5 a1)))) h T )
def wpLX1_loaf_142 (post : Int32 → Mem → Prop) (T : TT) (px : Nat → Prop) (a1 : Int32) (a2 : Int32)  (h : Mem)  : Nat → (Int32 × Int32) → Prop := LW (fun K s => wpBX1_loaf_142 post T px a1 a2  (fun x4 x5 => K (x4, x5)) h  s.1 s.2)
def wpX1_loaf (post : Int32 → Mem → Prop) (h : Mem) (T : TT) (px : Nat → Prop) (a1 : Int32) (a2 : Int32) : Prop :=
  ((∀ b1 : Nat, b1 < T 0 1 → a1 = nI b1 → (wpX1_within (fun r2 => ((r2 = true → ((a2 = (0 : Int32) → post (nI (T 4 b1)) h) ∧ (¬ a2 = (0 : Int32) → ((a2 = (1 : Int32) → post (nI (T 5 b1)) h) ∧ (¬ a2 = (1 : Int32) → ((a2 = (2 : Int32) → post (nI (T 6 b1)) h) ∧ (¬ a2 = (2 : Int32) → ((a2 = (3 : Int32) → post (nI (T 7 b1)) h) ∧ (¬ a2 = (3 : Int32) → ((a2 = (4 : Int32) → (∃ n, wpLX1_loaf_87 post T px a1 a2  h b1 n ((0 : Int32), (0 : Int32)))) ∧ (¬ a2 = (4 : Int32) → ((a2 = (5 : Int32) → (wpX2_slices (fun r7 => post r7 h) h T b1)) ∧ (¬ a2 = (5 : Int32) → ((a2 = (6 : Int32) → (vp_in a1 (Xlen 41) ∧ post (h 41 (ix a1)) h)) ∧ (¬ a2 = (6 : Int32) → (∃ n, wpLX1_loaf_142 post T px a1 a2  h n ((0 : Int32), (0 : Int32)))))))))))))))))) ∧ (¬ r2 = true → px 0))) h a2 (0 : Int32) (7 : Int32))) ∧ ((∀ i : Nat, i < T 0 1 → ¬ a1 = nI i) → px 0))
set_option maxHeartbeats 4000000 in
set_option maxRecDepth 100000 in
theorem metX1_loaf (l : Launch) (hlt : l.stackTraces = false) (D : va_G) (cA : Nat → ClassId) (z0 : Nat) (E : Nat → Nat → Nat) (tw : Nat → Nat) (N : Nat → Prop) (ad : Nat → Nat) (sz : Nat) (h : Mem) (T : TT) (px : Nat → Prop) (a1 : Int32) (a2 : Int32) (hn0 : T 0 0 < 2 ^ 31) (hn1 : T 0 1 < 2 ^ 31) (post : Int32 → Mem → Prop) (hw : wpX1_loaf post h T px a1 a2) : MeTI l D cA z0 E T tw N ad sz yX1_loaf (ws_ yX1_loaf cX1_loaf 6 (some .int)) ({ frames := 13, cells := 2, slots := 12, locals := 421 }) [.ref (ad 17), .int a1, .int a2] h post px 2 12 := by
  refine vx_ofW (cc := cX1_loaf) (maxL := 6) (ret := (some .int)) (by decide) rfl ?_
  intro p e s m args below meth c s₁ B hml het hv
  obtain ⟨rfl, hsz, hM, hJ, hN, hT, hK, hZ⟩ := hv
  have hx := B.exec
  have hb := B.bytes
  have hr := B.returns
  have hts := atoms_spec (ws := ws_ yX1_loaf cX1_loaf 6 (some .int)) B.pre
  have hts : ∀ w ∈ lw_all, w.before _ s = true := fun w h => hts w (List.mem_cons_of_mem _ h)
  have hown : s.vm.findClass RX1 = some m.cls := findClass_of_methodNamed B.named
  have hlocks := B.notSynchronized
  subst hsz
  have hA : ∀ q, XA ad q → XB ad s.heap.size q := fun _ h => Or.inl h
  have hBz : ∀ q, XB ad s.heap.size q → z0 ≤ q := XB.z hZ hJ
  have hNA : ∀ q, N q → q < s.heap.size → ¬ XB ad s.heap.size q := fun q h h2 h3 => h3.elim (hN q h) (fun h4 => absurd h4 (Nat.not_le.mpr h2))
  have hS : va_S (XB ad s.heap.size) s.heap s.heap [] := va_S.rf
  have hl := lv_entry ([.ref (ad 17), .int a1, .int a2]) (n := 6) (Nat.le_of_ble_eq_true rfl)
  rw [lg_entry_eq]
  generalize (lg_sl ([.ref (ad 17), .int a1, .int a2]) ++ List.replicate (6 - (lg_sl ([.ref (ad 17), .int a1, .int a2])).length) Slot.unset).toArray = ls at hl ⊢
  have hl : lv_has ls 6 [(0, .ref (ad 17)), (1, .int a1), (2, .int a2)] := hl
  obtain ⟨h0, eh0⟩ : ∃ y : Mem, y = h := ⟨_, rfl⟩
  rw [← eh0]
  have hL87 : ∀ (h : Mem) (x3 : Nat) (hx3 : x3 < T 0 1) (n87 : Nat) (x4 : Int32) (x5 : Int32), wpLX1_loaf_87 post T px a1 a2  h x3 n87 (x4, x5) → JT p l e (headSpec (ws_ yX1_loaf cX1_loaf 6 (some .int)) ({ frames := 13, cells := 2, slots := 12, locals := 421 })).room s m ([.ref (ad 17), .int a1, .int a2] : List Value).toArray below meth c (vx_MQ below (XTi D cA tw ad s.heap.size post) (XTx D cA tw ad s.heap.size h0 px) ([.ref (ad 17), .int a1, .int a2] : List Value).toArray s 2 12 (XB ad s.heap.size)) D cA tw ad 2 12 6 87 h [(3, .ref (tw (200 + x3))), (4, .int x4), (5, .int x5)] [] := by
    intro h x3 hx3 n87
    induction n87 with
    | zero => intro x4 x5 hw; exact False.elim hw
    | succ n87 ih87 =>
      intro x4 x5 hw H locs ls hM hS hl
      have hw : wpBX1_loaf_87 post T px a1 a2  (fun x4 x5 => wpLX1_loaf_87 post T px a1 a2  h x3 n87 (x4, x5)) h x3 x4 x5 := hw
      unfold wpBX1_loaf_87 at hw
      refine lv_iload hx hb dX1_loaf_87 (lv_at hl 2 rfl) ?_
      refine lv_aload_n hx hb dX1_loaf_89 rfl (lv_at hl 0 rfl) ?_
      refine L_fldN hx hb hts hown hK (hT.at hS hNA) x3 hx3 4 (v := .ref (tw (300 + x3))) (by decide) (hZ.2.1.nF 20 rfl) rfl dX1_loaf_90 ?_
      refine L_alen hx hb hK (hT.at hS hNA) x3 hx3 dX1_loaf_93 ?_
      refine lv_icmp_ge (tgt := 117) hx hb dX1_loaf_94 (by decide) (fun c4 => ?_) (fun c4 => ?_)
      · have hw := hw.1 c4
        refine lv_iload hx hb dX1_loaf_117 (lv_at hl 1 rfl) ?_
        exact XT_iret hx hb hr hlocks hM hS hw (Nat.le_of_ble_eq_true rfl) (Nat.le_of_ble_eq_true rfl) dX1_loaf_119
      · have hw := hw.2 c4
        refine lv_iload hx hb dX1_loaf_97 (lv_at hl 1 rfl) ?_
        refine lv_iconst (v := (1 : Int32)) hx hb dX1_loaf_99 (by decide) ?_
        refine lv_aload_n hx hb dX1_loaf_100 rfl (lv_at hl 0 rfl) ?_
        refine L_fldN hx hb hts hown hK (hT.at hS hNA) x3 hx3 4 (v := .ref (tw (300 + x3))) (by decide) (hZ.2.1.nF 20 rfl) rfl dX1_loaf_101 ?_
        refine lv_iload hx hb dX1_loaf_104 (lv_at hl 2 rfl) ?_
        obtain ⟨hv5, hw⟩ := hw
        refine L_iald hx hb hK (hT.at hS hNA) x3 hx3 hv5 dX1_loaf_106 ?_
        refine lv_ishl hx hb dX1_loaf_107 ?_
        refine lv_ior hx hb dX1_loaf_108 ?_
        refine lv_istore (lv' := [(4, .int (x4 ||| ((1 : Int32) <<< ((nI (T 9 (6 * x3 + ix x5))) &&& 31)))), (3, .ref (tw (200 + x3))), (5, .int x5)]) hx hb dX1_loaf_109 hl (by decide) rfl (fun ls hl => ?_)
        refine lv_iinc (v := (x5 + (1 : Int32))) (lv' := [(5, .int (x5 + (1 : Int32))), (4, .int (x4 ||| ((1 : Int32) <<< ((nI (T 9 (6 * x3 + ix x5))) &&& 31)))), (3, .ref (tw (200 + x3)))]) hx hb dX1_loaf_111 hl (k := 2) rfl rfl (by decide) rfl (fun ls hl => ?_)
        refine lv_goto (tgt := 87) hx hb dX1_loaf_114 (by decide) ?_
        exact ih87 (x4 ||| ((1 : Int32) <<< ((nI (T 9 (6 * x3 + ix x5))) &&& 31))) (x5 + (1 : Int32)) hw _ _ ls hM hS (lv_sub hl [2, 1, 0] rfl)
  have hL142 : ∀ (h : Mem)  (n142 : Nat) (x4 : Int32) (x5 : Int32), wpLX1_loaf_142 post T px a1 a2  h  n142 (x4, x5) → JT p l e (headSpec (ws_ yX1_loaf cX1_loaf 6 (some .int)) ({ frames := 13, cells := 2, slots := 12, locals := 421 })).room s m ([.ref (ad 17), .int a1, .int a2] : List Value).toArray below meth c (vx_MQ below (XTi D cA tw ad s.heap.size post) (XTx D cA tw ad s.heap.size h0 px) ([.ref (ad 17), .int a1, .int a2] : List Value).toArray s 2 12 (XB ad s.heap.size)) D cA tw ad 2 12 6 142 h [(0, .ref (ad 17)), (1, .int a1), (4, .int x4), (5, .int x5)] [] := by
    intro h n142
    induction n142 with
    | zero => intro x4 x5 hw; exact False.elim hw
    | succ n142 ih142 =>
      intro x4 x5 hw H locs ls hM hS hl
      have hw : wpBX1_loaf_142 post T px a1 a2  (fun x4 x5 => wpLX1_loaf_142 post T px a1 a2  h  n142 (x4, x5)) h  x4 x5 := hw
      unfold wpBX1_loaf_142 at hw
      refine lv_iload hx hb dX1_loaf_142 (lv_at hl 3 rfl) ?_
      refine lv_aload_n hx hb dX1_loaf_144 rfl (lv_at hl 0 rfl) ?_
      refine RX_callI (As := []) (rest := [.int x5]) ⟨hx, hb, hml, hown, hts⟩ hS hBz hK hZ (hT.at hS hNA) hM (metX1_people l D cA z0 E tw N ad h T  _ hw) (cwV 0 hts (lw_V q792 q794 qs6 q104 q795) rfl rfl rfl (by decide +kernel) ⟨Nat.le_of_ble_eq_true rfl, Nat.le_of_ble_eq_true rfl⟩) rfl hl.1 rfl (Nat.le_of_ble_eq_true rfl) dX1_loaf_145 ⟨Nat.le_of_ble_eq_true rfl, Nat.le_of_ble_eq_true rfl⟩ (fun r9 H locs hw hk hS => ?_)
      have hM := hM.kept hk
      refine lv_icmp_ge (tgt := 183) hx hb dX1_loaf_148 (by decide) (fun c10 => ?_) (fun c10 => ?_)
      · have hw := hw.1 c10
        refine lv_iload hx hb dX1_loaf_183 (lv_at hl 2 rfl) ?_
        exact XT_iret hx hb hr hlocks hM hS hw (Nat.le_of_ble_eq_true rfl) (Nat.le_of_ble_eq_true rfl) dX1_loaf_185
      · have hw := hw.2 c10
        refine lv_aload_n hx hb dX1_loaf_151 rfl (lv_at hl 0 rfl) ?_
        refine X_get17 hx hb hts hown hK hM 3 (v := .ref (ad 45)) (by decide) (hts _ q727) rfl dX1_loaf_152 ?_
        refine lv_aload_n hx hb dX1_loaf_155 rfl (lv_at hl 0 rfl) ?_
        refine X_get17 hx hb hts hown hK hM 0 (v := .ref (tw 9)) (by decide) (hts _ q724) rfl dX1_loaf_156 ?_
        refine lv_iload hx hb dX1_loaf_159 (lv_at hl 3 rfl) ?_
        refine lv_iload_n hx hb dX1_loaf_161 rfl (lv_at hl 1 rfl) ?_
        refine RS_callI (As := [.ref (tw 9), .int x5, .int a1]) (rest := []) (sa := (shf ad 40)) (h := (sub h 40)) ⟨hx, hb, hml, hown, hts⟩ hS hBz hK hZ (hT.at hS hNA) hM.now (metX6_may l D cA z0 E tw N (ad 70) (shf ad 40) (sub h 40) T x5 a1 _ hw) (cwV 3 hts (lw_V q1468 q1469 q1470 q129 q1471) rfl rfl rfl (by decide +kernel) ⟨Nat.le_of_ble_eq_true rfl, Nat.le_of_ble_eq_true rfl⟩) rfl hl.1 rfl (Nat.le_of_ble_eq_true rfl) dX1_loaf_162 ⟨Nat.le_of_ble_eq_true rfl, Nat.le_of_ble_eq_true rfl⟩ (fun r11 H locs hw hk hS => ?_)
        have hM := hM.kept hk
        have hj12 : JT p l e (headSpec (ws_ yX1_loaf cX1_loaf 6 (some .int)) ({ frames := 13, cells := 2, slots := 12, locals := 421 })).room s m ([.ref (ad 17), .int a1, .int a2] : List Value).toArray below meth c (vx_MQ below (XTi D cA tw ad s.heap.size post) (XTx D cA tw ad s.heap.size h0 px) ([.ref (ad 17), .int a1, .int a2] : List Value).toArray s 2 12 (XB ad s.heap.size)) D cA tw ad 2 12 6 177 h [(0, .ref (ad 17)), (1, .int a1), (4, .int (if r11 = 0 then (x4 ||| ((1 : Int32) <<< (x5 &&& 31))) else x4)), (5, .int x5)] [] := by
          intro H locs ls hM hS hl
          refine lv_iinc (v := (x5 + (1 : Int32))) (lv' := [(5, .int (x5 + (1 : Int32))), (0, .ref (ad 17)), (1, .int a1), (4, .int (if r11 = 0 then (x4 ||| ((1 : Int32) <<< (x5 &&& 31))) else x4))]) hx hb dX1_loaf_177 hl (k := 3) rfl rfl (by decide) rfl (fun ls hl => ?_)
          refine lv_goto (tgt := 142) hx hb dX1_loaf_180 (by decide) ?_
          exact ih142 (if r11 = 0 then (x4 ||| ((1 : Int32) <<< (x5 &&& 31))) else x4) (x5 + (1 : Int32)) hw _ _ ls hM hS (lv_sub hl [1, 2, 3, 0] rfl)
        refine lv_if_ne (tgt := 177) hx hb dX1_loaf_165 (by decide) (fun c13 => ?_) (fun c13 => ?_)
        · have e14 : (if r11 = 0 then (x4 ||| ((1 : Int32) <<< (x5 &&& 31))) else x4) = x4 := by rw [if_neg c13]
          rw [e14] at hj12
          exact hj12 _ _ ls hM hS (lv_sub hl [0, 1, 2, 3] rfl)
        · refine lv_iload hx hb dX1_loaf_168 (lv_at hl 2 rfl) ?_
          refine lv_iconst (v := (1 : Int32)) hx hb dX1_loaf_170 (by decide) ?_
          refine lv_iload hx hb dX1_loaf_171 (lv_at hl 3 rfl) ?_
          refine lv_ishl hx hb dX1_loaf_173 ?_
          refine lv_ior hx hb dX1_loaf_174 ?_
          refine lv_istore (lv' := [(4, .int (x4 ||| ((1 : Int32) <<< (x5 &&& 31)))), (0, .ref (ad 17)), (1, .int a1), (5, .int x5)]) hx hb dX1_loaf_175 hl (by decide) rfl (fun ls hl => ?_)
          have e15 : (if r11 = 0 then (x4 ||| ((1 : Int32) <<< (x5 &&& 31))) else x4) = (x4 ||| ((1 : Int32) <<< (x5 &&& 31))) := by rw [if_pos c13]
          rw [e15] at hj12
          exact hj12 _ _ ls hM hS (lv_sub hl [1, 2, 0, 3] rfl)
  unfold wpX1_loaf at hw
  refine lv_aload_n hx hb dX1_loaf_0 rfl (lv_at hl 0 rfl) ?_
  refine lv_iload_n hx hb dX1_loaf_1 rfl (lv_at hl 1 rfl) ?_
  refine XT_loaf ⟨hx, hb, hml, hown, hts⟩ eh0.symm hlt hK hZ (hT.at hS hNA) hJ hM hS het hlocks hn1 (a := a1) hw.2 (cwV 1 hts (lw_V q1456 q1458 qs38 q104 q1459) rfl rfl rfl (by decide +kernel) ⟨Nat.le_of_ble_eq_true rfl, Nat.le_of_ble_eq_true rfl⟩) hl.1 (Nat.le_of_ble_eq_true rfl) dX1_loaf_2 ⟨Nat.le_of_ble_eq_true rfl, Nat.le_of_ble_eq_true rfl⟩ (Nat.le_of_ble_eq_true rfl) (Nat.le_of_ble_eq_true rfl) (fun b1 hb1 eb1 H locs hM hS => ?_)
  have hw := hw.1 b1 hb1 eb1
  refine lv_astore_n (lv' := [(3, .ref (tw (200 + b1))), (0, .ref (ad 17)), (1, .int a1), (2, .int a2)]) hx hb dX1_loaf_5 rfl hl (by decide) rfl (fun ls hl => ?_)
  refine lv_iload_n hx hb dX1_loaf_6 rfl (lv_at hl 3 rfl) ?_
  refine lv_iconst (v := (0 : Int32)) hx hb dX1_loaf_7 (by decide) ?_
  refine lv_bipush (v := (7 : Int32)) hx hb dX1_loaf_8 (by decide) ?_
  refine RN_callZ (As := [.int a2, .int (0 : Int32), .int (7 : Int32)]) (rest := []) ⟨hx, hb, hml, hown, hts⟩ hS (metX1_within l h a2 (0 : Int32) (7 : Int32) _ hw) (va_cwS 3 hts (lw_S q847 q848 q104 q849) rfl rfl rfl (by decide +kernel) ⟨Nat.le_of_ble_eq_true rfl, Nat.le_of_ble_eq_true rfl⟩) rfl hl.1 rfl (Nat.le_of_ble_eq_true rfl) dX1_loaf_10 ⟨Nat.le_of_ble_eq_true rfl, Nat.le_of_ble_eq_true rfl⟩ (fun r2 H locs hw hk hS => ?_)
  have hM := hM.kept hk
  refine XT_there ⟨hx, hb, hml, hown, hts⟩ eh0.symm hlt hZ hJ hM hS het hlocks (a := (b2i r2)) (fun c => hw.2 (b2i_f c)) q1394 ⟨Nat.le_of_ble_eq_true rfl, Nat.le_of_ble_eq_true rfl⟩ hl.1 (Nat.le_of_ble_eq_true rfl) dX1_loaf_13 ⟨Nat.le_of_ble_eq_true rfl, Nat.le_of_ble_eq_true rfl⟩ (Nat.le_of_ble_eq_true rfl) (Nat.le_of_ble_eq_true rfl) (fun c3 H locs hM hS => ?_)
  have c3 := b2i_t c3
  have hw := hw.1 c3
  refine lv_iconst (v := (0 : Int32)) hx hb dX1_loaf_16 (by decide) ?_
  refine lv_istore (lv' := [(4, .int (0 : Int32)), (3, .ref (tw (200 + b1))), (0, .ref (ad 17)), (1, .int a1), (2, .int a2)]) hx hb dX1_loaf_17 hl (by decide) rfl (fun ls hl => ?_)
  refine lv_iload_n hx hb dX1_loaf_19 rfl (lv_at hl 4 rfl) ?_
  by_cases c20_0 : a2 = (0 : Int32)
  · have hw := hw.1 c20_0
    refine lv_swIn (v := (0 : Int32)) (tgt := 64) hx hb c20_0 dX1_loaf_20 (by decide) (by decide) rfl (by decide) ?_
    refine lv_aload_n hx hb dX1_loaf_64 rfl (lv_at hl 1 rfl) ?_
    refine L_fldN hx hb hts hown hK (hT.at hS hNA) b1 hb1 0 (v := .int (nI (T 4 b1))) (by decide) (hZ.2.1.nF 16 rfl) rfl dX1_loaf_65 ?_
    exact XT_iret hx hb hr hlocks hM hS hw (Nat.le_of_ble_eq_true rfl) (Nat.le_of_ble_eq_true rfl) dX1_loaf_68
  have hw := hw.2 c20_0
  by_cases c20_1 : a2 = (1 : Int32)
  · have hw := hw.1 c20_1
    refine lv_swIn (v := (1 : Int32)) (tgt := 69) hx hb c20_1 dX1_loaf_20 (by decide) (by decide) rfl (by decide) ?_
    refine lv_aload_n hx hb dX1_loaf_69 rfl (lv_at hl 1 rfl) ?_
    refine L_fldN hx hb hts hown hK (hT.at hS hNA) b1 hb1 1 (v := .int (nI (T 5 b1))) (by decide) (hZ.2.1.nF 17 rfl) rfl dX1_loaf_70 ?_
    exact XT_iret hx hb hr hlocks hM hS hw (Nat.le_of_ble_eq_true rfl) (Nat.le_of_ble_eq_true rfl) dX1_loaf_73
  have hw := hw.2 c20_1
  by_cases c20_2 : a2 = (2 : Int32)
  · have hw := hw.1 c20_2
    refine lv_swIn (v := (2 : Int32)) (tgt := 74) hx hb c20_2 dX1_loaf_20 (by decide) (by decide) rfl (by decide) ?_
    refine lv_aload_n hx hb dX1_loaf_74 rfl (lv_at hl 1 rfl) ?_
    refine L_fldN hx hb hts hown hK (hT.at hS hNA) b1 hb1 2 (v := .int (nI (T 6 b1))) (by decide) (hZ.2.1.nF 18 rfl) rfl dX1_loaf_75 ?_
    exact XT_iret hx hb hr hlocks hM hS hw (Nat.le_of_ble_eq_true rfl) (Nat.le_of_ble_eq_true rfl) dX1_loaf_78
  have hw := hw.2 c20_2
  by_cases c20_3 : a2 = (3 : Int32)
  · have hw := hw.1 c20_3
    refine lv_swIn (v := (3 : Int32)) (tgt := 79) hx hb c20_3 dX1_loaf_20 (by decide) (by decide) rfl (by decide) ?_
    refine lv_aload_n hx hb dX1_loaf_79 rfl (lv_at hl 1 rfl) ?_
    refine L_fldN hx hb hts hown hK (hT.at hS hNA) b1 hb1 3 (v := .int (nI (T 7 b1))) (by decide) (hZ.2.1.nF 19 rfl) rfl dX1_loaf_80 ?_
    exact XT_iret hx hb hr hlocks hM hS hw (Nat.le_of_ble_eq_true rfl) (Nat.le_of_ble_eq_true rfl) dX1_loaf_83
  have hw := hw.2 c20_3
  by_cases c20_4 : a2 = (4 : Int32)
  · have hw := hw.1 c20_4
    refine lv_swIn (v := (4 : Int32)) (tgt := 84) hx hb c20_4 dX1_loaf_20 (by decide) (by decide) rfl (by decide) ?_
    refine lv_iconst (v := (0 : Int32)) hx hb dX1_loaf_84 (by decide) ?_
    refine lv_istore (lv' := [(5, .int (0 : Int32)), (4, .int (0 : Int32)), (3, .ref (tw (200 + b1))), (0, .ref (ad 17)), (1, .int a1), (2, .int a2)]) hx hb dX1_loaf_85 hl (by decide) rfl (fun ls hl => ?_)
    obtain ⟨n6, hw⟩ := hw
    exact hL87 h b1 hb1 n6 (0 : Int32) (0 : Int32) hw _ _ ls hM hS (lv_sub hl [2, 1, 0] rfl)
  have hw := hw.2 c20_4
  by_cases c20_5 : a2 = (5 : Int32)
  · have hw := hw.1 c20_5
    refine lv_swIn (v := (5 : Int32)) (tgt := 120) hx hb c20_5 dX1_loaf_20 (by decide) (by decide) rfl (by decide) ?_
    refine lv_aload_n hx hb dX1_loaf_120 rfl (lv_at hl 2 rfl) ?_
    refine X_get17 hx hb hts hown hK hM 0 (v := .ref (tw 9)) (by decide) (hts _ q724) rfl dX1_loaf_121 ?_
    refine lv_aload_n hx hb dX1_loaf_124 rfl (lv_at hl 1 rfl) ?_
    refine RT_callI (As := [.ref (tw (200 + b1))]) (rest := []) ⟨hx, hb, hml, hown, hts⟩ hS hBz hK hZ (hT.at hS hNA) (metX2_slices l D cA z0 E tw N (ad 70) h T b1 _ hb1 hw) (cwV 1 hts (lw_V q1460 q1461 q1462 q105 q1463) rfl rfl rfl (by decide +kernel) ⟨Nat.le_of_ble_eq_true rfl, Nat.le_of_ble_eq_true rfl⟩) rfl hl.1 rfl (Nat.le_of_ble_eq_true rfl) dX1_loaf_125 ⟨Nat.le_of_ble_eq_true rfl, Nat.le_of_ble_eq_true rfl⟩ (fun r7 H locs hw hk hS => ?_)
    have hM := hM.kept hk
    exact XT_iret hx hb hr hlocks hM hS hw (Nat.le_of_ble_eq_true rfl) (Nat.le_of_ble_eq_true rfl) dX1_loaf_128
  have hw := hw.2 c20_5
  by_cases c20_6 : a2 = (6 : Int32)
  · have hw := hw.1 c20_6
    refine lv_swIn (v := (6 : Int32)) (tgt := 129) hx hb c20_6 dX1_loaf_20 (by decide) (by decide) rfl (by decide) ?_
    refine lv_aload_n hx hb dX1_loaf_129 rfl (lv_at hl 2 rfl) ?_
    refine X_get17 hx hb hts hown hK hM 3 (v := .ref (ad 45)) (by decide) (hts _ q727) rfl dX1_loaf_130 ?_
    refine X_get45N hx hb hts hown hK hM 1 (v := .ref (ad 41)) (by decide) (hZ.2.1.nF 9 rfl) rfl dX1_loaf_133 ?_
    refine lv_iload_n hx hb dX1_loaf_136 rfl (lv_at hl 3 rfl) ?_
    obtain ⟨hv8, hw⟩ := hw
    refine X_iald hx hb hK hM 41 rfl (j := (ix a1)) rfl hv8 dX1_loaf_137 ?_
    exact XT_iret hx hb hr hlocks hM hS hw (Nat.le_of_ble_eq_true rfl) (Nat.le_of_ble_eq_true rfl) dX1_loaf_138
  have hw := hw.2 c20_6
  have hsw : a2.toInt < (0 : Int) ∨ (6 : Int) < a2.toInt := by
    refine sw_out (fun k h1 h2 => ?_)
    rcases (show k = 0 ∨ k = 1 ∨ k = 2 ∨ k = 3 ∨ k = 4 ∨ k = 5 ∨ k = 6 by omega) with rfl | rfl | rfl | rfl | rfl | rfl | rfl
    · exact c20_0
    · exact c20_1
    · exact c20_2
    · exact c20_3
    · exact c20_4
    · exact c20_5
    · exact c20_6
  refine lv_tableOut (tgt := 139) hx hb dX1_loaf_20 hsw (by decide) ?_
  refine lv_iconst (v := (0 : Int32)) hx hb dX1_loaf_139 (by decide) ?_
  refine lv_istore (lv' := [(5, .int (0 : Int32)), (4, .int (0 : Int32)), (3, .ref (tw (200 + b1))), (0, .ref (ad 17)), (1, .int a1), (2, .int a2)]) hx hb dX1_loaf_140 hl (by decide) rfl (fun ls hl => ?_)
  obtain ⟨n16, hw⟩ := hw
  exact hL142 h n16 (0 : Int32) (0 : Int32) hw _ _ ls hM hS (lv_sub hl [3, 4, 1, 0] rfl)

/-- StrangeKnives.met(II)I -/
def wpBX1_met_22 (post : Int32 → Mem → Prop) (T : TT) (px : Nat → Prop) (a1 : Int32) (a2 : Int32)  (h : Mem)  (s0 : Int32) : Prop :=
  ((¬ s0 = 0 → (vp_in (((8 : Int32) * a1) + a2) (Xlen 40) ∧ post (if (h 40 (ix (((8 : Int32) * a1) + a2))) = (-100000 : Int32) then (-1 : Int32) else ((h 43 0) - (h 40 (ix (((8 : Int32) * a1) + a2))))) h)) ∧ (s0 = 0 → px 1))
def wpX1_met (post : Int32 → Mem → Prop) (h : Mem) (T : TT) (px : Nat → Prop) (a1 : Int32) (a2 : Int32) : Prop :=
  ((∀ p1 : Nat, p1 < T 0 0 → a1 = nI p1 → ((∀ p2 : Nat, p2 < T 0 0 → a2 = nI p2 → wpBX1_met_22 post T px a1 a2  h (if a1 = a2 then (0 : Int32) else (1 : Int32))) ∧ ((∀ i : Nat, i < T 0 0 → ¬ a2 = nI i) → px 0))) ∧ ((∀ i : Nat, i < T 0 0 → ¬ a1 = nI i) → px 0))
set_option maxHeartbeats 4000000 in
set_option maxRecDepth 100000 in
theorem metX1_met (l : Launch) (hlt : l.stackTraces = false) (D : va_G) (cA : Nat → ClassId) (z0 : Nat) (E : Nat → Nat → Nat) (tw : Nat → Nat) (N : Nat → Prop) (ad : Nat → Nat) (sz : Nat) (h : Mem) (T : TT) (px : Nat → Prop) (a1 : Int32) (a2 : Int32) (hn0 : T 0 0 < 2 ^ 31) (hn1 : T 0 1 < 2 ^ 31) (post : Int32 → Mem → Prop) (hw : wpX1_met post h T px a1 a2) : MeTI l D cA z0 E T tw N ad sz yX1_met (ws_ yX1_met cX1_met 4 (some .int)) ({ frames := 13, cells := 3, slots := 18, locals := 421 }) [.ref (ad 17), .int a1, .int a2] h post px 3 18 := by
  refine vx_ofW (cc := cX1_met) (maxL := 4) (ret := (some .int)) (by decide) rfl ?_
  intro p e s m args below meth c s₁ B hml het hv
  obtain ⟨rfl, hsz, hM, hJ, hN, hT, hK, hZ⟩ := hv
  have hx := B.exec
  have hb := B.bytes
  have hr := B.returns
  have hts := atoms_spec (ws := ws_ yX1_met cX1_met 4 (some .int)) B.pre
  have hts : ∀ w ∈ lw_all, w.before _ s = true := fun w h => hts w (List.mem_cons_of_mem _ h)
  have hown : s.vm.findClass RX1 = some m.cls := findClass_of_methodNamed B.named
  have hlocks := B.notSynchronized
  subst hsz
  have hA : ∀ q, XA ad q → XB ad s.heap.size q := fun _ h => Or.inl h
  have hBz : ∀ q, XB ad s.heap.size q → z0 ≤ q := XB.z hZ hJ
  have hNA : ∀ q, N q → q < s.heap.size → ¬ XB ad s.heap.size q := fun q h h2 h3 => h3.elim (hN q h) (fun h4 => absurd h4 (Nat.not_le.mpr h2))
  have hS : va_S (XB ad s.heap.size) s.heap s.heap [] := va_S.rf
  have hl := lv_entry ([.ref (ad 17), .int a1, .int a2]) (n := 4) (Nat.le_of_ble_eq_true rfl)
  rw [lg_entry_eq]
  generalize (lg_sl ([.ref (ad 17), .int a1, .int a2]) ++ List.replicate (4 - (lg_sl ([.ref (ad 17), .int a1, .int a2])).length) Slot.unset).toArray = ls at hl ⊢
  have hl : lv_has ls 4 [(0, .ref (ad 17)), (1, .int a1), (2, .int a2)] := hl
  obtain ⟨h0, eh0⟩ : ∃ y : Mem, y = h := ⟨_, rfl⟩
  rw [← eh0]
  have hB22 : ∀ (s0 : Int32), wpBX1_met_22 post T px a1 a2  h s0 → JT p l e (headSpec (ws_ yX1_met cX1_met 4 (some .int)) ({ frames := 13, cells := 3, slots := 18, locals := 421 })).room s m ([.ref (ad 17), .int a1, .int a2] : List Value).toArray below meth c (vx_MQ below (XTi D cA tw ad s.heap.size post) (XTx D cA tw ad s.heap.size h0 px) ([.ref (ad 17), .int a1, .int a2] : List Value).toArray s 3 18 (XB ad s.heap.size)) D cA tw ad 2 12 4 22 h [(0, .ref (ad 17)), (1, .int a1), (2, .int a2)] [.int s0] := by
    intro s0 hw H locs ls hM hS hl
    unfold wpBX1_met_22 at hw
    refine XT_right ⟨hx, hb, hml, hown, hts⟩ eh0.symm hlt hZ hJ hM hS het hlocks (a := s0) hw.2 q989 ⟨Nat.le_of_ble_eq_true rfl, Nat.le_of_ble_eq_true rfl⟩ hl.1 (Nat.le_of_ble_eq_true rfl) dX1_met_22 ⟨Nat.le_of_ble_eq_true rfl, Nat.le_of_ble_eq_true rfl⟩ (Nat.le_of_ble_eq_true rfl) (Nat.le_of_ble_eq_true rfl) (fun c4 H locs hM hS => ?_)
    have hw := hw.1 c4
    refine lv_aload_n hx hb dX1_met_25 rfl (lv_at hl 0 rfl) ?_
    refine X_get17 hx hb hts hown hK hM 3 (v := .ref (ad 45)) (by decide) (hts _ q727) rfl dX1_met_26 ?_
    refine X_get45N hx hb hts hown hK hM 0 (v := .ref (ad 40)) (by decide) (hZ.2.1.nF 21 rfl) rfl dX1_met_29 ?_
    refine lv_bipush (v := (8 : Int32)) hx hb dX1_met_32 (by decide) ?_
    refine lv_iload_n hx hb dX1_met_34 rfl (lv_at hl 1 rfl) ?_
    refine lv_imul hx hb dX1_met_35 ?_
    refine lv_iload_n hx hb dX1_met_36 rfl (lv_at hl 2 rfl) ?_
    refine lv_iadd hx hb dX1_met_37 ?_
    obtain ⟨hv5, hw⟩ := hw
    refine X_iald hx hb hK hM 40 rfl (j := (ix (((8 : Int32) * a1) + a2))) rfl hv5 dX1_met_38 ?_
    refine lv_istore_n (lv' := [(3, .int (h 40 (ix (((8 : Int32) * a1) + a2)))), (0, .ref (ad 17)), (1, .int a1), (2, .int a2)]) hx hb dX1_met_39 rfl hl (by decide) rfl (fun ls hl => ?_)
    refine lv_iload_n hx hb dX1_met_40 rfl (lv_at hl 0 rfl) ?_
    refine lv_ldc hx hb hown (hts _ q1479) dX1_met_41 ?_
    have hj6 : JT p l e (headSpec (ws_ yX1_met cX1_met 4 (some .int)) ({ frames := 13, cells := 3, slots := 18, locals := 421 })).room s m ([.ref (ad 17), .int a1, .int a2] : List Value).toArray below meth c (vx_MQ below (XTi D cA tw ad s.heap.size post) (XTx D cA tw ad s.heap.size h0 px) ([.ref (ad 17), .int a1, .int a2] : List Value).toArray s 3 18 (XB ad s.heap.size)) D cA tw ad 3 18 4 59 h [] [.int (if (h 40 (ix (((8 : Int32) * a1) + a2))) = (-100000 : Int32) then (-1 : Int32) else ((h 43 0) - (h 40 (ix (((8 : Int32) * a1) + a2)))))] := by
      intro H locs ls hM hS hl
      exact XT_iret hx hb hr hlocks hM hS hw (Nat.le_of_ble_eq_true rfl) (Nat.le_of_ble_eq_true rfl) dX1_met_59
    refine lv_icmp_ne (tgt := 50) hx hb dX1_met_43 (by decide) (fun c7 => ?_) (fun c7 => ?_)
    · refine lv_aload_n hx hb dX1_met_50 rfl (lv_at hl 1 rfl) ?_
      refine X_get17 hx hb hts hown hK hM 3 (v := .ref (ad 45)) (by decide) (hts _ q727) rfl dX1_met_51 ?_
      refine X_get45N hx hb hts hown hK hM 3 (v := .int (h 43 0)) (by decide) (hZ.2.1.nF 12 rfl) rfl dX1_met_54 ?_
      refine lv_iload_n hx hb dX1_met_57 rfl (lv_at hl 0 rfl) ?_
      refine lv_isub hx hb dX1_met_58 ?_
      have e8 : (if (h 40 (ix (((8 : Int32) * a1) + a2))) = (-100000 : Int32) then (-1 : Int32) else ((h 43 0) - (h 40 (ix (((8 : Int32) * a1) + a2))))) = ((h 43 0) - (h 40 (ix (((8 : Int32) * a1) + a2)))) := by rw [if_neg c7]
      rw [e8] at hj6
      exact hj6 _ _ ls hM hS (lv_sub hl [] rfl)
    · refine lv_iconst (v := (-1 : Int32)) hx hb dX1_met_46 (by decide) ?_
      refine lv_goto (tgt := 59) hx hb dX1_met_47 (by decide) ?_
      have e9 : (if (h 40 (ix (((8 : Int32) * a1) + a2))) = (-100000 : Int32) then (-1 : Int32) else ((h 43 0) - (h 40 (ix (((8 : Int32) * a1) + a2))))) = (-1 : Int32) := by rw [if_pos c7]
      rw [e9] at hj6
      exact hj6 _ _ ls hM hS (lv_sub hl [] rfl)
  unfold wpX1_met at hw
  refine lv_aload_n hx hb dX1_met_0 rfl (lv_at hl 0 rfl) ?_
  refine lv_iload_n hx hb dX1_met_1 rfl (lv_at hl 1 rfl) ?_
  refine XT_pers ⟨hx, hb, hml, hown, hts⟩ eh0.symm hlt hK hZ (hT.at hS hNA) hJ hM hS het hlocks hn0 (a := a1) hw.2 (cwV 1 hts (lw_V q1427 q1429 qs37 q104 q1430) rfl rfl rfl (by decide +kernel) ⟨Nat.le_of_ble_eq_true rfl, Nat.le_of_ble_eq_true rfl⟩) hl.1 (Nat.le_of_ble_eq_true rfl) dX1_met_2 ⟨Nat.le_of_ble_eq_true rfl, Nat.le_of_ble_eq_true rfl⟩ (Nat.le_of_ble_eq_true rfl) (Nat.le_of_ble_eq_true rfl) (fun p1 hp1 ep1 H locs hM hS => ?_)
  have hw := hw.1 p1 hp1 ep1
  refine lv_pop hx hb dX1_met_5 rfl ?_
  refine lv_aload_n hx hb dX1_met_6 rfl (lv_at hl 0 rfl) ?_
  refine lv_iload_n hx hb dX1_met_7 rfl (lv_at hl 2 rfl) ?_
  refine XT_pers ⟨hx, hb, hml, hown, hts⟩ eh0.symm hlt hK hZ (hT.at hS hNA) hJ hM hS het hlocks hn0 (a := a2) hw.2 (cwV 1 hts (lw_V q1427 q1429 qs37 q104 q1430) rfl rfl rfl (by decide +kernel) ⟨Nat.le_of_ble_eq_true rfl, Nat.le_of_ble_eq_true rfl⟩) hl.1 (Nat.le_of_ble_eq_true rfl) dX1_met_8 ⟨Nat.le_of_ble_eq_true rfl, Nat.le_of_ble_eq_true rfl⟩ (Nat.le_of_ble_eq_true rfl) (Nat.le_of_ble_eq_true rfl) (fun p2 hp2 ep2 H locs hM hS => ?_)
  have hw := hw.1 p2 hp2 ep2
  refine lv_pop hx hb dX1_met_11 rfl ?_
  refine lv_iload_n hx hb dX1_met_12 rfl (lv_at hl 1 rfl) ?_
  refine lv_iload_n hx hb dX1_met_13 rfl (lv_at hl 2 rfl) ?_
  have hj3 : JT p l e (headSpec (ws_ yX1_met cX1_met 4 (some .int)) ({ frames := 13, cells := 3, slots := 18, locals := 421 })).room s m ([.ref (ad 17), .int a1, .int a2] : List Value).toArray below meth c (vx_MQ below (XTi D cA tw ad s.heap.size post) (XTx D cA tw ad s.heap.size h0 px) ([.ref (ad 17), .int a1, .int a2] : List Value).toArray s 3 18 (XB ad s.heap.size)) D cA tw ad 2 12 4 22 h [(0, .ref (ad 17)), (1, .int a1), (2, .int a2)] [.int (if a1 = a2 then (0 : Int32) else (1 : Int32))] := by
    intro H locs ls hM hS hl
    exact hB22 (if a1 = a2 then (0 : Int32) else (1 : Int32)) hw _ _ ls hM hS (lv_sub hl [0, 1, 2] rfl)
  refine lv_icmp_eq (tgt := 21) hx hb dX1_met_14 (by decide) (fun c10 => ?_) (fun c10 => ?_)
  · refine lv_iconst (v := (0 : Int32)) hx hb dX1_met_21 (by decide) ?_
    have e11 : (if a1 = a2 then (0 : Int32) else (1 : Int32)) = (0 : Int32) := by rw [if_pos c10]
    rw [e11] at hj3
    exact hj3 _ _ ls hM hS (lv_sub hl [0, 1, 2] rfl)
  · refine lv_iconst (v := (1 : Int32)) hx hb dX1_met_17 (by decide) ?_
    refine lv_goto (tgt := 22) hx hb dX1_met_18 (by decide) ?_
    have e12 : (if a1 = a2 then (0 : Int32) else (1 : Int32)) = (1 : Int32) := by rw [if_neg c10]
    rw [e12] at hj3
    exact hj3 _ _ ls hM hS (lv_sub hl [0, 1, 2] rfl)

/-- StrangeKnives.knows(II)Z -/
def wpX1_knows (post : Bool → Mem → Prop) (h : Mem) (T : TT) (px : Nat → Prop) (a1 : Int32) (a2 : Int32) : Prop :=
  ((∀ p1 : Nat, p1 < T 0 0 → a1 = nI p1 → ((∀ p2 : Nat, p2 < T 0 0 → a2 = nI p2 → (wpX6_knows (fun r3 => post r3 h) (sub h 40) T a1 a2)) ∧ ((∀ i : Nat, i < T 0 0 → ¬ a2 = nI i) → px 0))) ∧ ((∀ i : Nat, i < T 0 0 → ¬ a1 = nI i) → px 0))
set_option maxHeartbeats 4000000 in
set_option maxRecDepth 100000 in
theorem metX1_knows (l : Launch) (hlt : l.stackTraces = false) (D : va_G) (cA : Nat → ClassId) (z0 : Nat) (E : Nat → Nat → Nat) (tw : Nat → Nat) (N : Nat → Prop) (ad : Nat → Nat) (sz : Nat) (h : Mem) (T : TT) (px : Nat → Prop) (a1 : Int32) (a2 : Int32) (hn0 : T 0 0 < 2 ^ 31) (hn1 : T 0 1 < 2 ^ 31) (post : Bool → Mem → Prop) (hw : wpX1_knows post h T px a1 a2) : MeTZ l D cA z0 E T tw N ad sz yX1_knows (ws_ yX1_knows cX1_knows 3 (some .boolean)) ({ frames := 13, cells := 2, slots := 12, locals := 421 }) [.ref (ad 17), .int a1, .int a2] h post px 2 12 := by
  refine vx_ofW (cc := cX1_knows) (maxL := 3) (ret := (some .boolean)) (by decide) rfl ?_
  intro p e s m args below meth c s₁ B hml het hv
  obtain ⟨rfl, hsz, hM, hJ, hN, hT, hK, hZ⟩ := hv
  have hx := B.exec
  have hb := B.bytes
  have hr := B.returns
  have hts := atoms_spec (ws := ws_ yX1_knows cX1_knows 3 (some .boolean)) B.pre
  have hts : ∀ w ∈ lw_all, w.before _ s = true := fun w h => hts w (List.mem_cons_of_mem _ h)
  have hown : s.vm.findClass RX1 = some m.cls := findClass_of_methodNamed B.named
  have hlocks := B.notSynchronized
  subst hsz
  have hA : ∀ q, XA ad q → XB ad s.heap.size q := fun _ h => Or.inl h
  have hBz : ∀ q, XB ad s.heap.size q → z0 ≤ q := XB.z hZ hJ
  have hNA : ∀ q, N q → q < s.heap.size → ¬ XB ad s.heap.size q := fun q h h2 h3 => h3.elim (hN q h) (fun h4 => absurd h4 (Nat.not_le.mpr h2))
  have hS : va_S (XB ad s.heap.size) s.heap s.heap [] := va_S.rf
  have hl := lv_entry ([.ref (ad 17), .int a1, .int a2]) (n := 3) (Nat.le_of_ble_eq_true rfl)
  rw [lg_entry_eq]
  generalize (lg_sl ([.ref (ad 17), .int a1, .int a2]) ++ List.replicate (3 - (lg_sl ([.ref (ad 17), .int a1, .int a2])).length) Slot.unset).toArray = ls at hl ⊢
  have hl : lv_has ls 3 [(0, .ref (ad 17)), (1, .int a1), (2, .int a2)] := hl
  obtain ⟨h0, eh0⟩ : ∃ y : Mem, y = h := ⟨_, rfl⟩
  rw [← eh0]
  unfold wpX1_knows at hw
  refine lv_aload_n hx hb dX1_knows_0 rfl (lv_at hl 0 rfl) ?_
  refine lv_iload_n hx hb dX1_knows_1 rfl (lv_at hl 1 rfl) ?_
  refine XT_pers ⟨hx, hb, hml, hown, hts⟩ eh0.symm hlt hK hZ (hT.at hS hNA) hJ hM hS het hlocks hn0 (a := a1) hw.2 (cwV 1 hts (lw_V q1427 q1429 qs37 q104 q1430) rfl rfl rfl (by decide +kernel) ⟨Nat.le_of_ble_eq_true rfl, Nat.le_of_ble_eq_true rfl⟩) hl.1 (Nat.le_of_ble_eq_true rfl) dX1_knows_2 ⟨Nat.le_of_ble_eq_true rfl, Nat.le_of_ble_eq_true rfl⟩ (Nat.le_of_ble_eq_true rfl) (Nat.le_of_ble_eq_true rfl) (fun p1 hp1 ep1 H locs hM hS => ?_)
  have hw := hw.1 p1 hp1 ep1
  refine lv_pop hx hb dX1_knows_5 rfl ?_
  refine lv_aload_n hx hb dX1_knows_6 rfl (lv_at hl 0 rfl) ?_
  refine lv_iload_n hx hb dX1_knows_7 rfl (lv_at hl 2 rfl) ?_
  refine XT_pers ⟨hx, hb, hml, hown, hts⟩ eh0.symm hlt hK hZ (hT.at hS hNA) hJ hM hS het hlocks hn0 (a := a2) hw.2 (cwV 1 hts (lw_V q1427 q1429 qs37 q104 q1430) rfl rfl rfl (by decide +kernel) ⟨Nat.le_of_ble_eq_true rfl, Nat.le_of_ble_eq_true rfl⟩) hl.1 (Nat.le_of_ble_eq_true rfl) dX1_knows_8 ⟨Nat.le_of_ble_eq_true rfl, Nat.le_of_ble_eq_true rfl⟩ (Nat.le_of_ble_eq_true rfl) (Nat.le_of_ble_eq_true rfl) (fun p2 hp2 ep2 H locs hM hS => ?_)
  have hw := hw.1 p2 hp2 ep2
  refine lv_pop hx hb dX1_knows_11 rfl ?_
  refine lv_aload_n hx hb dX1_knows_12 rfl (lv_at hl 0 rfl) ?_
  refine X_get17 hx hb hts hown hK hM 3 (v := .ref (ad 45)) (by decide) (hts _ q727) rfl dX1_knows_13 ?_
  refine lv_aload_n hx hb dX1_knows_16 rfl (lv_at hl 0 rfl) ?_
  refine X_get17 hx hb hts hown hK hM 0 (v := .ref (tw 9)) (by decide) (hts _ q724) rfl dX1_knows_17 ?_
  refine lv_iload_n hx hb dX1_knows_20 rfl (lv_at hl 1 rfl) ?_
  refine lv_iload_n hx hb dX1_knows_21 rfl (lv_at hl 2 rfl) ?_
  refine RS_callZ (As := [.ref (tw 9), .int a1, .int a2]) (rest := []) (sa := (shf ad 40)) (h := (sub h 40)) ⟨hx, hb, hml, hown, hts⟩ hS hBz hK hZ (hT.at hS hNA) hM.now (metX6_knows l D cA z0 E tw N (ad 70) (shf ad 40) (sub h 40) T a1 a2 _ hw) (cwV 3 hts (lw_V q937 q913 q914 q129 q915) rfl rfl rfl (by decide +kernel) ⟨Nat.le_of_ble_eq_true rfl, Nat.le_of_ble_eq_true rfl⟩) rfl hl.1 rfl (Nat.le_of_ble_eq_true rfl) dX1_knows_22 ⟨Nat.le_of_ble_eq_true rfl, Nat.le_of_ble_eq_true rfl⟩ (fun r3 H locs hw hk hS => ?_)
  have hM := hM.kept hk
  exact XT_zret hx hb hr hlocks hM hS ⟨_, rfl, hw⟩ (Nat.le_of_ble_eq_true rfl) (Nat.le_of_ble_eq_true rfl) dX1_knows_25

/-- StrangeKnives.may(II)I -/
def wpX1_may (post : Int32 → Mem → Prop) (h : Mem) (T : TT) (px : Nat → Prop) (a1 : Int32) (a2 : Int32) : Prop :=
  ((∀ p1 : Nat, p1 < T 0 0 → a1 = nI p1 → ((∀ b2 : Nat, b2 < T 0 1 → a2 = nI b2 → (wpX6_may (fun r3 => post r3 h) (sub h 40) T a1 a2)) ∧ ((∀ i : Nat, i < T 0 1 → ¬ a2 = nI i) → px 0))) ∧ ((∀ i : Nat, i < T 0 0 → ¬ a1 = nI i) → px 0))
set_option maxHeartbeats 4000000 in
set_option maxRecDepth 100000 in
theorem metX1_may (l : Launch) (hlt : l.stackTraces = false) (D : va_G) (cA : Nat → ClassId) (z0 : Nat) (E : Nat → Nat → Nat) (tw : Nat → Nat) (N : Nat → Prop) (ad : Nat → Nat) (sz : Nat) (h : Mem) (T : TT) (px : Nat → Prop) (a1 : Int32) (a2 : Int32) (hn0 : T 0 0 < 2 ^ 31) (hn1 : T 0 1 < 2 ^ 31) (post : Int32 → Mem → Prop) (hw : wpX1_may post h T px a1 a2) : MeTI l D cA z0 E T tw N ad sz yX1_may (ws_ yX1_may cX1_may 3 (some .int)) ({ frames := 13, cells := 2, slots := 12, locals := 421 }) [.ref (ad 17), .int a1, .int a2] h post px 2 12 := by
  refine vx_ofW (cc := cX1_may) (maxL := 3) (ret := (some .int)) (by decide) rfl ?_
  intro p e s m args below meth c s₁ B hml het hv
  obtain ⟨rfl, hsz, hM, hJ, hN, hT, hK, hZ⟩ := hv
  have hx := B.exec
  have hb := B.bytes
  have hr := B.returns
  have hts := atoms_spec (ws := ws_ yX1_may cX1_may 3 (some .int)) B.pre
  have hts : ∀ w ∈ lw_all, w.before _ s = true := fun w h => hts w (List.mem_cons_of_mem _ h)
  have hown : s.vm.findClass RX1 = some m.cls := findClass_of_methodNamed B.named
  have hlocks := B.notSynchronized
  subst hsz
  have hA : ∀ q, XA ad q → XB ad s.heap.size q := fun _ h => Or.inl h
  have hBz : ∀ q, XB ad s.heap.size q → z0 ≤ q := XB.z hZ hJ
  have hNA : ∀ q, N q → q < s.heap.size → ¬ XB ad s.heap.size q := fun q h h2 h3 => h3.elim (hN q h) (fun h4 => absurd h4 (Nat.not_le.mpr h2))
  have hS : va_S (XB ad s.heap.size) s.heap s.heap [] := va_S.rf
  have hl := lv_entry ([.ref (ad 17), .int a1, .int a2]) (n := 3) (Nat.le_of_ble_eq_true rfl)
  rw [lg_entry_eq]
  generalize (lg_sl ([.ref (ad 17), .int a1, .int a2]) ++ List.replicate (3 - (lg_sl ([.ref (ad 17), .int a1, .int a2])).length) Slot.unset).toArray = ls at hl ⊢
  have hl : lv_has ls 3 [(0, .ref (ad 17)), (1, .int a1), (2, .int a2)] := hl
  obtain ⟨h0, eh0⟩ : ∃ y : Mem, y = h := ⟨_, rfl⟩
  rw [← eh0]
  unfold wpX1_may at hw
  refine lv_aload_n hx hb dX1_may_0 rfl (lv_at hl 0 rfl) ?_
  refine lv_iload_n hx hb dX1_may_1 rfl (lv_at hl 1 rfl) ?_
  refine XT_pers ⟨hx, hb, hml, hown, hts⟩ eh0.symm hlt hK hZ (hT.at hS hNA) hJ hM hS het hlocks hn0 (a := a1) hw.2 (cwV 1 hts (lw_V q1427 q1429 qs37 q104 q1430) rfl rfl rfl (by decide +kernel) ⟨Nat.le_of_ble_eq_true rfl, Nat.le_of_ble_eq_true rfl⟩) hl.1 (Nat.le_of_ble_eq_true rfl) dX1_may_2 ⟨Nat.le_of_ble_eq_true rfl, Nat.le_of_ble_eq_true rfl⟩ (Nat.le_of_ble_eq_true rfl) (Nat.le_of_ble_eq_true rfl) (fun p1 hp1 ep1 H locs hM hS => ?_)
  have hw := hw.1 p1 hp1 ep1
  refine lv_pop hx hb dX1_may_5 rfl ?_
  refine lv_aload_n hx hb dX1_may_6 rfl (lv_at hl 0 rfl) ?_
  refine lv_iload_n hx hb dX1_may_7 rfl (lv_at hl 2 rfl) ?_
  refine XT_loaf ⟨hx, hb, hml, hown, hts⟩ eh0.symm hlt hK hZ (hT.at hS hNA) hJ hM hS het hlocks hn1 (a := a2) hw.2 (cwV 1 hts (lw_V q1456 q1458 qs38 q104 q1459) rfl rfl rfl (by decide +kernel) ⟨Nat.le_of_ble_eq_true rfl, Nat.le_of_ble_eq_true rfl⟩) hl.1 (Nat.le_of_ble_eq_true rfl) dX1_may_8 ⟨Nat.le_of_ble_eq_true rfl, Nat.le_of_ble_eq_true rfl⟩ (Nat.le_of_ble_eq_true rfl) (Nat.le_of_ble_eq_true rfl) (fun b2 hb2 eb2 H locs hM hS => ?_)
  have hw := hw.1 b2 hb2 eb2
  refine lv_pop hx hb dX1_may_11 rfl ?_
  refine lv_aload_n hx hb dX1_may_12 rfl (lv_at hl 0 rfl) ?_
  refine X_get17 hx hb hts hown hK hM 3 (v := .ref (ad 45)) (by decide) (hts _ q727) rfl dX1_may_13 ?_
  refine lv_aload_n hx hb dX1_may_16 rfl (lv_at hl 0 rfl) ?_
  refine X_get17 hx hb hts hown hK hM 0 (v := .ref (tw 9)) (by decide) (hts _ q724) rfl dX1_may_17 ?_
  refine lv_iload_n hx hb dX1_may_20 rfl (lv_at hl 1 rfl) ?_
  refine lv_iload_n hx hb dX1_may_21 rfl (lv_at hl 2 rfl) ?_
  refine RS_callI (As := [.ref (tw 9), .int a1, .int a2]) (rest := []) (sa := (shf ad 40)) (h := (sub h 40)) ⟨hx, hb, hml, hown, hts⟩ hS hBz hK hZ (hT.at hS hNA) hM.now (metX6_may l D cA z0 E tw N (ad 70) (shf ad 40) (sub h 40) T a1 a2 _ hw) (cwV 3 hts (lw_V q1468 q1469 q1470 q129 q1471) rfl rfl rfl (by decide +kernel) ⟨Nat.le_of_ble_eq_true rfl, Nat.le_of_ble_eq_true rfl⟩) rfl hl.1 rfl (Nat.le_of_ble_eq_true rfl) dX1_may_22 ⟨Nat.le_of_ble_eq_true rfl, Nat.le_of_ble_eq_true rfl⟩ (fun r3 H locs hw hk hS => ?_)
  have hM := hM.kept hk
  exact XT_iret hx hb hr hlocks hM hS hw (Nat.le_of_ble_eq_true rfl) (Nat.le_of_ble_eq_true rfl) dX1_may_25

/-- StrangeKnives.why(II)I -/
def wpBX1_why_21 (post : Int32 → Mem → Prop) (T : TT) (px : Nat → Prop) (a1 : Int32) (a2 : Int32)  (K21 : Int32 → Int32 → Prop) (h : Mem)  (x3 : Int32) (x4 : Int32) : Prop :=
  (wpX1_people (fun r4 => ((r4 ≤ x4 → post x3 h) ∧ (¬ r4 ≤ x4 → (wpX6_may (fun r6 => K21 (if r6 = a2 then (x3 ||| ((1 : Int32) <<< (x4 &&& 31))) else x3) (x4 + (1 : Int32))) (sub h 40) T x4 a1)))) h T )
def wpLX1_why_21 (post : Int32 → Mem → Prop) (T : TT) (px : Nat → Prop) (a1 : Int32) (a2 : Int32)  (h : Mem)  : Nat → (Int32 × Int32) → Prop := LW (fun K s => wpBX1_why_21 post T px a1 a2  (fun x3 x4 => K (x3, x4)) h  s.1 s.2)
def wpX1_why (post : Int32 → Mem → Prop) (h : Mem) (T : TT) (px : Nat → Prop) (a1 : Int32) (a2 : Int32) : Prop :=
  ((∀ b1 : Nat, b1 < T 0 1 → a1 = nI b1 → (wpX1_within (fun r2 => ((r2 = true → (∃ n, wpLX1_why_21 post T px a1 a2  h n ((0 : Int32), (0 : Int32)))) ∧ (¬ r2 = true → px 0))) h a2 (0 : Int32) (6 : Int32))) ∧ ((∀ i : Nat, i < T 0 1 → ¬ a1 = nI i) → px 0))
set_option maxHeartbeats 4000000 in
set_option maxRecDepth 100000 in
theorem metX1_why (l : Launch) (hlt : l.stackTraces = false) (D : va_G) (cA : Nat → ClassId) (z0 : Nat) (E : Nat → Nat → Nat) (tw : Nat → Nat) (N : Nat → Prop) (ad : Nat → Nat) (sz : Nat) (h : Mem) (T : TT) (px : Nat → Prop) (a1 : Int32) (a2 : Int32) (hn0 : T 0 0 < 2 ^ 31) (hn1 : T 0 1 < 2 ^ 31) (post : Int32 → Mem → Prop) (hw : wpX1_why post h T px a1 a2) : MeTI l D cA z0 E T tw N ad sz yX1_why (ws_ yX1_why cX1_why 5 (some .int)) ({ frames := 13, cells := 2, slots := 12, locals := 421 }) [.ref (ad 17), .int a1, .int a2] h post px 2 12 := by
  refine vx_ofW (cc := cX1_why) (maxL := 5) (ret := (some .int)) (by decide) rfl ?_
  intro p e s m args below meth c s₁ B hml het hv
  obtain ⟨rfl, hsz, hM, hJ, hN, hT, hK, hZ⟩ := hv
  have hx := B.exec
  have hb := B.bytes
  have hr := B.returns
  have hts := atoms_spec (ws := ws_ yX1_why cX1_why 5 (some .int)) B.pre
  have hts : ∀ w ∈ lw_all, w.before _ s = true := fun w h => hts w (List.mem_cons_of_mem _ h)
  have hown : s.vm.findClass RX1 = some m.cls := findClass_of_methodNamed B.named
  have hlocks := B.notSynchronized
  subst hsz
  have hA : ∀ q, XA ad q → XB ad s.heap.size q := fun _ h => Or.inl h
  have hBz : ∀ q, XB ad s.heap.size q → z0 ≤ q := XB.z hZ hJ
  have hNA : ∀ q, N q → q < s.heap.size → ¬ XB ad s.heap.size q := fun q h h2 h3 => h3.elim (hN q h) (fun h4 => absurd h4 (Nat.not_le.mpr h2))
  have hS : va_S (XB ad s.heap.size) s.heap s.heap [] := va_S.rf
  have hl := lv_entry ([.ref (ad 17), .int a1, .int a2]) (n := 5) (Nat.le_of_ble_eq_true rfl)
  rw [lg_entry_eq]
  generalize (lg_sl ([.ref (ad 17), .int a1, .int a2]) ++ List.replicate (5 - (lg_sl ([.ref (ad 17), .int a1, .int a2])).length) Slot.unset).toArray = ls at hl ⊢
  have hl : lv_has ls 5 [(0, .ref (ad 17)), (1, .int a1), (2, .int a2)] := hl
  obtain ⟨h0, eh0⟩ : ∃ y : Mem, y = h := ⟨_, rfl⟩
  rw [← eh0]
  have hL21 : ∀ (h : Mem)  (n21 : Nat) (x3 : Int32) (x4 : Int32), wpLX1_why_21 post T px a1 a2  h  n21 (x3, x4) → JT p l e (headSpec (ws_ yX1_why cX1_why 5 (some .int)) ({ frames := 13, cells := 2, slots := 12, locals := 421 })).room s m ([.ref (ad 17), .int a1, .int a2] : List Value).toArray below meth c (vx_MQ below (XTi D cA tw ad s.heap.size post) (XTx D cA tw ad s.heap.size h0 px) ([.ref (ad 17), .int a1, .int a2] : List Value).toArray s 2 12 (XB ad s.heap.size)) D cA tw ad 2 12 5 21 h [(0, .ref (ad 17)), (1, .int a1), (2, .int a2), (3, .int x3), (4, .int x4)] [] := by
    intro h n21
    induction n21 with
    | zero => intro x3 x4 hw; exact False.elim hw
    | succ n21 ih21 =>
      intro x3 x4 hw H locs ls hM hS hl
      have hw : wpBX1_why_21 post T px a1 a2  (fun x3 x4 => wpLX1_why_21 post T px a1 a2  h  n21 (x3, x4)) h  x3 x4 := hw
      unfold wpBX1_why_21 at hw
      refine lv_iload hx hb dX1_why_21 (lv_at hl 4 rfl) ?_
      refine lv_aload_n hx hb dX1_why_23 rfl (lv_at hl 0 rfl) ?_
      refine RX_callI (As := []) (rest := [.int x4]) ⟨hx, hb, hml, hown, hts⟩ hS hBz hK hZ (hT.at hS hNA) hM (metX1_people l D cA z0 E tw N ad h T  _ hw) (cwV 0 hts (lw_V q792 q794 qs6 q104 q795) rfl rfl rfl (by decide +kernel) ⟨Nat.le_of_ble_eq_true rfl, Nat.le_of_ble_eq_true rfl⟩) rfl hl.1 rfl (Nat.le_of_ble_eq_true rfl) dX1_why_24 ⟨Nat.le_of_ble_eq_true rfl, Nat.le_of_ble_eq_true rfl⟩ (fun r4 H locs hw hk hS => ?_)
      have hM := hM.kept hk
      refine lv_icmp_ge (tgt := 61) hx hb dX1_why_27 (by decide) (fun c5 => ?_) (fun c5 => ?_)
      · have hw := hw.1 c5
        refine lv_iload_n hx hb dX1_why_61 rfl (lv_at hl 3 rfl) ?_
        exact XT_iret hx hb hr hlocks hM hS hw (Nat.le_of_ble_eq_true rfl) (Nat.le_of_ble_eq_true rfl) dX1_why_62
      · have hw := hw.2 c5
        refine lv_aload_n hx hb dX1_why_30 rfl (lv_at hl 0 rfl) ?_
        refine X_get17 hx hb hts hown hK hM 3 (v := .ref (ad 45)) (by decide) (hts _ q727) rfl dX1_why_31 ?_
        refine lv_aload_n hx hb dX1_why_34 rfl (lv_at hl 0 rfl) ?_
        refine X_get17 hx hb hts hown hK hM 0 (v := .ref (tw 9)) (by decide) (hts _ q724) rfl dX1_why_35 ?_
        refine lv_iload hx hb dX1_why_38 (lv_at hl 4 rfl) ?_
        refine lv_iload_n hx hb dX1_why_40 rfl (lv_at hl 1 rfl) ?_
        refine RS_callI (As := [.ref (tw 9), .int x4, .int a1]) (rest := []) (sa := (shf ad 40)) (h := (sub h 40)) ⟨hx, hb, hml, hown, hts⟩ hS hBz hK hZ (hT.at hS hNA) hM.now (metX6_may l D cA z0 E tw N (ad 70) (shf ad 40) (sub h 40) T x4 a1 _ hw) (cwV 3 hts (lw_V q1468 q1469 q1470 q129 q1471) rfl rfl rfl (by decide +kernel) ⟨Nat.le_of_ble_eq_true rfl, Nat.le_of_ble_eq_true rfl⟩) rfl hl.1 rfl (Nat.le_of_ble_eq_true rfl) dX1_why_41 ⟨Nat.le_of_ble_eq_true rfl, Nat.le_of_ble_eq_true rfl⟩ (fun r6 H locs hw hk hS => ?_)
        have hM := hM.kept hk
        refine lv_iload_n hx hb dX1_why_44 rfl (lv_at hl 2 rfl) ?_
        have hj7 : JT p l e (headSpec (ws_ yX1_why cX1_why 5 (some .int)) ({ frames := 13, cells := 2, slots := 12, locals := 421 })).room s m ([.ref (ad 17), .int a1, .int a2] : List Value).toArray below meth c (vx_MQ below (XTi D cA tw ad s.heap.size post) (XTx D cA tw ad s.heap.size h0 px) ([.ref (ad 17), .int a1, .int a2] : List Value).toArray s 2 12 (XB ad s.heap.size)) D cA tw ad 2 12 5 55 h [(0, .ref (ad 17)), (1, .int a1), (2, .int a2), (3, .int (if r6 = a2 then (x3 ||| ((1 : Int32) <<< (x4 &&& 31))) else x3)), (4, .int x4)] [] := by
          intro H locs ls hM hS hl
          refine lv_iinc (v := (x4 + (1 : Int32))) (lv' := [(4, .int (x4 + (1 : Int32))), (0, .ref (ad 17)), (1, .int a1), (2, .int a2), (3, .int (if r6 = a2 then (x3 ||| ((1 : Int32) <<< (x4 &&& 31))) else x3))]) hx hb dX1_why_55 hl (k := 4) rfl rfl (by decide) rfl (fun ls hl => ?_)
          refine lv_goto (tgt := 21) hx hb dX1_why_58 (by decide) ?_
          exact ih21 (if r6 = a2 then (x3 ||| ((1 : Int32) <<< (x4 &&& 31))) else x3) (x4 + (1 : Int32)) hw _ _ ls hM hS (lv_sub hl [1, 2, 3, 4, 0] rfl)
        refine lv_icmp_ne (tgt := 55) hx hb dX1_why_45 (by decide) (fun c8 => ?_) (fun c8 => ?_)
        · have e9 : (if r6 = a2 then (x3 ||| ((1 : Int32) <<< (x4 &&& 31))) else x3) = x3 := by rw [if_neg c8]
          rw [e9] at hj7
          exact hj7 _ _ ls hM hS (lv_sub hl [0, 1, 2, 3, 4] rfl)
        · refine lv_iload_n hx hb dX1_why_48 rfl (lv_at hl 3 rfl) ?_
          refine lv_iconst (v := (1 : Int32)) hx hb dX1_why_49 (by decide) ?_
          refine lv_iload hx hb dX1_why_50 (lv_at hl 4 rfl) ?_
          refine lv_ishl hx hb dX1_why_52 ?_
          refine lv_ior hx hb dX1_why_53 ?_
          refine lv_istore_n (lv' := [(3, .int (x3 ||| ((1 : Int32) <<< (x4 &&& 31)))), (0, .ref (ad 17)), (1, .int a1), (2, .int a2), (4, .int x4)]) hx hb dX1_why_54 rfl hl (by decide) rfl (fun ls hl => ?_)
          have e10 : (if r6 = a2 then (x3 ||| ((1 : Int32) <<< (x4 &&& 31))) else x3) = (x3 ||| ((1 : Int32) <<< (x4 &&& 31))) := by rw [if_pos c8]
          rw [e10] at hj7
          exact hj7 _ _ ls hM hS (lv_sub hl [1, 2, 3, 0, 4] rfl)
  unfold wpX1_why at hw
  refine lv_aload_n hx hb dX1_why_0 rfl (lv_at hl 0 rfl) ?_
  refine lv_iload_n hx hb dX1_why_1 rfl (lv_at hl 1 rfl) ?_
  refine XT_loaf ⟨hx, hb, hml, hown, hts⟩ eh0.symm hlt hK hZ (hT.at hS hNA) hJ hM hS het hlocks hn1 (a := a1) hw.2 (cwV 1 hts (lw_V q1456 q1458 qs38 q104 q1459) rfl rfl rfl (by decide +kernel) ⟨Nat.le_of_ble_eq_true rfl, Nat.le_of_ble_eq_true rfl⟩) hl.1 (Nat.le_of_ble_eq_true rfl) dX1_why_2 ⟨Nat.le_of_ble_eq_true rfl, Nat.le_of_ble_eq_true rfl⟩ (Nat.le_of_ble_eq_true rfl) (Nat.le_of_ble_eq_true rfl) (fun b1 hb1 eb1 H locs hM hS => ?_)
  have hw := hw.1 b1 hb1 eb1
  refine lv_pop hx hb dX1_why_5 rfl ?_
  refine lv_iload_n hx hb dX1_why_6 rfl (lv_at hl 2 rfl) ?_
  refine lv_iconst (v := (0 : Int32)) hx hb dX1_why_7 (by decide) ?_
  refine lv_bipush (v := (6 : Int32)) hx hb dX1_why_8 (by decide) ?_
  refine RN_callZ (As := [.int a2, .int (0 : Int32), .int (6 : Int32)]) (rest := []) ⟨hx, hb, hml, hown, hts⟩ hS (metX1_within l h a2 (0 : Int32) (6 : Int32) _ hw) (va_cwS 3 hts (lw_S q847 q848 q104 q849) rfl rfl rfl (by decide +kernel) ⟨Nat.le_of_ble_eq_true rfl, Nat.le_of_ble_eq_true rfl⟩) rfl hl.1 rfl (Nat.le_of_ble_eq_true rfl) dX1_why_10 ⟨Nat.le_of_ble_eq_true rfl, Nat.le_of_ble_eq_true rfl⟩ (fun r2 H locs hw hk hS => ?_)
  have hM := hM.kept hk
  refine XT_there ⟨hx, hb, hml, hown, hts⟩ eh0.symm hlt hZ hJ hM hS het hlocks (a := (b2i r2)) (fun c => hw.2 (b2i_f c)) q1394 ⟨Nat.le_of_ble_eq_true rfl, Nat.le_of_ble_eq_true rfl⟩ hl.1 (Nat.le_of_ble_eq_true rfl) dX1_why_13 ⟨Nat.le_of_ble_eq_true rfl, Nat.le_of_ble_eq_true rfl⟩ (Nat.le_of_ble_eq_true rfl) (Nat.le_of_ble_eq_true rfl) (fun c3 H locs hM hS => ?_)
  have c3 := b2i_t c3
  have hw := hw.1 c3
  refine lv_iconst (v := (0 : Int32)) hx hb dX1_why_16 (by decide) ?_
  refine lv_istore_n (lv' := [(3, .int (0 : Int32)), (0, .ref (ad 17)), (1, .int a1), (2, .int a2)]) hx hb dX1_why_17 rfl hl (by decide) rfl (fun ls hl => ?_)
  refine lv_iconst (v := (0 : Int32)) hx hb dX1_why_18 (by decide) ?_
  refine lv_istore (lv' := [(4, .int (0 : Int32)), (3, .int (0 : Int32)), (0, .ref (ad 17)), (1, .int a1), (2, .int a2)]) hx hb dX1_why_19 hl (by decide) rfl (fun ls hl => ?_)
  obtain ⟨n11, hw⟩ := hw
  exact hL21 h n11 (0 : Int32) (0 : Int32) hw _ _ ls hM hS (lv_sub hl [2, 3, 4, 1, 0] rfl)

/-- StrangeKnives.carried(I)I -/
def wpX1_carried (post : Int32 → Mem → Prop) (h : Mem) (T : TT) (px : Nat → Prop) (a1 : Int32) : Prop :=
  ((∀ b1 : Nat, b1 < T 0 1 → a1 = nI b1 → ((¬ (h 14 0) = 0 → (vp_in a1 (Xlen 12) ∧ post (h 12 (ix a1)) h)) ∧ ((h 14 0) = 0 → px 0))) ∧ ((∀ i : Nat, i < T 0 1 → ¬ a1 = nI i) → px 0))
set_option maxHeartbeats 4000000 in
set_option maxRecDepth 100000 in
theorem metX1_carried (l : Launch) (hlt : l.stackTraces = false) (D : va_G) (cA : Nat → ClassId) (z0 : Nat) (E : Nat → Nat → Nat) (tw : Nat → Nat) (N : Nat → Prop) (ad : Nat → Nat) (sz : Nat) (h : Mem) (T : TT) (px : Nat → Prop) (a1 : Int32) (hn0 : T 0 0 < 2 ^ 31) (hn1 : T 0 1 < 2 ^ 31) (post : Int32 → Mem → Prop) (hw : wpX1_carried post h T px a1) : MeTI l D cA z0 E T tw N ad sz yX1_carried (ws_ yX1_carried cX1_carried 2 (some .int)) ({ frames := 13, cells := 2, slots := 12, locals := 421 }) [.ref (ad 17), .int a1] h post px 2 12 := by
  refine vx_ofW (cc := cX1_carried) (maxL := 2) (ret := (some .int)) (by decide) rfl ?_
  intro p e s m args below meth c s₁ B hml het hv
  obtain ⟨rfl, hsz, hM, hJ, hN, hT, hK, hZ⟩ := hv
  have hx := B.exec
  have hb := B.bytes
  have hr := B.returns
  have hts := atoms_spec (ws := ws_ yX1_carried cX1_carried 2 (some .int)) B.pre
  have hts : ∀ w ∈ lw_all, w.before _ s = true := fun w h => hts w (List.mem_cons_of_mem _ h)
  have hown : s.vm.findClass RX1 = some m.cls := findClass_of_methodNamed B.named
  have hlocks := B.notSynchronized
  subst hsz
  have hA : ∀ q, XA ad q → XB ad s.heap.size q := fun _ h => Or.inl h
  have hBz : ∀ q, XB ad s.heap.size q → z0 ≤ q := XB.z hZ hJ
  have hNA : ∀ q, N q → q < s.heap.size → ¬ XB ad s.heap.size q := fun q h h2 h3 => h3.elim (hN q h) (fun h4 => absurd h4 (Nat.not_le.mpr h2))
  have hS : va_S (XB ad s.heap.size) s.heap s.heap [] := va_S.rf
  have hl := lv_entry ([.ref (ad 17), .int a1]) (n := 2) (Nat.le_of_ble_eq_true rfl)
  rw [lg_entry_eq]
  generalize (lg_sl ([.ref (ad 17), .int a1]) ++ List.replicate (2 - (lg_sl ([.ref (ad 17), .int a1])).length) Slot.unset).toArray = ls at hl ⊢
  have hl : lv_has ls 2 [(0, .ref (ad 17)), (1, .int a1)] := hl
  obtain ⟨h0, eh0⟩ : ∃ y : Mem, y = h := ⟨_, rfl⟩
  rw [← eh0]
  unfold wpX1_carried at hw
  refine lv_aload_n hx hb dX1_carried_0 rfl (lv_at hl 0 rfl) ?_
  refine lv_iload_n hx hb dX1_carried_1 rfl (lv_at hl 1 rfl) ?_
  refine XT_loaf ⟨hx, hb, hml, hown, hts⟩ eh0.symm hlt hK hZ (hT.at hS hNA) hJ hM hS het hlocks hn1 (a := a1) hw.2 (cwV 1 hts (lw_V q1456 q1458 qs38 q104 q1459) rfl rfl rfl (by decide +kernel) ⟨Nat.le_of_ble_eq_true rfl, Nat.le_of_ble_eq_true rfl⟩) hl.1 (Nat.le_of_ble_eq_true rfl) dX1_carried_2 ⟨Nat.le_of_ble_eq_true rfl, Nat.le_of_ble_eq_true rfl⟩ (Nat.le_of_ble_eq_true rfl) (Nat.le_of_ble_eq_true rfl) (fun b1 hb1 eb1 H locs hM hS => ?_)
  have hw := hw.1 b1 hb1 eb1
  refine lv_pop hx hb dX1_carried_5 rfl ?_
  refine lv_aload_n hx hb dX1_carried_6 rfl (lv_at hl 0 rfl) ?_
  refine X_get17 hx hb hts hown hK hM 14 (v := .int (h 14 0)) (by decide) (hts _ q738) rfl dX1_carried_7 ?_
  refine XT_there ⟨hx, hb, hml, hown, hts⟩ eh0.symm hlt hZ hJ hM hS het hlocks (a := (h 14 0)) hw.2 q1394 ⟨Nat.le_of_ble_eq_true rfl, Nat.le_of_ble_eq_true rfl⟩ hl.1 (Nat.le_of_ble_eq_true rfl) dX1_carried_10 ⟨Nat.le_of_ble_eq_true rfl, Nat.le_of_ble_eq_true rfl⟩ (Nat.le_of_ble_eq_true rfl) (Nat.le_of_ble_eq_true rfl) (fun c2 H locs hM hS => ?_)
  have hw := hw.1 c2
  refine lv_aload_n hx hb dX1_carried_13 rfl (lv_at hl 0 rfl) ?_
  refine X_get17 hx hb hts hown hK hM 12 (v := .ref (ad 12)) (by decide) (hts _ q736) rfl dX1_carried_14 ?_
  refine lv_iload_n hx hb dX1_carried_17 rfl (lv_at hl 1 rfl) ?_
  obtain ⟨hv3, hw⟩ := hw
  refine X_iald hx hb hK hM 12 rfl (j := (ix a1)) rfl hv3 dX1_carried_18 ?_
  exact XT_iret hx hb hr hlocks hM hS hw (Nat.le_of_ble_eq_true rfl) (Nat.le_of_ble_eq_true rfl) dX1_carried_19

/-- StrangeKnives.see(III)I -/
def wpBX1_see_48 (post : Int32 → Mem → Prop) (T : TT) (px : Nat → Prop) (a1 : Int32) (a2 : Int32) (a3 : Int32)  (h : Mem)   : Prop :=
  (wpX1_refuses (fun r4 h3 => post r4 h3) h T (2 : Int32))
def wpX1_see (post : Int32 → Mem → Prop) (h : Mem) (T : TT) (px : Nat → Prop) (a1 : Int32) (a2 : Int32) (a3 : Int32) : Prop :=
  ((∀ b1 : Nat, b1 < T 0 1 → a1 = nI b1 → (((h 29 0) = (6 : Int32) → wpBX1_see_48 post T px a1 a2 a3  h ) ∧ (¬ (h 29 0) = (6 : Int32) → ((a2 < 0 → wpBX1_see_48 post T px a1 a2 a3  h ) ∧ (¬ a2 < 0 → (((nI (T 8 b1)) ≤ a2 → wpBX1_see_48 post T px a1 a2 a3  h ) ∧ (¬ (nI (T 8 b1)) ≤ a2 → (wpX1_within (fun r7 => ((r7 = true → (vp_in (h 29 0) (Xlen 22) ∧ (∀ h10 : Mem, h10 = up2 h 22 (ix (h 29 0)) a1 → (vp_in (h 29 0) (Xlen 23) ∧ (∀ h12 : Mem, h12 = up2 h10 23 (ix (h 29 0)) a2 → (vp_in (h 29 0) (Xlen 24) ∧ (∀ h14 : Mem, h14 = up2 h12 24 (ix (h 29 0)) a3 → (∀ h15 : Mem, h15 = up2 h14 29 0 ((h14 29 0) + (1 : Int32)) → post (h15 29 0) h15)))))))) ∧ (¬ r7 = true → wpBX1_see_48 post T px a1 a2 a3  h ))) h a3 (0 : Int32) (999 : Int32))))))))) ∧ ((∀ i : Nat, i < T 0 1 → ¬ a1 = nI i) → px 0))
set_option maxHeartbeats 4000000 in
set_option maxRecDepth 100000 in
theorem metX1_see (l : Launch) (hlt : l.stackTraces = false) (D : va_G) (cA : Nat → ClassId) (z0 : Nat) (E : Nat → Nat → Nat) (tw : Nat → Nat) (N : Nat → Prop) (ad : Nat → Nat) (sz : Nat) (h : Mem) (T : TT) (px : Nat → Prop) (a1 : Int32) (a2 : Int32) (a3 : Int32) (hn0 : T 0 0 < 2 ^ 31) (hn1 : T 0 1 < 2 ^ 31) (post : Int32 → Mem → Prop) (hw : wpX1_see post h T px a1 a2 a3) : MeTI l D cA z0 E T tw N ad sz yX1_see (ws_ yX1_see cX1_see 6 (some .int)) ({ frames := 13, cells := 1, slots := 6, locals := 421 }) [.ref (ad 17), .int a1, .int a2, .int a3] h post px 1 6 := by
  refine vx_ofW (cc := cX1_see) (maxL := 6) (ret := (some .int)) (by decide) rfl ?_
  intro p e s m args below meth c s₁ B hml het hv
  obtain ⟨rfl, hsz, hM, hJ, hN, hT, hK, hZ⟩ := hv
  have hx := B.exec
  have hb := B.bytes
  have hr := B.returns
  have hts := atoms_spec (ws := ws_ yX1_see cX1_see 6 (some .int)) B.pre
  have hts : ∀ w ∈ lw_all, w.before _ s = true := fun w h => hts w (List.mem_cons_of_mem _ h)
  have hown : s.vm.findClass RX1 = some m.cls := findClass_of_methodNamed B.named
  have hlocks := B.notSynchronized
  subst hsz
  have hA : ∀ q, XA ad q → XB ad s.heap.size q := fun _ h => Or.inl h
  have hBz : ∀ q, XB ad s.heap.size q → z0 ≤ q := XB.z hZ hJ
  have hNA : ∀ q, N q → q < s.heap.size → ¬ XB ad s.heap.size q := fun q h h2 h3 => h3.elim (hN q h) (fun h4 => absurd h4 (Nat.not_le.mpr h2))
  have hS : va_S (XB ad s.heap.size) s.heap s.heap [] := va_S.rf
  have hl := lv_entry ([.ref (ad 17), .int a1, .int a2, .int a3]) (n := 6) (Nat.le_of_ble_eq_true rfl)
  rw [lg_entry_eq]
  generalize (lg_sl ([.ref (ad 17), .int a1, .int a2, .int a3]) ++ List.replicate (6 - (lg_sl ([.ref (ad 17), .int a1, .int a2, .int a3])).length) Slot.unset).toArray = ls at hl ⊢
  have hl : lv_has ls 6 [(0, .ref (ad 17)), (1, .int a1), (2, .int a2), (3, .int a3)] := hl
  obtain ⟨h0, eh0⟩ : ∃ y : Mem, y = h := ⟨_, rfl⟩
  rw [← eh0]
  have hB48 : wpBX1_see_48 post T px a1 a2 a3  h  → JT p l e (headSpec (ws_ yX1_see cX1_see 6 (some .int)) ({ frames := 13, cells := 1, slots := 6, locals := 421 })).room s m ([.ref (ad 17), .int a1, .int a2, .int a3] : List Value).toArray below meth c (vx_MQ below (XTi D cA tw ad s.heap.size post) (XTx D cA tw ad s.heap.size h0 px) ([.ref (ad 17), .int a1, .int a2, .int a3] : List Value).toArray s 1 6 (XB ad s.heap.size)) D cA tw ad 1 6 6 48 h [(0, .ref (ad 17))] [] := by
    intro  hw H locs ls hM hS hl
    unfold wpBX1_see_48 at hw
    refine lv_aload_n hx hb dX1_see_48 rfl (lv_at hl 0 rfl) ?_
    refine lv_iconst (v := (2 : Int32)) hx hb dX1_see_49 (by decide) ?_
    refine XX_callI (As := [.int (2 : Int32)]) (rest := []) ⟨hx, hb, hml, hown, hts⟩ hK hZ (hT.at hS hNA) hN hA hBz hM hJ hS (metX1_refuses l D cA z0 E tw N ad h T (2 : Int32) _ hw) (cwV 1 hts (lw_V q803 q805 qs7 q104 q806) rfl rfl rfl (by decide +kernel) ⟨Nat.le_of_ble_eq_true rfl, Nat.le_of_ble_eq_true rfl⟩) rfl hl.1 rfl (Nat.le_of_ble_eq_true rfl) dX1_see_50 ⟨Nat.le_of_ble_eq_true rfl, Nat.le_of_ble_eq_true rfl⟩ (fun r4 h3 H locs hw hM hS => ?_)
    exact XT_iret hx hb hr hlocks hM hS hw (Nat.le_of_ble_eq_true rfl) (Nat.le_of_ble_eq_true rfl) dX1_see_53
  unfold wpX1_see at hw
  refine lv_aload_n hx hb dX1_see_0 rfl (lv_at hl 0 rfl) ?_
  refine lv_iload_n hx hb dX1_see_1 rfl (lv_at hl 1 rfl) ?_
  refine XT_loaf ⟨hx, hb, hml, hown, hts⟩ eh0.symm hlt hK hZ (hT.at hS hNA) hJ hM hS het hlocks hn1 (a := a1) hw.2 (cwV 1 hts (lw_V q1456 q1458 qs38 q104 q1459) rfl rfl rfl (by decide +kernel) ⟨Nat.le_of_ble_eq_true rfl, Nat.le_of_ble_eq_true rfl⟩) hl.1 (Nat.le_of_ble_eq_true rfl) dX1_see_2 ⟨Nat.le_of_ble_eq_true rfl, Nat.le_of_ble_eq_true rfl⟩ (Nat.le_of_ble_eq_true rfl) (Nat.le_of_ble_eq_true rfl) (fun b1 hb1 eb1 H locs hM hS => ?_)
  have hw := hw.1 b1 hb1 eb1
  refine lv_astore (lv' := [(4, .ref (tw (200 + b1))), (0, .ref (ad 17)), (1, .int a1), (2, .int a2), (3, .int a3)]) hx hb dX1_see_5 hl (by decide) rfl (fun ls hl => ?_)
  refine lv_aload_n hx hb dX1_see_7 rfl (lv_at hl 1 rfl) ?_
  refine X_get17 hx hb hts hown hK hM 1 (v := .ref (ad 31)) (by decide) (hts _ q725) rfl dX1_see_8 ?_
  refine X_get31N hx hb hts hown hK hM 9 (v := .int (h 29 0)) (by decide) (hZ.2.1.nF 7 rfl) rfl dX1_see_11 ?_
  refine lv_istore (lv' := [(5, .int (h 29 0)), (4, .ref (tw (200 + b1))), (0, .ref (ad 17)), (1, .int a1), (2, .int a2), (3, .int a3)]) hx hb dX1_see_14 hl (by decide) rfl (fun ls hl => ?_)
  refine lv_iload hx hb dX1_see_16 (lv_at hl 0 rfl) ?_
  refine lv_bipush (v := (6 : Int32)) hx hb dX1_see_18 (by decide) ?_
  refine lv_icmp_eq (tgt := 48) hx hb dX1_see_20 (by decide) (fun c2 => ?_) (fun c2 => ?_)
  · have hw := hw.1 c2
    exact hB48  hw _ _ ls hM hS (lv_sub hl [2] rfl)
  · have hw := hw.2 c2
    refine lv_iload_n hx hb dX1_see_23 rfl (lv_at hl 4 rfl) ?_
    refine lv_if_lt (tgt := 48) hx hb dX1_see_24 (by decide) (fun c5 => ?_) (fun c5 => ?_)
    · have hw := hw.1 c5
      exact hB48  hw _ _ ls hM hS (lv_sub hl [2] rfl)
    · have hw := hw.2 c5
      refine lv_iload_n hx hb dX1_see_27 rfl (lv_at hl 4 rfl) ?_
      refine lv_aload hx hb dX1_see_28 (lv_at hl 1 rfl) ?_
      refine L_fldN hx hb hts hown hK (hT.at hS hNA) b1 hb1 4 (v := .ref (tw (300 + b1))) (by decide) (hZ.2.1.nF 20 rfl) rfl dX1_see_30 ?_
      refine L_alen hx hb hK (hT.at hS hNA) b1 hb1 dX1_see_33 ?_
      refine lv_icmp_ge (tgt := 48) hx hb dX1_see_34 (by decide) (fun c6 => ?_) (fun c6 => ?_)
      · have hw := hw.1 c6
        exact hB48  hw _ _ ls hM hS (lv_sub hl [2] rfl)
      · have hw := hw.2 c6
        refine lv_iload_n hx hb dX1_see_37 rfl (lv_at hl 5 rfl) ?_
        refine lv_iconst (v := (0 : Int32)) hx hb dX1_see_38 (by decide) ?_
        refine lv_sipush (v := (999 : Int32)) hx hb dX1_see_39 (by decide) ?_
        refine RN_callZ (As := [.int a3, .int (0 : Int32), .int (999 : Int32)]) (rest := []) ⟨hx, hb, hml, hown, hts⟩ hS (metX1_within l h a3 (0 : Int32) (999 : Int32) _ hw) (va_cwS 3 hts (lw_S q847 q848 q104 q849) rfl rfl rfl (by decide +kernel) ⟨Nat.le_of_ble_eq_true rfl, Nat.le_of_ble_eq_true rfl⟩) rfl hl.1 rfl (Nat.le_of_ble_eq_true rfl) dX1_see_42 ⟨Nat.le_of_ble_eq_true rfl, Nat.le_of_ble_eq_true rfl⟩ (fun r7 H locs hw hk hS => ?_)
        have hM := hM.kept hk
        refine lv_if_ne (tgt := 54) hx hb dX1_see_45 (by decide) (fun c8 => ?_) (fun c8 => ?_)
        · have c8 := b2i_t c8
          have hw := hw.1 c8
          refine lv_aload_n hx hb dX1_see_54 rfl (lv_at hl 2 rfl) ?_
          refine X_get17 hx hb hts hown hK hM 1 (v := .ref (ad 31)) (by decide) (hts _ q725) rfl dX1_see_55 ?_
          refine X_get31N hx hb hts hown hK hM 2 (v := .ref (ad 22)) (by decide) (hZ.2.1.nF 23 rfl) rfl dX1_see_58 ?_
          refine lv_iload hx hb dX1_see_61 (lv_at hl 0 rfl) ?_
          refine lv_iload_n hx hb dX1_see_63 rfl (lv_at hl 3 rfl) ?_
          obtain ⟨hv9, hw⟩ := hw
          refine X_iast hx hb hK hM hJ hA hS 22 rfl (j := (ix (h 29 0))) rfl hv9 dX1_see_64 (fun H locs hM hS => ?_)
          obtain ⟨h10, eh10⟩ : ∃ y : Mem, y = up2 h 22 (ix (h 29 0)) a1 := ⟨_, rfl⟩
          rw [← eh10] at hM
          have hw := hw h10 eh10
          refine lv_aload_n hx hb dX1_see_65 rfl (lv_at hl 2 rfl) ?_
          refine X_get17 hx hb hts hown hK hM 1 (v := .ref (ad 31)) (by decide) (hts _ q725) rfl dX1_see_66 ?_
          refine X_get31N hx hb hts hown hK hM 3 (v := .ref (ad 23)) (by decide) (hZ.2.1.nF 24 rfl) rfl dX1_see_69 ?_
          refine lv_iload hx hb dX1_see_72 (lv_at hl 0 rfl) ?_
          refine lv_iload_n hx hb dX1_see_74 rfl (lv_at hl 4 rfl) ?_
          obtain ⟨hv11, hw⟩ := hw
          refine X_iast hx hb hK hM hJ hA hS 23 rfl (j := (ix (h 29 0))) rfl hv11 dX1_see_75 (fun H locs hM hS => ?_)
          obtain ⟨h12, eh12⟩ : ∃ y : Mem, y = up2 h10 23 (ix (h 29 0)) a2 := ⟨_, rfl⟩
          rw [← eh12] at hM
          have hw := hw h12 eh12
          refine lv_aload_n hx hb dX1_see_76 rfl (lv_at hl 2 rfl) ?_
          refine X_get17 hx hb hts hown hK hM 1 (v := .ref (ad 31)) (by decide) (hts _ q725) rfl dX1_see_77 ?_
          refine X_get31N hx hb hts hown hK hM 4 (v := .ref (ad 24)) (by decide) (hZ.2.1.nF 25 rfl) rfl dX1_see_80 ?_
          refine lv_iload hx hb dX1_see_83 (lv_at hl 0 rfl) ?_
          refine lv_iload_n hx hb dX1_see_85 rfl (lv_at hl 5 rfl) ?_
          obtain ⟨hv13, hw⟩ := hw
          refine X_iast hx hb hK hM hJ hA hS 24 rfl (j := (ix (h 29 0))) rfl hv13 dX1_see_86 (fun H locs hM hS => ?_)
          obtain ⟨h14, eh14⟩ : ∃ y : Mem, y = up2 h12 24 (ix (h 29 0)) a3 := ⟨_, rfl⟩
          rw [← eh14] at hM
          have hw := hw h14 eh14
          refine lv_aload_n hx hb dX1_see_87 rfl (lv_at hl 2 rfl) ?_
          refine X_get17 hx hb hts hown hK hM 1 (v := .ref (ad 31)) (by decide) (hts _ q725) rfl dX1_see_88 ?_
          refine lv_dup hx hb dX1_see_91 rfl ?_
          refine X_get31N hx hb hts hown hK hM 9 (v := .int (h14 29 0)) (by decide) (hZ.2.1.nF 7 rfl) rfl dX1_see_92 ?_
          refine lv_iconst (v := (1 : Int32)) hx hb dX1_see_95 (by decide) ?_
          refine lv_iadd hx hb dX1_see_96 ?_
          refine X_put29N hx hb hts hown hK hM hJ hA hS (hZ.2.1.nF 7 rfl) .int (by decide +kernel) rfl rfl dX1_see_97 (fun H locs hM hS => ?_)
          obtain ⟨h15, eh15⟩ : ∃ y : Mem, y = up2 h14 29 0 ((h14 29 0) + (1 : Int32)) := ⟨_, rfl⟩
          rw [← eh15] at hM
          have hw := hw h15 eh15
          refine lv_aload_n hx hb dX1_see_100 rfl (lv_at hl 2 rfl) ?_
          refine X_get17 hx hb hts hown hK hM 1 (v := .ref (ad 31)) (by decide) (hts _ q725) rfl dX1_see_101 ?_
          refine X_get31N hx hb hts hown hK hM 9 (v := .int (h15 29 0)) (by decide) (hZ.2.1.nF 7 rfl) rfl dX1_see_104 ?_
          exact XT_iret hx hb hr hlocks hM hS hw (Nat.le_of_ble_eq_true rfl) (Nat.le_of_ble_eq_true rfl) dX1_see_107
        · have c8 := b2i_f c8
          have hw := hw.2 c8
          exact hB48  hw _ _ ls hM hS (lv_sub hl [2] rfl)

/-- StrangeKnives.balk(II)I -/
def wpX1_balk (post : Int32 → Mem → Prop) (h : Mem) (T : TT) (px : Nat → Prop) (a1 : Int32) (a2 : Int32) : Prop :=
  ((∀ p1 : Nat, p1 < T 0 0 → a1 = nI p1 → ((∀ b2 : Nat, b2 < T 0 1 → a2 = nI b2 → (((h 30 0) = (4 : Int32) → (wpX1_refuses (fun r10 h9 => post r10 h9) h T (2 : Int32))) ∧ (¬ (h 30 0) = (4 : Int32) → (vp_in (h 30 0) (Xlen 25) ∧ (∀ h5 : Mem, h5 = up2 h 25 (ix (h 30 0)) a1 → (vp_in (h 30 0) (Xlen 26) ∧ (∀ h7 : Mem, h7 = up2 h5 26 (ix (h 30 0)) a2 → (∀ h8 : Mem, h8 = up2 h7 30 0 ((h7 30 0) + (1 : Int32)) → post (h8 30 0) h8)))))))) ∧ ((∀ i : Nat, i < T 0 1 → ¬ a2 = nI i) → px 0))) ∧ ((∀ i : Nat, i < T 0 0 → ¬ a1 = nI i) → px 0))
set_option maxHeartbeats 4000000 in
set_option maxRecDepth 100000 in
theorem metX1_balk (l : Launch) (hlt : l.stackTraces = false) (D : va_G) (cA : Nat → ClassId) (z0 : Nat) (E : Nat → Nat → Nat) (tw : Nat → Nat) (N : Nat → Prop) (ad : Nat → Nat) (sz : Nat) (h : Mem) (T : TT) (px : Nat → Prop) (a1 : Int32) (a2 : Int32) (hn0 : T 0 0 < 2 ^ 31) (hn1 : T 0 1 < 2 ^ 31) (post : Int32 → Mem → Prop) (hw : wpX1_balk post h T px a1 a2) : MeTI l D cA z0 E T tw N ad sz yX1_balk (ws_ yX1_balk cX1_balk 4 (some .int)) ({ frames := 13, cells := 2, slots := 12, locals := 421 }) [.ref (ad 17), .int a1, .int a2] h post px 2 12 := by
  refine vx_ofW (cc := cX1_balk) (maxL := 4) (ret := (some .int)) (by decide) rfl ?_
  intro p e s m args below meth c s₁ B hml het hv
  obtain ⟨rfl, hsz, hM, hJ, hN, hT, hK, hZ⟩ := hv
  have hx := B.exec
  have hb := B.bytes
  have hr := B.returns
  have hts := atoms_spec (ws := ws_ yX1_balk cX1_balk 4 (some .int)) B.pre
  have hts : ∀ w ∈ lw_all, w.before _ s = true := fun w h => hts w (List.mem_cons_of_mem _ h)
  have hown : s.vm.findClass RX1 = some m.cls := findClass_of_methodNamed B.named
  have hlocks := B.notSynchronized
  subst hsz
  have hA : ∀ q, XA ad q → XB ad s.heap.size q := fun _ h => Or.inl h
  have hBz : ∀ q, XB ad s.heap.size q → z0 ≤ q := XB.z hZ hJ
  have hNA : ∀ q, N q → q < s.heap.size → ¬ XB ad s.heap.size q := fun q h h2 h3 => h3.elim (hN q h) (fun h4 => absurd h4 (Nat.not_le.mpr h2))
  have hS : va_S (XB ad s.heap.size) s.heap s.heap [] := va_S.rf
  have hl := lv_entry ([.ref (ad 17), .int a1, .int a2]) (n := 4) (Nat.le_of_ble_eq_true rfl)
  rw [lg_entry_eq]
  generalize (lg_sl ([.ref (ad 17), .int a1, .int a2]) ++ List.replicate (4 - (lg_sl ([.ref (ad 17), .int a1, .int a2])).length) Slot.unset).toArray = ls at hl ⊢
  have hl : lv_has ls 4 [(0, .ref (ad 17)), (1, .int a1), (2, .int a2)] := hl
  obtain ⟨h0, eh0⟩ : ∃ y : Mem, y = h := ⟨_, rfl⟩
  rw [← eh0]
  unfold wpX1_balk at hw
  refine lv_aload_n hx hb dX1_balk_0 rfl (lv_at hl 0 rfl) ?_
  refine lv_iload_n hx hb dX1_balk_1 rfl (lv_at hl 1 rfl) ?_
  refine XT_pers ⟨hx, hb, hml, hown, hts⟩ eh0.symm hlt hK hZ (hT.at hS hNA) hJ hM hS het hlocks hn0 (a := a1) hw.2 (cwV 1 hts (lw_V q1427 q1429 qs37 q104 q1430) rfl rfl rfl (by decide +kernel) ⟨Nat.le_of_ble_eq_true rfl, Nat.le_of_ble_eq_true rfl⟩) hl.1 (Nat.le_of_ble_eq_true rfl) dX1_balk_2 ⟨Nat.le_of_ble_eq_true rfl, Nat.le_of_ble_eq_true rfl⟩ (Nat.le_of_ble_eq_true rfl) (Nat.le_of_ble_eq_true rfl) (fun p1 hp1 ep1 H locs hM hS => ?_)
  have hw := hw.1 p1 hp1 ep1
  refine lv_pop hx hb dX1_balk_5 rfl ?_
  refine lv_aload_n hx hb dX1_balk_6 rfl (lv_at hl 0 rfl) ?_
  refine lv_iload_n hx hb dX1_balk_7 rfl (lv_at hl 2 rfl) ?_
  refine XT_loaf ⟨hx, hb, hml, hown, hts⟩ eh0.symm hlt hK hZ (hT.at hS hNA) hJ hM hS het hlocks hn1 (a := a2) hw.2 (cwV 1 hts (lw_V q1456 q1458 qs38 q104 q1459) rfl rfl rfl (by decide +kernel) ⟨Nat.le_of_ble_eq_true rfl, Nat.le_of_ble_eq_true rfl⟩) hl.1 (Nat.le_of_ble_eq_true rfl) dX1_balk_8 ⟨Nat.le_of_ble_eq_true rfl, Nat.le_of_ble_eq_true rfl⟩ (Nat.le_of_ble_eq_true rfl) (Nat.le_of_ble_eq_true rfl) (fun b2 hb2 eb2 H locs hM hS => ?_)
  have hw := hw.1 b2 hb2 eb2
  refine lv_pop hx hb dX1_balk_11 rfl ?_
  refine lv_aload_n hx hb dX1_balk_12 rfl (lv_at hl 0 rfl) ?_
  refine X_get17 hx hb hts hown hK hM 1 (v := .ref (ad 31)) (by decide) (hts _ q725) rfl dX1_balk_13 ?_
  refine X_get31N hx hb hts hown hK hM 10 (v := .int (h 30 0)) (by decide) (hZ.2.1.nF 8 rfl) rfl dX1_balk_16 ?_
  refine lv_istore_n (lv' := [(3, .int (h 30 0)), (0, .ref (ad 17)), (1, .int a1), (2, .int a2)]) hx hb dX1_balk_19 rfl hl (by decide) rfl (fun ls hl => ?_)
  refine lv_iload_n hx hb dX1_balk_20 rfl (lv_at hl 0 rfl) ?_
  refine lv_iconst (v := (4 : Int32)) hx hb dX1_balk_21 (by decide) ?_
  refine lv_icmp_ne (tgt := 31) hx hb dX1_balk_22 (by decide) (fun c3 => ?_) (fun c3 => ?_)
  · have hw := hw.2 c3
    refine lv_aload_n hx hb dX1_balk_31 rfl (lv_at hl 1 rfl) ?_
    refine X_get17 hx hb hts hown hK hM 1 (v := .ref (ad 31)) (by decide) (hts _ q725) rfl dX1_balk_32 ?_
    refine X_get31N hx hb hts hown hK hM 5 (v := .ref (ad 25)) (by decide) (hZ.2.1.nF 26 rfl) rfl dX1_balk_35 ?_
    refine lv_iload_n hx hb dX1_balk_38 rfl (lv_at hl 0 rfl) ?_
    refine lv_iload_n hx hb dX1_balk_39 rfl (lv_at hl 2 rfl) ?_
    obtain ⟨hv4, hw⟩ := hw
    refine X_iast hx hb hK hM hJ hA hS 25 rfl (j := (ix (h 30 0))) rfl hv4 dX1_balk_40 (fun H locs hM hS => ?_)
    obtain ⟨h5, eh5⟩ : ∃ y : Mem, y = up2 h 25 (ix (h 30 0)) a1 := ⟨_, rfl⟩
    rw [← eh5] at hM
    have hw := hw h5 eh5
    refine lv_aload_n hx hb dX1_balk_41 rfl (lv_at hl 1 rfl) ?_
    refine X_get17 hx hb hts hown hK hM 1 (v := .ref (ad 31)) (by decide) (hts _ q725) rfl dX1_balk_42 ?_
    refine X_get31N hx hb hts hown hK hM 6 (v := .ref (ad 26)) (by decide) (hZ.2.1.nF 27 rfl) rfl dX1_balk_45 ?_
    refine lv_iload_n hx hb dX1_balk_48 rfl (lv_at hl 0 rfl) ?_
    refine lv_iload_n hx hb dX1_balk_49 rfl (lv_at hl 3 rfl) ?_
    obtain ⟨hv6, hw⟩ := hw
    refine X_iast hx hb hK hM hJ hA hS 26 rfl (j := (ix (h 30 0))) rfl hv6 dX1_balk_50 (fun H locs hM hS => ?_)
    obtain ⟨h7, eh7⟩ : ∃ y : Mem, y = up2 h5 26 (ix (h 30 0)) a2 := ⟨_, rfl⟩
    rw [← eh7] at hM
    have hw := hw h7 eh7
    refine lv_aload_n hx hb dX1_balk_51 rfl (lv_at hl 1 rfl) ?_
    refine X_get17 hx hb hts hown hK hM 1 (v := .ref (ad 31)) (by decide) (hts _ q725) rfl dX1_balk_52 ?_
    refine lv_dup hx hb dX1_balk_55 rfl ?_
    refine X_get31N hx hb hts hown hK hM 10 (v := .int (h7 30 0)) (by decide) (hZ.2.1.nF 8 rfl) rfl dX1_balk_56 ?_
    refine lv_iconst (v := (1 : Int32)) hx hb dX1_balk_59 (by decide) ?_
    refine lv_iadd hx hb dX1_balk_60 ?_
    refine X_put30N hx hb hts hown hK hM hJ hA hS (hZ.2.1.nF 8 rfl) .int (by decide +kernel) rfl rfl dX1_balk_61 (fun H locs hM hS => ?_)
    obtain ⟨h8, eh8⟩ : ∃ y : Mem, y = up2 h7 30 0 ((h7 30 0) + (1 : Int32)) := ⟨_, rfl⟩
    rw [← eh8] at hM
    have hw := hw h8 eh8
    refine lv_aload_n hx hb dX1_balk_64 rfl (lv_at hl 1 rfl) ?_
    refine X_get17 hx hb hts hown hK hM 1 (v := .ref (ad 31)) (by decide) (hts _ q725) rfl dX1_balk_65 ?_
    refine X_get31N hx hb hts hown hK hM 10 (v := .int (h8 30 0)) (by decide) (hZ.2.1.nF 8 rfl) rfl dX1_balk_68 ?_
    exact XT_iret hx hb hr hlocks hM hS hw (Nat.le_of_ble_eq_true rfl) (Nat.le_of_ble_eq_true rfl) dX1_balk_71
  · have hw := hw.1 c3
    refine lv_aload_n hx hb dX1_balk_25 rfl (lv_at hl 1 rfl) ?_
    refine lv_iconst (v := (2 : Int32)) hx hb dX1_balk_26 (by decide) ?_
    refine XX_callI (As := [.int (2 : Int32)]) (rest := []) ⟨hx, hb, hml, hown, hts⟩ hK hZ (hT.at hS hNA) hN hA hBz hM hJ hS (metX1_refuses l D cA z0 E tw N ad h T (2 : Int32) _ hw) (cwV 1 hts (lw_V q803 q805 qs7 q104 q806) rfl rfl rfl (by decide +kernel) ⟨Nat.le_of_ble_eq_true rfl, Nat.le_of_ble_eq_true rfl⟩) rfl hl.1 rfl (Nat.le_of_ble_eq_true rfl) dX1_balk_27 ⟨Nat.le_of_ble_eq_true rfl, Nat.le_of_ble_eq_true rfl⟩ (fun r10 h9 H locs hw hM hS => ?_)
    exact XT_iret hx hb hr hlocks hM hS hw (Nat.le_of_ble_eq_true rfl) (Nat.le_of_ble_eq_true rfl) dX1_balk_30

/-- StrangeKnives.slice(III)I -/
def wpBX1_slice_33 (post : Int32 → Mem → Prop) (T : TT) (px : Nat → Prop) (a1 : Int32) (a2 : Int32) (a3 : Int32)  (h : Mem) (x4 : Nat) (s0 : Int32) : Prop :=
  ((¬ s0 = 0 → (wpX1_shares (fun r6 h5 => ((a3 = (-1 : Int32) → post r6 h5) ∧ (¬ a3 = (-1 : Int32) → (vp_in a3 (Xlen 10) ∧ post (h5 10 (ix a3)) h5)))) h T a1 x4)) ∧ (s0 = 0 → px 0))
def wpBX1_slice_32 (post : Int32 → Mem → Prop) (T : TT) (px : Nat → Prop) (a1 : Int32) (a2 : Int32) (a3 : Int32)  (h : Mem) (x4 : Nat)  : Prop :=
  wpBX1_slice_33 post T px a1 a2 a3  h x4 (0 : Int32)
def wpX1_slice (post : Int32 → Mem → Prop) (h : Mem) (T : TT) (px : Nat → Prop) (a1 : Int32) (a2 : Int32) (a3 : Int32) : Prop :=
  ((∀ p1 : Nat, p1 < T 0 0 → a1 = nI p1 → ((∀ b2 : Nat, b2 < T 0 1 → a2 = nI b2 → ((a3 < (-1 : Int32) → wpBX1_slice_32 post T px a1 a2 a3  h b2) ∧ (¬ a3 < (-1 : Int32) → wpBX1_slice_33 post T px a1 a2 a3  h b2 (if (nI (T 8 b2)) ≤ a3 then (0 : Int32) else (1 : Int32))))) ∧ ((∀ i : Nat, i < T 0 1 → ¬ a2 = nI i) → px 0))) ∧ ((∀ i : Nat, i < T 0 0 → ¬ a1 = nI i) → px 0))
set_option maxHeartbeats 4000000 in
set_option maxRecDepth 100000 in
theorem metX1_slice (l : Launch) (hlt : l.stackTraces = false) (D : va_G) (cA : Nat → ClassId) (z0 : Nat) (E : Nat → Nat → Nat) (tw : Nat → Nat) (N : Nat → Prop) (ad : Nat → Nat) (sz : Nat) (h : Mem) (T : TT) (px : Nat → Prop) (a1 : Int32) (a2 : Int32) (a3 : Int32) (hn0 : T 0 0 < 2 ^ 31) (hn1 : T 0 1 < 2 ^ 31) (post : Int32 → Mem → Prop) (hw : wpX1_slice post h T px a1 a2 a3) : MeTI l D cA z0 E T tw N ad sz yX1_slice (ws_ yX1_slice cX1_slice 6 (some .int)) ({ frames := 722, cells := 3, slots := 18, locals := 40054 }) [.ref (ad 17), .int a1, .int a2, .int a3] h post px 3 18 := by
  refine vx_ofW (cc := cX1_slice) (maxL := 6) (ret := (some .int)) (by decide) rfl ?_
  intro p e s m args below meth c s₁ B hml het hv
  obtain ⟨rfl, hsz, hM, hJ, hN, hT, hK, hZ⟩ := hv
  have hx := B.exec
  have hb := B.bytes
  have hr := B.returns
  have hts := atoms_spec (ws := ws_ yX1_slice cX1_slice 6 (some .int)) B.pre
  have hts : ∀ w ∈ lw_all, w.before _ s = true := fun w h => hts w (List.mem_cons_of_mem _ h)
  have hown : s.vm.findClass RX1 = some m.cls := findClass_of_methodNamed B.named
  have hlocks := B.notSynchronized
  subst hsz
  have hA : ∀ q, XA ad q → XB ad s.heap.size q := fun _ h => Or.inl h
  have hBz : ∀ q, XB ad s.heap.size q → z0 ≤ q := XB.z hZ hJ
  have hNA : ∀ q, N q → q < s.heap.size → ¬ XB ad s.heap.size q := fun q h h2 h3 => h3.elim (hN q h) (fun h4 => absurd h4 (Nat.not_le.mpr h2))
  have hS : va_S (XB ad s.heap.size) s.heap s.heap [] := va_S.rf
  have hl := lv_entry ([.ref (ad 17), .int a1, .int a2, .int a3]) (n := 6) (Nat.le_of_ble_eq_true rfl)
  rw [lg_entry_eq]
  generalize (lg_sl ([.ref (ad 17), .int a1, .int a2, .int a3]) ++ List.replicate (6 - (lg_sl ([.ref (ad 17), .int a1, .int a2, .int a3])).length) Slot.unset).toArray = ls at hl ⊢
  have hl : lv_has ls 6 [(0, .ref (ad 17)), (1, .int a1), (2, .int a2), (3, .int a3)] := hl
  obtain ⟨h0, eh0⟩ : ∃ y : Mem, y = h := ⟨_, rfl⟩
  rw [← eh0]
  have hB33 : ∀ (x4 : Nat) (hx4 : x4 < T 0 1) (s0 : Int32), wpBX1_slice_33 post T px a1 a2 a3  h x4 s0 → JT p l e (headSpec (ws_ yX1_slice cX1_slice 6 (some .int)) ({ frames := 722, cells := 3, slots := 18, locals := 40054 })).room s m ([.ref (ad 17), .int a1, .int a2, .int a3] : List Value).toArray below meth c (vx_MQ below (XTi D cA tw ad s.heap.size post) (XTx D cA tw ad s.heap.size h0 px) ([.ref (ad 17), .int a1, .int a2, .int a3] : List Value).toArray s 3 18 (XB ad s.heap.size)) D cA tw ad 2 12 6 33 h [(0, .ref (ad 17)), (1, .int a1), (3, .int a3), (4, .ref (tw (200 + x4)))] [.int s0] := by
    intro x4 hx4 s0 hw H locs ls hM hS hl
    unfold wpBX1_slice_33 at hw
    refine XT_there ⟨hx, hb, hml, hown, hts⟩ eh0.symm hlt hZ hJ hM hS het hlocks (a := s0) hw.2 q1394 ⟨Nat.le_of_ble_eq_true rfl, Nat.le_of_ble_eq_true rfl⟩ hl.1 (Nat.le_of_ble_eq_true rfl) dX1_slice_33 ⟨Nat.le_of_ble_eq_true rfl, Nat.le_of_ble_eq_true rfl⟩ (Nat.le_of_ble_eq_true rfl) (Nat.le_of_ble_eq_true rfl) (fun c4 H locs hM hS => ?_)
    have hw := hw.1 c4
    refine lv_aload_n hx hb dX1_slice_36 rfl (lv_at hl 0 rfl) ?_
    refine lv_iload_n hx hb dX1_slice_37 rfl (lv_at hl 1 rfl) ?_
    refine lv_aload hx hb dX1_slice_38 (lv_at hl 3 rfl) ?_
    refine XX_callI (As := [.int a1, .ref (tw (200 + x4))]) (rest := []) ⟨hx, hb, hml, hown, hts⟩ hK hZ (hT.at hS hNA) hN hA hBz hM hJ hS (metX1_shares l D cA z0 E tw N ad h T a1 x4 _ hx4 hw) (cwV 2 hts (lw_V q1501 q1503 qs39 q104 q1504) rfl rfl rfl (by decide +kernel) ⟨Nat.le_of_ble_eq_true rfl, Nat.le_of_ble_eq_true rfl⟩) rfl hl.1 rfl (Nat.le_of_ble_eq_true rfl) dX1_slice_40 ⟨Nat.le_of_ble_eq_true rfl, Nat.le_of_ble_eq_true rfl⟩ (fun r6 h5 H locs hw hM hS => ?_)
    refine lv_istore (lv' := [(5, .int r6), (0, .ref (ad 17)), (1, .int a1), (3, .int a3), (4, .ref (tw (200 + x4)))]) hx hb dX1_slice_43 hl (by decide) rfl (fun ls hl => ?_)
    refine lv_iload_n hx hb dX1_slice_45 rfl (lv_at hl 3 rfl) ?_
    refine lv_iconst (v := (-1 : Int32)) hx hb dX1_slice_46 (by decide) ?_
    refine lv_icmp_ne (tgt := 55) hx hb dX1_slice_47 (by decide) (fun c7 => ?_) (fun c7 => ?_)
    · have hw := hw.2 c7
      refine lv_aload_n hx hb dX1_slice_55 rfl (lv_at hl 1 rfl) ?_
      refine X_get17 hx hb hts hown hK hM 10 (v := .ref (ad 10)) (by decide) (hts _ q734) rfl dX1_slice_56 ?_
      refine lv_iload_n hx hb dX1_slice_59 rfl (lv_at hl 3 rfl) ?_
      obtain ⟨hv8, hw⟩ := hw
      refine X_iald hx hb hK hM 10 rfl (j := (ix a3)) rfl hv8 dX1_slice_60 ?_
      exact XT_iret hx hb hr hlocks hM hS hw (Nat.le_of_ble_eq_true rfl) (Nat.le_of_ble_eq_true rfl) dX1_slice_61
    · have hw := hw.1 c7
      refine lv_iload hx hb dX1_slice_50 (lv_at hl 0 rfl) ?_
      refine lv_goto (tgt := 61) hx hb dX1_slice_52 (by decide) ?_
      exact XT_iret hx hb hr hlocks hM hS hw (Nat.le_of_ble_eq_true rfl) (Nat.le_of_ble_eq_true rfl) dX1_slice_61
  have hB32 : ∀ (x4 : Nat) (hx4 : x4 < T 0 1), wpBX1_slice_32 post T px a1 a2 a3  h x4 → JT p l e (headSpec (ws_ yX1_slice cX1_slice 6 (some .int)) ({ frames := 722, cells := 3, slots := 18, locals := 40054 })).room s m ([.ref (ad 17), .int a1, .int a2, .int a3] : List Value).toArray below meth c (vx_MQ below (XTi D cA tw ad s.heap.size post) (XTx D cA tw ad s.heap.size h0 px) ([.ref (ad 17), .int a1, .int a2, .int a3] : List Value).toArray s 3 18 (XB ad s.heap.size)) D cA tw ad 2 12 6 32 h [(0, .ref (ad 17)), (1, .int a1), (3, .int a3), (4, .ref (tw (200 + x4)))] [] := by
    intro x4 hx4 hw H locs ls hM hS hl
    unfold wpBX1_slice_32 at hw
    refine lv_iconst (v := (0 : Int32)) hx hb dX1_slice_32 (by decide) ?_
    exact hB33 x4 hx4 (0 : Int32) hw _ _ ls hM hS (lv_sub hl [0, 1, 2, 3] rfl)
  unfold wpX1_slice at hw
  refine lv_aload_n hx hb dX1_slice_0 rfl (lv_at hl 0 rfl) ?_
  refine lv_iload_n hx hb dX1_slice_1 rfl (lv_at hl 1 rfl) ?_
  refine XT_pers ⟨hx, hb, hml, hown, hts⟩ eh0.symm hlt hK hZ (hT.at hS hNA) hJ hM hS het hlocks hn0 (a := a1) hw.2 (cwV 1 hts (lw_V q1427 q1429 qs37 q104 q1430) rfl rfl rfl (by decide +kernel) ⟨Nat.le_of_ble_eq_true rfl, Nat.le_of_ble_eq_true rfl⟩) hl.1 (Nat.le_of_ble_eq_true rfl) dX1_slice_2 ⟨Nat.le_of_ble_eq_true rfl, Nat.le_of_ble_eq_true rfl⟩ (Nat.le_of_ble_eq_true rfl) (Nat.le_of_ble_eq_true rfl) (fun p1 hp1 ep1 H locs hM hS => ?_)
  have hw := hw.1 p1 hp1 ep1
  refine lv_pop hx hb dX1_slice_5 rfl ?_
  refine lv_aload_n hx hb dX1_slice_6 rfl (lv_at hl 0 rfl) ?_
  refine lv_iload_n hx hb dX1_slice_7 rfl (lv_at hl 2 rfl) ?_
  refine XT_loaf ⟨hx, hb, hml, hown, hts⟩ eh0.symm hlt hK hZ (hT.at hS hNA) hJ hM hS het hlocks hn1 (a := a2) hw.2 (cwV 1 hts (lw_V q1456 q1458 qs38 q104 q1459) rfl rfl rfl (by decide +kernel) ⟨Nat.le_of_ble_eq_true rfl, Nat.le_of_ble_eq_true rfl⟩) hl.1 (Nat.le_of_ble_eq_true rfl) dX1_slice_8 ⟨Nat.le_of_ble_eq_true rfl, Nat.le_of_ble_eq_true rfl⟩ (Nat.le_of_ble_eq_true rfl) (Nat.le_of_ble_eq_true rfl) (fun b2 hb2 eb2 H locs hM hS => ?_)
  have hw := hw.1 b2 hb2 eb2
  refine lv_astore (lv' := [(4, .ref (tw (200 + b2))), (0, .ref (ad 17)), (1, .int a1), (2, .int a2), (3, .int a3)]) hx hb dX1_slice_11 hl (by decide) rfl (fun ls hl => ?_)
  refine lv_iload_n hx hb dX1_slice_13 rfl (lv_at hl 4 rfl) ?_
  refine lv_iconst (v := (-1 : Int32)) hx hb dX1_slice_14 (by decide) ?_
  refine lv_icmp_lt (tgt := 32) hx hb dX1_slice_15 (by decide) (fun c3 => ?_) (fun c3 => ?_)
  · have hw := hw.1 c3
    exact hB32 b2 hb2 hw _ _ ls hM hS (lv_sub hl [1, 2, 4, 0] rfl)
  · have hw := hw.2 c3
    refine lv_iload_n hx hb dX1_slice_18 rfl (lv_at hl 4 rfl) ?_
    refine lv_aload hx hb dX1_slice_19 (lv_at hl 0 rfl) ?_
    refine L_fldN hx hb hts hown hK (hT.at hS hNA) b2 hb2 4 (v := .ref (tw (300 + b2))) (by decide) (hZ.2.1.nF 20 rfl) rfl dX1_slice_21 ?_
    refine L_alen hx hb hK (hT.at hS hNA) b2 hb2 dX1_slice_24 ?_
    have hj9 : JT p l e (headSpec (ws_ yX1_slice cX1_slice 6 (some .int)) ({ frames := 722, cells := 3, slots := 18, locals := 40054 })).room s m ([.ref (ad 17), .int a1, .int a2, .int a3] : List Value).toArray below meth c (vx_MQ below (XTi D cA tw ad s.heap.size post) (XTx D cA tw ad s.heap.size h0 px) ([.ref (ad 17), .int a1, .int a2, .int a3] : List Value).toArray s 3 18 (XB ad s.heap.size)) D cA tw ad 2 12 6 33 h [(0, .ref (ad 17)), (1, .int a1), (3, .int a3), (4, .ref (tw (200 + b2)))] [.int (if (nI (T 8 b2)) ≤ a3 then (0 : Int32) else (1 : Int32))] := by
      intro H locs ls hM hS hl
      exact hB33 b2 hb2 (if (nI (T 8 b2)) ≤ a3 then (0 : Int32) else (1 : Int32)) hw _ _ ls hM hS (lv_sub hl [0, 1, 2, 3] rfl)
    refine lv_icmp_ge (tgt := 32) hx hb dX1_slice_25 (by decide) (fun c10 => ?_) (fun c10 => ?_)
    · refine lv_iconst (v := (0 : Int32)) hx hb dX1_slice_32 (by decide) ?_
      have e11 : (if (nI (T 8 b2)) ≤ a3 then (0 : Int32) else (1 : Int32)) = (0 : Int32) := by rw [if_pos c10]
      rw [e11] at hj9
      exact hj9 _ _ ls hM hS (lv_sub hl [1, 2, 4, 0] rfl)
    · refine lv_iconst (v := (1 : Int32)) hx hb dX1_slice_28 (by decide) ?_
      refine lv_goto (tgt := 33) hx hb dX1_slice_29 (by decide) ?_
      have e12 : (if (nI (T 8 b2)) ≤ a3 then (0 : Int32) else (1 : Int32)) = (1 : Int32) := by rw [if_neg c10]
      rw [e12] at hj9
      exact hj9 _ _ ls hM hS (lv_sub hl [1, 2, 4, 0] rfl)

/-- StrangeKnives.fairest(II)I -/
def wpBX1_fairest_99 (post : Int32 → Mem → Prop) (T : TT) (px : Nat → Prop) (a1 : Int32) (a2 : Int32) (K51 : Mem → Int32 → Int32 → Int32 → Prop) (h : Mem) (x3 : Nat) (x4 : Int32) (x5 : Int32) (x6 : Int32) (x7 : Int32) (s0 : Int32) : Prop :=
  K51 h (if x5 = (-1 : Int32) then x7 else (if x6 < s0 then x7 else x5)) (if x5 = (-1 : Int32) then s0 else (if x6 < s0 then s0 else x6)) (x7 + (1 : Int32))
def wpBX1_fairest_51 (post : Int32 → Mem → Prop) (T : TT) (px : Nat → Prop) (a1 : Int32) (a2 : Int32)  (K51 : Mem → Int32 → Int32 → Int32 → Prop) (x3 : Nat) (x4 : Int32) (h : Mem) (x5 : Int32) (x6 : Int32) (x7 : Int32) : Prop :=
  (wpX1_people (fun r5 => ((r5 ≤ x7 → post x5 h) ∧ (¬ r5 ≤ x7 → ((((x4 >>> (x7 &&& 31)) &&& (1 : Int32)) = 0 → K51 h x5 x6 (x7 + (1 : Int32))) ∧ (¬ ((x4 >>> (x7 &&& 31)) &&& (1 : Int32)) = 0 → (wpX1_unfair (fun r9 h8 => ((a2 = (-1 : Int32) → wpBX1_fairest_99 post T px a1 a2 K51 h8 x3 x4 x5 x6 x7 (-r9)) ∧ (¬ a2 = (-1 : Int32) → (vp_in a2 (Xlen 10) ∧ wpBX1_fairest_99 post T px a1 a2 K51 h8 x3 x4 x5 x6 x7 (h8 10 (ix a2)))))) h T x7 x3)))))) h T )
def wpLX1_fairest_51 (post : Int32 → Mem → Prop) (T : TT) (px : Nat → Prop) (a1 : Int32) (a2 : Int32)  (x3 : Nat) (x4 : Int32) : Nat → (Mem × Int32 × Int32 × Int32) → Prop := LW (fun K s => wpBX1_fairest_51 post T px a1 a2  (fun h x5 x6 x7 => K (h, x5, x6, x7)) x3 x4 s.1 s.2.1 s.2.2.1 s.2.2.2)
def wpBX1_fairest_25 (post : Int32 → Mem → Prop) (T : TT) (px : Nat → Prop) (a1 : Int32) (a2 : Int32)  (h : Mem) (x3 : Nat) (s0 : Int32) : Prop :=
  ((¬ s0 = 0 → (wpX6_whoCan (fun r4 => (∃ n, wpLX1_fairest_51 post T px a1 a2  x3 r4 n (h, (-1 : Int32), (0 : Int32), (0 : Int32)))) (sub h 40) T a1)) ∧ (s0 = 0 → px 0))
def wpBX1_fairest_24 (post : Int32 → Mem → Prop) (T : TT) (px : Nat → Prop) (a1 : Int32) (a2 : Int32)  (h : Mem) (x3 : Nat)  : Prop :=
  wpBX1_fairest_25 post T px a1 a2  h x3 (0 : Int32)
def wpX1_fairest (post : Int32 → Mem → Prop) (h : Mem) (T : TT) (px : Nat → Prop) (a1 : Int32) (a2 : Int32) : Prop :=
  ((∀ b1 : Nat, b1 < T 0 1 → a1 = nI b1 → ((a2 < (-1 : Int32) → wpBX1_fairest_24 post T px a1 a2  h b1) ∧ (¬ a2 < (-1 : Int32) → wpBX1_fairest_25 post T px a1 a2  h b1 (if (nI (T 8 b1)) ≤ a2 then (0 : Int32) else (1 : Int32))))) ∧ ((∀ i : Nat, i < T 0 1 → ¬ a1 = nI i) → px 0))
set_option maxHeartbeats 4000000 in
set_option maxRecDepth 100000 in
theorem metX1_fairest (l : Launch) (hlt : l.stackTraces = false) (D : va_G) (cA : Nat → ClassId) (z0 : Nat) (E : Nat → Nat → Nat) (tw : Nat → Nat) (N : Nat → Prop) (ad : Nat → Nat) (sz : Nat) (h : Mem) (T : TT) (px : Nat → Prop) (a1 : Int32) (a2 : Int32) (hn0 : T 0 0 < 2 ^ 31) (hn1 : T 0 1 < 2 ^ 31) (post : Int32 → Mem → Prop) (hw : wpX1_fairest post h T px a1 a2) : MeTI l D cA z0 E T tw N ad sz yX1_fairest (ws_ yX1_fairest cX1_fairest 10 (some .int)) ({ frames := 723, cells := 2, slots := 12, locals := 40079 }) [.ref (ad 17), .int a1, .int a2] h post px 2 12 := by
  refine vx_ofW (cc := cX1_fairest) (maxL := 10) (ret := (some .int)) (by decide) rfl ?_
  intro p e s m args below meth c s₁ B hml het hv
  obtain ⟨rfl, hsz, hM, hJ, hN, hT, hK, hZ⟩ := hv
  have hx := B.exec
  have hb := B.bytes
  have hr := B.returns
  have hts := atoms_spec (ws := ws_ yX1_fairest cX1_fairest 10 (some .int)) B.pre
  have hts : ∀ w ∈ lw_all, w.before _ s = true := fun w h => hts w (List.mem_cons_of_mem _ h)
  have hown : s.vm.findClass RX1 = some m.cls := findClass_of_methodNamed B.named
  have hlocks := B.notSynchronized
  subst hsz
  have hA : ∀ q, XA ad q → XB ad s.heap.size q := fun _ h => Or.inl h
  have hBz : ∀ q, XB ad s.heap.size q → z0 ≤ q := XB.z hZ hJ
  have hNA : ∀ q, N q → q < s.heap.size → ¬ XB ad s.heap.size q := fun q h h2 h3 => h3.elim (hN q h) (fun h4 => absurd h4 (Nat.not_le.mpr h2))
  have hS : va_S (XB ad s.heap.size) s.heap s.heap [] := va_S.rf
  have hl := lv_entry ([.ref (ad 17), .int a1, .int a2]) (n := 10) (Nat.le_of_ble_eq_true rfl)
  rw [lg_entry_eq]
  generalize (lg_sl ([.ref (ad 17), .int a1, .int a2]) ++ List.replicate (10 - (lg_sl ([.ref (ad 17), .int a1, .int a2])).length) Slot.unset).toArray = ls at hl ⊢
  have hl : lv_has ls 10 [(0, .ref (ad 17)), (1, .int a1), (2, .int a2)] := hl
  obtain ⟨h0, eh0⟩ : ∃ y : Mem, y = h := ⟨_, rfl⟩
  rw [← eh0]
  have hL51 : ∀ (x3 : Nat) (hx3 : x3 < T 0 1) (x4 : Int32) (n51 : Nat) (h : Mem) (x5 : Int32) (x6 : Int32) (x7 : Int32), wpLX1_fairest_51 post T px a1 a2  x3 x4 n51 (h, x5, x6, x7) → JT p l e (headSpec (ws_ yX1_fairest cX1_fairest 10 (some .int)) ({ frames := 723, cells := 2, slots := 12, locals := 40079 })).room s m ([.ref (ad 17), .int a1, .int a2] : List Value).toArray below meth c (vx_MQ below (XTi D cA tw ad s.heap.size post) (XTx D cA tw ad s.heap.size h0 px) ([.ref (ad 17), .int a1, .int a2] : List Value).toArray s 2 12 (XB ad s.heap.size)) D cA tw ad 2 12 10 51 h [(0, .ref (ad 17)), (2, .int a2), (3, .ref (tw (200 + x3))), (4, .int x4), (5, .int x5), (6, .int x6), (7, .int x7)] [] := by
    intro x3 hx3 x4 n51
    induction n51 with
    | zero => intro h x5 x6 x7 hw; exact False.elim hw
    | succ n51 ih51 =>
      have hB99 : ∀ (h : Mem) (x5 : Int32) (x6 : Int32) (x7 : Int32) (s0 : Int32), wpBX1_fairest_99 post T px a1 a2 (fun h x5 x6 x7 => wpLX1_fairest_51 post T px a1 a2  x3 x4 n51 (h, x5, x6, x7)) h x3 x4 x5 x6 x7 s0 → JT p l e (headSpec (ws_ yX1_fairest cX1_fairest 10 (some .int)) ({ frames := 723, cells := 2, slots := 12, locals := 40079 })).room s m ([.ref (ad 17), .int a1, .int a2] : List Value).toArray below meth c (vx_MQ below (XTi D cA tw ad s.heap.size post) (XTx D cA tw ad s.heap.size h0 px) ([.ref (ad 17), .int a1, .int a2] : List Value).toArray s 2 12 (XB ad s.heap.size)) D cA tw ad 2 12 10 99 h [(0, .ref (ad 17)), (2, .int a2), (3, .ref (tw (200 + x3))), (4, .int x4), (5, .int x5), (6, .int x6), (7, .int x7)] [.int s0] := by
        intro h x5 x6 x7 s0 hw H locs ls hM hS hl
        unfold wpBX1_fairest_99 at hw
        refine lv_istore (lv' := [(9, .int s0), (0, .ref (ad 17)), (2, .int a2), (3, .ref (tw (200 + x3))), (4, .int x4), (5, .int x5), (6, .int x6), (7, .int x7)]) hx hb dX1_fairest_99 hl (by decide) rfl (fun ls hl => ?_)
        refine lv_iload hx hb dX1_fairest_101 (lv_at hl 5 rfl) ?_
        refine lv_iconst (v := (-1 : Int32)) hx hb dX1_fairest_103 (by decide) ?_
        have hj12 : JT p l e (headSpec (ws_ yX1_fairest cX1_fairest 10 (some .int)) ({ frames := 723, cells := 2, slots := 12, locals := 40079 })).room s m ([.ref (ad 17), .int a1, .int a2] : List Value).toArray below meth c (vx_MQ below (XTi D cA tw ad s.heap.size post) (XTx D cA tw ad s.heap.size h0 px) ([.ref (ad 17), .int a1, .int a2] : List Value).toArray s 2 12 (XB ad s.heap.size)) D cA tw ad 2 12 10 125 h [(0, .ref (ad 17)), (2, .int a2), (3, .ref (tw (200 + x3))), (4, .int x4), (5, .int (if x5 = (-1 : Int32) then x7 else (if x6 < s0 then x7 else x5))), (6, .int (if x5 = (-1 : Int32) then s0 else (if x6 < s0 then s0 else x6))), (7, .int x7)] [] := by
          intro H locs ls hM hS hl
          refine lv_iinc (v := (x7 + (1 : Int32))) (lv' := [(7, .int (x7 + (1 : Int32))), (0, .ref (ad 17)), (2, .int a2), (3, .ref (tw (200 + x3))), (4, .int x4), (5, .int (if x5 = (-1 : Int32) then x7 else (if x6 < s0 then x7 else x5))), (6, .int (if x5 = (-1 : Int32) then s0 else (if x6 < s0 then s0 else x6)))]) hx hb dX1_fairest_125 hl (k := 6) rfl rfl (by decide) rfl (fun ls hl => ?_)
          refine lv_goto (tgt := 51) hx hb dX1_fairest_128 (by decide) ?_
          exact ih51 h (if x5 = (-1 : Int32) then x7 else (if x6 < s0 then x7 else x5)) (if x5 = (-1 : Int32) then s0 else (if x6 < s0 then s0 else x6)) (x7 + (1 : Int32)) hw _ _ ls hM hS (lv_sub hl [1, 2, 3, 4, 5, 6, 0] rfl)
        refine lv_icmp_eq (tgt := 117) hx hb dX1_fairest_104 (by decide) (fun c13 => ?_) (fun c13 => ?_)
        · refine lv_iload hx hb dX1_fairest_117 (lv_at hl 7 rfl) ?_
          refine lv_istore (lv' := [(5, .int x7), (9, .int s0), (0, .ref (ad 17)), (2, .int a2), (3, .ref (tw (200 + x3))), (4, .int x4), (6, .int x6), (7, .int x7)]) hx hb dX1_fairest_119 hl (by decide) rfl (fun ls hl => ?_)
          refine lv_iload hx hb dX1_fairest_121 (lv_at hl 1 rfl) ?_
          refine lv_istore (lv' := [(6, .int s0), (5, .int x7), (9, .int s0), (0, .ref (ad 17)), (2, .int a2), (3, .ref (tw (200 + x3))), (4, .int x4), (7, .int x7)]) hx hb dX1_fairest_123 hl (by decide) rfl (fun ls hl => ?_)
          have e14 : (if x5 = (-1 : Int32) then x7 else (if x6 < s0 then x7 else x5)) = x7 := by rw [if_pos c13]
          rw [e14] at hj12
          have e15 : (if x5 = (-1 : Int32) then s0 else (if x6 < s0 then s0 else x6)) = s0 := by rw [if_pos c13]
          rw [e15] at hj12
          exact hj12 _ _ ls hM hS (lv_sub hl [3, 4, 5, 6, 1, 0, 7] rfl)
        · refine lv_iload hx hb dX1_fairest_107 (lv_at hl 0 rfl) ?_
          refine lv_iload hx hb dX1_fairest_109 (lv_at hl 6 rfl) ?_
          refine lv_icmp_gt (tgt := 117) hx hb dX1_fairest_111 (by decide) (fun c16 => ?_) (fun c16 => ?_)
          · refine lv_iload hx hb dX1_fairest_117 (lv_at hl 7 rfl) ?_
            refine lv_istore (lv' := [(5, .int x7), (9, .int s0), (0, .ref (ad 17)), (2, .int a2), (3, .ref (tw (200 + x3))), (4, .int x4), (6, .int x6), (7, .int x7)]) hx hb dX1_fairest_119 hl (by decide) rfl (fun ls hl => ?_)
            refine lv_iload hx hb dX1_fairest_121 (lv_at hl 1 rfl) ?_
            refine lv_istore (lv' := [(6, .int s0), (5, .int x7), (9, .int s0), (0, .ref (ad 17)), (2, .int a2), (3, .ref (tw (200 + x3))), (4, .int x4), (7, .int x7)]) hx hb dX1_fairest_123 hl (by decide) rfl (fun ls hl => ?_)
            have e17 : (if x5 = (-1 : Int32) then x7 else (if x6 < s0 then x7 else x5)) = x7 := by rw [if_neg c13, if_pos c16]
            rw [e17] at hj12
            have e18 : (if x5 = (-1 : Int32) then s0 else (if x6 < s0 then s0 else x6)) = s0 := by rw [if_neg c13, if_pos c16]
            rw [e18] at hj12
            exact hj12 _ _ ls hM hS (lv_sub hl [3, 4, 5, 6, 1, 0, 7] rfl)
          · refine lv_goto (tgt := 125) hx hb dX1_fairest_114 (by decide) ?_
            have e19 : (if x5 = (-1 : Int32) then x7 else (if x6 < s0 then x7 else x5)) = x5 := by rw [if_neg c13, if_neg c16]
            rw [e19] at hj12
            have e20 : (if x5 = (-1 : Int32) then s0 else (if x6 < s0 then s0 else x6)) = x6 := by rw [if_neg c13, if_neg c16]
            rw [e20] at hj12
            exact hj12 _ _ ls hM hS (lv_sub hl [1, 2, 3, 4, 5, 6, 7] rfl)
      intro h x5 x6 x7 hw H locs ls hM hS hl
      have hw : wpBX1_fairest_51 post T px a1 a2  (fun h x5 x6 x7 => wpLX1_fairest_51 post T px a1 a2  x3 x4 n51 (h, x5, x6, x7)) x3 x4 h x5 x6 x7 := hw
      unfold wpBX1_fairest_51 at hw
      refine lv_iload hx hb dX1_fairest_51 (lv_at hl 6 rfl) ?_
      refine lv_aload_n hx hb dX1_fairest_53 rfl (lv_at hl 0 rfl) ?_
      refine RX_callI (As := []) (rest := [.int x7]) ⟨hx, hb, hml, hown, hts⟩ hS hBz hK hZ (hT.at hS hNA) hM (metX1_people l D cA z0 E tw N ad h T  _ hw) (cwV 0 hts (lw_V q792 q794 qs6 q104 q795) rfl rfl rfl (by decide +kernel) ⟨Nat.le_of_ble_eq_true rfl, Nat.le_of_ble_eq_true rfl⟩) rfl hl.1 rfl (Nat.le_of_ble_eq_true rfl) dX1_fairest_54 ⟨Nat.le_of_ble_eq_true rfl, Nat.le_of_ble_eq_true rfl⟩ (fun r5 H locs hw hk hS => ?_)
      have hM := hM.kept hk
      refine lv_icmp_ge (tgt := 131) hx hb dX1_fairest_57 (by decide) (fun c6 => ?_) (fun c6 => ?_)
      · have hw := hw.1 c6
        refine lv_iload hx hb dX1_fairest_131 (lv_at hl 4 rfl) ?_
        exact XT_iret hx hb hr hlocks hM hS hw (Nat.le_of_ble_eq_true rfl) (Nat.le_of_ble_eq_true rfl) dX1_fairest_133
      · have hw := hw.2 c6
        refine lv_iload hx hb dX1_fairest_60 (lv_at hl 3 rfl) ?_
        refine lv_iload hx hb dX1_fairest_62 (lv_at hl 6 rfl) ?_
        refine lv_ishr hx hb dX1_fairest_64 ?_
        refine lv_iconst (v := (1 : Int32)) hx hb dX1_fairest_65 (by decide) ?_
        refine lv_iand hx hb dX1_fairest_66 ?_
        refine lv_if_ne (tgt := 73) hx hb dX1_fairest_67 (by decide) (fun c7 => ?_) (fun c7 => ?_)
        · have hw := hw.2 c7
          refine lv_aload_n hx hb dX1_fairest_73 rfl (lv_at hl 0 rfl) ?_
          refine lv_iload hx hb dX1_fairest_74 (lv_at hl 6 rfl) ?_
          refine lv_aload_n hx hb dX1_fairest_76 rfl (lv_at hl 2 rfl) ?_
          refine XX_callI (As := [.int x7, .ref (tw (200 + x3))]) (rest := []) ⟨hx, hb, hml, hown, hts⟩ hK hZ (hT.at hS hNA) hN hA hBz hM hJ hS (metX1_unfair l D cA z0 E tw N ad h T x7 x3 _ hx3 hw) (cwV 2 hts (lw_V q1638 q1640 qs41 q104 q1641) rfl rfl rfl (by decide +kernel) ⟨Nat.le_of_ble_eq_true rfl, Nat.le_of_ble_eq_true rfl⟩) rfl hl.1 rfl (Nat.le_of_ble_eq_true rfl) dX1_fairest_77 ⟨Nat.le_of_ble_eq_true rfl, Nat.le_of_ble_eq_true rfl⟩ (fun r9 h8 H locs hw hM hS => ?_)
          refine lv_istore (lv' := [(8, .int r9), (0, .ref (ad 17)), (2, .int a2), (3, .ref (tw (200 + x3))), (4, .int x4), (5, .int x5), (6, .int x6), (7, .int x7)]) hx hb dX1_fairest_80 hl (by decide) rfl (fun ls hl => ?_)
          refine lv_iload_n hx hb dX1_fairest_82 rfl (lv_at hl 2 rfl) ?_
          refine lv_iconst (v := (-1 : Int32)) hx hb dX1_fairest_83 (by decide) ?_
          refine lv_icmp_ne (tgt := 93) hx hb dX1_fairest_84 (by decide) (fun c10 => ?_) (fun c10 => ?_)
          · have hw := hw.2 c10
            refine lv_aload_n hx hb dX1_fairest_93 rfl (lv_at hl 1 rfl) ?_
            refine X_get17 hx hb hts hown hK hM 10 (v := .ref (ad 10)) (by decide) (hts _ q734) rfl dX1_fairest_94 ?_
            refine lv_iload_n hx hb dX1_fairest_97 rfl (lv_at hl 2 rfl) ?_
            obtain ⟨hv11, hw⟩ := hw
            refine X_iald hx hb hK hM 10 rfl (j := (ix a2)) rfl hv11 dX1_fairest_98 ?_
            exact hB99 h8 x5 x6 x7 (h8 10 (ix a2)) hw _ _ ls hM hS (lv_sub hl [1, 2, 3, 4, 5, 6, 7] rfl)
          · have hw := hw.1 c10
            refine lv_iload hx hb dX1_fairest_87 (lv_at hl 0 rfl) ?_
            refine lv_ineg hx hb dX1_fairest_89 ?_
            refine lv_goto (tgt := 99) hx hb dX1_fairest_90 (by decide) ?_
            exact hB99 h8 x5 x6 x7 (-r9) hw _ _ ls hM hS (lv_sub hl [1, 2, 3, 4, 5, 6, 7] rfl)
        · have hw := hw.1 c7
          refine lv_goto (tgt := 125) hx hb dX1_fairest_70 (by decide) ?_
          refine lv_iinc (v := (x7 + (1 : Int32))) (lv' := [(7, .int (x7 + (1 : Int32))), (0, .ref (ad 17)), (2, .int a2), (3, .ref (tw (200 + x3))), (4, .int x4), (5, .int x5), (6, .int x6)]) hx hb dX1_fairest_125 hl (k := 6) rfl rfl (by decide) rfl (fun ls hl => ?_)
          refine lv_goto (tgt := 51) hx hb dX1_fairest_128 (by decide) ?_
          exact ih51 h x5 x6 (x7 + (1 : Int32)) hw _ _ ls hM hS (lv_sub hl [1, 2, 3, 4, 5, 6, 0] rfl)
  have hB25 : ∀ (x3 : Nat) (hx3 : x3 < T 0 1) (s0 : Int32), wpBX1_fairest_25 post T px a1 a2  h x3 s0 → JT p l e (headSpec (ws_ yX1_fairest cX1_fairest 10 (some .int)) ({ frames := 723, cells := 2, slots := 12, locals := 40079 })).room s m ([.ref (ad 17), .int a1, .int a2] : List Value).toArray below meth c (vx_MQ below (XTi D cA tw ad s.heap.size post) (XTx D cA tw ad s.heap.size h0 px) ([.ref (ad 17), .int a1, .int a2] : List Value).toArray s 2 12 (XB ad s.heap.size)) D cA tw ad 1 6 10 25 h [(0, .ref (ad 17)), (1, .int a1), (2, .int a2), (3, .ref (tw (200 + x3)))] [.int s0] := by
    intro x3 hx3 s0 hw H locs ls hM hS hl
    unfold wpBX1_fairest_25 at hw
    refine XT_there ⟨hx, hb, hml, hown, hts⟩ eh0.symm hlt hZ hJ hM hS het hlocks (a := s0) hw.2 q1394 ⟨Nat.le_of_ble_eq_true rfl, Nat.le_of_ble_eq_true rfl⟩ hl.1 (Nat.le_of_ble_eq_true rfl) dX1_fairest_25 ⟨Nat.le_of_ble_eq_true rfl, Nat.le_of_ble_eq_true rfl⟩ (Nat.le_of_ble_eq_true rfl) (Nat.le_of_ble_eq_true rfl) (fun c3 H locs hM hS => ?_)
    have hw := hw.1 c3
    refine lv_aload_n hx hb dX1_fairest_28 rfl (lv_at hl 0 rfl) ?_
    refine X_get17 hx hb hts hown hK hM 3 (v := .ref (ad 45)) (by decide) (hts _ q727) rfl dX1_fairest_29 ?_
    refine lv_aload_n hx hb dX1_fairest_32 rfl (lv_at hl 0 rfl) ?_
    refine X_get17 hx hb hts hown hK hM 0 (v := .ref (tw 9)) (by decide) (hts _ q724) rfl dX1_fairest_33 ?_
    refine lv_iload_n hx hb dX1_fairest_36 rfl (lv_at hl 1 rfl) ?_
    refine RS_callI (As := [.ref (tw 9), .int a1]) (rest := []) (sa := (shf ad 40)) (h := (sub h 40)) ⟨hx, hb, hml, hown, hts⟩ hS hBz hK hZ (hT.at hS hNA) hM.now (metX6_whoCan l D cA z0 E tw N (ad 70) (shf ad 40) (sub h 40) T a1 _ hw) (cwV 2 hts (lw_V q897 q898 q899 q129 q900) rfl rfl rfl (by decide +kernel) ⟨Nat.le_of_ble_eq_true rfl, Nat.le_of_ble_eq_true rfl⟩) rfl hl.1 rfl (Nat.le_of_ble_eq_true rfl) dX1_fairest_37 ⟨Nat.le_of_ble_eq_true rfl, Nat.le_of_ble_eq_true rfl⟩ (fun r4 H locs hw hk hS => ?_)
    have hM := hM.kept hk
    refine lv_istore (lv' := [(4, .int r4), (0, .ref (ad 17)), (1, .int a1), (2, .int a2), (3, .ref (tw (200 + x3)))]) hx hb dX1_fairest_40 hl (by decide) rfl (fun ls hl => ?_)
    refine lv_iconst (v := (-1 : Int32)) hx hb dX1_fairest_42 (by decide) ?_
    refine lv_istore (lv' := [(5, .int (-1 : Int32)), (4, .int r4), (0, .ref (ad 17)), (1, .int a1), (2, .int a2), (3, .ref (tw (200 + x3)))]) hx hb dX1_fairest_43 hl (by decide) rfl (fun ls hl => ?_)
    refine lv_iconst (v := (0 : Int32)) hx hb dX1_fairest_45 (by decide) ?_
    refine lv_istore (lv' := [(6, .int (0 : Int32)), (5, .int (-1 : Int32)), (4, .int r4), (0, .ref (ad 17)), (1, .int a1), (2, .int a2), (3, .ref (tw (200 + x3)))]) hx hb dX1_fairest_46 hl (by decide) rfl (fun ls hl => ?_)
    refine lv_iconst (v := (0 : Int32)) hx hb dX1_fairest_48 (by decide) ?_
    refine lv_istore (lv' := [(7, .int (0 : Int32)), (6, .int (0 : Int32)), (5, .int (-1 : Int32)), (4, .int r4), (0, .ref (ad 17)), (1, .int a1), (2, .int a2), (3, .ref (tw (200 + x3)))]) hx hb dX1_fairest_49 hl (by decide) rfl (fun ls hl => ?_)
    obtain ⟨n21, hw⟩ := hw
    exact hL51 x3 hx3 r4 n21 h (-1 : Int32) (0 : Int32) (0 : Int32) hw _ _ ls hM hS (lv_sub hl [4, 6, 7, 3, 2, 1, 0] rfl)
  have hB24 : ∀ (x3 : Nat) (hx3 : x3 < T 0 1), wpBX1_fairest_24 post T px a1 a2  h x3 → JT p l e (headSpec (ws_ yX1_fairest cX1_fairest 10 (some .int)) ({ frames := 723, cells := 2, slots := 12, locals := 40079 })).room s m ([.ref (ad 17), .int a1, .int a2] : List Value).toArray below meth c (vx_MQ below (XTi D cA tw ad s.heap.size post) (XTx D cA tw ad s.heap.size h0 px) ([.ref (ad 17), .int a1, .int a2] : List Value).toArray s 2 12 (XB ad s.heap.size)) D cA tw ad 1 6 10 24 h [(0, .ref (ad 17)), (1, .int a1), (2, .int a2), (3, .ref (tw (200 + x3)))] [] := by
    intro x3 hx3 hw H locs ls hM hS hl
    unfold wpBX1_fairest_24 at hw
    refine lv_iconst (v := (0 : Int32)) hx hb dX1_fairest_24 (by decide) ?_
    exact hB25 x3 hx3 (0 : Int32) hw _ _ ls hM hS (lv_sub hl [0, 1, 2, 3] rfl)
  unfold wpX1_fairest at hw
  refine lv_aload_n hx hb dX1_fairest_0 rfl (lv_at hl 0 rfl) ?_
  refine lv_iload_n hx hb dX1_fairest_1 rfl (lv_at hl 1 rfl) ?_
  refine XT_loaf ⟨hx, hb, hml, hown, hts⟩ eh0.symm hlt hK hZ (hT.at hS hNA) hJ hM hS het hlocks hn1 (a := a1) hw.2 (cwV 1 hts (lw_V q1456 q1458 qs38 q104 q1459) rfl rfl rfl (by decide +kernel) ⟨Nat.le_of_ble_eq_true rfl, Nat.le_of_ble_eq_true rfl⟩) hl.1 (Nat.le_of_ble_eq_true rfl) dX1_fairest_2 ⟨Nat.le_of_ble_eq_true rfl, Nat.le_of_ble_eq_true rfl⟩ (Nat.le_of_ble_eq_true rfl) (Nat.le_of_ble_eq_true rfl) (fun b1 hb1 eb1 H locs hM hS => ?_)
  have hw := hw.1 b1 hb1 eb1
  refine lv_astore_n (lv' := [(3, .ref (tw (200 + b1))), (0, .ref (ad 17)), (1, .int a1), (2, .int a2)]) hx hb dX1_fairest_5 rfl hl (by decide) rfl (fun ls hl => ?_)
  refine lv_iload_n hx hb dX1_fairest_6 rfl (lv_at hl 3 rfl) ?_
  refine lv_iconst (v := (-1 : Int32)) hx hb dX1_fairest_7 (by decide) ?_
  refine lv_icmp_lt (tgt := 24) hx hb dX1_fairest_8 (by decide) (fun c2 => ?_) (fun c2 => ?_)
  · have hw := hw.1 c2
    exact hB24 b1 hb1 hw _ _ ls hM hS (lv_sub hl [1, 2, 3, 0] rfl)
  · have hw := hw.2 c2
    refine lv_iload_n hx hb dX1_fairest_11 rfl (lv_at hl 3 rfl) ?_
    refine lv_aload_n hx hb dX1_fairest_12 rfl (lv_at hl 0 rfl) ?_
    refine L_fldN hx hb hts hown hK (hT.at hS hNA) b1 hb1 4 (v := .ref (tw (300 + b1))) (by decide) (hZ.2.1.nF 20 rfl) rfl dX1_fairest_13 ?_
    refine L_alen hx hb hK (hT.at hS hNA) b1 hb1 dX1_fairest_16 ?_
    have hj22 : JT p l e (headSpec (ws_ yX1_fairest cX1_fairest 10 (some .int)) ({ frames := 723, cells := 2, slots := 12, locals := 40079 })).room s m ([.ref (ad 17), .int a1, .int a2] : List Value).toArray below meth c (vx_MQ below (XTi D cA tw ad s.heap.size post) (XTx D cA tw ad s.heap.size h0 px) ([.ref (ad 17), .int a1, .int a2] : List Value).toArray s 2 12 (XB ad s.heap.size)) D cA tw ad 1 6 10 25 h [(0, .ref (ad 17)), (1, .int a1), (2, .int a2), (3, .ref (tw (200 + b1)))] [.int (if (nI (T 8 b1)) ≤ a2 then (0 : Int32) else (1 : Int32))] := by
      intro H locs ls hM hS hl
      exact hB25 b1 hb1 (if (nI (T 8 b1)) ≤ a2 then (0 : Int32) else (1 : Int32)) hw _ _ ls hM hS (lv_sub hl [0, 1, 2, 3] rfl)
    refine lv_icmp_ge (tgt := 24) hx hb dX1_fairest_17 (by decide) (fun c23 => ?_) (fun c23 => ?_)
    · refine lv_iconst (v := (0 : Int32)) hx hb dX1_fairest_24 (by decide) ?_
      have e24 : (if (nI (T 8 b1)) ≤ a2 then (0 : Int32) else (1 : Int32)) = (0 : Int32) := by rw [if_pos c23]
      rw [e24] at hj22
      exact hj22 _ _ ls hM hS (lv_sub hl [1, 2, 3, 0] rfl)
    · refine lv_iconst (v := (1 : Int32)) hx hb dX1_fairest_20 (by decide) ?_
      refine lv_goto (tgt := 25) hx hb dX1_fairest_21 (by decide) ?_
      have e25 : (if (nI (T 8 b1)) ≤ a2 then (0 : Int32) else (1 : Int32)) = (1 : Int32) := by rw [if_neg c23]
      rw [e25] at hj22
      exact hj22 _ _ ls hM hS (lv_sub hl [1, 2, 3, 0] rfl)

/-- StrangeKnives.who(I)I -/
def wpBX1_who_118 (post : Int32 → Mem → Prop) (T : TT) (px : Nat → Prop) (a1 : Int32) (K11 : Mem → Int32 → Int32 → Prop) (K55 : Int32 → Int32 → Prop) (h : Mem) (x2 : Nat) (x3 : Int32) (x4 : Int32) (x6 : Int32)  : Prop :=
  K55 (0 : Int32) (x6 + (1 : Int32))
def wpBX1_who_114 (post : Int32 → Mem → Prop) (T : TT) (px : Nat → Prop) (a1 : Int32) (K11 : Mem → Int32 → Int32 → Prop) (K55 : Int32 → Int32 → Prop) (h : Mem) (x2 : Nat) (x3 : Int32) (x4 : Int32) (x6 : Int32)  : Prop :=
  K55 (1 : Int32) (x6 + (1 : Int32))
def wpBX1_who_55 (post : Int32 → Mem → Prop) (T : TT) (px : Nat → Prop) (a1 : Int32) (K11 : Mem → Int32 → Int32 → Prop) (K55 : Int32 → Int32 → Prop) (h : Mem) (x2 : Nat) (x3 : Int32) (x4 : Int32) (x5 : Int32) (x6 : Int32) : Prop :=
  (((h 29 0) ≤ x6 → K11 h (if x5 = 0 then x3 else (x3 ||| ((1 : Int32) <<< (x4 &&& 31)))) (x4 + (1 : Int32))) ∧ (¬ (h 29 0) ≤ x6 → ((x5 = 0 → wpBX1_who_118 post T px a1 K11 K55 h x2 x3 x4 x6) ∧ (¬ x5 = 0 → (vp_in x6 (Xlen 22) ∧ (((h 22 (ix x6)) = a1 → (vp_in x6 (Xlen 23) ∧ (vp_in (h 23 (ix x6)) (Xlen 10) ∧ (vp_in x6 (Xlen 24) ∧ K55 (if (h 10 (ix (h 23 (ix x6)))) = (h 24 (ix x6)) then (1 : Int32) else (0 : Int32)) (x6 + (1 : Int32)))))) ∧ (¬ (h 22 (ix x6)) = a1 → wpBX1_who_114 post T px a1 K11 K55 h x2 x3 x4 x6)))))))
def wpLX1_who_55 (post : Int32 → Mem → Prop) (T : TT) (px : Nat → Prop) (a1 : Int32) (K11 : Mem → Int32 → Int32 → Prop) (h : Mem) (x2 : Nat) (x3 : Int32) (x4 : Int32) : Nat → (Int32 × Int32) → Prop := LW (fun K s => wpBX1_who_55 post T px a1 K11 (fun x5 x6 => K (x5, x6)) h x2 x3 x4 s.1 s.2)
def wpBX1_who_11 (post : Int32 → Mem → Prop) (T : TT) (px : Nat → Prop) (a1 : Int32)  (K11 : Mem → Int32 → Int32 → Prop) (x2 : Nat) (h : Mem) (x3 : Int32) (x4 : Int32) : Prop :=
  (wpX1_people (fun r2 => ((r2 ≤ x4 → post x3 h) ∧ (¬ r2 ≤ x4 → (wpX6_why (fun r4 => ((r4 = (1 : Int32) → K11 h x3 (x4 + (1 : Int32))) ∧ (¬ r4 = (1 : Int32) → (wpX1_shares (fun r7 h6 => (∃ n, wpLX1_who_55 post T px a1 K11 h6 x2 x3 x4 n ((1 : Int32), (0 : Int32)))) h T x4 x2)))) (sub h 40) T x4 x2)))) h T )
def wpLX1_who_11 (post : Int32 → Mem → Prop) (T : TT) (px : Nat → Prop) (a1 : Int32)  (x2 : Nat) : Nat → (Mem × Int32 × Int32) → Prop := LW (fun K s => wpBX1_who_11 post T px a1  (fun h x3 x4 => K (h, x3, x4)) x2 s.1 s.2.1 s.2.2)
def wpX1_who (post : Int32 → Mem → Prop) (h : Mem) (T : TT) (px : Nat → Prop) (a1 : Int32) : Prop :=
  ((∀ b1 : Nat, b1 < T 0 1 → a1 = nI b1 → (∃ n, wpLX1_who_11 post T px a1  b1 n (h, (0 : Int32), (0 : Int32)))) ∧ ((∀ i : Nat, i < T 0 1 → ¬ a1 = nI i) → px 0))
set_option maxHeartbeats 4000000 in
set_option maxRecDepth 100000 in
theorem metX1_who (l : Launch) (hlt : l.stackTraces = false) (D : va_G) (cA : Nat → ClassId) (z0 : Nat) (E : Nat → Nat → Nat) (tw : Nat → Nat) (N : Nat → Prop) (ad : Nat → Nat) (sz : Nat) (h : Mem) (T : TT) (px : Nat → Prop) (a1 : Int32) (hn0 : T 0 0 < 2 ^ 31) (hn1 : T 0 1 < 2 ^ 31) (post : Int32 → Mem → Prop) (hw : wpX1_who post h T px a1) : MeTI l D cA z0 E T tw N ad sz yX1_who (ws_ yX1_who cX1_who 7 (some .int)) ({ frames := 722, cells := 1, slots := 6, locals := 40054 }) [.ref (ad 17), .int a1] h post px 1 6 := by
  refine vx_ofW (cc := cX1_who) (maxL := 7) (ret := (some .int)) (by decide) rfl ?_
  intro p e s m args below meth c s₁ B hml het hv
  obtain ⟨rfl, hsz, hM, hJ, hN, hT, hK, hZ⟩ := hv
  have hx := B.exec
  have hb := B.bytes
  have hr := B.returns
  have hts := atoms_spec (ws := ws_ yX1_who cX1_who 7 (some .int)) B.pre
  have hts : ∀ w ∈ lw_all, w.before _ s = true := fun w h => hts w (List.mem_cons_of_mem _ h)
  have hown : s.vm.findClass RX1 = some m.cls := findClass_of_methodNamed B.named
  have hlocks := B.notSynchronized
  subst hsz
  have hA : ∀ q, XA ad q → XB ad s.heap.size q := fun _ h => Or.inl h
  have hBz : ∀ q, XB ad s.heap.size q → z0 ≤ q := XB.z hZ hJ
  have hNA : ∀ q, N q → q < s.heap.size → ¬ XB ad s.heap.size q := fun q h h2 h3 => h3.elim (hN q h) (fun h4 => absurd h4 (Nat.not_le.mpr h2))
  have hS : va_S (XB ad s.heap.size) s.heap s.heap [] := va_S.rf
  have hl := lv_entry ([.ref (ad 17), .int a1]) (n := 7) (Nat.le_of_ble_eq_true rfl)
  rw [lg_entry_eq]
  generalize (lg_sl ([.ref (ad 17), .int a1]) ++ List.replicate (7 - (lg_sl ([.ref (ad 17), .int a1])).length) Slot.unset).toArray = ls at hl ⊢
  have hl : lv_has ls 7 [(0, .ref (ad 17)), (1, .int a1)] := hl
  obtain ⟨h0, eh0⟩ : ∃ y : Mem, y = h := ⟨_, rfl⟩
  rw [← eh0]
  have hL11 : ∀ (x2 : Nat) (hx2 : x2 < T 0 1) (n11 : Nat) (h : Mem) (x3 : Int32) (x4 : Int32), wpLX1_who_11 post T px a1  x2 n11 (h, x3, x4) → JT p l e (headSpec (ws_ yX1_who cX1_who 7 (some .int)) ({ frames := 722, cells := 1, slots := 6, locals := 40054 })).room s m ([.ref (ad 17), .int a1] : List Value).toArray below meth c (vx_MQ below (XTi D cA tw ad s.heap.size post) (XTx D cA tw ad s.heap.size h0 px) ([.ref (ad 17), .int a1] : List Value).toArray s 1 6 (XB ad s.heap.size)) D cA tw ad 1 6 7 11 h [(0, .ref (ad 17)), (1, .int a1), (2, .ref (tw (200 + x2))), (3, .int x3), (4, .int x4)] [] := by
    intro x2 hx2 n11
    induction n11 with
    | zero => intro h x3 x4 hw; exact False.elim hw
    | succ n11 ih11 =>
      have hL55 : ∀ (h : Mem) (x3 : Int32) (x4 : Int32) (n55 : Nat) (x5 : Int32) (x6 : Int32), wpLX1_who_55 post T px a1 (fun h x3 x4 => wpLX1_who_11 post T px a1  x2 n11 (h, x3, x4)) h x2 x3 x4 n55 (x5, x6) → JT p l e (headSpec (ws_ yX1_who cX1_who 7 (some .int)) ({ frames := 722, cells := 1, slots := 6, locals := 40054 })).room s m ([.ref (ad 17), .int a1] : List Value).toArray below meth c (vx_MQ below (XTi D cA tw ad s.heap.size post) (XTx D cA tw ad s.heap.size h0 px) ([.ref (ad 17), .int a1] : List Value).toArray s 1 6 (XB ad s.heap.size)) D cA tw ad 1 6 7 55 h [(0, .ref (ad 17)), (1, .int a1), (2, .ref (tw (200 + x2))), (3, .int x3), (4, .int x4), (5, .int x5), (6, .int x6)] [] := by
        intro h x3 x4 n55
        induction n55 with
        | zero => intro x5 x6 hw; exact False.elim hw
        | succ n55 ih55 =>
          have hB118 : ∀ (x6 : Int32), wpBX1_who_118 post T px a1 (fun h x3 x4 => wpLX1_who_11 post T px a1  x2 n11 (h, x3, x4)) (fun x5 x6 => wpLX1_who_55 post T px a1 (fun h x3 x4 => wpLX1_who_11 post T px a1  x2 n11 (h, x3, x4)) h x2 x3 x4 n55 (x5, x6)) h x2 x3 x4 x6 → JT p l e (headSpec (ws_ yX1_who cX1_who 7 (some .int)) ({ frames := 722, cells := 1, slots := 6, locals := 40054 })).room s m ([.ref (ad 17), .int a1] : List Value).toArray below meth c (vx_MQ below (XTi D cA tw ad s.heap.size post) (XTx D cA tw ad s.heap.size h0 px) ([.ref (ad 17), .int a1] : List Value).toArray s 1 6 (XB ad s.heap.size)) D cA tw ad 1 6 7 118 h [(0, .ref (ad 17)), (1, .int a1), (2, .ref (tw (200 + x2))), (3, .int x3), (4, .int x4), (6, .int x6)] [] := by
            intro x6 hw H locs ls hM hS hl
            unfold wpBX1_who_118 at hw
            refine lv_iconst (v := (0 : Int32)) hx hb dX1_who_118 (by decide) ?_
            refine lv_istore (lv' := [(5, .int (0 : Int32)), (0, .ref (ad 17)), (1, .int a1), (2, .ref (tw (200 + x2))), (3, .int x3), (4, .int x4), (6, .int x6)]) hx hb dX1_who_119 hl (by decide) rfl (fun ls hl => ?_)
            refine lv_iinc (v := (x6 + (1 : Int32))) (lv' := [(6, .int (x6 + (1 : Int32))), (5, .int (0 : Int32)), (0, .ref (ad 17)), (1, .int a1), (2, .ref (tw (200 + x2))), (3, .int x3), (4, .int x4)]) hx hb dX1_who_121 hl (k := 6) rfl rfl (by decide) rfl (fun ls hl => ?_)
            refine lv_goto (tgt := 55) hx hb dX1_who_124 (by decide) ?_
            exact ih55 (0 : Int32) (x6 + (1 : Int32)) hw _ _ ls hM hS (lv_sub hl [2, 3, 4, 5, 6, 1, 0] rfl)
          have hB114 : ∀ (x6 : Int32), wpBX1_who_114 post T px a1 (fun h x3 x4 => wpLX1_who_11 post T px a1  x2 n11 (h, x3, x4)) (fun x5 x6 => wpLX1_who_55 post T px a1 (fun h x3 x4 => wpLX1_who_11 post T px a1  x2 n11 (h, x3, x4)) h x2 x3 x4 n55 (x5, x6)) h x2 x3 x4 x6 → JT p l e (headSpec (ws_ yX1_who cX1_who 7 (some .int)) ({ frames := 722, cells := 1, slots := 6, locals := 40054 })).room s m ([.ref (ad 17), .int a1] : List Value).toArray below meth c (vx_MQ below (XTi D cA tw ad s.heap.size post) (XTx D cA tw ad s.heap.size h0 px) ([.ref (ad 17), .int a1] : List Value).toArray s 1 6 (XB ad s.heap.size)) D cA tw ad 1 6 7 114 h [(0, .ref (ad 17)), (1, .int a1), (2, .ref (tw (200 + x2))), (3, .int x3), (4, .int x4), (6, .int x6)] [] := by
            intro x6 hw H locs ls hM hS hl
            unfold wpBX1_who_114 at hw
            refine lv_iconst (v := (1 : Int32)) hx hb dX1_who_114 (by decide) ?_
            refine lv_goto (tgt := 119) hx hb dX1_who_115 (by decide) ?_
            refine lv_istore (lv' := [(5, .int (1 : Int32)), (0, .ref (ad 17)), (1, .int a1), (2, .ref (tw (200 + x2))), (3, .int x3), (4, .int x4), (6, .int x6)]) hx hb dX1_who_119 hl (by decide) rfl (fun ls hl => ?_)
            refine lv_iinc (v := (x6 + (1 : Int32))) (lv' := [(6, .int (x6 + (1 : Int32))), (5, .int (1 : Int32)), (0, .ref (ad 17)), (1, .int a1), (2, .ref (tw (200 + x2))), (3, .int x3), (4, .int x4)]) hx hb dX1_who_121 hl (k := 6) rfl rfl (by decide) rfl (fun ls hl => ?_)
            refine lv_goto (tgt := 55) hx hb dX1_who_124 (by decide) ?_
            exact ih55 (1 : Int32) (x6 + (1 : Int32)) hw _ _ ls hM hS (lv_sub hl [2, 3, 4, 5, 6, 1, 0] rfl)
          intro x5 x6 hw H locs ls hM hS hl
          have hw : wpBX1_who_55 post T px a1 (fun h x3 x4 => wpLX1_who_11 post T px a1  x2 n11 (h, x3, x4)) (fun x5 x6 => wpLX1_who_55 post T px a1 (fun h x3 x4 => wpLX1_who_11 post T px a1  x2 n11 (h, x3, x4)) h x2 x3 x4 n55 (x5, x6)) h x2 x3 x4 x5 x6 := hw
          unfold wpBX1_who_55 at hw
          refine lv_iload hx hb dX1_who_55 (lv_at hl 6 rfl) ?_
          refine lv_aload_n hx hb dX1_who_57 rfl (lv_at hl 0 rfl) ?_
          refine X_get17 hx hb hts hown hK hM 1 (v := .ref (ad 31)) (by decide) (hts _ q725) rfl dX1_who_58 ?_
          refine X_get31N hx hb hts hown hK hM 9 (v := .int (h 29 0)) (by decide) (hZ.2.1.nF 7 rfl) rfl dX1_who_61 ?_
          refine lv_icmp_ge (tgt := 127) hx hb dX1_who_64 (by decide) (fun c8 => ?_) (fun c8 => ?_)
          · have hw := hw.1 c8
            refine lv_iload hx hb dX1_who_127 (lv_at hl 5 rfl) ?_
            have hj9 : JT p l e (headSpec (ws_ yX1_who cX1_who 7 (some .int)) ({ frames := 722, cells := 1, slots := 6, locals := 40054 })).room s m ([.ref (ad 17), .int a1] : List Value).toArray below meth c (vx_MQ below (XTi D cA tw ad s.heap.size post) (XTx D cA tw ad s.heap.size h0 px) ([.ref (ad 17), .int a1] : List Value).toArray s 1 6 (XB ad s.heap.size)) D cA tw ad 1 6 7 139 h [(0, .ref (ad 17)), (1, .int a1), (2, .ref (tw (200 + x2))), (3, .int (if x5 = 0 then x3 else (x3 ||| ((1 : Int32) <<< (x4 &&& 31))))), (4, .int x4)] [] := by
              intro H locs ls hM hS hl
              refine lv_iinc (v := (x4 + (1 : Int32))) (lv' := [(4, .int (x4 + (1 : Int32))), (0, .ref (ad 17)), (1, .int a1), (2, .ref (tw (200 + x2))), (3, .int (if x5 = 0 then x3 else (x3 ||| ((1 : Int32) <<< (x4 &&& 31)))))]) hx hb dX1_who_139 hl (k := 4) rfl rfl (by decide) rfl (fun ls hl => ?_)
              refine lv_goto (tgt := 11) hx hb dX1_who_142 (by decide) ?_
              exact ih11 h (if x5 = 0 then x3 else (x3 ||| ((1 : Int32) <<< (x4 &&& 31)))) (x4 + (1 : Int32)) hw _ _ ls hM hS (lv_sub hl [1, 2, 3, 4, 0] rfl)
            refine lv_if_eq (tgt := 139) hx hb dX1_who_129 (by decide) (fun c10 => ?_) (fun c10 => ?_)
            · have e11 : (if x5 = 0 then x3 else (x3 ||| ((1 : Int32) <<< (x4 &&& 31)))) = x3 := by rw [if_pos c10]
              rw [e11] at hj9
              exact hj9 _ _ ls hM hS (lv_sub hl [0, 1, 2, 3, 4] rfl)
            · refine lv_iload_n hx hb dX1_who_132 rfl (lv_at hl 3 rfl) ?_
              refine lv_iconst (v := (1 : Int32)) hx hb dX1_who_133 (by decide) ?_
              refine lv_iload hx hb dX1_who_134 (lv_at hl 4 rfl) ?_
              refine lv_ishl hx hb dX1_who_136 ?_
              refine lv_ior hx hb dX1_who_137 ?_
              refine lv_istore_n (lv' := [(3, .int (x3 ||| ((1 : Int32) <<< (x4 &&& 31)))), (0, .ref (ad 17)), (1, .int a1), (2, .ref (tw (200 + x2))), (4, .int x4), (5, .int x5), (6, .int x6)]) hx hb dX1_who_138 rfl hl (by decide) rfl (fun ls hl => ?_)
              have e12 : (if x5 = 0 then x3 else (x3 ||| ((1 : Int32) <<< (x4 &&& 31)))) = (x3 ||| ((1 : Int32) <<< (x4 &&& 31))) := by rw [if_neg c10]
              rw [e12] at hj9
              exact hj9 _ _ ls hM hS (lv_sub hl [1, 2, 3, 0, 4] rfl)
          · have hw := hw.2 c8
            refine lv_iload hx hb dX1_who_67 (lv_at hl 5 rfl) ?_
            refine lv_if_eq (tgt := 118) hx hb dX1_who_69 (by decide) (fun c13 => ?_) (fun c13 => ?_)
            · have hw := hw.1 c13
              exact hB118 x6 hw _ _ ls hM hS (lv_sub hl [0, 1, 2, 3, 4, 6] rfl)
            · have hw := hw.2 c13
              refine lv_aload_n hx hb dX1_who_72 rfl (lv_at hl 0 rfl) ?_
              refine X_get17 hx hb hts hown hK hM 1 (v := .ref (ad 31)) (by decide) (hts _ q725) rfl dX1_who_73 ?_
              refine X_get31N hx hb hts hown hK hM 2 (v := .ref (ad 22)) (by decide) (hZ.2.1.nF 23 rfl) rfl dX1_who_76 ?_
              refine lv_iload hx hb dX1_who_79 (lv_at hl 6 rfl) ?_
              obtain ⟨hv14, hw⟩ := hw
              refine X_iald hx hb hK hM 22 rfl (j := (ix x6)) rfl hv14 dX1_who_81 ?_
              refine lv_iload_n hx hb dX1_who_82 rfl (lv_at hl 1 rfl) ?_
              refine lv_icmp_ne (tgt := 114) hx hb dX1_who_83 (by decide) (fun c15 => ?_) (fun c15 => ?_)
              · have hw := hw.2 c15
                exact hB114 x6 hw _ _ ls hM hS (lv_sub hl [0, 1, 2, 3, 4, 6] rfl)
              · have hw := hw.1 c15
                refine lv_aload_n hx hb dX1_who_86 rfl (lv_at hl 0 rfl) ?_
                refine X_get17 hx hb hts hown hK hM 10 (v := .ref (ad 10)) (by decide) (hts _ q734) rfl dX1_who_87 ?_
                refine lv_aload_n hx hb dX1_who_90 rfl (lv_at hl 0 rfl) ?_
                refine X_get17 hx hb hts hown hK hM 1 (v := .ref (ad 31)) (by decide) (hts _ q725) rfl dX1_who_91 ?_
                refine X_get31N hx hb hts hown hK hM 3 (v := .ref (ad 23)) (by decide) (hZ.2.1.nF 24 rfl) rfl dX1_who_94 ?_
                refine lv_iload hx hb dX1_who_97 (lv_at hl 6 rfl) ?_
                obtain ⟨hv16, hw⟩ := hw
                refine X_iald hx hb hK hM 23 rfl (j := (ix x6)) rfl hv16 dX1_who_99 ?_
                obtain ⟨hv17, hw⟩ := hw
                refine X_iald hx hb hK hM 10 rfl (j := (ix (h 23 (ix x6)))) rfl hv17 dX1_who_100 ?_
                refine lv_aload_n hx hb dX1_who_101 rfl (lv_at hl 0 rfl) ?_
                refine X_get17 hx hb hts hown hK hM 1 (v := .ref (ad 31)) (by decide) (hts _ q725) rfl dX1_who_102 ?_
                refine X_get31N hx hb hts hown hK hM 4 (v := .ref (ad 24)) (by decide) (hZ.2.1.nF 25 rfl) rfl dX1_who_105 ?_
                refine lv_iload hx hb dX1_who_108 (lv_at hl 6 rfl) ?_
                obtain ⟨hv18, hw⟩ := hw
                refine X_iald hx hb hK hM 24 rfl (j := (ix x6)) rfl hv18 dX1_who_110 ?_
                have hj19 : JT p l e (headSpec (ws_ yX1_who cX1_who 7 (some .int)) ({ frames := 722, cells := 1, slots := 6, locals := 40054 })).room s m ([.ref (ad 17), .int a1] : List Value).toArray below meth c (vx_MQ below (XTi D cA tw ad s.heap.size post) (XTx D cA tw ad s.heap.size h0 px) ([.ref (ad 17), .int a1] : List Value).toArray s 1 6 (XB ad s.heap.size)) D cA tw ad 1 6 7 119 h [(0, .ref (ad 17)), (1, .int a1), (2, .ref (tw (200 + x2))), (3, .int x3), (4, .int x4), (6, .int x6)] [.int (if (h 10 (ix (h 23 (ix x6)))) = (h 24 (ix x6)) then (1 : Int32) else (0 : Int32))] := by
                  intro H locs ls hM hS hl
                  refine lv_istore (lv' := [(5, .int (if (h 10 (ix (h 23 (ix x6)))) = (h 24 (ix x6)) then (1 : Int32) else (0 : Int32))), (0, .ref (ad 17)), (1, .int a1), (2, .ref (tw (200 + x2))), (3, .int x3), (4, .int x4), (6, .int x6)]) hx hb dX1_who_119 hl (by decide) rfl (fun ls hl => ?_)
                  refine lv_iinc (v := (x6 + (1 : Int32))) (lv' := [(6, .int (x6 + (1 : Int32))), (5, .int (if (h 10 (ix (h 23 (ix x6)))) = (h 24 (ix x6)) then (1 : Int32) else (0 : Int32))), (0, .ref (ad 17)), (1, .int a1), (2, .ref (tw (200 + x2))), (3, .int x3), (4, .int x4)]) hx hb dX1_who_121 hl (k := 6) rfl rfl (by decide) rfl (fun ls hl => ?_)
                  refine lv_goto (tgt := 55) hx hb dX1_who_124 (by decide) ?_
                  exact ih55 (if (h 10 (ix (h 23 (ix x6)))) = (h 24 (ix x6)) then (1 : Int32) else (0 : Int32)) (x6 + (1 : Int32)) hw _ _ ls hM hS (lv_sub hl [2, 3, 4, 5, 6, 1, 0] rfl)
                refine lv_icmp_ne (tgt := 118) hx hb dX1_who_111 (by decide) (fun c20 => ?_) (fun c20 => ?_)
                · refine lv_iconst (v := (0 : Int32)) hx hb dX1_who_118 (by decide) ?_
                  have e21 : (if (h 10 (ix (h 23 (ix x6)))) = (h 24 (ix x6)) then (1 : Int32) else (0 : Int32)) = (0 : Int32) := by rw [if_neg c20]
                  rw [e21] at hj19
                  exact hj19 _ _ ls hM hS (lv_sub hl [0, 1, 2, 3, 4, 6] rfl)
                · refine lv_iconst (v := (1 : Int32)) hx hb dX1_who_114 (by decide) ?_
                  refine lv_goto (tgt := 119) hx hb dX1_who_115 (by decide) ?_
                  have e22 : (if (h 10 (ix (h 23 (ix x6)))) = (h 24 (ix x6)) then (1 : Int32) else (0 : Int32)) = (1 : Int32) := by rw [if_pos c20]
                  rw [e22] at hj19
                  exact hj19 _ _ ls hM hS (lv_sub hl [0, 1, 2, 3, 4, 6] rfl)
      intro h x3 x4 hw H locs ls hM hS hl
      have hw : wpBX1_who_11 post T px a1  (fun h x3 x4 => wpLX1_who_11 post T px a1  x2 n11 (h, x3, x4)) x2 h x3 x4 := hw
      unfold wpBX1_who_11 at hw
      refine lv_iload hx hb dX1_who_11 (lv_at hl 4 rfl) ?_
      refine lv_aload_n hx hb dX1_who_13 rfl (lv_at hl 0 rfl) ?_
      refine RX_callI (As := []) (rest := [.int x4]) ⟨hx, hb, hml, hown, hts⟩ hS hBz hK hZ (hT.at hS hNA) hM (metX1_people l D cA z0 E tw N ad h T  _ hw) (cwV 0 hts (lw_V q792 q794 qs6 q104 q795) rfl rfl rfl (by decide +kernel) ⟨Nat.le_of_ble_eq_true rfl, Nat.le_of_ble_eq_true rfl⟩) rfl hl.1 rfl (Nat.le_of_ble_eq_true rfl) dX1_who_14 ⟨Nat.le_of_ble_eq_true rfl, Nat.le_of_ble_eq_true rfl⟩ (fun r2 H locs hw hk hS => ?_)
      have hM := hM.kept hk
      refine lv_icmp_ge (tgt := 145) hx hb dX1_who_17 (by decide) (fun c3 => ?_) (fun c3 => ?_)
      · have hw := hw.1 c3
        refine lv_iload_n hx hb dX1_who_145 rfl (lv_at hl 3 rfl) ?_
        exact XT_iret hx hb hr hlocks hM hS hw (Nat.le_of_ble_eq_true rfl) (Nat.le_of_ble_eq_true rfl) dX1_who_146
      · have hw := hw.2 c3
        refine lv_aload_n hx hb dX1_who_20 rfl (lv_at hl 0 rfl) ?_
        refine X_get17 hx hb hts hown hK hM 3 (v := .ref (ad 45)) (by decide) (hts _ q727) rfl dX1_who_21 ?_
        refine lv_aload_n hx hb dX1_who_24 rfl (lv_at hl 0 rfl) ?_
        refine X_get17 hx hb hts hown hK hM 0 (v := .ref (tw 9)) (by decide) (hts _ q724) rfl dX1_who_25 ?_
        refine lv_iload hx hb dX1_who_28 (lv_at hl 4 rfl) ?_
        refine lv_aload_n hx hb dX1_who_30 rfl (lv_at hl 2 rfl) ?_
        refine RS_callI (As := [.ref (tw 9), .int x4, .ref (tw (200 + x2))]) (rest := []) (sa := (shf ad 40)) (h := (sub h 40)) ⟨hx, hb, hml, hown, hts⟩ hS hBz hK hZ (hT.at hS hNA) hM.now (metX6_why l D cA z0 E tw N (ad 70) (shf ad 40) (sub h 40) T x4 x2 _ hx2 hw) (cwV 3 hts (lw_V q1605 q904 q905 q129 q906) rfl rfl rfl (by decide +kernel) ⟨Nat.le_of_ble_eq_true rfl, Nat.le_of_ble_eq_true rfl⟩) rfl hl.1 rfl (Nat.le_of_ble_eq_true rfl) dX1_who_31 ⟨Nat.le_of_ble_eq_true rfl, Nat.le_of_ble_eq_true rfl⟩ (fun r4 H locs hw hk hS => ?_)
        have hM := hM.kept hk
        refine lv_iconst (v := (1 : Int32)) hx hb dX1_who_34 (by decide) ?_
        refine lv_icmp_ne (tgt := 41) hx hb dX1_who_35 (by decide) (fun c5 => ?_) (fun c5 => ?_)
        · have hw := hw.2 c5
          refine lv_aload_n hx hb dX1_who_41 rfl (lv_at hl 0 rfl) ?_
          refine lv_iload hx hb dX1_who_42 (lv_at hl 4 rfl) ?_
          refine lv_aload_n hx hb dX1_who_44 rfl (lv_at hl 2 rfl) ?_
          refine XX_callI (As := [.int x4, .ref (tw (200 + x2))]) (rest := []) ⟨hx, hb, hml, hown, hts⟩ hK hZ (hT.at hS hNA) hN hA hBz hM hJ hS (metX1_shares l D cA z0 E tw N ad h T x4 x2 _ hx2 hw) (cwV 2 hts (lw_V q1501 q1503 qs39 q104 q1504) rfl rfl rfl (by decide +kernel) ⟨Nat.le_of_ble_eq_true rfl, Nat.le_of_ble_eq_true rfl⟩) rfl hl.1 rfl (Nat.le_of_ble_eq_true rfl) dX1_who_45 ⟨Nat.le_of_ble_eq_true rfl, Nat.le_of_ble_eq_true rfl⟩ (fun r7 h6 H locs hw hM hS => ?_)
          refine lv_pop hx hb dX1_who_48 rfl ?_
          refine lv_iconst (v := (1 : Int32)) hx hb dX1_who_49 (by decide) ?_
          refine lv_istore (lv' := [(5, .int (1 : Int32)), (0, .ref (ad 17)), (1, .int a1), (2, .ref (tw (200 + x2))), (3, .int x3), (4, .int x4)]) hx hb dX1_who_50 hl (by decide) rfl (fun ls hl => ?_)
          refine lv_iconst (v := (0 : Int32)) hx hb dX1_who_52 (by decide) ?_
          refine lv_istore (lv' := [(6, .int (0 : Int32)), (5, .int (1 : Int32)), (0, .ref (ad 17)), (1, .int a1), (2, .ref (tw (200 + x2))), (3, .int x3), (4, .int x4)]) hx hb dX1_who_53 hl (by decide) rfl (fun ls hl => ?_)
          obtain ⟨n23, hw⟩ := hw
          exact hL55 h6 x3 x4 n23 (1 : Int32) (0 : Int32) hw _ _ ls hM hS (lv_sub hl [2, 3, 4, 5, 6, 1, 0] rfl)
        · have hw := hw.1 c5
          refine lv_goto (tgt := 139) hx hb dX1_who_38 (by decide) ?_
          refine lv_iinc (v := (x4 + (1 : Int32))) (lv' := [(4, .int (x4 + (1 : Int32))), (0, .ref (ad 17)), (1, .int a1), (2, .ref (tw (200 + x2))), (3, .int x3)]) hx hb dX1_who_139 hl (k := 4) rfl rfl (by decide) rfl (fun ls hl => ?_)
          refine lv_goto (tgt := 11) hx hb dX1_who_142 (by decide) ?_
          exact ih11 h x3 (x4 + (1 : Int32)) hw _ _ ls hM hS (lv_sub hl [1, 2, 3, 4, 0] rfl)
  unfold wpX1_who at hw
  refine lv_aload_n hx hb dX1_who_0 rfl (lv_at hl 0 rfl) ?_
  refine lv_iload_n hx hb dX1_who_1 rfl (lv_at hl 1 rfl) ?_
  refine XT_loaf ⟨hx, hb, hml, hown, hts⟩ eh0.symm hlt hK hZ (hT.at hS hNA) hJ hM hS het hlocks hn1 (a := a1) hw.2 (cwV 1 hts (lw_V q1456 q1458 qs38 q104 q1459) rfl rfl rfl (by decide +kernel) ⟨Nat.le_of_ble_eq_true rfl, Nat.le_of_ble_eq_true rfl⟩) hl.1 (Nat.le_of_ble_eq_true rfl) dX1_who_2 ⟨Nat.le_of_ble_eq_true rfl, Nat.le_of_ble_eq_true rfl⟩ (Nat.le_of_ble_eq_true rfl) (Nat.le_of_ble_eq_true rfl) (fun b1 hb1 eb1 H locs hM hS => ?_)
  have hw := hw.1 b1 hb1 eb1
  refine lv_astore_n (lv' := [(2, .ref (tw (200 + b1))), (0, .ref (ad 17)), (1, .int a1)]) hx hb dX1_who_5 rfl hl (by decide) rfl (fun ls hl => ?_)
  refine lv_iconst (v := (0 : Int32)) hx hb dX1_who_6 (by decide) ?_
  refine lv_istore_n (lv' := [(3, .int (0 : Int32)), (2, .ref (tw (200 + b1))), (0, .ref (ad 17)), (1, .int a1)]) hx hb dX1_who_7 rfl hl (by decide) rfl (fun ls hl => ?_)
  refine lv_iconst (v := (0 : Int32)) hx hb dX1_who_8 (by decide) ?_
  refine lv_istore (lv' := [(4, .int (0 : Int32)), (3, .int (0 : Int32)), (2, .ref (tw (200 + b1))), (0, .ref (ad 17)), (1, .int a1)]) hx hb dX1_who_9 hl (by decide) rfl (fun ls hl => ?_)
  obtain ⟨n24, hw⟩ := hw
  exact hL11 b1 hb1 n24 h (0 : Int32) (0 : Int32) hw _ _ ls hM hS (lv_sub hl [3, 4, 2, 1, 0] rfl)

/-- StrangeKnives.whom(I)I -/
def wpBX1_whom_31 (post : Int32 → Mem → Prop) (T : TT) (px : Nat → Prop) (a1 : Int32) (K16 : Mem → Int32 → Int32 → Int32 → Prop) (K31 : Mem → Int32 → Int32 → Int32 → Prop) (x4 : Int32) (h : Mem) (x2 : Int32) (x3 : Int32) (x5 : Int32) : Prop :=
  (wpX1_people (fun r9 => ((r9 ≤ x5 → K16 h x2 x3 (x4 + (1 : Int32))) ∧ (¬ r9 ≤ x5 → (wpX1_bothKnow (fun r11 => ((r11 = true → K31 h x2 x3 (x5 + (1 : Int32))) ∧ (¬ r11 = true → (∀ h13 : Mem, h13 = put5 h 50 (likeM (sub h 50) (sub h 40)) → (wpX6_meet (fun S14 => (∀ h15 : Mem, h15 = put5 h13 50 S14 → (wpX1_isBalked (fun r16 => K31 h15 (if r16 = true then (if x3 = (-1 : Int32) then (x2 + (1 : Int32)) else (x2 + (1 : Int32))) else x2) (if r16 = true then (if x3 = (-1 : Int32) then (((10 : Int32) * x4) + x5) else x3) else x3) (x5 + (1 : Int32))) h15 T 50))) (sub h13 50) T x4 x5 (h13 43 0)))))) h T 40 x4 x5)))) h T )
def wpLX1_whom_31 (post : Int32 → Mem → Prop) (T : TT) (px : Nat → Prop) (a1 : Int32) (K16 : Mem → Int32 → Int32 → Int32 → Prop) (x4 : Int32) : Nat → (Mem × Int32 × Int32 × Int32) → Prop := LW (fun K s => wpBX1_whom_31 post T px a1 K16 (fun h x2 x3 x5 => K (h, x2, x3, x5)) x4 s.1 s.2.1 s.2.2.1 s.2.2.2)
def wpBX1_whom_16 (post : Int32 → Mem → Prop) (T : TT) (px : Nat → Prop) (a1 : Int32)  (K16 : Mem → Int32 → Int32 → Int32 → Prop)  (h : Mem) (x2 : Int32) (x3 : Int32) (x4 : Int32) : Prop :=
  (wpX1_people (fun r3 => ((r3 ≤ x4 → post (if a1 = 0 then x2 else x3) h) ∧ (¬ r3 ≤ x4 → (∃ n, wpLX1_whom_31 post T px a1 K16 x4 n (h, x2, x3, (x4 + (1 : Int32))))))) h T )
def wpLX1_whom_16 (post : Int32 → Mem → Prop) (T : TT) (px : Nat → Prop) (a1 : Int32)   : Nat → (Mem × Int32 × Int32 × Int32) → Prop := LW (fun K s => wpBX1_whom_16 post T px a1  (fun h x2 x3 x4 => K (h, x2, x3, x4))  s.1 s.2.1 s.2.2.1 s.2.2.2)
def wpX1_whom (post : Int32 → Mem → Prop) (h : Mem) (T : TT) (px : Nat → Prop) (a1 : Int32) : Prop :=
  (wpX1_within (fun r1 => ((r1 = true → (∃ n, wpLX1_whom_16 post T px a1   n (h, (0 : Int32), (-1 : Int32), (0 : Int32)))) ∧ (¬ r1 = true → px 0))) h a1 (0 : Int32) (1 : Int32))
set_option maxHeartbeats 4000000 in
set_option maxRecDepth 100000 in
theorem metX1_whom (l : Launch) (hlt : l.stackTraces = false) (D : va_G) (cA : Nat → ClassId) (z0 : Nat) (E : Nat → Nat → Nat) (tw : Nat → Nat) (N : Nat → Prop) (ad : Nat → Nat) (sz : Nat) (h : Mem) (T : TT) (px : Nat → Prop) (a1 : Int32) (hn0 : T 0 0 < 2 ^ 31) (hn1 : T 0 1 < 2 ^ 31) (post : Int32 → Mem → Prop) (hw : wpX1_whom post h T px a1) : MeTI l D cA z0 E T tw N ad sz yX1_whom (ws_ yX1_whom cX1_whom 6 (some .int)) ({ frames := 9, cells := 1, slots := 6, locals := 271 }) [.ref (ad 17), .int a1] h post px 1 6 := by
  refine vx_ofW (cc := cX1_whom) (maxL := 6) (ret := (some .int)) (by decide) rfl ?_
  intro p e s m args below meth c s₁ B hml het hv
  obtain ⟨rfl, hsz, hM, hJ, hN, hT, hK, hZ⟩ := hv
  have hx := B.exec
  have hb := B.bytes
  have hr := B.returns
  have hts := atoms_spec (ws := ws_ yX1_whom cX1_whom 6 (some .int)) B.pre
  have hts : ∀ w ∈ lw_all, w.before _ s = true := fun w h => hts w (List.mem_cons_of_mem _ h)
  have hown : s.vm.findClass RX1 = some m.cls := findClass_of_methodNamed B.named
  have hlocks := B.notSynchronized
  subst hsz
  have hA : ∀ q, XA ad q → XB ad s.heap.size q := fun _ h => Or.inl h
  have hBz : ∀ q, XB ad s.heap.size q → z0 ≤ q := XB.z hZ hJ
  have hNA : ∀ q, N q → q < s.heap.size → ¬ XB ad s.heap.size q := fun q h h2 h3 => h3.elim (hN q h) (fun h4 => absurd h4 (Nat.not_le.mpr h2))
  have hS : va_S (XB ad s.heap.size) s.heap s.heap [] := va_S.rf
  have hl := lv_entry ([.ref (ad 17), .int a1]) (n := 6) (Nat.le_of_ble_eq_true rfl)
  rw [lg_entry_eq]
  generalize (lg_sl ([.ref (ad 17), .int a1]) ++ List.replicate (6 - (lg_sl ([.ref (ad 17), .int a1])).length) Slot.unset).toArray = ls at hl ⊢
  have hl : lv_has ls 6 [(0, .ref (ad 17)), (1, .int a1)] := hl
  obtain ⟨h0, eh0⟩ : ∃ y : Mem, y = h := ⟨_, rfl⟩
  rw [← eh0]
  have hL16 : ∀  (n16 : Nat) (h : Mem) (x2 : Int32) (x3 : Int32) (x4 : Int32), wpLX1_whom_16 post T px a1   n16 (h, x2, x3, x4) → JT p l e (headSpec (ws_ yX1_whom cX1_whom 6 (some .int)) ({ frames := 9, cells := 1, slots := 6, locals := 271 })).room s m ([.ref (ad 17), .int a1] : List Value).toArray below meth c (vx_MQ below (XTi D cA tw ad s.heap.size post) (XTx D cA tw ad s.heap.size h0 px) ([.ref (ad 17), .int a1] : List Value).toArray s 1 6 (XB ad s.heap.size)) D cA tw ad 1 6 6 16 h [(0, .ref (ad 17)), (1, .int a1), (2, .int x2), (3, .int x3), (4, .int x4)] [] := by
    intro  n16
    induction n16 with
    | zero => intro h x2 x3 x4 hw; exact False.elim hw
    | succ n16 ih16 =>
      have hL31 : ∀ (x4 : Int32) (n31 : Nat) (h : Mem) (x2 : Int32) (x3 : Int32) (x5 : Int32), wpLX1_whom_31 post T px a1 (fun h x2 x3 x4 => wpLX1_whom_16 post T px a1   n16 (h, x2, x3, x4)) x4 n31 (h, x2, x3, x5) → JT p l e (headSpec (ws_ yX1_whom cX1_whom 6 (some .int)) ({ frames := 9, cells := 1, slots := 6, locals := 271 })).room s m ([.ref (ad 17), .int a1] : List Value).toArray below meth c (vx_MQ below (XTi D cA tw ad s.heap.size post) (XTx D cA tw ad s.heap.size h0 px) ([.ref (ad 17), .int a1] : List Value).toArray s 1 6 (XB ad s.heap.size)) D cA tw ad 1 6 6 31 h [(0, .ref (ad 17)), (1, .int a1), (2, .int x2), (3, .int x3), (4, .int x4), (5, .int x5)] [] := by
        intro x4 n31
        induction n31 with
        | zero => intro h x2 x3 x5 hw; exact False.elim hw
        | succ n31 ih31 =>
          intro h x2 x3 x5 hw H locs ls hM hS hl
          have hw : wpBX1_whom_31 post T px a1 (fun h x2 x3 x4 => wpLX1_whom_16 post T px a1   n16 (h, x2, x3, x4)) (fun h x2 x3 x5 => wpLX1_whom_31 post T px a1 (fun h x2 x3 x4 => wpLX1_whom_16 post T px a1   n16 (h, x2, x3, x4)) x4 n31 (h, x2, x3, x5)) x4 h x2 x3 x5 := hw
          unfold wpBX1_whom_31 at hw
          refine lv_iload hx hb dX1_whom_31 (lv_at hl 5 rfl) ?_
          refine lv_aload_n hx hb dX1_whom_33 rfl (lv_at hl 0 rfl) ?_
          refine RX_callI (As := []) (rest := [.int x5]) ⟨hx, hb, hml, hown, hts⟩ hS hBz hK hZ (hT.at hS hNA) hM (metX1_people l D cA z0 E tw N ad h T  _ hw) (cwV 0 hts (lw_V q792 q794 qs6 q104 q795) rfl rfl rfl (by decide +kernel) ⟨Nat.le_of_ble_eq_true rfl, Nat.le_of_ble_eq_true rfl⟩) rfl hl.1 rfl (Nat.le_of_ble_eq_true rfl) dX1_whom_34 ⟨Nat.le_of_ble_eq_true rfl, Nat.le_of_ble_eq_true rfl⟩ (fun r9 H locs hw hk hS => ?_)
          have hM := hM.kept hk
          refine lv_icmp_ge (tgt := 128) hx hb dX1_whom_37 (by decide) (fun c10 => ?_) (fun c10 => ?_)
          · have hw := hw.1 c10
            refine lv_iinc (v := (x4 + (1 : Int32))) (lv' := [(4, .int (x4 + (1 : Int32))), (0, .ref (ad 17)), (1, .int a1), (2, .int x2), (3, .int x3), (5, .int x5)]) hx hb dX1_whom_128 hl (k := 4) rfl rfl (by decide) rfl (fun ls hl => ?_)
            refine lv_goto (tgt := 16) hx hb dX1_whom_131 (by decide) ?_
            exact ih16 h x2 x3 (x4 + (1 : Int32)) hw _ _ ls hM hS (lv_sub hl [1, 2, 3, 4, 0] rfl)
          · have hw := hw.2 c10
            refine lv_aload_n hx hb dX1_whom_40 rfl (lv_at hl 0 rfl) ?_
            refine lv_aload_n hx hb dX1_whom_41 rfl (lv_at hl 0 rfl) ?_
            refine X_get17 hx hb hts hown hK hM 3 (v := .ref (ad 45)) (by decide) (hts _ q727) rfl dX1_whom_42 ?_
            refine lv_iload hx hb dX1_whom_45 (lv_at hl 4 rfl) ?_
            refine lv_iload hx hb dX1_whom_47 (lv_at hl 5 rfl) ?_
            refine RX_callZ (As := [.ref (ad 45), .int x4, .int x5]) (rest := []) ⟨hx, hb, hml, hown, hts⟩ hS hBz hK hZ (hT.at hS hNA) hM (metX1_bothKnow l D cA z0 E tw N ad h T 40 x4 x5 _ (by decide) hw) (cwV 3 hts (lw_V q1416 q1418 qs36 q104 q1419) rfl rfl rfl (by decide +kernel) ⟨Nat.le_of_ble_eq_true rfl, Nat.le_of_ble_eq_true rfl⟩) rfl hl.1 rfl (Nat.le_of_ble_eq_true rfl) dX1_whom_49 ⟨Nat.le_of_ble_eq_true rfl, Nat.le_of_ble_eq_true rfl⟩ (fun r11 H locs hw hk hS => ?_)
            have hM := hM.kept hk
            refine lv_if_eq (tgt := 58) hx hb dX1_whom_52 (by decide) (fun c12 => ?_) (fun c12 => ?_)
            · have c12 := b2i_f c12
              have hw := hw.2 c12
              refine lv_aload_n hx hb dX1_whom_58 rfl (lv_at hl 0 rfl) ?_
              refine X_get17 hx hb hts hown hK hM 4 (v := .ref (ad 55)) (by decide) (hts _ q728) rfl dX1_whom_59 ?_
              refine lv_aload_n hx hb dX1_whom_62 rfl (lv_at hl 0 rfl) ?_
              refine X_get17 hx hb hts hown hK hM 3 (v := .ref (ad 45)) (by decide) (hts _ q727) rfl dX1_whom_63 ?_
              refine XL_like ⟨hx, hb, hml, hown, hts⟩ hK hM hJ hS hA 50 40 (by decide) (by decide) (by decide) (cwV 1 hts (lw_V q855 q835 q836 q129 q837) rfl rfl rfl (by decide +kernel) ⟨Nat.le_of_ble_eq_true rfl, Nat.le_of_ble_eq_true rfl⟩) hl.1 (Nat.le_of_ble_eq_true rfl) dX1_whom_66 ⟨Nat.le_of_ble_eq_true rfl, Nat.le_of_ble_eq_true rfl⟩ (fun H locs hM hS => ?_)
              obtain ⟨h13, eh13⟩ : ∃ y : Mem, y = put5 h 50 (likeM (sub h 50) (sub h 40)) := ⟨_, rfl⟩
              rw [← eh13] at hM
              have hw := hw h13 eh13
              refine lv_aload_n hx hb dX1_whom_69 rfl (lv_at hl 0 rfl) ?_
              refine X_get17 hx hb hts hown hK hM 4 (v := .ref (ad 55)) (by decide) (hts _ q728) rfl dX1_whom_70 ?_
              refine lv_aload_n hx hb dX1_whom_73 rfl (lv_at hl 0 rfl) ?_
              refine X_get17 hx hb hts hown hK hM 0 (v := .ref (tw 9)) (by decide) (hts _ q724) rfl dX1_whom_74 ?_
              refine lv_iload hx hb dX1_whom_77 (lv_at hl 4 rfl) ?_
              refine lv_iload hx hb dX1_whom_79 (lv_at hl 5 rfl) ?_
              refine lv_aload_n hx hb dX1_whom_81 rfl (lv_at hl 0 rfl) ?_
              refine X_get17 hx hb hts hown hK hM 3 (v := .ref (ad 45)) (by decide) (hts _ q727) rfl dX1_whom_82 ?_
              refine X_get45N hx hb hts hown hK hM 3 (v := .int (h13 43 0)) (by decide) (hZ.2.1.nF 12 rfl) rfl dX1_whom_85 ?_
              refine XS_callV (As := [.ref (tw 9), .int x4, .int x5, .int (h13 43 0)]) (rest := []) ⟨hx, hb, hml, hown, hts⟩ hK hZ (hT.at hS hNA) hN hA hBz hM hJ hS 50 (by decide) (metX6_meet l D cA z0 E tw N (ad 70) (shf ad 50) (sub h13 50) T x4 x5 (h13 43 0) _ hw) (cwV 4 hts (lw_V q1583 q716 q717 q129 q718) rfl rfl rfl (by decide +kernel) ⟨Nat.le_of_ble_eq_true rfl, Nat.le_of_ble_eq_true rfl⟩) rfl hl.1 rfl (Nat.le_of_ble_eq_true rfl) dX1_whom_88 ⟨Nat.le_of_ble_eq_true rfl, Nat.le_of_ble_eq_true rfl⟩ (fun S14 H locs hw hM hS => ?_)
              obtain ⟨h15, eh15⟩ : ∃ y : Mem, y = put5 h13 50 S14 := ⟨_, rfl⟩
              rw [← eh15] at hM
              have hw := hw h15 eh15
              refine lv_aload_n hx hb dX1_whom_91 rfl (lv_at hl 0 rfl) ?_
              refine lv_aload_n hx hb dX1_whom_92 rfl (lv_at hl 0 rfl) ?_
              refine X_get17 hx hb hts hown hK hM 4 (v := .ref (ad 55)) (by decide) (hts _ q728) rfl dX1_whom_93 ?_
              refine RX_callZ (As := [.ref (ad 55)]) (rest := []) ⟨hx, hb, hml, hown, hts⟩ hS hBz hK hZ (hT.at hS hNA) hM (metX1_isBalked l D cA z0 E tw N ad h15 T 50 _ (by decide) hw) (cwV 1 hts (lw_V q1620 q1622 qs40 q104 q1623) rfl rfl rfl (by decide +kernel) ⟨Nat.le_of_ble_eq_true rfl, Nat.le_of_ble_eq_true rfl⟩) rfl hl.1 rfl (Nat.le_of_ble_eq_true rfl) dX1_whom_96 ⟨Nat.le_of_ble_eq_true rfl, Nat.le_of_ble_eq_true rfl⟩ (fun r16 H locs hw hk hS => ?_)
              have hM := hM.kept hk
              have hj17 : JT p l e (headSpec (ws_ yX1_whom cX1_whom 6 (some .int)) ({ frames := 9, cells := 1, slots := 6, locals := 271 })).room s m ([.ref (ad 17), .int a1] : List Value).toArray below meth c (vx_MQ below (XTi D cA tw ad s.heap.size post) (XTx D cA tw ad s.heap.size h0 px) ([.ref (ad 17), .int a1] : List Value).toArray s 1 6 (XB ad s.heap.size)) D cA tw ad 1 6 6 122 h15 [(0, .ref (ad 17)), (1, .int a1), (2, .int (if r16 = true then (if x3 = (-1 : Int32) then (x2 + (1 : Int32)) else (x2 + (1 : Int32))) else x2)), (3, .int (if r16 = true then (if x3 = (-1 : Int32) then (((10 : Int32) * x4) + x5) else x3) else x3)), (4, .int x4), (5, .int x5)] [] := by
                intro H locs ls hM hS hl
                refine lv_iinc (v := (x5 + (1 : Int32))) (lv' := [(5, .int (x5 + (1 : Int32))), (0, .ref (ad 17)), (1, .int a1), (2, .int (if r16 = true then (if x3 = (-1 : Int32) then (x2 + (1 : Int32)) else (x2 + (1 : Int32))) else x2)), (3, .int (if r16 = true then (if x3 = (-1 : Int32) then (((10 : Int32) * x4) + x5) else x3) else x3)), (4, .int x4)]) hx hb dX1_whom_122 hl (k := 5) rfl rfl (by decide) rfl (fun ls hl => ?_)
                refine lv_goto (tgt := 31) hx hb dX1_whom_125 (by decide) ?_
                exact ih31 h15 (if r16 = true then (if x3 = (-1 : Int32) then (x2 + (1 : Int32)) else (x2 + (1 : Int32))) else x2) (if r16 = true then (if x3 = (-1 : Int32) then (((10 : Int32) * x4) + x5) else x3) else x3) (x5 + (1 : Int32)) hw _ _ ls hM hS (lv_sub hl [1, 2, 3, 4, 5, 0] rfl)
              refine lv_if_ne (tgt := 105) hx hb dX1_whom_99 (by decide) (fun c18 => ?_) (fun c18 => ?_)
              · have c18 := b2i_t c18
                refine lv_iinc (v := (x2 + (1 : Int32))) (lv' := [(2, .int (x2 + (1 : Int32))), (0, .ref (ad 17)), (1, .int a1), (3, .int x3), (4, .int x4), (5, .int x5)]) hx hb dX1_whom_105 hl (k := 2) rfl rfl (by decide) rfl (fun ls hl => ?_)
                refine lv_iload_n hx hb dX1_whom_108 rfl (lv_at hl 3 rfl) ?_
                refine lv_iconst (v := (-1 : Int32)) hx hb dX1_whom_109 (by decide) ?_
                refine lv_icmp_ne (tgt := 122) hx hb dX1_whom_110 (by decide) (fun c19 => ?_) (fun c19 => ?_)
                · have e20 : (if r16 = true then (if x3 = (-1 : Int32) then (x2 + (1 : Int32)) else (x2 + (1 : Int32))) else x2) = (x2 + (1 : Int32)) := by rw [if_pos c18, if_neg c19]
                  rw [e20] at hj17
                  have e21 : (if r16 = true then (if x3 = (-1 : Int32) then (((10 : Int32) * x4) + x5) else x3) else x3) = x3 := by rw [if_pos c18, if_neg c19]
                  rw [e21] at hj17
                  exact hj17 _ _ ls hM hS (lv_sub hl [1, 2, 0, 3, 4, 5] rfl)
                · refine lv_bipush (v := (10 : Int32)) hx hb dX1_whom_113 (by decide) ?_
                  refine lv_iload hx hb dX1_whom_115 (lv_at hl 4 rfl) ?_
                  refine lv_imul hx hb dX1_whom_117 ?_
                  refine lv_iload hx hb dX1_whom_118 (lv_at hl 5 rfl) ?_
                  refine lv_iadd hx hb dX1_whom_120 ?_
                  refine lv_istore_n (lv' := [(3, .int (((10 : Int32) * x4) + x5)), (2, .int (x2 + (1 : Int32))), (0, .ref (ad 17)), (1, .int a1), (4, .int x4), (5, .int x5)]) hx hb dX1_whom_121 rfl hl (by decide) rfl (fun ls hl => ?_)
                  have e22 : (if r16 = true then (if x3 = (-1 : Int32) then (x2 + (1 : Int32)) else (x2 + (1 : Int32))) else x2) = (x2 + (1 : Int32)) := by rw [if_pos c18, if_pos c19]
                  rw [e22] at hj17
                  have e23 : (if r16 = true then (if x3 = (-1 : Int32) then (((10 : Int32) * x4) + x5) else x3) else x3) = (((10 : Int32) * x4) + x5) := by rw [if_pos c18, if_pos c19]
                  rw [e23] at hj17
                  exact hj17 _ _ ls hM hS (lv_sub hl [2, 3, 1, 0, 4, 5] rfl)
              · have c18 := b2i_f c18
                refine lv_goto (tgt := 122) hx hb dX1_whom_102 (by decide) ?_
                have e24 : (if r16 = true then (if x3 = (-1 : Int32) then (x2 + (1 : Int32)) else (x2 + (1 : Int32))) else x2) = x2 := by rw [if_neg c18]
                rw [e24] at hj17
                have e25 : (if r16 = true then (if x3 = (-1 : Int32) then (((10 : Int32) * x4) + x5) else x3) else x3) = x3 := by rw [if_neg c18]
                rw [e25] at hj17
                exact hj17 _ _ ls hM hS (lv_sub hl [0, 1, 2, 3, 4, 5] rfl)
            · have c12 := b2i_t c12
              have hw := hw.1 c12
              refine lv_goto (tgt := 122) hx hb dX1_whom_55 (by decide) ?_
              refine lv_iinc (v := (x5 + (1 : Int32))) (lv' := [(5, .int (x5 + (1 : Int32))), (0, .ref (ad 17)), (1, .int a1), (2, .int x2), (3, .int x3), (4, .int x4)]) hx hb dX1_whom_122 hl (k := 5) rfl rfl (by decide) rfl (fun ls hl => ?_)
              refine lv_goto (tgt := 31) hx hb dX1_whom_125 (by decide) ?_
              exact ih31 h x2 x3 (x5 + (1 : Int32)) hw _ _ ls hM hS (lv_sub hl [1, 2, 3, 4, 5, 0] rfl)
      intro h x2 x3 x4 hw H locs ls hM hS hl
      have hw : wpBX1_whom_16 post T px a1  (fun h x2 x3 x4 => wpLX1_whom_16 post T px a1   n16 (h, x2, x3, x4))  h x2 x3 x4 := hw
      unfold wpBX1_whom_16 at hw
      refine lv_iload hx hb dX1_whom_16 (lv_at hl 4 rfl) ?_
      refine lv_aload_n hx hb dX1_whom_18 rfl (lv_at hl 0 rfl) ?_
      refine RX_callI (As := []) (rest := [.int x4]) ⟨hx, hb, hml, hown, hts⟩ hS hBz hK hZ (hT.at hS hNA) hM (metX1_people l D cA z0 E tw N ad h T  _ hw) (cwV 0 hts (lw_V q792 q794 qs6 q104 q795) rfl rfl rfl (by decide +kernel) ⟨Nat.le_of_ble_eq_true rfl, Nat.le_of_ble_eq_true rfl⟩) rfl hl.1 rfl (Nat.le_of_ble_eq_true rfl) dX1_whom_19 ⟨Nat.le_of_ble_eq_true rfl, Nat.le_of_ble_eq_true rfl⟩ (fun r3 H locs hw hk hS => ?_)
      have hM := hM.kept hk
      refine lv_icmp_ge (tgt := 134) hx hb dX1_whom_22 (by decide) (fun c4 => ?_) (fun c4 => ?_)
      · have hw := hw.1 c4
        refine lv_iload_n hx hb dX1_whom_134 rfl (lv_at hl 1 rfl) ?_
        have hj5 : JT p l e (headSpec (ws_ yX1_whom cX1_whom 6 (some .int)) ({ frames := 9, cells := 1, slots := 6, locals := 271 })).room s m ([.ref (ad 17), .int a1] : List Value).toArray below meth c (vx_MQ below (XTi D cA tw ad s.heap.size post) (XTx D cA tw ad s.heap.size h0 px) ([.ref (ad 17), .int a1] : List Value).toArray s 1 6 (XB ad s.heap.size)) D cA tw ad 1 6 6 143 h [] [.int (if a1 = 0 then x2 else x3)] := by
          intro H locs ls hM hS hl
          exact XT_iret hx hb hr hlocks hM hS hw (Nat.le_of_ble_eq_true rfl) (Nat.le_of_ble_eq_true rfl) dX1_whom_143
        refine lv_if_ne (tgt := 142) hx hb dX1_whom_135 (by decide) (fun c6 => ?_) (fun c6 => ?_)
        · refine lv_iload_n hx hb dX1_whom_142 rfl (lv_at hl 3 rfl) ?_
          have e7 : (if a1 = 0 then x2 else x3) = x3 := by rw [if_neg c6]
          rw [e7] at hj5
          exact hj5 _ _ ls hM hS (lv_sub hl [] rfl)
        · refine lv_iload_n hx hb dX1_whom_138 rfl (lv_at hl 2 rfl) ?_
          refine lv_goto (tgt := 143) hx hb dX1_whom_139 (by decide) ?_
          have e8 : (if a1 = 0 then x2 else x3) = x2 := by rw [if_pos c6]
          rw [e8] at hj5
          exact hj5 _ _ ls hM hS (lv_sub hl [] rfl)
      · have hw := hw.2 c4
        refine lv_iload hx hb dX1_whom_25 (lv_at hl 4 rfl) ?_
        refine lv_iconst (v := (1 : Int32)) hx hb dX1_whom_27 (by decide) ?_
        refine lv_iadd hx hb dX1_whom_28 ?_
        refine lv_istore (lv' := [(5, .int (x4 + (1 : Int32))), (0, .ref (ad 17)), (1, .int a1), (2, .int x2), (3, .int x3), (4, .int x4)]) hx hb dX1_whom_29 hl (by decide) rfl (fun ls hl => ?_)
        obtain ⟨n26, hw⟩ := hw
        exact hL31 x4 n26 h x2 x3 (x4 + (1 : Int32)) hw _ _ ls hM hS (lv_sub hl [1, 2, 3, 4, 5, 0] rfl)
  unfold wpX1_whom at hw
  refine lv_iload_n hx hb dX1_whom_0 rfl (lv_at hl 1 rfl) ?_
  refine lv_iconst (v := (0 : Int32)) hx hb dX1_whom_1 (by decide) ?_
  refine lv_iconst (v := (1 : Int32)) hx hb dX1_whom_2 (by decide) ?_
  refine RN_callZ (As := [.int a1, .int (0 : Int32), .int (1 : Int32)]) (rest := []) ⟨hx, hb, hml, hown, hts⟩ hS (metX1_within l h a1 (0 : Int32) (1 : Int32) _ hw) (va_cwS 3 hts (lw_S q847 q848 q104 q849) rfl rfl rfl (by decide +kernel) ⟨Nat.le_of_ble_eq_true rfl, Nat.le_of_ble_eq_true rfl⟩) rfl hl.1 rfl (Nat.le_of_ble_eq_true rfl) dX1_whom_3 ⟨Nat.le_of_ble_eq_true rfl, Nat.le_of_ble_eq_true rfl⟩ (fun r1 H locs hw hk hS => ?_)
  have hM := hM.kept hk
  refine XT_there ⟨hx, hb, hml, hown, hts⟩ eh0.symm hlt hZ hJ hM hS het hlocks (a := (b2i r1)) (fun c => hw.2 (b2i_f c)) q1394 ⟨Nat.le_of_ble_eq_true rfl, Nat.le_of_ble_eq_true rfl⟩ hl.1 (Nat.le_of_ble_eq_true rfl) dX1_whom_6 ⟨Nat.le_of_ble_eq_true rfl, Nat.le_of_ble_eq_true rfl⟩ (Nat.le_of_ble_eq_true rfl) (Nat.le_of_ble_eq_true rfl) (fun c2 H locs hM hS => ?_)
  have c2 := b2i_t c2
  have hw := hw.1 c2
  refine lv_iconst (v := (0 : Int32)) hx hb dX1_whom_9 (by decide) ?_
  refine lv_istore_n (lv' := [(2, .int (0 : Int32)), (0, .ref (ad 17)), (1, .int a1)]) hx hb dX1_whom_10 rfl hl (by decide) rfl (fun ls hl => ?_)
  refine lv_iconst (v := (-1 : Int32)) hx hb dX1_whom_11 (by decide) ?_
  refine lv_istore_n (lv' := [(3, .int (-1 : Int32)), (2, .int (0 : Int32)), (0, .ref (ad 17)), (1, .int a1)]) hx hb dX1_whom_12 rfl hl (by decide) rfl (fun ls hl => ?_)
  refine lv_iconst (v := (0 : Int32)) hx hb dX1_whom_13 (by decide) ?_
  refine lv_istore (lv' := [(4, .int (0 : Int32)), (3, .int (-1 : Int32)), (2, .int (0 : Int32)), (0, .ref (ad 17)), (1, .int a1)]) hx hb dX1_whom_14 hl (by decide) rfl (fun ls hl => ?_)
  obtain ⟨n27, hw⟩ := hw
  exact hL16 n27 h (0 : Int32) (-1 : Int32) (0 : Int32) hw _ _ ls hM hS (lv_sub hl [3, 4, 2, 1, 0] rfl)

/-- StrangeKnives.game(III)I -/
def wpBX1_game_130 (post : Int32 → Mem → Prop) (T : TT) (px : Nat → Prop) (a1 : Int32) (a2 : Int32) (a3 : Int32) (K43 : Int32 → Int32 → Int32 → Prop) (K55 : Int32 → Int32 → Int32 → Prop) (K70 : Int32 → Int32 → Prop) (h : Mem) (x4 : Int32) (x5 : Int32) (x6 : Int32) (x7 : Int32) (x9 : Int32)  : Prop :=
  K70 (0 : Int32) (x9 + (1 : Int32))
def wpBX1_game_70 (post : Int32 → Mem → Prop) (T : TT) (px : Nat → Prop) (a1 : Int32) (a2 : Int32) (a3 : Int32) (K43 : Int32 → Int32 → Int32 → Prop) (K55 : Int32 → Int32 → Int32 → Prop) (K70 : Int32 → Int32 → Prop) (h : Mem) (x4 : Int32) (x5 : Int32) (x6 : Int32) (x7 : Int32) (x8 : Int32) (x9 : Int32) : Prop :=
  (wpX1_loaves (fun r15 => ((r15 ≤ x9 → K55 (if x8 = 0 then x4 else (if x5 = (-1 : Int32) then (x4 + (1 : Int32)) else (x4 + (1 : Int32)))) (if x8 = 0 then x5 else (if x5 = (-1 : Int32) then (((10 : Int32) * x6) + x7) else x5)) (x7 + (1 : Int32))) ∧ (¬ r15 ≤ x9 → ((x8 = 0 → wpBX1_game_130 post T px a1 a2 a3 K43 K55 K70 h x4 x5 x6 x7 x9) ∧ (¬ x8 = 0 → (wpX1_gains (fun r27 => (wpX1_gains (fun r28 => ((r28 < r27 → wpBX1_game_130 post T px a1 a2 a3 K43 K55 K70 h x4 x5 x6 x7 x9) ∧ (¬ r28 < r27 → (wpX1_gains (fun r30 => (wpX1_gains (fun r31 => K70 (if r31 < r30 then (0 : Int32) else (1 : Int32)) (x9 + (1 : Int32))) h T a2 x7 x6)) h T a2 x9 x6)))) h T a1 x6 x7)) h T a1 x9 x7)))))) h T )
def wpLX1_game_70 (post : Int32 → Mem → Prop) (T : TT) (px : Nat → Prop) (a1 : Int32) (a2 : Int32) (a3 : Int32) (K43 : Int32 → Int32 → Int32 → Prop) (K55 : Int32 → Int32 → Int32 → Prop) (h : Mem) (x4 : Int32) (x5 : Int32) (x6 : Int32) (x7 : Int32) : Nat → (Int32 × Int32) → Prop := LW (fun K s => wpBX1_game_70 post T px a1 a2 a3 K43 K55 (fun x8 x9 => K (x8, x9)) h x4 x5 x6 x7 s.1 s.2)
def wpBX1_game_55 (post : Int32 → Mem → Prop) (T : TT) (px : Nat → Prop) (a1 : Int32) (a2 : Int32) (a3 : Int32) (K43 : Int32 → Int32 → Int32 → Prop) (K55 : Int32 → Int32 → Int32 → Prop) (h : Mem) (x6 : Int32) (x4 : Int32) (x5 : Int32) (x7 : Int32) : Prop :=
  (wpX1_loaves (fun r13 => ((r13 ≤ x7 → K43 x4 x5 (x6 + (1 : Int32))) ∧ (¬ r13 ≤ x7 → (∃ n, wpLX1_game_70 post T px a1 a2 a3 K43 K55 h x4 x5 x6 x7 n ((1 : Int32), (0 : Int32)))))) h T )
def wpLX1_game_55 (post : Int32 → Mem → Prop) (T : TT) (px : Nat → Prop) (a1 : Int32) (a2 : Int32) (a3 : Int32) (K43 : Int32 → Int32 → Int32 → Prop) (h : Mem) (x6 : Int32) : Nat → (Int32 × Int32 × Int32) → Prop := LW (fun K s => wpBX1_game_55 post T px a1 a2 a3 K43 (fun x4 x5 x7 => K (x4, x5, x7)) h x6 s.1 s.2.1 s.2.2)
def wpBX1_game_43 (post : Int32 → Mem → Prop) (T : TT) (px : Nat → Prop) (a1 : Int32) (a2 : Int32) (a3 : Int32)  (K43 : Int32 → Int32 → Int32 → Prop) (h : Mem)  (x4 : Int32) (x5 : Int32) (x6 : Int32) : Prop :=
  (wpX1_loaves (fun r7 => ((r7 ≤ x6 → post (if a3 = 0 then x4 else x5) h) ∧ (¬ r7 ≤ x6 → (∃ n, wpLX1_game_55 post T px a1 a2 a3 K43 h x6 n (x4, x5, (0 : Int32)))))) h T )
def wpLX1_game_43 (post : Int32 → Mem → Prop) (T : TT) (px : Nat → Prop) (a1 : Int32) (a2 : Int32) (a3 : Int32)  (h : Mem)  : Nat → (Int32 × Int32 × Int32) → Prop := LW (fun K s => wpBX1_game_43 post T px a1 a2 a3  (fun x4 x5 x6 => K (x4, x5, x6)) h  s.1 s.2.1 s.2.2)
def wpBX1_game_31 (post : Int32 → Mem → Prop) (T : TT) (px : Nat → Prop) (a1 : Int32) (a2 : Int32) (a3 : Int32)  (h : Mem)  (s0 : Int32) : Prop :=
  ((¬ s0 = 0 → (∃ n, wpLX1_game_43 post T px a1 a2 a3  h n ((0 : Int32), (-1 : Int32), (0 : Int32)))) ∧ (s0 = 0 → px 1))
def wpX1_game (post : Int32 → Mem → Prop) (h : Mem) (T : TT) (px : Nat → Prop) (a1 : Int32) (a2 : Int32) (a3 : Int32) : Prop :=
  ((∀ p1 : Nat, p1 < T 0 0 → a1 = nI p1 → ((∀ p2 : Nat, p2 < T 0 0 → a2 = nI p2 → (wpX1_within (fun r3 => ((r3 = true → wpBX1_game_31 post T px a1 a2 a3  h (if a1 = a2 then (0 : Int32) else (1 : Int32))) ∧ (¬ r3 = true → px 0))) h a3 (0 : Int32) (1 : Int32))) ∧ ((∀ i : Nat, i < T 0 0 → ¬ a2 = nI i) → px 0))) ∧ ((∀ i : Nat, i < T 0 0 → ¬ a1 = nI i) → px 0))
set_option maxHeartbeats 4000000 in
set_option maxRecDepth 100000 in
theorem metX1_game (l : Launch) (hlt : l.stackTraces = false) (D : va_G) (cA : Nat → ClassId) (z0 : Nat) (E : Nat → Nat → Nat) (tw : Nat → Nat) (N : Nat → Prop) (ad : Nat → Nat) (sz : Nat) (h : Mem) (T : TT) (px : Nat → Prop) (a1 : Int32) (a2 : Int32) (a3 : Int32) (hn0 : T 0 0 < 2 ^ 31) (hn1 : T 0 1 < 2 ^ 31) (post : Int32 → Mem → Prop) (hw : wpX1_game post h T px a1 a2 a3) : MeTI l D cA z0 E T tw N ad sz yX1_game (ws_ yX1_game cX1_game 10 (some .int)) ({ frames := 13, cells := 4, slots := 24, locals := 421 }) [.ref (ad 17), .int a1, .int a2, .int a3] h post px 4 24 := by
  refine vx_ofW (cc := cX1_game) (maxL := 10) (ret := (some .int)) (by decide) rfl ?_
  intro p e s m args below meth c s₁ B hml het hv
  obtain ⟨rfl, hsz, hM, hJ, hN, hT, hK, hZ⟩ := hv
  have hx := B.exec
  have hb := B.bytes
  have hr := B.returns
  have hts := atoms_spec (ws := ws_ yX1_game cX1_game 10 (some .int)) B.pre
  have hts : ∀ w ∈ lw_all, w.before _ s = true := fun w h => hts w (List.mem_cons_of_mem _ h)
  have hown : s.vm.findClass RX1 = some m.cls := findClass_of_methodNamed B.named
  have hlocks := B.notSynchronized
  subst hsz
  have hA : ∀ q, XA ad q → XB ad s.heap.size q := fun _ h => Or.inl h
  have hBz : ∀ q, XB ad s.heap.size q → z0 ≤ q := XB.z hZ hJ
  have hNA : ∀ q, N q → q < s.heap.size → ¬ XB ad s.heap.size q := fun q h h2 h3 => h3.elim (hN q h) (fun h4 => absurd h4 (Nat.not_le.mpr h2))
  have hS : va_S (XB ad s.heap.size) s.heap s.heap [] := va_S.rf
  have hl := lv_entry ([.ref (ad 17), .int a1, .int a2, .int a3]) (n := 10) (Nat.le_of_ble_eq_true rfl)
  rw [lg_entry_eq]
  generalize (lg_sl ([.ref (ad 17), .int a1, .int a2, .int a3]) ++ List.replicate (10 - (lg_sl ([.ref (ad 17), .int a1, .int a2, .int a3])).length) Slot.unset).toArray = ls at hl ⊢
  have hl : lv_has ls 10 [(0, .ref (ad 17)), (1, .int a1), (2, .int a2), (3, .int a3)] := hl
  obtain ⟨h0, eh0⟩ : ∃ y : Mem, y = h := ⟨_, rfl⟩
  rw [← eh0]
  have hL43 : ∀ (h : Mem)  (n43 : Nat) (x4 : Int32) (x5 : Int32) (x6 : Int32), wpLX1_game_43 post T px a1 a2 a3  h  n43 (x4, x5, x6) → JT p l e (headSpec (ws_ yX1_game cX1_game 10 (some .int)) ({ frames := 13, cells := 4, slots := 24, locals := 421 })).room s m ([.ref (ad 17), .int a1, .int a2, .int a3] : List Value).toArray below meth c (vx_MQ below (XTi D cA tw ad s.heap.size post) (XTx D cA tw ad s.heap.size h0 px) ([.ref (ad 17), .int a1, .int a2, .int a3] : List Value).toArray s 4 24 (XB ad s.heap.size)) D cA tw ad 4 24 10 43 h [(0, .ref (ad 17)), (1, .int a1), (2, .int a2), (3, .int a3), (4, .int x4), (5, .int x5), (6, .int x6)] [] := by
    intro h n43
    induction n43 with
    | zero => intro x4 x5 x6 hw; exact False.elim hw
    | succ n43 ih43 =>
      have hL55 : ∀ (x6 : Int32) (n55 : Nat) (x4 : Int32) (x5 : Int32) (x7 : Int32), wpLX1_game_55 post T px a1 a2 a3 (fun x4 x5 x6 => wpLX1_game_43 post T px a1 a2 a3  h  n43 (x4, x5, x6)) h x6 n55 (x4, x5, x7) → JT p l e (headSpec (ws_ yX1_game cX1_game 10 (some .int)) ({ frames := 13, cells := 4, slots := 24, locals := 421 })).room s m ([.ref (ad 17), .int a1, .int a2, .int a3] : List Value).toArray below meth c (vx_MQ below (XTi D cA tw ad s.heap.size post) (XTx D cA tw ad s.heap.size h0 px) ([.ref (ad 17), .int a1, .int a2, .int a3] : List Value).toArray s 4 24 (XB ad s.heap.size)) D cA tw ad 4 24 10 55 h [(0, .ref (ad 17)), (1, .int a1), (2, .int a2), (3, .int a3), (4, .int x4), (5, .int x5), (6, .int x6), (7, .int x7)] [] := by
        intro x6 n55
        induction n55 with
        | zero => intro x4 x5 x7 hw; exact False.elim hw
        | succ n55 ih55 =>
          have hL70 : ∀ (x4 : Int32) (x5 : Int32) (x7 : Int32) (n70 : Nat) (x8 : Int32) (x9 : Int32), wpLX1_game_70 post T px a1 a2 a3 (fun x4 x5 x6 => wpLX1_game_43 post T px a1 a2 a3  h  n43 (x4, x5, x6)) (fun x4 x5 x7 => wpLX1_game_55 post T px a1 a2 a3 (fun x4 x5 x6 => wpLX1_game_43 post T px a1 a2 a3  h  n43 (x4, x5, x6)) h x6 n55 (x4, x5, x7)) h x4 x5 x6 x7 n70 (x8, x9) → JT p l e (headSpec (ws_ yX1_game cX1_game 10 (some .int)) ({ frames := 13, cells := 4, slots := 24, locals := 421 })).room s m ([.ref (ad 17), .int a1, .int a2, .int a3] : List Value).toArray below meth c (vx_MQ below (XTi D cA tw ad s.heap.size post) (XTx D cA tw ad s.heap.size h0 px) ([.ref (ad 17), .int a1, .int a2, .int a3] : List Value).toArray s 4 24 (XB ad s.heap.size)) D cA tw ad 4 24 10 70 h [(0, .ref (ad 17)), (1, .int a1), (2, .int a2), (3, .int a3), (4, .int x4), (5, .int x5), (6, .int x6), (7, .int x7), (8, .int x8), (9, .int x9)] [] := by
            intro x4 x5 x7 n70
            induction n70 with
            | zero => intro x8 x9 hw; exact False.elim hw
            | succ n70 ih70 =>
              have hB130 : ∀ (x9 : Int32), wpBX1_game_130 post T px a1 a2 a3 (fun x4 x5 x6 => wpLX1_game_43 post T px a1 a2 a3  h  n43 (x4, x5, x6)) (fun x4 x5 x7 => wpLX1_game_55 post T px a1 a2 a3 (fun x4 x5 x6 => wpLX1_game_43 post T px a1 a2 a3  h  n43 (x4, x5, x6)) h x6 n55 (x4, x5, x7)) (fun x8 x9 => wpLX1_game_70 post T px a1 a2 a3 (fun x4 x5 x6 => wpLX1_game_43 post T px a1 a2 a3  h  n43 (x4, x5, x6)) (fun x4 x5 x7 => wpLX1_game_55 post T px a1 a2 a3 (fun x4 x5 x6 => wpLX1_game_43 post T px a1 a2 a3  h  n43 (x4, x5, x6)) h x6 n55 (x4, x5, x7)) h x4 x5 x6 x7 n70 (x8, x9)) h x4 x5 x6 x7 x9 → JT p l e (headSpec (ws_ yX1_game cX1_game 10 (some .int)) ({ frames := 13, cells := 4, slots := 24, locals := 421 })).room s m ([.ref (ad 17), .int a1, .int a2, .int a3] : List Value).toArray below meth c (vx_MQ below (XTi D cA tw ad s.heap.size post) (XTx D cA tw ad s.heap.size h0 px) ([.ref (ad 17), .int a1, .int a2, .int a3] : List Value).toArray s 4 24 (XB ad s.heap.size)) D cA tw ad 4 24 10 130 h [(0, .ref (ad 17)), (1, .int a1), (2, .int a2), (3, .int a3), (4, .int x4), (5, .int x5), (6, .int x6), (7, .int x7), (9, .int x9)] [] := by
                intro x9 hw H locs ls hM hS hl
                unfold wpBX1_game_130 at hw
                refine lv_iconst (v := (0 : Int32)) hx hb dX1_game_130 (by decide) ?_
                refine lv_istore (lv' := [(8, .int (0 : Int32)), (0, .ref (ad 17)), (1, .int a1), (2, .int a2), (3, .int a3), (4, .int x4), (5, .int x5), (6, .int x6), (7, .int x7), (9, .int x9)]) hx hb dX1_game_131 hl (by decide) rfl (fun ls hl => ?_)
                refine lv_iinc (v := (x9 + (1 : Int32))) (lv' := [(9, .int (x9 + (1 : Int32))), (8, .int (0 : Int32)), (0, .ref (ad 17)), (1, .int a1), (2, .int a2), (3, .int a3), (4, .int x4), (5, .int x5), (6, .int x6), (7, .int x7)]) hx hb dX1_game_133 hl (k := 9) rfl rfl (by decide) rfl (fun ls hl => ?_)
                refine lv_goto (tgt := 70) hx hb dX1_game_136 (by decide) ?_
                exact ih70 (0 : Int32) (x9 + (1 : Int32)) hw _ _ ls hM hS (lv_sub hl [2, 3, 4, 5, 6, 7, 8, 9, 1, 0] rfl)
              intro x8 x9 hw H locs ls hM hS hl
              have hw : wpBX1_game_70 post T px a1 a2 a3 (fun x4 x5 x6 => wpLX1_game_43 post T px a1 a2 a3  h  n43 (x4, x5, x6)) (fun x4 x5 x7 => wpLX1_game_55 post T px a1 a2 a3 (fun x4 x5 x6 => wpLX1_game_43 post T px a1 a2 a3  h  n43 (x4, x5, x6)) h x6 n55 (x4, x5, x7)) (fun x8 x9 => wpLX1_game_70 post T px a1 a2 a3 (fun x4 x5 x6 => wpLX1_game_43 post T px a1 a2 a3  h  n43 (x4, x5, x6)) (fun x4 x5 x7 => wpLX1_game_55 post T px a1 a2 a3 (fun x4 x5 x6 => wpLX1_game_43 post T px a1 a2 a3  h  n43 (x4, x5, x6)) h x6 n55 (x4, x5, x7)) h x4 x5 x6 x7 n70 (x8, x9)) h x4 x5 x6 x7 x8 x9 := hw
              unfold wpBX1_game_70 at hw
              refine lv_iload hx hb dX1_game_70 (lv_at hl 9 rfl) ?_
              refine lv_aload_n hx hb dX1_game_72 rfl (lv_at hl 0 rfl) ?_
              refine RX_callI (As := []) (rest := [.int x9]) ⟨hx, hb, hml, hown, hts⟩ hS hBz hK hZ (hT.at hS hNA) hM (metX1_loaves l D cA z0 E tw N ad h T  _ hw) (cwV 0 hts (lw_V q860 q862 qs9 q104 q863) rfl rfl rfl (by decide +kernel) ⟨Nat.le_of_ble_eq_true rfl, Nat.le_of_ble_eq_true rfl⟩) rfl hl.1 rfl (Nat.le_of_ble_eq_true rfl) dX1_game_73 ⟨Nat.le_of_ble_eq_true rfl, Nat.le_of_ble_eq_true rfl⟩ (fun r15 H locs hw hk hS => ?_)
              have hM := hM.kept hk
              refine lv_icmp_ge (tgt := 139) hx hb dX1_game_76 (by decide) (fun c16 => ?_) (fun c16 => ?_)
              · have hw := hw.1 c16
                refine lv_iload hx hb dX1_game_139 (lv_at hl 8 rfl) ?_
                have hj17 : JT p l e (headSpec (ws_ yX1_game cX1_game 10 (some .int)) ({ frames := 13, cells := 4, slots := 24, locals := 421 })).room s m ([.ref (ad 17), .int a1, .int a2, .int a3] : List Value).toArray below meth c (vx_MQ below (XTi D cA tw ad s.heap.size post) (XTx D cA tw ad s.heap.size h0 px) ([.ref (ad 17), .int a1, .int a2, .int a3] : List Value).toArray s 4 24 (XB ad s.heap.size)) D cA tw ad 4 24 10 166 h [(0, .ref (ad 17)), (1, .int a1), (2, .int a2), (3, .int a3), (4, .int (if x8 = 0 then x4 else (if x5 = (-1 : Int32) then (x4 + (1 : Int32)) else (x4 + (1 : Int32))))), (5, .int (if x8 = 0 then x5 else (if x5 = (-1 : Int32) then (((10 : Int32) * x6) + x7) else x5))), (6, .int x6), (7, .int x7)] [] := by
                  intro H locs ls hM hS hl
                  refine lv_iinc (v := (x7 + (1 : Int32))) (lv' := [(7, .int (x7 + (1 : Int32))), (0, .ref (ad 17)), (1, .int a1), (2, .int a2), (3, .int a3), (4, .int (if x8 = 0 then x4 else (if x5 = (-1 : Int32) then (x4 + (1 : Int32)) else (x4 + (1 : Int32))))), (5, .int (if x8 = 0 then x5 else (if x5 = (-1 : Int32) then (((10 : Int32) * x6) + x7) else x5))), (6, .int x6)]) hx hb dX1_game_166 hl (k := 7) rfl rfl (by decide) rfl (fun ls hl => ?_)
                  refine lv_goto (tgt := 55) hx hb dX1_game_169 (by decide) ?_
                  exact ih55 (if x8 = 0 then x4 else (if x5 = (-1 : Int32) then (x4 + (1 : Int32)) else (x4 + (1 : Int32)))) (if x8 = 0 then x5 else (if x5 = (-1 : Int32) then (((10 : Int32) * x6) + x7) else x5)) (x7 + (1 : Int32)) hw _ _ ls hM hS (lv_sub hl [1, 2, 3, 4, 5, 6, 7, 0] rfl)
                refine lv_if_ne (tgt := 147) hx hb dX1_game_141 (by decide) (fun c18 => ?_) (fun c18 => ?_)
                · refine lv_iinc (v := (x4 + (1 : Int32))) (lv' := [(4, .int (x4 + (1 : Int32))), (0, .ref (ad 17)), (1, .int a1), (2, .int a2), (3, .int a3), (5, .int x5), (6, .int x6), (7, .int x7), (8, .int x8), (9, .int x9)]) hx hb dX1_game_147 hl (k := 4) rfl rfl (by decide) rfl (fun ls hl => ?_)
                  refine lv_iload hx hb dX1_game_150 (lv_at hl 5 rfl) ?_
                  refine lv_iconst (v := (-1 : Int32)) hx hb dX1_game_152 (by decide) ?_
                  refine lv_icmp_ne (tgt := 166) hx hb dX1_game_153 (by decide) (fun c19 => ?_) (fun c19 => ?_)
                  · have e20 : (if x8 = 0 then x4 else (if x5 = (-1 : Int32) then (x4 + (1 : Int32)) else (x4 + (1 : Int32)))) = (x4 + (1 : Int32)) := by rw [if_neg c18, if_neg c19]
                    rw [e20] at hj17
                    have e21 : (if x8 = 0 then x5 else (if x5 = (-1 : Int32) then (((10 : Int32) * x6) + x7) else x5)) = x5 := by rw [if_neg c18, if_neg c19]
                    rw [e21] at hj17
                    exact hj17 _ _ ls hM hS (lv_sub hl [1, 2, 3, 4, 0, 5, 6, 7] rfl)
                  · refine lv_bipush (v := (10 : Int32)) hx hb dX1_game_156 (by decide) ?_
                    refine lv_iload hx hb dX1_game_158 (lv_at hl 6 rfl) ?_
                    refine lv_imul hx hb dX1_game_160 ?_
                    refine lv_iload hx hb dX1_game_161 (lv_at hl 7 rfl) ?_
                    refine lv_iadd hx hb dX1_game_163 ?_
                    refine lv_istore (lv' := [(5, .int (((10 : Int32) * x6) + x7)), (4, .int (x4 + (1 : Int32))), (0, .ref (ad 17)), (1, .int a1), (2, .int a2), (3, .int a3), (6, .int x6), (7, .int x7), (8, .int x8), (9, .int x9)]) hx hb dX1_game_164 hl (by decide) rfl (fun ls hl => ?_)
                    have e22 : (if x8 = 0 then x4 else (if x5 = (-1 : Int32) then (x4 + (1 : Int32)) else (x4 + (1 : Int32)))) = (x4 + (1 : Int32)) := by rw [if_neg c18, if_pos c19]
                    rw [e22] at hj17
                    have e23 : (if x8 = 0 then x5 else (if x5 = (-1 : Int32) then (((10 : Int32) * x6) + x7) else x5)) = (((10 : Int32) * x6) + x7) := by rw [if_neg c18, if_pos c19]
                    rw [e23] at hj17
                    exact hj17 _ _ ls hM hS (lv_sub hl [2, 3, 4, 5, 1, 0, 6, 7] rfl)
                · refine lv_goto (tgt := 166) hx hb dX1_game_144 (by decide) ?_
                  have e24 : (if x8 = 0 then x4 else (if x5 = (-1 : Int32) then (x4 + (1 : Int32)) else (x4 + (1 : Int32)))) = x4 := by rw [if_pos c18]
                  rw [e24] at hj17
                  have e25 : (if x8 = 0 then x5 else (if x5 = (-1 : Int32) then (((10 : Int32) * x6) + x7) else x5)) = x5 := by rw [if_pos c18]
                  rw [e25] at hj17
                  exact hj17 _ _ ls hM hS (lv_sub hl [0, 1, 2, 3, 4, 5, 6, 7] rfl)
              · have hw := hw.2 c16
                refine lv_iload hx hb dX1_game_79 (lv_at hl 8 rfl) ?_
                refine lv_if_eq (tgt := 130) hx hb dX1_game_81 (by decide) (fun c26 => ?_) (fun c26 => ?_)
                · have hw := hw.1 c26
                  exact hB130 x9 hw _ _ ls hM hS (lv_sub hl [0, 1, 2, 3, 4, 5, 6, 7, 9] rfl)
                · have hw := hw.2 c26
                  refine lv_aload_n hx hb dX1_game_84 rfl (lv_at hl 0 rfl) ?_
                  refine lv_iload_n hx hb dX1_game_85 rfl (lv_at hl 1 rfl) ?_
                  refine lv_iload hx hb dX1_game_86 (lv_at hl 9 rfl) ?_
                  refine lv_iload hx hb dX1_game_88 (lv_at hl 7 rfl) ?_
                  refine RX_callI (As := [.int a1, .int x9, .int x7]) (rest := []) ⟨hx, hb, hml, hown, hts⟩ hS hBz hK hZ (hT.at hS hNA) hM (metX1_gains l D cA z0 E tw N ad h T a1 x9 x7 _ hw) (cwV 3 hts (lw_V q1649 q1651 qs42 q104 q1652) rfl rfl rfl (by decide +kernel) ⟨Nat.le_of_ble_eq_true rfl, Nat.le_of_ble_eq_true rfl⟩) rfl hl.1 rfl (Nat.le_of_ble_eq_true rfl) dX1_game_90 ⟨Nat.le_of_ble_eq_true rfl, Nat.le_of_ble_eq_true rfl⟩ (fun r27 H locs hw hk hS => ?_)
                  have hM := hM.kept hk
                  refine lv_aload_n hx hb dX1_game_93 rfl (lv_at hl 0 rfl) ?_
                  refine lv_iload_n hx hb dX1_game_94 rfl (lv_at hl 1 rfl) ?_
                  refine lv_iload hx hb dX1_game_95 (lv_at hl 6 rfl) ?_
                  refine lv_iload hx hb dX1_game_97 (lv_at hl 7 rfl) ?_
                  refine RX_callI (As := [.int a1, .int x6, .int x7]) (rest := [.int r27]) ⟨hx, hb, hml, hown, hts⟩ hS hBz hK hZ (hT.at hS hNA) hM (metX1_gains l D cA z0 E tw N ad h T a1 x6 x7 _ hw) (cwV 3 hts (lw_V q1649 q1651 qs42 q104 q1652) rfl rfl rfl (by decide +kernel) ⟨Nat.le_of_ble_eq_true rfl, Nat.le_of_ble_eq_true rfl⟩) rfl hl.1 rfl (Nat.le_of_ble_eq_true rfl) dX1_game_99 ⟨Nat.le_of_ble_eq_true rfl, Nat.le_of_ble_eq_true rfl⟩ (fun r28 H locs hw hk hS => ?_)
                  have hM := hM.kept hk
                  refine lv_icmp_gt (tgt := 130) hx hb dX1_game_102 (by decide) (fun c29 => ?_) (fun c29 => ?_)
                  · have hw := hw.1 c29
                    exact hB130 x9 hw _ _ ls hM hS (lv_sub hl [0, 1, 2, 3, 4, 5, 6, 7, 9] rfl)
                  · have hw := hw.2 c29
                    refine lv_aload_n hx hb dX1_game_105 rfl (lv_at hl 0 rfl) ?_
                    refine lv_iload_n hx hb dX1_game_106 rfl (lv_at hl 2 rfl) ?_
                    refine lv_iload hx hb dX1_game_107 (lv_at hl 9 rfl) ?_
                    refine lv_iload hx hb dX1_game_109 (lv_at hl 6 rfl) ?_
                    refine RX_callI (As := [.int a2, .int x9, .int x6]) (rest := []) ⟨hx, hb, hml, hown, hts⟩ hS hBz hK hZ (hT.at hS hNA) hM (metX1_gains l D cA z0 E tw N ad h T a2 x9 x6 _ hw) (cwV 3 hts (lw_V q1649 q1651 qs42 q104 q1652) rfl rfl rfl (by decide +kernel) ⟨Nat.le_of_ble_eq_true rfl, Nat.le_of_ble_eq_true rfl⟩) rfl hl.1 rfl (Nat.le_of_ble_eq_true rfl) dX1_game_111 ⟨Nat.le_of_ble_eq_true rfl, Nat.le_of_ble_eq_true rfl⟩ (fun r30 H locs hw hk hS => ?_)
                    have hM := hM.kept hk
                    refine lv_aload_n hx hb dX1_game_114 rfl (lv_at hl 0 rfl) ?_
                    refine lv_iload_n hx hb dX1_game_115 rfl (lv_at hl 2 rfl) ?_
                    refine lv_iload hx hb dX1_game_116 (lv_at hl 7 rfl) ?_
                    refine lv_iload hx hb dX1_game_118 (lv_at hl 6 rfl) ?_
                    refine RX_callI (As := [.int a2, .int x7, .int x6]) (rest := [.int r30]) ⟨hx, hb, hml, hown, hts⟩ hS hBz hK hZ (hT.at hS hNA) hM (metX1_gains l D cA z0 E tw N ad h T a2 x7 x6 _ hw) (cwV 3 hts (lw_V q1649 q1651 qs42 q104 q1652) rfl rfl rfl (by decide +kernel) ⟨Nat.le_of_ble_eq_true rfl, Nat.le_of_ble_eq_true rfl⟩) rfl hl.1 rfl (Nat.le_of_ble_eq_true rfl) dX1_game_120 ⟨Nat.le_of_ble_eq_true rfl, Nat.le_of_ble_eq_true rfl⟩ (fun r31 H locs hw hk hS => ?_)
                    have hM := hM.kept hk
                    have hj32 : JT p l e (headSpec (ws_ yX1_game cX1_game 10 (some .int)) ({ frames := 13, cells := 4, slots := 24, locals := 421 })).room s m ([.ref (ad 17), .int a1, .int a2, .int a3] : List Value).toArray below meth c (vx_MQ below (XTi D cA tw ad s.heap.size post) (XTx D cA tw ad s.heap.size h0 px) ([.ref (ad 17), .int a1, .int a2, .int a3] : List Value).toArray s 4 24 (XB ad s.heap.size)) D cA tw ad 4 24 10 131 h [(0, .ref (ad 17)), (1, .int a1), (2, .int a2), (3, .int a3), (4, .int x4), (5, .int x5), (6, .int x6), (7, .int x7), (9, .int x9)] [.int (if r31 < r30 then (0 : Int32) else (1 : Int32))] := by
                      intro H locs ls hM hS hl
                      refine lv_istore (lv' := [(8, .int (if r31 < r30 then (0 : Int32) else (1 : Int32))), (0, .ref (ad 17)), (1, .int a1), (2, .int a2), (3, .int a3), (4, .int x4), (5, .int x5), (6, .int x6), (7, .int x7), (9, .int x9)]) hx hb dX1_game_131 hl (by decide) rfl (fun ls hl => ?_)
                      refine lv_iinc (v := (x9 + (1 : Int32))) (lv' := [(9, .int (x9 + (1 : Int32))), (8, .int (if r31 < r30 then (0 : Int32) else (1 : Int32))), (0, .ref (ad 17)), (1, .int a1), (2, .int a2), (3, .int a3), (4, .int x4), (5, .int x5), (6, .int x6), (7, .int x7)]) hx hb dX1_game_133 hl (k := 9) rfl rfl (by decide) rfl (fun ls hl => ?_)
                      refine lv_goto (tgt := 70) hx hb dX1_game_136 (by decide) ?_
                      exact ih70 (if r31 < r30 then (0 : Int32) else (1 : Int32)) (x9 + (1 : Int32)) hw _ _ ls hM hS (lv_sub hl [2, 3, 4, 5, 6, 7, 8, 9, 1, 0] rfl)
                    refine lv_icmp_gt (tgt := 130) hx hb dX1_game_123 (by decide) (fun c33 => ?_) (fun c33 => ?_)
                    · refine lv_iconst (v := (0 : Int32)) hx hb dX1_game_130 (by decide) ?_
                      have e34 : (if r31 < r30 then (0 : Int32) else (1 : Int32)) = (0 : Int32) := by rw [if_pos c33]
                      rw [e34] at hj32
                      exact hj32 _ _ ls hM hS (lv_sub hl [0, 1, 2, 3, 4, 5, 6, 7, 9] rfl)
                    · refine lv_iconst (v := (1 : Int32)) hx hb dX1_game_126 (by decide) ?_
                      refine lv_goto (tgt := 131) hx hb dX1_game_127 (by decide) ?_
                      have e35 : (if r31 < r30 then (0 : Int32) else (1 : Int32)) = (1 : Int32) := by rw [if_neg c33]
                      rw [e35] at hj32
                      exact hj32 _ _ ls hM hS (lv_sub hl [0, 1, 2, 3, 4, 5, 6, 7, 9] rfl)
          intro x4 x5 x7 hw H locs ls hM hS hl
          have hw : wpBX1_game_55 post T px a1 a2 a3 (fun x4 x5 x6 => wpLX1_game_43 post T px a1 a2 a3  h  n43 (x4, x5, x6)) (fun x4 x5 x7 => wpLX1_game_55 post T px a1 a2 a3 (fun x4 x5 x6 => wpLX1_game_43 post T px a1 a2 a3  h  n43 (x4, x5, x6)) h x6 n55 (x4, x5, x7)) h x6 x4 x5 x7 := hw
          unfold wpBX1_game_55 at hw
          refine lv_iload hx hb dX1_game_55 (lv_at hl 7 rfl) ?_
          refine lv_aload_n hx hb dX1_game_57 rfl (lv_at hl 0 rfl) ?_
          refine RX_callI (As := []) (rest := [.int x7]) ⟨hx, hb, hml, hown, hts⟩ hS hBz hK hZ (hT.at hS hNA) hM (metX1_loaves l D cA z0 E tw N ad h T  _ hw) (cwV 0 hts (lw_V q860 q862 qs9 q104 q863) rfl rfl rfl (by decide +kernel) ⟨Nat.le_of_ble_eq_true rfl, Nat.le_of_ble_eq_true rfl⟩) rfl hl.1 rfl (Nat.le_of_ble_eq_true rfl) dX1_game_58 ⟨Nat.le_of_ble_eq_true rfl, Nat.le_of_ble_eq_true rfl⟩ (fun r13 H locs hw hk hS => ?_)
          have hM := hM.kept hk
          refine lv_icmp_ge (tgt := 172) hx hb dX1_game_61 (by decide) (fun c14 => ?_) (fun c14 => ?_)
          · have hw := hw.1 c14
            refine lv_iinc (v := (x6 + (1 : Int32))) (lv' := [(6, .int (x6 + (1 : Int32))), (0, .ref (ad 17)), (1, .int a1), (2, .int a2), (3, .int a3), (4, .int x4), (5, .int x5), (7, .int x7)]) hx hb dX1_game_172 hl (k := 6) rfl rfl (by decide) rfl (fun ls hl => ?_)
            refine lv_goto (tgt := 43) hx hb dX1_game_175 (by decide) ?_
            exact ih43 x4 x5 (x6 + (1 : Int32)) hw _ _ ls hM hS (lv_sub hl [1, 2, 3, 4, 5, 6, 0] rfl)
          · have hw := hw.2 c14
            refine lv_iconst (v := (1 : Int32)) hx hb dX1_game_64 (by decide) ?_
            refine lv_istore (lv' := [(8, .int (1 : Int32)), (0, .ref (ad 17)), (1, .int a1), (2, .int a2), (3, .int a3), (4, .int x4), (5, .int x5), (6, .int x6), (7, .int x7)]) hx hb dX1_game_65 hl (by decide) rfl (fun ls hl => ?_)
            refine lv_iconst (v := (0 : Int32)) hx hb dX1_game_67 (by decide) ?_
            refine lv_istore (lv' := [(9, .int (0 : Int32)), (8, .int (1 : Int32)), (0, .ref (ad 17)), (1, .int a1), (2, .int a2), (3, .int a3), (4, .int x4), (5, .int x5), (6, .int x6), (7, .int x7)]) hx hb dX1_game_68 hl (by decide) rfl (fun ls hl => ?_)
            obtain ⟨n36, hw⟩ := hw
            exact hL70 x4 x5 x7 n36 (1 : Int32) (0 : Int32) hw _ _ ls hM hS (lv_sub hl [2, 3, 4, 5, 6, 7, 8, 9, 1, 0] rfl)
      intro x4 x5 x6 hw H locs ls hM hS hl
      have hw : wpBX1_game_43 post T px a1 a2 a3  (fun x4 x5 x6 => wpLX1_game_43 post T px a1 a2 a3  h  n43 (x4, x5, x6)) h  x4 x5 x6 := hw
      unfold wpBX1_game_43 at hw
      refine lv_iload hx hb dX1_game_43 (lv_at hl 6 rfl) ?_
      refine lv_aload_n hx hb dX1_game_45 rfl (lv_at hl 0 rfl) ?_
      refine RX_callI (As := []) (rest := [.int x6]) ⟨hx, hb, hml, hown, hts⟩ hS hBz hK hZ (hT.at hS hNA) hM (metX1_loaves l D cA z0 E tw N ad h T  _ hw) (cwV 0 hts (lw_V q860 q862 qs9 q104 q863) rfl rfl rfl (by decide +kernel) ⟨Nat.le_of_ble_eq_true rfl, Nat.le_of_ble_eq_true rfl⟩) rfl hl.1 rfl (Nat.le_of_ble_eq_true rfl) dX1_game_46 ⟨Nat.le_of_ble_eq_true rfl, Nat.le_of_ble_eq_true rfl⟩ (fun r7 H locs hw hk hS => ?_)
      have hM := hM.kept hk
      refine lv_icmp_ge (tgt := 178) hx hb dX1_game_49 (by decide) (fun c8 => ?_) (fun c8 => ?_)
      · have hw := hw.1 c8
        refine lv_iload_n hx hb dX1_game_178 rfl (lv_at hl 3 rfl) ?_
        have hj9 : JT p l e (headSpec (ws_ yX1_game cX1_game 10 (some .int)) ({ frames := 13, cells := 4, slots := 24, locals := 421 })).room s m ([.ref (ad 17), .int a1, .int a2, .int a3] : List Value).toArray below meth c (vx_MQ below (XTi D cA tw ad s.heap.size post) (XTx D cA tw ad s.heap.size h0 px) ([.ref (ad 17), .int a1, .int a2, .int a3] : List Value).toArray s 4 24 (XB ad s.heap.size)) D cA tw ad 4 24 10 189 h [] [.int (if a3 = 0 then x4 else x5)] := by
          intro H locs ls hM hS hl
          exact XT_iret hx hb hr hlocks hM hS hw (Nat.le_of_ble_eq_true rfl) (Nat.le_of_ble_eq_true rfl) dX1_game_189
        refine lv_if_ne (tgt := 187) hx hb dX1_game_179 (by decide) (fun c10 => ?_) (fun c10 => ?_)
        · refine lv_iload hx hb dX1_game_187 (lv_at hl 5 rfl) ?_
          have e11 : (if a3 = 0 then x4 else x5) = x5 := by rw [if_neg c10]
          rw [e11] at hj9
          exact hj9 _ _ ls hM hS (lv_sub hl [] rfl)
        · refine lv_iload hx hb dX1_game_182 (lv_at hl 4 rfl) ?_
          refine lv_goto (tgt := 189) hx hb dX1_game_184 (by decide) ?_
          have e12 : (if a3 = 0 then x4 else x5) = x4 := by rw [if_pos c10]
          rw [e12] at hj9
          exact hj9 _ _ ls hM hS (lv_sub hl [] rfl)
      · have hw := hw.2 c8
        refine lv_iconst (v := (0 : Int32)) hx hb dX1_game_52 (by decide) ?_
        refine lv_istore (lv' := [(7, .int (0 : Int32)), (0, .ref (ad 17)), (1, .int a1), (2, .int a2), (3, .int a3), (4, .int x4), (5, .int x5), (6, .int x6)]) hx hb dX1_game_53 hl (by decide) rfl (fun ls hl => ?_)
        obtain ⟨n37, hw⟩ := hw
        exact hL55 x6 n37 x4 x5 (0 : Int32) hw _ _ ls hM hS (lv_sub hl [1, 2, 3, 4, 5, 6, 7, 0] rfl)
  have hB31 : ∀ (s0 : Int32), wpBX1_game_31 post T px a1 a2 a3  h s0 → JT p l e (headSpec (ws_ yX1_game cX1_game 10 (some .int)) ({ frames := 13, cells := 4, slots := 24, locals := 421 })).room s m ([.ref (ad 17), .int a1, .int a2, .int a3] : List Value).toArray below meth c (vx_MQ below (XTi D cA tw ad s.heap.size post) (XTx D cA tw ad s.heap.size h0 px) ([.ref (ad 17), .int a1, .int a2, .int a3] : List Value).toArray s 4 24 (XB ad s.heap.size)) D cA tw ad 3 18 10 31 h [(0, .ref (ad 17)), (1, .int a1), (2, .int a2), (3, .int a3)] [.int s0] := by
    intro s0 hw H locs ls hM hS hl
    unfold wpBX1_game_31 at hw
    refine XT_right ⟨hx, hb, hml, hown, hts⟩ eh0.symm hlt hZ hJ hM hS het hlocks (a := s0) hw.2 q989 ⟨Nat.le_of_ble_eq_true rfl, Nat.le_of_ble_eq_true rfl⟩ hl.1 (Nat.le_of_ble_eq_true rfl) dX1_game_31 ⟨Nat.le_of_ble_eq_true rfl, Nat.le_of_ble_eq_true rfl⟩ (Nat.le_of_ble_eq_true rfl) (Nat.le_of_ble_eq_true rfl) (fun c6 H locs hM hS => ?_)
    have hw := hw.1 c6
    refine lv_iconst (v := (0 : Int32)) hx hb dX1_game_34 (by decide) ?_
    refine lv_istore (lv' := [(4, .int (0 : Int32)), (0, .ref (ad 17)), (1, .int a1), (2, .int a2), (3, .int a3)]) hx hb dX1_game_35 hl (by decide) rfl (fun ls hl => ?_)
    refine lv_iconst (v := (-1 : Int32)) hx hb dX1_game_37 (by decide) ?_
    refine lv_istore (lv' := [(5, .int (-1 : Int32)), (4, .int (0 : Int32)), (0, .ref (ad 17)), (1, .int a1), (2, .int a2), (3, .int a3)]) hx hb dX1_game_38 hl (by decide) rfl (fun ls hl => ?_)
    refine lv_iconst (v := (0 : Int32)) hx hb dX1_game_40 (by decide) ?_
    refine lv_istore (lv' := [(6, .int (0 : Int32)), (5, .int (-1 : Int32)), (4, .int (0 : Int32)), (0, .ref (ad 17)), (1, .int a1), (2, .int a2), (3, .int a3)]) hx hb dX1_game_41 hl (by decide) rfl (fun ls hl => ?_)
    obtain ⟨n38, hw⟩ := hw
    exact hL43 h n38 (0 : Int32) (-1 : Int32) (0 : Int32) hw _ _ ls hM hS (lv_sub hl [3, 4, 5, 6, 2, 1, 0] rfl)
  unfold wpX1_game at hw
  refine lv_aload_n hx hb dX1_game_0 rfl (lv_at hl 0 rfl) ?_
  refine lv_iload_n hx hb dX1_game_1 rfl (lv_at hl 1 rfl) ?_
  refine XT_pers ⟨hx, hb, hml, hown, hts⟩ eh0.symm hlt hK hZ (hT.at hS hNA) hJ hM hS het hlocks hn0 (a := a1) hw.2 (cwV 1 hts (lw_V q1427 q1429 qs37 q104 q1430) rfl rfl rfl (by decide +kernel) ⟨Nat.le_of_ble_eq_true rfl, Nat.le_of_ble_eq_true rfl⟩) hl.1 (Nat.le_of_ble_eq_true rfl) dX1_game_2 ⟨Nat.le_of_ble_eq_true rfl, Nat.le_of_ble_eq_true rfl⟩ (Nat.le_of_ble_eq_true rfl) (Nat.le_of_ble_eq_true rfl) (fun p1 hp1 ep1 H locs hM hS => ?_)
  have hw := hw.1 p1 hp1 ep1
  refine lv_pop hx hb dX1_game_5 rfl ?_
  refine lv_aload_n hx hb dX1_game_6 rfl (lv_at hl 0 rfl) ?_
  refine lv_iload_n hx hb dX1_game_7 rfl (lv_at hl 2 rfl) ?_
  refine XT_pers ⟨hx, hb, hml, hown, hts⟩ eh0.symm hlt hK hZ (hT.at hS hNA) hJ hM hS het hlocks hn0 (a := a2) hw.2 (cwV 1 hts (lw_V q1427 q1429 qs37 q104 q1430) rfl rfl rfl (by decide +kernel) ⟨Nat.le_of_ble_eq_true rfl, Nat.le_of_ble_eq_true rfl⟩) hl.1 (Nat.le_of_ble_eq_true rfl) dX1_game_8 ⟨Nat.le_of_ble_eq_true rfl, Nat.le_of_ble_eq_true rfl⟩ (Nat.le_of_ble_eq_true rfl) (Nat.le_of_ble_eq_true rfl) (fun p2 hp2 ep2 H locs hM hS => ?_)
  have hw := hw.1 p2 hp2 ep2
  refine lv_pop hx hb dX1_game_11 rfl ?_
  refine lv_iload_n hx hb dX1_game_12 rfl (lv_at hl 3 rfl) ?_
  refine lv_iconst (v := (0 : Int32)) hx hb dX1_game_13 (by decide) ?_
  refine lv_iconst (v := (1 : Int32)) hx hb dX1_game_14 (by decide) ?_
  refine RN_callZ (As := [.int a3, .int (0 : Int32), .int (1 : Int32)]) (rest := []) ⟨hx, hb, hml, hown, hts⟩ hS (metX1_within l h a3 (0 : Int32) (1 : Int32) _ hw) (va_cwS 3 hts (lw_S q847 q848 q104 q849) rfl rfl rfl (by decide +kernel) ⟨Nat.le_of_ble_eq_true rfl, Nat.le_of_ble_eq_true rfl⟩) rfl hl.1 rfl (Nat.le_of_ble_eq_true rfl) dX1_game_15 ⟨Nat.le_of_ble_eq_true rfl, Nat.le_of_ble_eq_true rfl⟩ (fun r3 H locs hw hk hS => ?_)
  have hM := hM.kept hk
  refine XT_there ⟨hx, hb, hml, hown, hts⟩ eh0.symm hlt hZ hJ hM hS het hlocks (a := (b2i r3)) (fun c => hw.2 (b2i_f c)) q1394 ⟨Nat.le_of_ble_eq_true rfl, Nat.le_of_ble_eq_true rfl⟩ hl.1 (Nat.le_of_ble_eq_true rfl) dX1_game_18 ⟨Nat.le_of_ble_eq_true rfl, Nat.le_of_ble_eq_true rfl⟩ (Nat.le_of_ble_eq_true rfl) (Nat.le_of_ble_eq_true rfl) (fun c4 H locs hM hS => ?_)
  have c4 := b2i_t c4
  have hw := hw.1 c4
  refine lv_iload_n hx hb dX1_game_21 rfl (lv_at hl 1 rfl) ?_
  refine lv_iload_n hx hb dX1_game_22 rfl (lv_at hl 2 rfl) ?_
  have hj5 : JT p l e (headSpec (ws_ yX1_game cX1_game 10 (some .int)) ({ frames := 13, cells := 4, slots := 24, locals := 421 })).room s m ([.ref (ad 17), .int a1, .int a2, .int a3] : List Value).toArray below meth c (vx_MQ below (XTi D cA tw ad s.heap.size post) (XTx D cA tw ad s.heap.size h0 px) ([.ref (ad 17), .int a1, .int a2, .int a3] : List Value).toArray s 4 24 (XB ad s.heap.size)) D cA tw ad 3 18 10 31 h [(0, .ref (ad 17)), (1, .int a1), (2, .int a2), (3, .int a3)] [.int (if a1 = a2 then (0 : Int32) else (1 : Int32))] := by
    intro H locs ls hM hS hl
    exact hB31 (if a1 = a2 then (0 : Int32) else (1 : Int32)) hw _ _ ls hM hS (lv_sub hl [0, 1, 2, 3] rfl)
  refine lv_icmp_eq (tgt := 30) hx hb dX1_game_23 (by decide) (fun c39 => ?_) (fun c39 => ?_)
  · refine lv_iconst (v := (0 : Int32)) hx hb dX1_game_30 (by decide) ?_
    have e40 : (if a1 = a2 then (0 : Int32) else (1 : Int32)) = (0 : Int32) := by rw [if_pos c39]
    rw [e40] at hj5
    exact hj5 _ _ ls hM hS (lv_sub hl [0, 1, 2, 3] rfl)
  · refine lv_iconst (v := (1 : Int32)) hx hb dX1_game_26 (by decide) ?_
    refine lv_goto (tgt := 31) hx hb dX1_game_27 (by decide) ?_
    have e41 : (if a1 = a2 then (0 : Int32) else (1 : Int32)) = (1 : Int32) := by rw [if_neg c39]
    rw [e41] at hj5
    exact hj5 _ _ ls hM hS (lv_sub hl [0, 1, 2, 3] rfl)

/-- StrangeKnives.season(III)I -/
def wpBX1_season_125 (post : Int32 → Mem → Prop) (T : TT) (px : Nat → Prop) (a1 : Int32) (a2 : Int32) (a3 : Int32) (K44 : Mem → Int32 → Int32 → Int32 → Prop) (K125 : Int32 → Int32 → Prop) (h : Mem) (x4 : Int32) (x5 : Int32) (x6 : Int32) (x7 : Int32) (x8 : Int32) : Prop :=
  (wpX1_loaves (fun r14 => ((r14 ≤ x8 → ((x6 = 0 → K44 h (x4 + x7) x7 (x6 + (1 : Int32))) ∧ (¬ x6 = 0 → K44 h (x4 + x7) (mnI x5 x7) (x6 + (1 : Int32))))) ∧ (¬ r14 ≤ x8 → (wpX6_whoCan (fun r17 => K125 (if r17 = 0 then x7 else (x7 + (1 : Int32))) (x8 + (1 : Int32))) (sub h 50) T x8)))) h T )
def wpLX1_season_125 (post : Int32 → Mem → Prop) (T : TT) (px : Nat → Prop) (a1 : Int32) (a2 : Int32) (a3 : Int32) (K44 : Mem → Int32 → Int32 → Int32 → Prop) (h : Mem) (x4 : Int32) (x5 : Int32) (x6 : Int32) : Nat → (Int32 × Int32) → Prop := LW (fun K s => wpBX1_season_125 post T px a1 a2 a3 K44 (fun x7 x8 => K (x7, x8)) h x4 x5 x6 s.1 s.2)
def wpBX1_season_119 (post : Int32 → Mem → Prop) (T : TT) (px : Nat → Prop) (a1 : Int32) (a2 : Int32) (a3 : Int32) (K44 : Mem → Int32 → Int32 → Int32 → Prop) (h : Mem) (x4 : Int32) (x5 : Int32) (x6 : Int32)  : Prop :=
  (∃ n, wpLX1_season_125 post T px a1 a2 a3 K44 h x4 x5 x6 n ((0 : Int32), (0 : Int32)))
def wpBX1_season_44 (post : Int32 → Mem → Prop) (T : TT) (px : Nat → Prop) (a1 : Int32) (a2 : Int32) (a3 : Int32)  (K44 : Mem → Int32 → Int32 → Int32 → Prop)  (h : Mem) (x4 : Int32) (x5 : Int32) (x6 : Int32) : Prop :=
  ((a2 ≤ x6 → ((a3 = 0 → post x4 h) ∧ (¬ a3 = 0 → ((a3 = (1 : Int32) → post x5 h) ∧ (¬ a3 = (1 : Int32) → (wpX1_couples (fun r10 => post r10 h) h T 50)))))) ∧ (¬ a2 ≤ x6 → (∀ h11 : Mem, h11 = up2 h 53 0 ((h 53 0) + (1 : Int32)) → (wpX1_people (fun r12 => ((r12 ≤ 0 → wpBX1_season_119 post T px a1 a2 a3 K44 h11 x4 x5 x6) ∧ (¬ r12 ≤ 0 → (wpX1_people (fun r23 => (wpX1_draw (fun r25 h24 => (wpX1_people (fun r26 => (wpX1_draw (fun r28 h27 => ((r25 = r28 → wpBX1_season_119 post T px a1 a2 a3 K44 h27 x4 x5 x6) ∧ (¬ r25 = r28 → (wpX6_meet (fun S30 => (∀ h31 : Mem, h31 = put5 h27 50 S30 → wpBX1_season_119 post T px a1 a2 a3 K44 h31 x4 x5 x6)) (sub h27 50) T r25 r28 (h27 53 0))))) h24 T r26)) h24 T )) h11 T r23)) h11 T )))) h11 T ))))
def wpLX1_season_44 (post : Int32 → Mem → Prop) (T : TT) (px : Nat → Prop) (a1 : Int32) (a2 : Int32) (a3 : Int32)   : Nat → (Mem × Int32 × Int32 × Int32) → Prop := LW (fun K s => wpBX1_season_44 post T px a1 a2 a3  (fun h x4 x5 x6 => K (h, x4, x5, x6))  s.1 s.2.1 s.2.2.1 s.2.2.2)
def wpX1_season (post : Int32 → Mem → Prop) (h : Mem) (T : TT) (px : Nat → Prop) (a1 : Int32) (a2 : Int32) (a3 : Int32) : Prop :=
  (wpX1_within (fun r1 => ((r1 = true → (wpX1_within (fun r3 => ((r3 = true → (∀ h5 : Mem, h5 = put5 h 50 (likeM (sub h 50) (sub h 40)) → (∀ h6 : Mem, h6 = up2 h5 16 0 a1 → (∃ n, wpLX1_season_44 post T px a1 a2 a3   n (h6, (0 : Int32), (0 : Int32), (0 : Int32)))))) ∧ (¬ r3 = true → px 1))) h a2 (0 : Int32) (60 : Int32))) ∧ (¬ r1 = true → px 0))) h a3 (0 : Int32) (2 : Int32))
set_option maxHeartbeats 4000000 in
set_option maxRecDepth 100000 in
theorem metX1_season (l : Launch) (hlt : l.stackTraces = false) (D : va_G) (cA : Nat → ClassId) (z0 : Nat) (E : Nat → Nat → Nat) (tw : Nat → Nat) (N : Nat → Prop) (ad : Nat → Nat) (sz : Nat) (h : Mem) (T : TT) (px : Nat → Prop) (a1 : Int32) (a2 : Int32) (a3 : Int32) (hn0 : T 0 0 < 2 ^ 31) (hn1 : T 0 1 < 2 ^ 31) (post : Int32 → Mem → Prop) (hw : wpX1_season post h T px a1 a2 a3) : MeTI l D cA z0 E T tw N ad sz yX1_season (ws_ yX1_season cX1_season 9 (some .int)) ({ frames := 9, cells := 2, slots := 12, locals := 294 }) [.ref (ad 17), .int a1, .int a2, .int a3] h post px 2 12 := by
  refine vx_ofW (cc := cX1_season) (maxL := 9) (ret := (some .int)) (by decide) rfl ?_
  intro p e s m args below meth c s₁ B hml het hv
  obtain ⟨rfl, hsz, hM, hJ, hN, hT, hK, hZ⟩ := hv
  have hx := B.exec
  have hb := B.bytes
  have hr := B.returns
  have hts := atoms_spec (ws := ws_ yX1_season cX1_season 9 (some .int)) B.pre
  have hts : ∀ w ∈ lw_all, w.before _ s = true := fun w h => hts w (List.mem_cons_of_mem _ h)
  have hown : s.vm.findClass RX1 = some m.cls := findClass_of_methodNamed B.named
  have hlocks := B.notSynchronized
  subst hsz
  have hA : ∀ q, XA ad q → XB ad s.heap.size q := fun _ h => Or.inl h
  have hBz : ∀ q, XB ad s.heap.size q → z0 ≤ q := XB.z hZ hJ
  have hNA : ∀ q, N q → q < s.heap.size → ¬ XB ad s.heap.size q := fun q h h2 h3 => h3.elim (hN q h) (fun h4 => absurd h4 (Nat.not_le.mpr h2))
  have hS : va_S (XB ad s.heap.size) s.heap s.heap [] := va_S.rf
  have hl := lv_entry ([.ref (ad 17), .int a1, .int a2, .int a3]) (n := 9) (Nat.le_of_ble_eq_true rfl)
  rw [lg_entry_eq]
  generalize (lg_sl ([.ref (ad 17), .int a1, .int a2, .int a3]) ++ List.replicate (9 - (lg_sl ([.ref (ad 17), .int a1, .int a2, .int a3])).length) Slot.unset).toArray = ls at hl ⊢
  have hl : lv_has ls 9 [(0, .ref (ad 17)), (1, .int a1), (2, .int a2), (3, .int a3)] := hl
  obtain ⟨h0, eh0⟩ : ∃ y : Mem, y = h := ⟨_, rfl⟩
  rw [← eh0]
  have hL44 : ∀  (n44 : Nat) (h : Mem) (x4 : Int32) (x5 : Int32) (x6 : Int32), wpLX1_season_44 post T px a1 a2 a3   n44 (h, x4, x5, x6) → JT p l e (headSpec (ws_ yX1_season cX1_season 9 (some .int)) ({ frames := 9, cells := 2, slots := 12, locals := 294 })).room s m ([.ref (ad 17), .int a1, .int a2, .int a3] : List Value).toArray below meth c (vx_MQ below (XTi D cA tw ad s.heap.size post) (XTx D cA tw ad s.heap.size h0 px) ([.ref (ad 17), .int a1, .int a2, .int a3] : List Value).toArray s 2 12 (XB ad s.heap.size)) D cA tw ad 2 12 9 44 h [(0, .ref (ad 17)), (2, .int a2), (3, .int a3), (4, .int x4), (5, .int x5), (6, .int x6)] [] := by
    intro  n44
    induction n44 with
    | zero => intro h x4 x5 x6 hw; exact False.elim hw
    | succ n44 ih44 =>
      have hL125 : ∀ (h : Mem) (x4 : Int32) (x5 : Int32) (x6 : Int32) (n125 : Nat) (x7 : Int32) (x8 : Int32), wpLX1_season_125 post T px a1 a2 a3 (fun h x4 x5 x6 => wpLX1_season_44 post T px a1 a2 a3   n44 (h, x4, x5, x6)) h x4 x5 x6 n125 (x7, x8) → JT p l e (headSpec (ws_ yX1_season cX1_season 9 (some .int)) ({ frames := 9, cells := 2, slots := 12, locals := 294 })).room s m ([.ref (ad 17), .int a1, .int a2, .int a3] : List Value).toArray below meth c (vx_MQ below (XTi D cA tw ad s.heap.size post) (XTx D cA tw ad s.heap.size h0 px) ([.ref (ad 17), .int a1, .int a2, .int a3] : List Value).toArray s 2 12 (XB ad s.heap.size)) D cA tw ad 2 12 9 125 h [(0, .ref (ad 17)), (2, .int a2), (3, .int a3), (4, .int x4), (5, .int x5), (6, .int x6), (7, .int x7), (8, .int x8)] [] := by
        intro h x4 x5 x6 n125
        induction n125 with
        | zero => intro x7 x8 hw; exact False.elim hw
        | succ n125 ih125 =>
          intro x7 x8 hw H locs ls hM hS hl
          have hw : wpBX1_season_125 post T px a1 a2 a3 (fun h x4 x5 x6 => wpLX1_season_44 post T px a1 a2 a3   n44 (h, x4, x5, x6)) (fun x7 x8 => wpLX1_season_125 post T px a1 a2 a3 (fun h x4 x5 x6 => wpLX1_season_44 post T px a1 a2 a3   n44 (h, x4, x5, x6)) h x4 x5 x6 n125 (x7, x8)) h x4 x5 x6 x7 x8 := hw
          unfold wpBX1_season_125 at hw
          refine lv_iload hx hb dX1_season_125 (lv_at hl 7 rfl) ?_
          refine lv_aload_n hx hb dX1_season_127 rfl (lv_at hl 0 rfl) ?_
          refine RX_callI (As := []) (rest := [.int x8]) ⟨hx, hb, hml, hown, hts⟩ hS hBz hK hZ (hT.at hS hNA) hM (metX1_loaves l D cA z0 E tw N ad h T  _ hw) (cwV 0 hts (lw_V q860 q862 qs9 q104 q863) rfl rfl rfl (by decide +kernel) ⟨Nat.le_of_ble_eq_true rfl, Nat.le_of_ble_eq_true rfl⟩) rfl hl.1 rfl (Nat.le_of_ble_eq_true rfl) dX1_season_128 ⟨Nat.le_of_ble_eq_true rfl, Nat.le_of_ble_eq_true rfl⟩ (fun r14 H locs hw hk hS => ?_)
          have hM := hM.kept hk
          refine lv_icmp_ge (tgt := 159) hx hb dX1_season_131 (by decide) (fun c15 => ?_) (fun c15 => ?_)
          · have hw := hw.1 c15
            refine lv_iload hx hb dX1_season_159 (lv_at hl 3 rfl) ?_
            refine lv_iload hx hb dX1_season_161 (lv_at hl 6 rfl) ?_
            refine lv_iadd hx hb dX1_season_163 ?_
            refine lv_istore (lv' := [(4, .int (x4 + x7)), (0, .ref (ad 17)), (2, .int a2), (3, .int a3), (5, .int x5), (6, .int x6), (7, .int x7), (8, .int x8)]) hx hb dX1_season_164 hl (by decide) rfl (fun ls hl => ?_)
            refine lv_iload hx hb dX1_season_166 (lv_at hl 5 rfl) ?_
            refine lv_if_ne (tgt := 176) hx hb dX1_season_168 (by decide) (fun c16 => ?_) (fun c16 => ?_)
            · have hw := hw.2 c16
              refine lv_iload hx hb dX1_season_176 (lv_at hl 4 rfl) ?_
              refine lv_iload hx hb dX1_season_178 (lv_at hl 6 rfl) ?_
              refine J_mnI hx hb hml hl.1 hown (hts _ q895) (hts _ q291) (hts _ q118) (hts _ q292) (Nat.le_of_ble_eq_true rfl) (Nat.le_of_ble_eq_true rfl) (Nat.le_of_ble_eq_true rfl) (Nat.le_of_ble_eq_true rfl) dX1_season_180 ?_
              refine lv_istore (lv' := [(5, .int (mnI x5 x7)), (4, .int (x4 + x7)), (0, .ref (ad 17)), (2, .int a2), (3, .int a3), (6, .int x6), (7, .int x7), (8, .int x8)]) hx hb dX1_season_183 hl (by decide) rfl (fun ls hl => ?_)
              refine lv_iinc (v := (x6 + (1 : Int32))) (lv' := [(6, .int (x6 + (1 : Int32))), (5, .int (mnI x5 x7)), (4, .int (x4 + x7)), (0, .ref (ad 17)), (2, .int a2), (3, .int a3), (7, .int x7), (8, .int x8)]) hx hb dX1_season_185 hl (k := 5) rfl rfl (by decide) rfl (fun ls hl => ?_)
              refine lv_goto (tgt := 44) hx hb dX1_season_188 (by decide) ?_
              exact ih44 h (x4 + x7) (mnI x5 x7) (x6 + (1 : Int32)) hw _ _ ls hM hS (lv_sub hl [3, 4, 5, 2, 1, 0] rfl)
            · have hw := hw.1 c16
              refine lv_iload hx hb dX1_season_171 (lv_at hl 6 rfl) ?_
              refine lv_goto (tgt := 183) hx hb dX1_season_173 (by decide) ?_
              refine lv_istore (lv' := [(5, .int x7), (4, .int (x4 + x7)), (0, .ref (ad 17)), (2, .int a2), (3, .int a3), (6, .int x6), (7, .int x7), (8, .int x8)]) hx hb dX1_season_183 hl (by decide) rfl (fun ls hl => ?_)
              refine lv_iinc (v := (x6 + (1 : Int32))) (lv' := [(6, .int (x6 + (1 : Int32))), (5, .int x7), (4, .int (x4 + x7)), (0, .ref (ad 17)), (2, .int a2), (3, .int a3), (7, .int x7), (8, .int x8)]) hx hb dX1_season_185 hl (k := 5) rfl rfl (by decide) rfl (fun ls hl => ?_)
              refine lv_goto (tgt := 44) hx hb dX1_season_188 (by decide) ?_
              exact ih44 h (x4 + x7) x7 (x6 + (1 : Int32)) hw _ _ ls hM hS (lv_sub hl [3, 4, 5, 2, 1, 0] rfl)
          · have hw := hw.2 c15
            refine lv_aload_n hx hb dX1_season_134 rfl (lv_at hl 0 rfl) ?_
            refine X_get17 hx hb hts hown hK hM 4 (v := .ref (ad 55)) (by decide) (hts _ q728) rfl dX1_season_135 ?_
            refine lv_aload_n hx hb dX1_season_138 rfl (lv_at hl 0 rfl) ?_
            refine X_get17 hx hb hts hown hK hM 0 (v := .ref (tw 9)) (by decide) (hts _ q724) rfl dX1_season_139 ?_
            refine lv_iload hx hb dX1_season_142 (lv_at hl 7 rfl) ?_
            refine RS_callI (As := [.ref (tw 9), .int x8]) (rest := []) (sa := (shf ad 50)) (h := (sub h 50)) ⟨hx, hb, hml, hown, hts⟩ hS hBz hK hZ (hT.at hS hNA) hM.tried (metX6_whoCan l D cA z0 E tw N (ad 70) (shf ad 50) (sub h 50) T x8 _ hw) (cwV 2 hts (lw_V q897 q898 q899 q129 q900) rfl rfl rfl (by decide +kernel) ⟨Nat.le_of_ble_eq_true rfl, Nat.le_of_ble_eq_true rfl⟩) rfl hl.1 rfl (Nat.le_of_ble_eq_true rfl) dX1_season_144 ⟨Nat.le_of_ble_eq_true rfl, Nat.le_of_ble_eq_true rfl⟩ (fun r17 H locs hw hk hS => ?_)
            have hM := hM.kept hk
            have hj18 : JT p l e (headSpec (ws_ yX1_season cX1_season 9 (some .int)) ({ frames := 9, cells := 2, slots := 12, locals := 294 })).room s m ([.ref (ad 17), .int a1, .int a2, .int a3] : List Value).toArray below meth c (vx_MQ below (XTi D cA tw ad s.heap.size post) (XTx D cA tw ad s.heap.size h0 px) ([.ref (ad 17), .int a1, .int a2, .int a3] : List Value).toArray s 2 12 (XB ad s.heap.size)) D cA tw ad 2 12 9 153 h [(0, .ref (ad 17)), (2, .int a2), (3, .int a3), (4, .int x4), (5, .int x5), (6, .int x6), (7, .int (if r17 = 0 then x7 else (x7 + (1 : Int32)))), (8, .int x8)] [] := by
              intro H locs ls hM hS hl
              refine lv_iinc (v := (x8 + (1 : Int32))) (lv' := [(8, .int (x8 + (1 : Int32))), (0, .ref (ad 17)), (2, .int a2), (3, .int a3), (4, .int x4), (5, .int x5), (6, .int x6), (7, .int (if r17 = 0 then x7 else (x7 + (1 : Int32))))]) hx hb dX1_season_153 hl (k := 7) rfl rfl (by decide) rfl (fun ls hl => ?_)
              refine lv_goto (tgt := 125) hx hb dX1_season_156 (by decide) ?_
              exact ih125 (if r17 = 0 then x7 else (x7 + (1 : Int32))) (x8 + (1 : Int32)) hw _ _ ls hM hS (lv_sub hl [1, 2, 3, 4, 5, 6, 7, 0] rfl)
            refine lv_if_eq (tgt := 153) hx hb dX1_season_147 (by decide) (fun c19 => ?_) (fun c19 => ?_)
            · have e20 : (if r17 = 0 then x7 else (x7 + (1 : Int32))) = x7 := by rw [if_pos c19]
              rw [e20] at hj18
              exact hj18 _ _ ls hM hS (lv_sub hl [0, 1, 2, 3, 4, 5, 6, 7] rfl)
            · refine lv_iinc (v := (x7 + (1 : Int32))) (lv' := [(7, .int (x7 + (1 : Int32))), (0, .ref (ad 17)), (2, .int a2), (3, .int a3), (4, .int x4), (5, .int x5), (6, .int x6), (8, .int x8)]) hx hb dX1_season_150 hl (k := 6) rfl rfl (by decide) rfl (fun ls hl => ?_)
              have e21 : (if r17 = 0 then x7 else (x7 + (1 : Int32))) = (x7 + (1 : Int32)) := by rw [if_neg c19]
              rw [e21] at hj18
              exact hj18 _ _ ls hM hS (lv_sub hl [1, 2, 3, 4, 5, 6, 0, 7] rfl)
      have hB119 : ∀ (h : Mem) (x4 : Int32) (x5 : Int32) (x6 : Int32), wpBX1_season_119 post T px a1 a2 a3 (fun h x4 x5 x6 => wpLX1_season_44 post T px a1 a2 a3   n44 (h, x4, x5, x6)) h x4 x5 x6 → JT p l e (headSpec (ws_ yX1_season cX1_season 9 (some .int)) ({ frames := 9, cells := 2, slots := 12, locals := 294 })).room s m ([.ref (ad 17), .int a1, .int a2, .int a3] : List Value).toArray below meth c (vx_MQ below (XTi D cA tw ad s.heap.size post) (XTx D cA tw ad s.heap.size h0 px) ([.ref (ad 17), .int a1, .int a2, .int a3] : List Value).toArray s 2 12 (XB ad s.heap.size)) D cA tw ad 2 12 9 119 h [(0, .ref (ad 17)), (2, .int a2), (3, .int a3), (4, .int x4), (5, .int x5), (6, .int x6)] [] := by
        intro h x4 x5 x6 hw H locs ls hM hS hl
        unfold wpBX1_season_119 at hw
        refine lv_iconst (v := (0 : Int32)) hx hb dX1_season_119 (by decide) ?_
        refine lv_istore (lv' := [(7, .int (0 : Int32)), (0, .ref (ad 17)), (2, .int a2), (3, .int a3), (4, .int x4), (5, .int x5), (6, .int x6)]) hx hb dX1_season_120 hl (by decide) rfl (fun ls hl => ?_)
        refine lv_iconst (v := (0 : Int32)) hx hb dX1_season_122 (by decide) ?_
        refine lv_istore (lv' := [(8, .int (0 : Int32)), (7, .int (0 : Int32)), (0, .ref (ad 17)), (2, .int a2), (3, .int a3), (4, .int x4), (5, .int x5), (6, .int x6)]) hx hb dX1_season_123 hl (by decide) rfl (fun ls hl => ?_)
        obtain ⟨n22, hw⟩ := hw
        exact hL125 h x4 x5 x6 n22 (0 : Int32) (0 : Int32) hw _ _ ls hM hS (lv_sub hl [2, 3, 4, 5, 6, 7, 1, 0] rfl)
      intro h x4 x5 x6 hw H locs ls hM hS hl
      have hw : wpBX1_season_44 post T px a1 a2 a3  (fun h x4 x5 x6 => wpLX1_season_44 post T px a1 a2 a3   n44 (h, x4, x5, x6))  h x4 x5 x6 := hw
      unfold wpBX1_season_44 at hw
      refine lv_iload hx hb dX1_season_44 (lv_at hl 5 rfl) ?_
      refine lv_iload_n hx hb dX1_season_46 rfl (lv_at hl 1 rfl) ?_
      refine lv_icmp_ge (tgt := 191) hx hb dX1_season_47 (by decide) (fun c7 => ?_) (fun c7 => ?_)
      · have hw := hw.1 c7
        refine lv_iload_n hx hb dX1_season_191 rfl (lv_at hl 2 rfl) ?_
        refine lv_if_ne (tgt := 200) hx hb dX1_season_192 (by decide) (fun c8 => ?_) (fun c8 => ?_)
        · have hw := hw.2 c8
          refine lv_iload_n hx hb dX1_season_200 rfl (lv_at hl 2 rfl) ?_
          refine lv_iconst (v := (1 : Int32)) hx hb dX1_season_201 (by decide) ?_
          refine lv_icmp_ne (tgt := 210) hx hb dX1_season_202 (by decide) (fun c9 => ?_) (fun c9 => ?_)
          · have hw := hw.2 c9
            refine lv_aload_n hx hb dX1_season_210 rfl (lv_at hl 0 rfl) ?_
            refine lv_aload_n hx hb dX1_season_211 rfl (lv_at hl 0 rfl) ?_
            refine X_get17 hx hb hts hown hK hM 4 (v := .ref (ad 55)) (by decide) (hts _ q728) rfl dX1_season_212 ?_
            refine RX_callI (As := [.ref (ad 55)]) (rest := []) ⟨hx, hb, hml, hown, hts⟩ hS hBz hK hZ (hT.at hS hNA) hM (metX1_couples l D cA z0 E tw N ad h T 50 _ (by decide) hw) (cwV 1 hts (lw_V q1412 q1414 qs35 q104 q1415) rfl rfl rfl (by decide +kernel) ⟨Nat.le_of_ble_eq_true rfl, Nat.le_of_ble_eq_true rfl⟩) rfl hl.1 rfl (Nat.le_of_ble_eq_true rfl) dX1_season_215 ⟨Nat.le_of_ble_eq_true rfl, Nat.le_of_ble_eq_true rfl⟩ (fun r10 H locs hw hk hS => ?_)
            have hM := hM.kept hk
            exact XT_iret hx hb hr hlocks hM hS hw (Nat.le_of_ble_eq_true rfl) (Nat.le_of_ble_eq_true rfl) dX1_season_218
          · have hw := hw.1 c9
            refine lv_iload hx hb dX1_season_205 (lv_at hl 4 rfl) ?_
            refine lv_goto (tgt := 218) hx hb dX1_season_207 (by decide) ?_
            exact XT_iret hx hb hr hlocks hM hS hw (Nat.le_of_ble_eq_true rfl) (Nat.le_of_ble_eq_true rfl) dX1_season_218
        · have hw := hw.1 c8
          refine lv_iload hx hb dX1_season_195 (lv_at hl 3 rfl) ?_
          refine lv_goto (tgt := 218) hx hb dX1_season_197 (by decide) ?_
          exact XT_iret hx hb hr hlocks hM hS hw (Nat.le_of_ble_eq_true rfl) (Nat.le_of_ble_eq_true rfl) dX1_season_218
      · have hw := hw.2 c7
        refine lv_aload_n hx hb dX1_season_50 rfl (lv_at hl 0 rfl) ?_
        refine X_get17 hx hb hts hown hK hM 4 (v := .ref (ad 55)) (by decide) (hts _ q728) rfl dX1_season_51 ?_
        refine lv_dup hx hb dX1_season_54 rfl ?_
        refine X_get55N hx hb hts hown hK hM 3 (v := .int (h 53 0)) (by decide) (hZ.2.1.nF 12 rfl) rfl dX1_season_55 ?_
        refine lv_iconst (v := (1 : Int32)) hx hb dX1_season_58 (by decide) ?_
        refine lv_iadd hx hb dX1_season_59 ?_
        refine X_put53N hx hb hts hown hK hM hJ hA hS (hZ.2.1.nF 12 rfl) .int (by decide +kernel) rfl rfl dX1_season_60 (fun H locs hM hS => ?_)
        obtain ⟨h11, eh11⟩ : ∃ y : Mem, y = up2 h 53 0 ((h 53 0) + (1 : Int32)) := ⟨_, rfl⟩
        rw [← eh11] at hM
        have hw := hw h11 eh11
        refine lv_aload_n hx hb dX1_season_63 rfl (lv_at hl 0 rfl) ?_
        refine RX_callI (As := []) (rest := []) ⟨hx, hb, hml, hown, hts⟩ hS hBz hK hZ (hT.at hS hNA) hM (metX1_people l D cA z0 E tw N ad h11 T  _ hw) (cwV 0 hts (lw_V q792 q794 qs6 q104 q795) rfl rfl rfl (by decide +kernel) ⟨Nat.le_of_ble_eq_true rfl, Nat.le_of_ble_eq_true rfl⟩) rfl hl.1 rfl (Nat.le_of_ble_eq_true rfl) dX1_season_64 ⟨Nat.le_of_ble_eq_true rfl, Nat.le_of_ble_eq_true rfl⟩ (fun r12 H locs hw hk hS => ?_)
        have hM := hM.kept hk
        refine lv_if_le (tgt := 119) hx hb dX1_season_67 (by decide) (fun c13 => ?_) (fun c13 => ?_)
        · have hw := hw.1 c13
          exact hB119 h11 x4 x5 x6 hw _ _ ls hM hS (lv_sub hl [0, 1, 2, 3, 4, 5] rfl)
        · have hw := hw.2 c13
          refine lv_aload_n hx hb dX1_season_70 rfl (lv_at hl 0 rfl) ?_
          refine lv_aload_n hx hb dX1_season_71 rfl (lv_at hl 0 rfl) ?_
          refine RX_callI (As := []) (rest := [.ref (ad 17)]) ⟨hx, hb, hml, hown, hts⟩ hS hBz hK hZ (hT.at hS hNA) hM (metX1_people l D cA z0 E tw N ad h11 T  _ hw) (cwV 0 hts (lw_V q792 q794 qs6 q104 q795) rfl rfl rfl (by decide +kernel) ⟨Nat.le_of_ble_eq_true rfl, Nat.le_of_ble_eq_true rfl⟩) rfl hl.1 rfl (Nat.le_of_ble_eq_true rfl) dX1_season_72 ⟨Nat.le_of_ble_eq_true rfl, Nat.le_of_ble_eq_true rfl⟩ (fun r23 H locs hw hk hS => ?_)
          have hM := hM.kept hk
          refine XX_callI (As := [.int r23]) (rest := []) ⟨hx, hb, hml, hown, hts⟩ hK hZ (hT.at hS hNA) hN hA hBz hM hJ hS (metX1_draw l D cA z0 E tw N ad h11 T r23 _ hw) (cwV 1 hts (lw_V q1660 q1662 qs43 q104 q1663) rfl rfl rfl (by decide +kernel) ⟨Nat.le_of_ble_eq_true rfl, Nat.le_of_ble_eq_true rfl⟩) rfl hl.1 rfl (Nat.le_of_ble_eq_true rfl) dX1_season_75 ⟨Nat.le_of_ble_eq_true rfl, Nat.le_of_ble_eq_true rfl⟩ (fun r25 h24 H locs hw hM hS => ?_)
          refine lv_istore (lv' := [(7, .int r25), (0, .ref (ad 17)), (2, .int a2), (3, .int a3), (4, .int x4), (5, .int x5), (6, .int x6)]) hx hb dX1_season_78 hl (by decide) rfl (fun ls hl => ?_)
          refine lv_aload_n hx hb dX1_season_80 rfl (lv_at hl 1 rfl) ?_
          refine lv_aload_n hx hb dX1_season_81 rfl (lv_at hl 1 rfl) ?_
          refine RX_callI (As := []) (rest := [.ref (ad 17)]) ⟨hx, hb, hml, hown, hts⟩ hS hBz hK hZ (hT.at hS hNA) hM (metX1_people l D cA z0 E tw N ad h24 T  _ hw) (cwV 0 hts (lw_V q792 q794 qs6 q104 q795) rfl rfl rfl (by decide +kernel) ⟨Nat.le_of_ble_eq_true rfl, Nat.le_of_ble_eq_true rfl⟩) rfl hl.1 rfl (Nat.le_of_ble_eq_true rfl) dX1_season_82 ⟨Nat.le_of_ble_eq_true rfl, Nat.le_of_ble_eq_true rfl⟩ (fun r26 H locs hw hk hS => ?_)
          have hM := hM.kept hk
          refine XX_callI (As := [.int r26]) (rest := []) ⟨hx, hb, hml, hown, hts⟩ hK hZ (hT.at hS hNA) hN hA hBz hM hJ hS (metX1_draw l D cA z0 E tw N ad h24 T r26 _ hw) (cwV 1 hts (lw_V q1660 q1662 qs43 q104 q1663) rfl rfl rfl (by decide +kernel) ⟨Nat.le_of_ble_eq_true rfl, Nat.le_of_ble_eq_true rfl⟩) rfl hl.1 rfl (Nat.le_of_ble_eq_true rfl) dX1_season_85 ⟨Nat.le_of_ble_eq_true rfl, Nat.le_of_ble_eq_true rfl⟩ (fun r28 h27 H locs hw hM hS => ?_)
          refine lv_istore (lv' := [(8, .int r28), (7, .int r25), (0, .ref (ad 17)), (2, .int a2), (3, .int a3), (4, .int x4), (5, .int x5), (6, .int x6)]) hx hb dX1_season_88 hl (by decide) rfl (fun ls hl => ?_)
          refine lv_iload hx hb dX1_season_90 (lv_at hl 1 rfl) ?_
          refine lv_iload hx hb dX1_season_92 (lv_at hl 0 rfl) ?_
          refine lv_icmp_eq (tgt := 119) hx hb dX1_season_94 (by decide) (fun c29 => ?_) (fun c29 => ?_)
          · have hw := hw.1 c29
            exact hB119 h27 x4 x5 x6 hw _ _ ls hM hS (lv_sub hl [2, 3, 4, 5, 6, 7] rfl)
          · have hw := hw.2 c29
            refine lv_aload_n hx hb dX1_season_97 rfl (lv_at hl 2 rfl) ?_
            refine X_get17 hx hb hts hown hK hM 4 (v := .ref (ad 55)) (by decide) (hts _ q728) rfl dX1_season_98 ?_
            refine lv_aload_n hx hb dX1_season_101 rfl (lv_at hl 2 rfl) ?_
            refine X_get17 hx hb hts hown hK hM 0 (v := .ref (tw 9)) (by decide) (hts _ q724) rfl dX1_season_102 ?_
            refine lv_iload hx hb dX1_season_105 (lv_at hl 1 rfl) ?_
            refine lv_iload hx hb dX1_season_107 (lv_at hl 0 rfl) ?_
            refine lv_aload_n hx hb dX1_season_109 rfl (lv_at hl 2 rfl) ?_
            refine X_get17 hx hb hts hown hK hM 4 (v := .ref (ad 55)) (by decide) (hts _ q728) rfl dX1_season_110 ?_
            refine X_get55N hx hb hts hown hK hM 3 (v := .int (h27 53 0)) (by decide) (hZ.2.1.nF 12 rfl) rfl dX1_season_113 ?_
            refine XS_callV (As := [.ref (tw 9), .int r25, .int r28, .int (h27 53 0)]) (rest := []) ⟨hx, hb, hml, hown, hts⟩ hK hZ (hT.at hS hNA) hN hA hBz hM hJ hS 50 (by decide) (metX6_meet l D cA z0 E tw N (ad 70) (shf ad 50) (sub h27 50) T r25 r28 (h27 53 0) _ hw) (cwV 4 hts (lw_V q1583 q716 q717 q129 q718) rfl rfl rfl (by decide +kernel) ⟨Nat.le_of_ble_eq_true rfl, Nat.le_of_ble_eq_true rfl⟩) rfl hl.1 rfl (Nat.le_of_ble_eq_true rfl) dX1_season_116 ⟨Nat.le_of_ble_eq_true rfl, Nat.le_of_ble_eq_true rfl⟩ (fun S30 H locs hw hM hS => ?_)
            obtain ⟨h31, eh31⟩ : ∃ y : Mem, y = put5 h27 50 S30 := ⟨_, rfl⟩
            rw [← eh31] at hM
            have hw := hw h31 eh31
            exact hB119 h31 x4 x5 x6 hw _ _ ls hM hS (lv_sub hl [2, 3, 4, 5, 6, 7] rfl)
  unfold wpX1_season at hw
  refine lv_iload_n hx hb dX1_season_0 rfl (lv_at hl 3 rfl) ?_
  refine lv_iconst (v := (0 : Int32)) hx hb dX1_season_1 (by decide) ?_
  refine lv_iconst (v := (2 : Int32)) hx hb dX1_season_2 (by decide) ?_
  refine RN_callZ (As := [.int a3, .int (0 : Int32), .int (2 : Int32)]) (rest := []) ⟨hx, hb, hml, hown, hts⟩ hS (metX1_within l h a3 (0 : Int32) (2 : Int32) _ hw) (va_cwS 3 hts (lw_S q847 q848 q104 q849) rfl rfl rfl (by decide +kernel) ⟨Nat.le_of_ble_eq_true rfl, Nat.le_of_ble_eq_true rfl⟩) rfl hl.1 rfl (Nat.le_of_ble_eq_true rfl) dX1_season_3 ⟨Nat.le_of_ble_eq_true rfl, Nat.le_of_ble_eq_true rfl⟩ (fun r1 H locs hw hk hS => ?_)
  have hM := hM.kept hk
  refine XT_there ⟨hx, hb, hml, hown, hts⟩ eh0.symm hlt hZ hJ hM hS het hlocks (a := (b2i r1)) (fun c => hw.2 (b2i_f c)) q1394 ⟨Nat.le_of_ble_eq_true rfl, Nat.le_of_ble_eq_true rfl⟩ hl.1 (Nat.le_of_ble_eq_true rfl) dX1_season_6 ⟨Nat.le_of_ble_eq_true rfl, Nat.le_of_ble_eq_true rfl⟩ (Nat.le_of_ble_eq_true rfl) (Nat.le_of_ble_eq_true rfl) (fun c2 H locs hM hS => ?_)
  have c2 := b2i_t c2
  have hw := hw.1 c2
  refine lv_iload_n hx hb dX1_season_9 rfl (lv_at hl 2 rfl) ?_
  refine lv_iconst (v := (0 : Int32)) hx hb dX1_season_10 (by decide) ?_
  refine lv_bipush (v := (60 : Int32)) hx hb dX1_season_11 (by decide) ?_
  refine RN_callZ (As := [.int a2, .int (0 : Int32), .int (60 : Int32)]) (rest := []) ⟨hx, hb, hml, hown, hts⟩ hS (metX1_within l h a2 (0 : Int32) (60 : Int32) _ hw) (va_cwS 3 hts (lw_S q847 q848 q104 q849) rfl rfl rfl (by decide +kernel) ⟨Nat.le_of_ble_eq_true rfl, Nat.le_of_ble_eq_true rfl⟩) rfl hl.1 rfl (Nat.le_of_ble_eq_true rfl) dX1_season_13 ⟨Nat.le_of_ble_eq_true rfl, Nat.le_of_ble_eq_true rfl⟩ (fun r3 H locs hw hk hS => ?_)
  have hM := hM.kept hk
  refine XT_right ⟨hx, hb, hml, hown, hts⟩ eh0.symm hlt hZ hJ hM hS het hlocks (a := (b2i r3)) (fun c => hw.2 (b2i_f c)) q989 ⟨Nat.le_of_ble_eq_true rfl, Nat.le_of_ble_eq_true rfl⟩ hl.1 (Nat.le_of_ble_eq_true rfl) dX1_season_16 ⟨Nat.le_of_ble_eq_true rfl, Nat.le_of_ble_eq_true rfl⟩ (Nat.le_of_ble_eq_true rfl) (Nat.le_of_ble_eq_true rfl) (fun c4 H locs hM hS => ?_)
  have c4 := b2i_t c4
  have hw := hw.1 c4
  refine lv_aload_n hx hb dX1_season_19 rfl (lv_at hl 0 rfl) ?_
  refine X_get17 hx hb hts hown hK hM 4 (v := .ref (ad 55)) (by decide) (hts _ q728) rfl dX1_season_20 ?_
  refine lv_aload_n hx hb dX1_season_23 rfl (lv_at hl 0 rfl) ?_
  refine X_get17 hx hb hts hown hK hM 3 (v := .ref (ad 45)) (by decide) (hts _ q727) rfl dX1_season_24 ?_
  refine XL_like ⟨hx, hb, hml, hown, hts⟩ hK hM hJ hS hA 50 40 (by decide) (by decide) (by decide) (cwV 1 hts (lw_V q855 q835 q836 q129 q837) rfl rfl rfl (by decide +kernel) ⟨Nat.le_of_ble_eq_true rfl, Nat.le_of_ble_eq_true rfl⟩) hl.1 (Nat.le_of_ble_eq_true rfl) dX1_season_27 ⟨Nat.le_of_ble_eq_true rfl, Nat.le_of_ble_eq_true rfl⟩ (fun H locs hM hS => ?_)
  obtain ⟨h5, eh5⟩ : ∃ y : Mem, y = put5 h 50 (likeM (sub h 50) (sub h 40)) := ⟨_, rfl⟩
  rw [← eh5] at hM
  have hw := hw h5 eh5
  refine lv_aload_n hx hb dX1_season_30 rfl (lv_at hl 0 rfl) ?_
  refine lv_iload_n hx hb dX1_season_31 rfl (lv_at hl 1 rfl) ?_
  refine X_put16 hx hb hts hown hK hM hJ hA hS (hts _ q740) .int (by decide +kernel) rfl rfl dX1_season_32 (fun H locs hM hS => ?_)
  obtain ⟨h6, eh6⟩ : ∃ y : Mem, y = up2 h5 16 0 a1 := ⟨_, rfl⟩
  rw [← eh6] at hM
  have hw := hw h6 eh6
  refine lv_iconst (v := (0 : Int32)) hx hb dX1_season_35 (by decide) ?_
  refine lv_istore (lv' := [(4, .int (0 : Int32)), (0, .ref (ad 17)), (1, .int a1), (2, .int a2), (3, .int a3)]) hx hb dX1_season_36 hl (by decide) rfl (fun ls hl => ?_)
  refine lv_iconst (v := (0 : Int32)) hx hb dX1_season_38 (by decide) ?_
  refine lv_istore (lv' := [(5, .int (0 : Int32)), (4, .int (0 : Int32)), (0, .ref (ad 17)), (1, .int a1), (2, .int a2), (3, .int a3)]) hx hb dX1_season_39 hl (by decide) rfl (fun ls hl => ?_)
  refine lv_iconst (v := (0 : Int32)) hx hb dX1_season_41 (by decide) ?_
  refine lv_istore (lv' := [(6, .int (0 : Int32)), (5, .int (0 : Int32)), (4, .int (0 : Int32)), (0, .ref (ad 17)), (1, .int a1), (2, .int a2), (3, .int a3)]) hx hb dX1_season_42 hl (by decide) rfl (fun ls hl => ?_)
  obtain ⟨n32, hw⟩ := hw
  exact hL44 n32 h6 (0 : Int32) (0 : Int32) (0 : Int32) hw _ _ ls hM hS (lv_sub hl [3, 5, 6, 2, 1, 0] rfl)
