/-! 97e.rk, printed by tools/mk_rk.py: Reader.is, check, need, number, begins, amongHere, valueOf; rows for their calls -/
def isR (tp : Nat → Nat) (n b i : Nat) : Bool := decide ((ty tp n b = 1 ∨ ty tp n b = 3) ∧ wdT tp n b = txt i)
def PhR (D : va_G) (cA : Nat → ClassId) (z0 : Nat) (E : Nat → Nat → Nat) (tp : Nat → Nat) (n : Nat) (f : Nat → Int32) (rd ha tx : Nat) (g : Nat → Int32) (b : Nat) (U : State) : Prop := RW D cA z0 E tp n rd ha tx g b U U.heap ∧ RF D cA z0 E tp n f rd ha tx U ∧ b ≤ n
def PhRz (D : va_G) (cA : Nat → ClassId) (z0 : Nat) (E : Nat → Nat → Nat) (tp : Nat → Nat) (n : Nat) (f : Nat → Int32) (rd ha tx : Nat) (g : Nat → Int32) (b sz : Nat) (U : State) : Prop := U.heap.size = sz ∧ PhR D cA z0 E tp n f rd ha tx g b U
/-- a Fault thrown, for a reason -/
abbrev YX (D : va_G) (px : Nat × Nat → Prop) (A : Nat → Prop) : String → Addr → State → State → Prop := vy_X px (fun En q e t => En = RX9 ∧ FL D q (nI e.1) (nI e.2) t.heap) A
section RKL
variable {D : va_G} {cA : Nat → ClassId} {z0 : Nat} {E : Nat → Nat → Nat} {tp : Nat → Nat} {n rd ha tx : Nat} {g : Nat → Int32} {f : Nat → Int32} {b sz : Nat}
theorem PhR.blind : Blind (PhR D cA z0 E tp n f rd ha tx g b) := fun U gg mk a h => ⟨h.1.moved (U := U.calling gg mk a) (Vm.Alike.refl U.vm), h.2.1.calling, h.2.2⟩
theorem PhRz.blind : Blind (PhRz D cA z0 E tp n f rd ha tx g b sz) := fun U gg mk a h => ⟨h.1, PhR.blind U gg mk a h.2⟩
theorem PhR.go {s U : State} {H : Heap} {A : Nat → Prop} {locs : List Loc} (hF : RF D cA z0 E tp n f rd ha tx s) (hbn : b ≤ n) (hM : RW D cA z0 E tp n rd ha tx g b s H) (hS : va_S A s.heap H locs) (hAz : ∀ q, A q → z0 ≤ q) (htx : ¬ A tx) (hU : U.heap = H) (hW : s.WarmedH U.vm) : PhR D cA z0 E tp n f rd ha tx g b U := ⟨by rw [hU]; exact hM.moved hW.alike, hF.go hS hAz htx hU hW, hbn⟩
theorem RW.recv {s : State} {H : Heap} (hM : RW D cA z0 E tp n rd ha tx g b s H) (hK : KK D cA s) : ∃ cell : Cell, H[rd]? = some cell ∧ cell.vm.isStatics = false ∧ s.vm.findClass RX8 = some cell.cls := by
  obtain ⟨v, lg, w, wv, h1, -⟩ := hM
  exact at_recv (q := (RX8, TX8, 9)) hK h1 rfl
theorem E3_inj {s : State} {H : Heap} (hZ : FZ z0 E s H) {t k : Nat} (ht : t ≤ 4) (hk : k < 5) : E 3 (so t) = E 3 k ↔ so t = k := by
  constructor
  · intro h
    exact hZ.1.2.2.2.1.2 (so t) k (by show so t < 5; unfold so; omega) hk h
  · intro h; rw [h]
theorem E3_ty {s : State} {H : Heap} (hZ : FZ z0 E s H) {t k : Nat} (ht : t ≤ 4) (hk : k < 5) (e : t = (k + 1) % 5) : some (E 3 (so t)) = some (E 3 k) := by
  rw [(E3_inj hZ ht hk).mpr (by unfold so; omega)]
theorem E3_nty {s : State} {H : Heap} (hZ : FZ z0 E s H) {t k : Nat} (ht : t ≤ 4) (hk : k < 5) (e : ¬ t = (k + 1) % 5) : ¬ some (E 3 (so t)) = some (E 3 k) := fun h => by
  have := (E3_inj hZ ht hk).mp (Option.some.inj h)
  unfold so at this
  omega
theorem RAz {s : State} {H : Heap} (hF : RF D cA z0 E tp n f rd ha tx s) : ∀ q, RA rd ha s.heap.size q → z0 ≤ q := fun q h => h.elim (fun h => h.elim (fun e => e ▸ hF.2.2.2.2.2.1) (fun e => e ▸ hF.2.2.2.2.2.2.1)) (fun h => Nat.le_trans hF.2.1.2.2.2.2.2 h)
theorem RAtx {s : State} (hF : RF D cA z0 E tp n f rd ha tx s) : ¬ RA rd ha s.heap.size tx := fun h => h.elim (fun h => h.elim hF.2.2.2.2.2.2.2.2.1 hF.2.2.2.2.2.2.2.2.2) (fun h => Nat.not_le.mpr hF.2.2.1.lt h)
end RKL
set_option maxHeartbeats 4000000 in
set_option maxRecDepth 100000 in
theorem metX8_is (l : Launch) {D : va_G} {cA : Nat → ClassId} {z0 : Nat} {E : Nat → Nat → Nat} {tp : Nat → Nat} {n : Nat} {f : Nat → Int32} {rd ha tx : Nat} {g : Nat → Int32} {b : Nat} {i : Nat} (hi : i < 30) : Met l yX8_is (ws_ yX8_is cX8_is 2 (some .boolean)) ({ frames := 4, cells := 0, slots := 0, locals := 140 }) (va_Pc [.ref rd, .ref (E 0 i)] (PhR D cA z0 E tp n f rd ha tx g b)) (RQi (fun r => r = b2i (isR tp n b i))) (0) (0) (NoA) := by
  refine Met.ofW (cc := cX8_is) (maxL := 2) (ret := (some .boolean)) (by decide) rfl ?_
  intro p e s m args below meth c s₁ B hml hv
  obtain ⟨rfl, hv⟩ := hv
  have hx := B.exec
  have hb := B.bytes
  have hret := B.returns
  have hts := atoms_spec (ws := ws_ yX8_is cX8_is 2 (some .boolean)) B.pre
  have hts : ∀ w ∈ lw_all, w.before _ s = true := fun w h => hts w (List.mem_cons_of_mem _ h)
  have hown : s.vm.findClass RX8 = some m.cls := findClass_of_methodNamed B.named
  have hlocks := B.notSynchronized
  have hS : va_S (NoA) s.heap s.heap [] := va_S.rf
  have hl := lv_entry ([.ref rd, .ref (E 0 i)]) (n := 2) (Nat.le_of_ble_eq_true rfl)
  rw [lg_entry_eq]
  generalize (lg_sl ([.ref rd, .ref (E 0 i)]) ++ List.replicate (2 - (lg_sl ([.ref rd, .ref (E 0 i)])).length) Slot.unset).toArray = ls at hl ⊢
  have hl : lv_has ls 2 [(0, .ref rd), (1, .ref (E 0 i))] := hl
  obtain ⟨hM, hF, hbn⟩ := hv
  have hAz : ∀ q, NoA q → ZA z0 q := fun q h => h.elim
  have hK := hF.1
  have hZ := hF.2.1
  have hty := ty_le (tp := tp) (n := n) b
  obtain ⟨v, lg, w, wv, hr, hh, hnum, hW, hwz⟩ := id hM
  refine lv_aload_n hx hb dX8_is_0 rfl (lv_at hl 0 rfl) ?_
  refine h_get (C := RX8) (T := TX8) (N := 9) (ci := 6) (v := .ref (E 3 (so (ty tp n b)))) hx hb hts in_X8 hown hK hr rfl 6 (by decide) (hts _ q1083) (fun _ h9 => h9) rfl dX8_is_1 ?_
  refine va_gets (n := "WORD") (v := .ref (E 3 0)) hx hb (((hZ.1.2.2.2.1.1 0 (by decide)).1).narrow hAz) hS hown (hts _ q1049) (fun _ h => h) dX8_is_4 ?_
  refine lv_acmp_eq (rx := some (E 3 (so (ty tp n b)))) (ry := some (E 3 0)) (tgt := 20) hx hb dX8_is_7 (by decide) (fun c1 => ?_) (fun c1 => ?_)
  · have h13 : ty tp n b = 1 ∨ ty tp n b = 3 := Or.inl (Classical.byContradiction (fun h9 => E3_nty hZ hty (by decide : 0 < 5) h9 c1))
    refine lv_aload_n hx hb dX8_is_20 rfl (lv_at hl 0 rfl) ?_
    refine h_get (C := RX8) (T := TX8) (N := 9) (ci := 6) (v := .ref w) hx hb hts in_X8 hown hK hr rfl 7 (by decide) (hts _ q1084) (fun _ h9 => h9) rfl dX8_is_21 ?_
    refine lv_aload_n hx hb dX8_is_24 rfl (lv_at hl 1 rfl) ?_
    have hW9 : SR NoA s s.heap w wv (wdT tp n b) := hW.narrow (fun q h => h.elim)
    have hL9 : SR NoA s s.heap (E 0 i) (E 1 i) (txt i) := (hZ.1.1 i hi).narrow (fun q h => h.elim)
    have hC9 : SC NoA s s.heap := SC.narrow (A := ZA z0) ⟨hZ.1.2.1, hZ.1.2.2.2.2.2.2.2.2⟩ (fun q h => h.elim)
    have hne : w ≠ E 0 i := fun e9 => by obtain ⟨cell, -, -, -, h8⟩ := (hZ.1.1 i hi).1; exact h8 (e9 ▸ hwz h13)
    refine R_callI (As := [.ref (E 0 i)]) (rest := []) (C := "java/lang/String") ⟨hx, hb, hml, hown, hts⟩ hS (metJ9_equals l (D := D) (cA := cA) (q := w) (v := wv) (q2 := E 0 i) (v2 := E 1 i) (tx := wdT tp n b) (tx2 := txt i) hne) SE2.blind (fun U hU hW => ⟨⟨(by rw [hU]; exact hW9.moved hW.alike), (by rw [hU]; exact hC9.moved hW.alike)⟩, (by rw [hU]; exact hL9.moved hW.alike), va_K.moved hW.alike hK⟩) (by obtain ⟨cell, g1, g2, g3, -⟩ := hW9.1; exact ⟨cell, g1, g2, g3⟩) (cwV 1 hts (lw_V q1116 q1117 q1118 q115 q1119) rfl rfl rfl (by decide +kernel) ⟨Nat.le_of_ble_eq_true rfl, Nat.le_of_ble_eq_true rfl⟩) rfl hl.1 rfl (Nat.le_of_ble_eq_true rfl) dX8_is_25 ⟨Nat.zero_le _, Nat.zero_le _⟩ (fun r H locs hw hk hS => ?_)
    subst hw
    refine lv_if_eq (tgt := 35) hx hb dX8_is_28 (by decide) (fun c9 => ?_) (fun c9 => ?_)
    · refine lv_iconst (v := 0) hx hb dX8_is_35 (by decide) ?_
      exact W.zret (v := 0) hx hb hret rfl (fun t ht _ => ⟨⟨_, (), rfl, by unfold isR; rw [decide_eq_false (fun h9 => by rw [decide_eq_true h9.2] at c9; exact absurd c9 (by decide))]; rfl, trivial⟩, hS.F ht⟩) hS.2.2 dX8_is_36 hlocks
    · refine lv_iconst (v := 1) hx hb dX8_is_31 (by decide) ?_
      refine lv_goto (tgt := 36) hx hb dX8_is_32 (by decide) ?_
      exact W.zret (v := 1) hx hb hret rfl (fun t ht _ => ⟨⟨_, (), rfl, by unfold isR; rw [decide_eq_true ⟨h13, Classical.byContradiction (fun h9 => c9 (by rw [decide_eq_false h9]; rfl))⟩]; rfl, trivial⟩, hS.F ht⟩) hS.2.2 dX8_is_36 hlocks
  · refine lv_aload_n hx hb dX8_is_10 rfl (lv_at hl 0 rfl) ?_
    refine h_get (C := RX8) (T := TX8) (N := 9) (ci := 6) (v := .ref (E 3 (so (ty tp n b)))) hx hb hts in_X8 hown hK hr rfl 6 (by decide) (hts _ q1083) (fun _ h9 => h9) rfl dX8_is_11 ?_
    refine va_gets (n := "SIGN") (v := .ref (E 3 2)) hx hb (((hZ.1.2.2.2.1.1 2 (by decide)).1).narrow hAz) hS hown (hts _ q1059) (fun _ h => h) dX8_is_14 ?_
    refine lv_acmp_ne (rx := some (E 3 (so (ty tp n b)))) (ry := some (E 3 2)) (tgt := 35) hx hb dX8_is_17 (by decide) (fun c2 => ?_) (fun c2 => ?_)
    · refine lv_iconst (v := 0) hx hb dX8_is_35 (by decide) ?_
      exact W.zret (v := 0) hx hb hret rfl (fun t ht _ => ⟨⟨_, (), rfl, by unfold isR; rw [decide_eq_false (fun h9 => h9.1.elim (fun h8 => c1 (E3_ty hZ hty (by decide : 0 < 5) h8)) (fun h8 => c2 (E3_ty hZ hty (by decide : 2 < 5) h8)))]; rfl, trivial⟩, hS.F ht⟩) hS.2.2 dX8_is_36 hlocks
    · have h13 : ty tp n b = 1 ∨ ty tp n b = 3 := Or.inr (Classical.byContradiction (fun h9 => E3_nty hZ hty (by decide : 2 < 5) h9 c2))
      refine lv_aload_n hx hb dX8_is_20 rfl (lv_at hl 0 rfl) ?_
      refine h_get (C := RX8) (T := TX8) (N := 9) (ci := 6) (v := .ref w) hx hb hts in_X8 hown hK hr rfl 7 (by decide) (hts _ q1084) (fun _ h9 => h9) rfl dX8_is_21 ?_
      refine lv_aload_n hx hb dX8_is_24 rfl (lv_at hl 1 rfl) ?_
      have hW9 : SR NoA s s.heap w wv (wdT tp n b) := hW.narrow (fun q h => h.elim)
      have hL9 : SR NoA s s.heap (E 0 i) (E 1 i) (txt i) := (hZ.1.1 i hi).narrow (fun q h => h.elim)
      have hC9 : SC NoA s s.heap := SC.narrow (A := ZA z0) ⟨hZ.1.2.1, hZ.1.2.2.2.2.2.2.2.2⟩ (fun q h => h.elim)
      have hne : w ≠ E 0 i := fun e9 => by obtain ⟨cell, -, -, -, h8⟩ := (hZ.1.1 i hi).1; exact h8 (e9 ▸ hwz h13)
      refine R_callI (As := [.ref (E 0 i)]) (rest := []) (C := "java/lang/String") ⟨hx, hb, hml, hown, hts⟩ hS (metJ9_equals l (D := D) (cA := cA) (q := w) (v := wv) (q2 := E 0 i) (v2 := E 1 i) (tx := wdT tp n b) (tx2 := txt i) hne) SE2.blind (fun U hU hW => ⟨⟨(by rw [hU]; exact hW9.moved hW.alike), (by rw [hU]; exact hC9.moved hW.alike)⟩, (by rw [hU]; exact hL9.moved hW.alike), va_K.moved hW.alike hK⟩) (by obtain ⟨cell, g1, g2, g3, -⟩ := hW9.1; exact ⟨cell, g1, g2, g3⟩) (cwV 1 hts (lw_V q1116 q1117 q1118 q115 q1119) rfl rfl rfl (by decide +kernel) ⟨Nat.le_of_ble_eq_true rfl, Nat.le_of_ble_eq_true rfl⟩) rfl hl.1 rfl (Nat.le_of_ble_eq_true rfl) dX8_is_25 ⟨Nat.zero_le _, Nat.zero_le _⟩ (fun r H locs hw hk hS => ?_)
      subst hw
      refine lv_if_eq (tgt := 35) hx hb dX8_is_28 (by decide) (fun c9 => ?_) (fun c9 => ?_)
      · refine lv_iconst (v := 0) hx hb dX8_is_35 (by decide) ?_
        exact W.zret (v := 0) hx hb hret rfl (fun t ht _ => ⟨⟨_, (), rfl, by unfold isR; rw [decide_eq_false (fun h9 => by rw [decide_eq_true h9.2] at c9; exact absurd c9 (by decide))]; rfl, trivial⟩, hS.F ht⟩) hS.2.2 dX8_is_36 hlocks
      · refine lv_iconst (v := 1) hx hb dX8_is_31 (by decide) ?_
        refine lv_goto (tgt := 36) hx hb dX8_is_32 (by decide) ?_
        exact W.zret (v := 1) hx hb hret rfl (fun t ht _ => ⟨⟨_, (), rfl, by unfold isR; rw [decide_eq_true ⟨h13, Classical.byContradiction (fun h9 => c9 (by rw [decide_eq_false h9]; rfl))⟩]; rfl, trivial⟩, hS.F ht⟩) hS.2.2 dX8_is_36 hlocks
set_option maxHeartbeats 4000000 in
set_option maxRecDepth 100000 in
theorem metX8_check1 (l : Launch) {rd : Nat} {k : Int32} : Met l yX8_check (ws_ yX8_check cX8_check 3 none) ({ frames := 1, cells := 0, slots := 0, locals := 60 }) (va_Pc [.ref rd, .int 1, .int k] (fun _ => True)) (RQv True) (0) (0) (NoA) := by
  refine Met.ofW (cc := cX8_check) (maxL := 3) (ret := none) (by decide) rfl ?_
  intro p e s m args below meth c s₁ B hml hv
  obtain ⟨rfl, hv⟩ := hv
  have hx := B.exec
  have hb := B.bytes
  have hret := B.returns
  have hts := atoms_spec (ws := ws_ yX8_check cX8_check 3 none) B.pre
  have hts : ∀ w ∈ lw_all, w.before _ s = true := fun w h => hts w (List.mem_cons_of_mem _ h)
  have hown : s.vm.findClass RX8 = some m.cls := findClass_of_methodNamed B.named
  have hlocks := B.notSynchronized
  have hS : va_S (NoA) s.heap s.heap [] := va_S.rf
  have hl := lv_entry ([.ref rd, .int 1, .int k]) (n := 3) (Nat.le_of_ble_eq_true rfl)
  rw [lg_entry_eq]
  generalize (lg_sl ([.ref rd, .int 1, .int k]) ++ List.replicate (3 - (lg_sl ([.ref rd, .int 1, .int k])).length) Slot.unset).toArray = ls at hl ⊢
  have hl : lv_has ls 3 [(0, .ref rd), (1, .int 1), (2, .int k)] := hl
  refine lv_iload_n hx hb dX8_check_0 rfl (lv_at hl 1 rfl) ?_
  refine lv_if_ne (tgt := 17) hx hb dX8_check_1 (by decide) (fun c9 => ?_) (fun c9 => absurd c9 (by decide))
  exact W.vret hx hb hret (fun t ht _ => ⟨⟨(), rfl, trivial, trivial⟩, hS.F ht⟩) hS.2.2 dX8_check_17 hlocks
theorem FL.cell {D : va_G} {cA : Nat → ClassId} {s : State} {H : Heap} {q : Nat} {k p : Int32} (hK : KK D cA s) (h : FL D q k p H) : ∃ cell : Cell, H[q]? = some cell ∧ cell.vm.isStatics = false ∧ cell.vm = .none ∧ s.vm.findClass RX9 = some cell.cls := by
  obtain ⟨fs, h1, -⟩ := h
  obtain ⟨cell, g1, g2, g3⟩ := at_recv (q := (RX9, TX9, 8)) hK h1 rfl
  obtain ⟨r, -, cell2, q1, -, q3, -⟩ := h1
  cases g1.symm.trans q1
  exact ⟨cell, g1, g2, q3, g3⟩
theorem FL.kept {D : va_G} {H H1 : Heap} {q : Nat} {k p : Int32} (h : FL D q k p H) (hk : q < H.size → H1[q]? = H[q]?) : FL D q k p H1 := by
  obtain ⟨fs, h1, h2⟩ := h
  exact ⟨fs, h1.kept (hk h1.lt), h2⟩
set_option maxHeartbeats 4000000 in
set_option maxRecDepth 100000 in
theorem metX8_check0 (l : Launch) (hlt : l.stackTraces = false) {D : va_G} {cA : Nat → ClassId} {z0 : Nat} {E : Nat → Nat → Nat} {tp : Nat → Nat} {n : Nat} {f : Nat → Int32} {rd ha tx : Nat} {g : Nat → Int32} {b sz : Nat} {k : Int32} : vy_Met l yX8_check (ws_ yX8_check cX8_check 3 none) ({ frames := 8, cells := 1, slots := 8, locals := 160 }) (va_Pc [.ref rd, .int 0, .int k] (PhRz D cA z0 E tp n f rd ha tx g b sz)) (va_Qv (fun _ : Unit => False) (fun _ _ => True) (NwA sz)) (vy_X (fun _ : Unit => True) (fun En q _ t => En = RX9 ∧ FL D q k (nI b) t.heap) (NwA sz)) (1) (8) (NwA sz) := by
  refine vy_ofW (cc := cX8_check) (maxL := 3) (ret := none) (by decide) rfl ?_
  intro p e s m args below meth c s₁ B hml het hv
  obtain ⟨rfl, hv⟩ := hv
  have hx := B.exec
  have hb := B.bytes
  have hret := B.returns
  have hts := atoms_spec (ws := ws_ yX8_check cX8_check 3 none) B.pre
  have hts : ∀ w ∈ lw_all, w.before _ s = true := fun w h => hts w (List.mem_cons_of_mem _ h)
  have hown : s.vm.findClass RX8 = some m.cls := findClass_of_methodNamed B.named
  have hlocks := B.notSynchronized
  have hS : va_S (NwA sz) s.heap s.heap [] := va_S.rf
  have hl := lv_entry ([.ref rd, .int 0, .int k]) (n := 3) (Nat.le_of_ble_eq_true rfl)
  rw [lg_entry_eq]
  generalize (lg_sl ([.ref rd, .int 0, .int k]) ++ List.replicate (3 - (lg_sl ([.ref rd, .int 0, .int k])).length) Slot.unset).toArray = ls at hl ⊢
  have hl : lv_has ls 3 [(0, .ref rd), (1, .int 0), (2, .int k)] := hl
  obtain ⟨hsz, hM, hF, hbn⟩ := hv
  subst hsz
  have hK := hF.1
  have hZ := hF.2.1
  obtain ⟨v, lg, w, wv, hr, hh, hnum, hW, hwz⟩ := id hM
  refine lv_iload_n hx hb dX8_check_0 rfl (lv_at hl 1 rfl) ?_
  refine lv_if_ne (tgt := 17) hx hb dX8_check_1 (by decide) (fun c9 => absurd (rfl : (0 : Int32) = 0) c9) (fun c9 => ?_)
  refine h_newF hx hb hts hown (hts _ q1128) hK hS (Nat.le_of_ble_eq_true rfl) (Nat.le_of_ble_eq_true rfl) dX8_check_4 (fun H1 hN oq hz hS => ?_)
  have hr := hr.kept (oq _ hr.lt)
  refine lv_dup hx hb dX8_check_7 rfl ?_
  refine lv_iload_n hx hb dX8_check_8 rfl (lv_at hl 2 rfl) ?_
  refine lv_aload_n hx hb dX8_check_9 rfl (lv_at hl 0 rfl) ?_
  refine h_get (C := RX8) (T := TX8) (N := 9) (ci := 6) (v := .int (nI b)) hx hb hts in_X8 hown hK hr rfl 3 (by decide) (hts _ q1080) (fun _ h9 => h9) rfl dX8_check_10 ?_
  refine va_callv (va_runI (As := [.int k, .int (nI b)]) (rest := [.ref s.heap.size]) ⟨hx, hb, hml, hown, hts⟩ (metX9_init l hlt (D := D) (cA := cA) (z0 := z0) (E := E) (a := s.heap.size) (k := k) (p9 := nI b)) (cwI 2 hts (lw_meth q1139) rfl rfl rfl (hts _ q133) (hts _ q1137) (hts _ q1138) rfl (by decide +kernel) ⟨Nat.le_of_ble_eq_true rfl, Nat.le_of_ble_eq_true rfl⟩) ⟨FNU.blind.pc, fun U hU hW => ⟨rfl, NewF.alike hW.alike (by rw [hU]; exact hN), va_K.moved hW.alike hK, hZ.go hS (fun q h => Nat.le_trans hZ.2.2.2.2.2 h) hU hW, hZ.2.2.2.2.2⟩⟩ rfl rfl hl.1 rfl (lv_room (Nat.le_of_ble_eq_true rfl)) dX8_check_13 ⟨Nat.le_of_ble_eq_true rfl, Nat.le_of_ble_eq_true rfl⟩) hS (fun q _ h => Nat.le_of_eq (show s.heap.size = q from h.symm)) (fun q h => Nat.le_of_eq (show s.heap.size = q from h.symm)) (fun u t H2 locs ht hvm hw hFl hz2 hk2 hS => ?_)
  subst ht
  obtain ⟨cell, g1, g2, g3, g4⟩ := FL.cell hK hFl
  exact vx_athrow hx hb dX8_check_16 (vy_out (fun x hx9 => (het x hx9).elim) hlocks g1 g3 g4 (fun t2 ht2 _ => ⟨(), trivial, ⟨rfl, (show FL D _ k (nI b) t2.heap from ht2 ▸ hFl)⟩, hS.F ht2⟩) hS.2.2 (Nat.le_of_ble_eq_true rfl) (Nat.le_of_ble_eq_true rfl))
section RKR
variable {p : Program} {l : Launch} {e : Env} {R : Room} {s : State} {m : MethodId} {args : Array Value} {below : List Frame} {meth : Method} {c : Code} {H : Heap} {locs : List Loc} {cells slots mc ms : Nat} {Q : State → Prop} {Qc : Array Value → State → Outcome → State → Prop}
variable {cc : ByteArray} {pc nL : Nat} {ls : Array Slot} {rest st0 : List Value} {A : Nat → Prop} {D : va_G} {cA : Nat → ClassId} {z0 : Nat} {E : Nat → Nat → Nat} {tp : Nat → Nat} {n rd ha tx : Nat} {g : Nat → Int32} {f : Nat → Int32} {b index : Nat} {px : Nat × Nat → Prop}
theorem R_is (S : CallFix p m c cc nL s args lw_all RX8) (hF : RF D cA z0 E tp n f rd ha tx s) (hbn : b ≤ n) (hM : RW D cA z0 E tp n rd ha tx g b s H) (hS : va_S A s.heap H locs) (hAz : ∀ q, A q → z0 ≤ q) (htx : ¬ A tx) {i : Nat} (hi : i < 30) (hlink : Cond.methodLink RX8 index yX8_is ∈ lw_all) (hfr : 4 + 1 ≤ R.frames ∧ 8 + (2 + 11) + 140 ≤ R.locals) (hsize : ls.size = nL) (hW : (rest.map fun v => v.category).sum ≤ 8) (hdg : decode cc pc = .ok (.invokevirtual index, 3)) (hc : cells ≤ R.cells ∧ slots ≤ R.slots)
    (kk : ∀ (H1 : Heap) (locs1 : List Loc), RW D cA z0 E tp n rd ha tx g b s H1 → (∀ q, q < H.size → H1[q]? = H[q]?) → va_S A s.heap H1 locs1 → W p l e R s m args below meth c H1 locs1 cells slots Q (F0 m (pc + 3) ls (.int (b2i (isR tp n b i)) :: rest))) : W p l e R s m args below meth c H locs cells slots Q (F0 m (pc) ls (.ref (E 0 i) :: .ref rd :: rest)) :=
  R_callI (As := [.ref (E 0 i)]) (rest := rest) (C := RX8) S hS (metX8_is l (D := D) (cA := cA) (z0 := z0) (E := E) (tp := tp) (n := n) (f := f) (rd := rd) (ha := ha) (tx := tx) (g := g) (b := b) hi) PhR.blind (fun U hU hW => PhR.go hF hbn hM hS hAz htx hU hW) (hM.recv hF.1) (cwV 1 S.2.2.2.2 (lw_V hlink q1114 qs20 q131 q1115) rfl rfl rfl (by decide +kernel) hfr) rfl hsize rfl hW hdg hc (fun r H1 locs1 hw hk hS1 => by subst hw; exact kk H1 locs1 (hM.kept hk) hk hS1)
theorem R_chk1 (S : CallFix p m c cc nL s args lw_all RX8) (hF : RF D cA z0 E tp n f rd ha tx s) (hbn : b ≤ n) (hM : RW D cA z0 E tp n rd ha tx g b s H) (hS : va_S A s.heap H locs) (hAz : ∀ q, A q → z0 ≤ q) (htx : ¬ A tx) {k : Int32} (hlink : Cond.methodLink RX8 index yX8_check ∈ lw_all) (hfr : 1 + 1 ≤ R.frames ∧ 8 + (3 + 11) + 60 ≤ R.locals) (hsize : ls.size = nL) (hW : (rest.map fun v => v.category).sum ≤ 8) (hdg : decode cc pc = .ok (.invokevirtual index, 3)) (hc : cells ≤ R.cells ∧ slots ≤ R.slots)
    (kk : ∀ (H1 : Heap) (locs1 : List Loc), RW D cA z0 E tp n rd ha tx g b s H1 → (∀ q, q < H.size → H1[q]? = H[q]?) → va_S A s.heap H1 locs1 → W p l e R s m args below meth c H1 locs1 cells slots Q (F0 m (pc + 3) ls (rest))) : W p l e R s m args below meth c H locs cells slots Q (F0 m (pc) ls (.int k :: .int 1 :: .ref rd :: rest)) :=
  va_callv (va_runV (As := [.int 1, .int k]) (rest := rest) S (metX8_check1 l (rd := rd) (k := k)) (cwV 2 S.2.2.2.2 (lw_V hlink q1126 qs21 q131 q1127) rfl rfl rfl (by decide +kernel) hfr) ⟨(fun a U g mk q => ⟨q.1, trivial⟩), hM.recv hF.1, fun U hU hW => ⟨rfl, trivial⟩⟩ rfl rfl hsize rfl (lv_room hW) hdg hc) hS (fun _ _ h => h.elim) (fun _ h => h.elim) (fun u t H1 locs1 ht hvm hw hB hz hk hS1 => kk H1 locs1 (hM.kept (fun q h1 => hk q h1 (fun h => h))) (fun q h1 => hk q h1 (fun h => h)) hS1)
theorem R_chk0 (S : CallFix p m c cc nL s args lw_all RX8) (hlt : l.stackTraces = false) (hF : RF D cA z0 E tp n f rd ha tx s) (hbn : b ≤ n) (hM : RW D cA z0 E tp n rd ha tx g b s H) (hS : va_S A s.heap H locs) (hA0 : ∀ q, RA rd ha s.heap.size q → A q) (hAz : ∀ q, A q → z0 ≤ q) (htx : ¬ A tx) (het : ∀ x ∈ c.exceptionTable.toList, False) (hlocks : meth.locks = false) {k9 : Nat} {k : Int32} (hpx : px (k9, b)) (hk9 : k = nI k9) (hlink : Cond.methodLink RX8 index yX8_check ∈ lw_all) (hfr : 8 + 1 ≤ R.frames ∧ 8 + (3 + 11) + 160 ≤ R.locals) (hsize : ls.size = nL) (hW : (rest.map fun v => v.category).sum ≤ 8) (hdg : decode cc pc = .ok (.invokevirtual index, 3)) (hc : cells + 1 ≤ R.cells ∧ slots + 8 ≤ R.slots) (hmc : cells + 1 ≤ mc) (hms : slots + 8 ≤ ms) : W p l e R s m args below meth c H locs cells slots (vy_MQ below Qc (YX D px A) args s mc ms A) (F0 m (pc) ls (.int k :: .int 0 :: .ref rd :: rest)) := by
  subst hk9
  have hN : ∀ q, NwA H.size q → A q := fun q h => hA0 q (Or.inr (Nat.le_trans hS.1 h))
  exact vy_callv (vy_runV (As := [.int 0, .int (nI k9)]) (rest := rest) S (metX8_check0 l hlt (D := D) (cA := cA) (z0 := z0) (E := E) (tp := tp) (n := n) (f := f) (rd := rd) (ha := ha) (tx := tx) (g := g) (b := b) (sz := H.size) (k := nI k9)) (cwV 2 S.2.2.2.2 (lw_V hlink q1126 qs21 q131 q1127) rfl rfl rfl (by decide +kernel) hfr) ⟨PhRz.blind.pc, hM.recv hF.1, fun U hU hW => ⟨rfl, by rw [hU], PhR.go hF hbn hM hS hAz htx hU hW⟩⟩ rfl rfl hsize rfl (lv_room hW) hdg hc) hS (fun q _ h => hN q h) hN (fun q _ h => hN q h)
    (fun En ce q9 u t H1 locs1 ht hvm hpx9 hBX hsz hk hS1 hce hcv hcl => vy_out (fun x hx => (het x hx).elim) hlocks hce hcv hcl (fun t2 ht2 _ => ⟨(k9, b), hpx, ⟨hBX.1, (show FL D q9 (nI k9) (nI b) t2.heap by rw [ht2, ← ht]; exact hBX.2)⟩, hS1.F ht2⟩) hS1.2.2 hmc hms)
    (fun u t H1 locs1 ht hvm hw hB hsz hk hS1 => hw.elim)
theorem R_go (S : CallFix p m c cc nL s args lw_all RX8) (hF : RF D cA z0 E tp n f rd ha tx s) (hbn : b ≤ n) (hM : RW D cA z0 E tp n rd ha tx g b s H) (hS : va_S A s.heap H locs) (hA0 : ∀ q, RA rd ha s.heap.size q → A q) (hAz : ∀ q, A q → z0 ≤ q) (htx : ¬ A tx) (hlink : Cond.methodLink RX8 index yX8_go ∈ lw_all) (hfr : 12 + 1 ≤ R.frames ∧ 8 + (3 + 11) + 420 ≤ R.locals) (hsize : ls.size = nL) (hW : (rest.map fun v => v.category).sum ≤ 8) (hdg : decode cc pc = .ok (.invokevirtual index, 3)) (hc : cells + 4 ≤ R.cells ∧ slots + 24 ≤ R.slots)
    (kk : ∀ (H1 : Heap) (locs1 : List Loc), RW D cA z0 E tp n rd ha tx g (nxt tp n b) s H1 → H.size ≤ H1.size → (∀ q, q < H.size → ¬ R2 rd ha q → H1[q]? = H[q]?) → va_S A s.heap H1 locs1 → W p l e R s m args below meth c H1 locs1 (cells + 4) (slots + 24) Q (F0 m (pc + 3) ls (rest))) : W p l e R s m args below meth c H locs cells slots Q (F0 m (pc) ls (.ref rd :: rest)) := by
  have hN : ∀ q, RA rd ha H.size q → A q := fun q h => hA0 q (h.elim Or.inl (fun h => Or.inr (Nat.le_trans hS.1 h)))
  have hM0 := hM
  obtain ⟨v, lg, w, wv, hr, hh, hnum, hW9, hwz⟩ := hM
  exact va_callv (va_runV (As := []) (rest := rest) S (metX8_go l (D := D) (cA := cA) (z0 := z0) (E := E) (tp := tp) (n := n) (f := f) (rd := rd) (ha := ha) (tx := tx) (sz := H.size) (k0 := en tp n b) (v := v) (p9 := .int (nI b)) (lg0 := .int lg) (sr0 := .ref (E 3 (so (ty tp n b)))) (w0 := .ref w) (g := g) (en_le hbn).2) (cwV 0 S.2.2.2.2 (lw_V hlink q1012 qs18 q131 q1013) rfl rfl rfl (by decide +kernel) hfr) ⟨GoU.blind.pc, hM0.recv hF.1, fun U hU hW => ⟨rfl, by rw [hU]; exact hr, by rw [hU]; exact hh, hF.go hS hAz htx hU hW, by rw [hU]⟩⟩ rfl rfl hsize rfl (lv_room hW) hdg hc) hS (fun q _ h => hN q h) hN (fun u t H1 locs1 ht hvm hw hB hz hk hS1 => kk H1 locs1 (by rw [← ht]; exact hB.moved hvm.symm) hz (fun q h1 h2 => hk q h1 (fun h => h.elim h2 (fun h => Nat.not_le.mpr h1 h))) hS1)
end RKR
