/-! 97c.rw, printed by tools/mk_rw.py: the Reader's world (b: where the token begins that it stands before); its bytes, its step -/
def bt (tp : Nat → Nat) (n k : Nat) : Nat := if k < n then tp k else 0
/-- the number of the kind among Sort's constants -/
def so (t : Nat) : Nat := (t + 4) % 5
def wdT (tp : Nat → Nat) (n b : Nat) : List Nat := if ty tp n b = 1 then (List.range (min 8 (en tp n b - b))).map (fun k => tp (b + k)) else if ty tp n b = 3 then [tp b] else []
def v4 (tp : Nat → Nat) (n b : Nat) : Nat := nv tp b (min 4 (en tp n b - b))
abbrev R2 (rd ha : Nat) : Nat → Prop := fun q => q = rd ∨ q = ha
abbrev RA (rd ha sz : Nat) : Nat → Prop := fun q => (q = rd ∨ q = ha) ∨ sz ≤ q
abbrev RO (D : va_G) (rd tx ha n j : Nat) (p v lg sr w : Value) (H : Heap) : Prop := va_at D vwCl (rd, .inr (6, [.ref tx, .int (nI n), .int (nI j), p, v, lg, sr, w, .ref ha])) H
def RW (D : va_G) (cA : Nat → ClassId) (z0 : Nat) (E : Nat → Nat → Nat) (tp : Nat → Nat) (n rd ha tx : Nat) (g : Nat → Int32) (b : Nat) (U : State) (H : Heap) : Prop :=
  ∃ (v lg : Int32) (w wv : Nat), RO D rd tx ha n (en tp n b) (.int (nI b)) (.int v) (.int lg) (.ref (E 3 (so (ty tp n b)))) (.ref w) H ∧ va_at D vwCl (ha, .inl (cA 2, 3, .inl g)) H ∧ (ty tp n b = 2 → v = nI (v4 tp n b) ∧ lg = b2i (decide (4 < en tp n b - b))) ∧ SR (R2 rd ha) U H w wv (wdT tp n b) ∧ ((ty tp n b = 1 ∨ ty tp n b = 3) → z0 ≤ w)
def RC (z0 : Nat) (tp : Nat → Nat) (n : Nat) (f : Nat → Int32) (rd ha tx : Nat) : Prop := n ≤ 600 ∧ (∀ j, j < n → f j &&& 255 = nI (tp j) ∧ tp j < 256) ∧ z0 ≤ rd ∧ z0 ≤ ha ∧ rd ≠ ha ∧ tx ≠ rd ∧ tx ≠ ha
/-- what stays: the constants, the text -/
def RF (D : va_G) (cA : Nat → ClassId) (z0 : Nat) (E : Nat → Nat → Nat) (tp : Nat → Nat) (n : Nat) (f : Nat → Int32) (rd ha tx : Nat) (U : State) : Prop := KK D cA U ∧ FZ z0 E U U.heap ∧ va_at D vwCl (tx, .inl (cA 1, 600, .inl f)) U.heap ∧ RC z0 tp n f rd ha tx
section RWL
variable {D : va_G} {cA : Nat → ClassId} {z0 : Nat} {E : Nat → Nat → Nat} {tp : Nat → Nat} {n rd ha tx : Nat} {g : Nat → Int32} {f : Nat → Int32} {b : Nat}
theorem RW.kept {U : State} {H H1 : Heap} (h : RW D cA z0 E tp n rd ha tx g b U H) (hk : ∀ q, q < H.size → H1[q]? = H[q]?) : RW D cA z0 E tp n rd ha tx g b U H1 := by
  obtain ⟨v, lg, w, wv, h1, h2, h3, h4, h5⟩ := h
  exact ⟨v, lg, w, wv, h1.kept (hk _ h1.lt), h2.kept (hk _ h2.lt), h3, h4.kept (fun q hq _ => hk q hq), h5⟩
theorem RW.moved {u U : State} {H : Heap} (hvm : u.vm.Alike U.vm) (h : RW D cA z0 E tp n rd ha tx g b u H) : RW D cA z0 E tp n rd ha tx g b U H := by
  obtain ⟨v, lg, w, wv, h1, h2, h3, h4, h5⟩ := h
  exact ⟨v, lg, w, wv, h1, h2, h3, h4.moved hvm, h5⟩
theorem RF.calling {U : State} {gg : JFrame} {mk : MethodId} {a : Array Value} (h : RF D cA z0 E tp n f rd ha tx U) : RF D cA z0 E tp n f rd ha tx (U.calling gg mk a) := ⟨va_K.moved (u := U) (U := U.calling gg mk a) (Vm.Alike.refl U.vm) h.1, h.2.1.calling, h.2.2.1, h.2.2.2⟩
theorem RF.go {s U : State} {H : Heap} {A : Nat → Prop} {locs : List Loc} (h : RF D cA z0 E tp n f rd ha tx s) (hS : va_S A s.heap H locs) (hA : ∀ q, A q → z0 ≤ q) (hx : ¬ A tx) (hU : U.heap = H) (hW : s.WarmedH U.vm) : RF D cA z0 E tp n f rd ha tx U := ⟨va_K.moved hW.alike h.1, h.2.1.go hS hA hU hW, by rw [hU]; exact at_S h.2.2.1 hS hx, h.2.2.2⟩
theorem bt_lt (hC : RC z0 tp n f rd ha tx) (k : Nat) : bt tp n k < 256 := by
  unfold bt
  split
  · rename_i h; exact (hC.2.1 k h).2
  · decide
theorem bt_le (k : Nat) : isLb (bt tp n k) = leB tp n k := by
  unfold bt leB
  by_cases h : k < n
  · rw [if_pos h, decide_eq_true h, Bool.true_and]
  · rw [if_neg h, decide_eq_false h]; rfl
theorem bt_di (k : Nat) : isDb (bt tp n k) = diB tp n k := by
  unfold bt diB
  by_cases h : k < n
  · rw [if_pos h, decide_eq_true h, Bool.true_and]
  · rw [if_neg h, decide_eq_false h]; rfl
theorem bt_sp {k : Nat} (h : k < n) (hb : bt tp n k < 256) : (nI (bt tp n k) = 32 ∨ nI (bt tp n k) = 10) ↔ spB tp n k = true := by
  have e32 : nI (bt tp n k) = 32 ↔ bt tp n k = 32 := nI_eq (b := 32) (by omega) (by decide)
  have e10 : nI (bt tp n k) = 10 ↔ bt tp n k = 10 := nI_eq (b := 10) (by omega) (by decide)
  rw [e32, e10]
  unfold spB
  rw [decide_eq_true h, Bool.true_and, decide_eq_true_iff]
  unfold bt
  rw [if_pos h]
theorem nv_lt : ∀ {m s : Nat}, (∀ j, j < m → isDb (tp (s + j)) = true) → nv tp s m < 10 ^ m := by
  intro m
  induction m with
  | zero => intro s _; exact Nat.one_pos
  | succ m ih =>
    intro s h
    have h1 := ih (s := s) (fun j hj => h j (by omega))
    have h2 := h m (by omega)
    unfold isDb at h2
    rw [decide_eq_true_iff] at h2
    show 10 * nv tp s m + (tp (s + m) - 48) < 10 ^ (m + 1)
    rw [Nat.pow_succ]
    omega
theorem ty2_di {b : Nat} (h : ty tp n b = 2) : ∀ j, b ≤ j → j < en tp n b → isDb (tp j) = true := by
  unfold ty at h
  split at h
  · cases h
  rename_i h1
  split at h
  · cases h
  rename_i h2
  split at h
  · rename_i h3
    intro j h4 h5
    unfold en at h5
    rw [if_neg h1, if_neg h2, if_pos h3] at h5
    have g := (run_p (P := diB tp n) (n := n) (fun _ h => diB_n h) (f := n) (k := b) (by omega) (by omega)).2.2.2 j h4 h5
    unfold diB at g
    rw [Bool.and_eq_true] at g
    exact g.2
  · split at h <;> cases h
theorem v4_lt {b : Nat} (h : ty tp n b = 2) : v4 tp n b < 10000 := by
  have h1 : v4 tp n b < 10 ^ (min 4 (en tp n b - b)) := nv_lt (fun j hj => ty2_di h _ (by omega) (by omega))
  exact Nat.lt_of_lt_of_le h1 (Nat.pow_le_pow_right (by decide) (Nat.min_le_left _ _))
end RWL
def RdU (D : va_G) (cA : Nat → ClassId) (rd tx n : Nat) (fs : List Value) (f : Nat → Int32) (U : State) : Prop := va_at D vwCl (rd, .inr (6, .ref tx :: .int (nI n) :: fs)) U.heap ∧ va_at D vwCl (tx, .inl (cA 1, 600, .inl f)) U.heap ∧ KK D cA U
theorem RdU.blind {D : va_G} {cA : Nat → ClassId} {rd tx n : Nat} {fs : List Value} {f : Nat → Int32} : Blind (RdU D cA rd tx n fs f) := fun U g mk a h => ⟨h.1, h.2.1, va_K.moved (u := U) (U := U.calling g mk a) (Vm.Alike.refl U.vm) h.2.2⟩
theorem RdU.go {D : va_G} {cA : Nat → ClassId} {rd tx n : Nat} {fs : List Value} {f : Nat → Int32} {s U : State} {H : Heap} (h1 : va_at D vwCl (rd, .inr (6, .ref tx :: .int (nI n) :: fs)) H) (h2 : va_at D vwCl (tx, .inl (cA 1, 600, .inl f)) H) (hK : KK D cA s) (hU : U.heap = H) (hW : s.WarmedH U.vm) : RdU D cA rd tx n fs f U := ⟨by rw [hU]; exact h1, by rw [hU]; exact h2, va_K.moved hW.alike hK⟩
set_option maxHeartbeats 4000000 in
set_option maxRecDepth 100000 in
theorem metX8_byteAt (l : Launch) {D : va_G} {cA : Nat → ClassId} {z0 : Nat} {tp : Nat → Nat} {n rd ha tx k : Nat} {fs : List Value} {f : Nat → Int32} (hC : RC z0 tp n f rd ha tx) (hk : k ≤ n) : Met l yX8_byteAt (ws_ yX8_byteAt cX8_byteAt 2 (some .int)) ({ frames := 1, cells := 0, slots := 0, locals := 30 }) (va_Pc [.ref rd, .int (nI k)] (RdU D cA rd tx n fs f)) (RQi (fun r => r = nI (bt tp n k))) 0 0 (NoA) := by
  refine Met.ofW (cc := cX8_byteAt) (maxL := 2) (ret := (some .int)) (by decide) rfl ?_
  intro p e s m args below meth c s₁ B hml hv
  obtain ⟨rfl, hv⟩ := hv
  have hx := B.exec
  have hb := B.bytes
  have hr := B.returns
  have hts := atoms_spec (ws := ws_ yX8_byteAt cX8_byteAt 2 (some .int)) B.pre
  have hts : ∀ w ∈ lw_all, w.before _ s = true := fun w h => hts w (List.mem_cons_of_mem _ h)
  have hown : s.vm.findClass RX8 = some m.cls := findClass_of_methodNamed B.named
  have hlocks := B.notSynchronized
  have hS : va_S (NoA) s.heap s.heap [] := va_S.rf
  have hl := lv_entry ([.ref rd, .int (nI k)]) (n := 2) (Nat.le_of_ble_eq_true rfl)
  rw [lg_entry_eq]
  generalize (lg_sl ([.ref rd, .int (nI k)]) ++ List.replicate (2 - (lg_sl ([.ref rd, .int (nI k)])).length) Slot.unset).toArray = ls at hl ⊢
  have hl : lv_has ls 2 [(0, .ref rd), (1, .int (nI k))] := hl
  have hn6 := hC.1
  obtain ⟨h1, h2, hK⟩ := hv
  refine lv_iload_n hx hb dX8_byteAt_0 rfl (lv_at hl 1 rfl) ?_
  refine lv_aload_n hx hb dX8_byteAt_1 rfl (lv_at hl 0 rfl) ?_
  refine h_get (C := RX8) (T := TX8) (N := 9) (ci := 6) (v := .int (nI n)) hx hb hts in_X8 hown hK h1 rfl 1 (by decide) (hts _ q1078) (fun _ h9 => h9) rfl dX8_byteAt_2 ?_
  refine lv_icmp_ge (tgt := 21) hx hb dX8_byteAt_5 (by decide) (fun c1 => ?_) (fun c1 => ?_)
  · have hkn : ¬ k < n := fun h9 => nI_ge h9 (by omega) c1
    refine lv_iconst (v := 0) hx hb dX8_byteAt_21 (by decide) ?_
    exact W.zret (v := 0) hx hb hr rfl (fun t ht _ => ⟨⟨_, (), rfl, by unfold bt; rw [if_neg hkn]; rfl, trivial⟩, hS.F ht⟩) hS.2.2 dX8_byteAt_22 hlocks
  · have hkn : k < n := by
      rcases Nat.lt_or_ge k n with h9 | h9
      · exact h9
      · exact absurd (nI_le h9 (by omega)) c1
    refine lv_aload_n hx hb dX8_byteAt_8 rfl (lv_at hl 0 rfl) ?_
    refine h_get (C := RX8) (T := TX8) (N := 9) (ci := 6) (v := .ref tx) hx hb hts in_X8 hown hK h1 rfl 0 (by decide) (hts _ q1077) (fun _ h9 => h9) rfl dX8_byteAt_9 ?_
    refine lv_iload_n hx hb dX8_byteAt_12 rfl (lv_at hl 1 rfl) ?_
    refine h_bald hx hb hK h2 1 rfl (j := k) (nI_clamp (by omega)) (vp_in_nI (by omega) (by decide)) dX8_byteAt_13 ?_
    refine lv_sipush (v := 255) hx hb dX8_byteAt_14 (by decide) ?_
    refine lv_iand hx hb dX8_byteAt_17 ?_
    refine lv_goto (tgt := 22) hx hb dX8_byteAt_18 (by decide) ?_
    exact W.zret hx hb hr rfl (fun t ht _ => ⟨⟨_, (), rfl, by unfold bt; rw [if_pos hkn]; exact (hC.2.1 k hkn).1, trivial⟩, hS.F ht⟩) hS.2.2 dX8_byteAt_22 hlocks
set_option maxHeartbeats 4000000 in
set_option maxRecDepth 100000 in
theorem metX8_isLetter (l : Launch) {x : Nat} (hx9 : x < 256) : Met l yX8_isLetter (ws_ yX8_isLetter cX8_isLetter 1 (some .boolean)) ({ frames := 1, cells := 0, slots := 0, locals := 30 }) (va_Pc [.int (nI x)] (fun _ => True)) (RQi (fun r => r = b2i (isLb x))) 0 0 (NoA) := by
  refine Met.ofW (cc := cX8_isLetter) (maxL := 1) (ret := (some .boolean)) (by decide) rfl ?_
  intro p e s m args below meth c s₁ B hml hv
  obtain ⟨rfl, hv⟩ := hv
  have hx := B.exec
  have hb := B.bytes
  have hr := B.returns
  have hts := atoms_spec (ws := ws_ yX8_isLetter cX8_isLetter 1 (some .boolean)) B.pre
  have hts : ∀ w ∈ lw_all, w.before _ s = true := fun w h => hts w (List.mem_cons_of_mem _ h)
  have hown : s.vm.findClass RX8 = some m.cls := findClass_of_methodNamed B.named
  have hlocks := B.notSynchronized
  have hS : va_S (NoA) s.heap s.heap [] := va_S.rf
  have hl := lv_entry ([.int (nI x)]) (n := 1) (Nat.le_of_ble_eq_true rfl)
  rw [lg_entry_eq]
  generalize (lg_sl ([.int (nI x)]) ++ List.replicate (1 - (lg_sl ([.int (nI x)])).length) Slot.unset).toArray = ls at hl ⊢
  have hl : lv_has ls 1 [(0, .int (nI x))] := hl
  refine lv_iload_n hx hb dX8_isLetter_0 rfl (lv_at hl 0 rfl) ?_
  refine lv_bipush (v := 97) hx hb dX8_isLetter_1 (by decide) ?_
  refine lv_icmp_lt (tgt := 16) hx hb dX8_isLetter_3 (by decide) (fun c1 => ?_) (fun c1 => ?_)
  · refine lv_iconst (v := 0) hx hb dX8_isLetter_16 (by decide) ?_
    exact W.zret (v := 0) hx hb hr rfl (fun t ht _ => ⟨⟨_, (), rfl, by unfold isLb; rw [decide_eq_false (fun h9 => nI_nlt h9.1 (by omega) c1)]; rfl, trivial⟩, hS.F ht⟩) hS.2.2 dX8_isLetter_17 hlocks
  · refine lv_iload_n hx hb dX8_isLetter_6 rfl (lv_at hl 0 rfl) ?_
    refine lv_bipush (v := 122) hx hb dX8_isLetter_7 (by decide) ?_
    refine lv_icmp_gt (tgt := 16) hx hb dX8_isLetter_9 (by decide) (fun c2 => ?_) (fun c2 => ?_)
    · refine lv_iconst (v := 0) hx hb dX8_isLetter_16 (by decide) ?_
      exact W.zret (v := 0) hx hb hr rfl (fun t ht _ => ⟨⟨_, (), rfl, by unfold isLb; rw [decide_eq_false (fun h9 => nI_nlt h9.2 (by decide) c2)]; rfl, trivial⟩, hS.F ht⟩) hS.2.2 dX8_isLetter_17 hlocks
    · refine lv_iconst (v := 1) hx hb dX8_isLetter_12 (by decide) ?_
      refine lv_goto (tgt := 17) hx hb dX8_isLetter_13 (by decide) ?_
      exact W.zret (v := 1) hx hb hr rfl (fun t ht _ => ⟨⟨_, (), rfl, by unfold isLb; rw [decide_eq_true ⟨Nat.not_lt.mp (fun h9 => c1 (nI_lt h9 (by decide))), Nat.not_lt.mp (fun h9 => c2 (nI_lt h9 (by omega)))⟩]; rfl, trivial⟩, hS.F ht⟩) hS.2.2 dX8_isLetter_17 hlocks
set_option maxHeartbeats 4000000 in
set_option maxRecDepth 100000 in
theorem metX8_isDigit (l : Launch) {x : Nat} (hx9 : x < 256) : Met l yX8_isDigit (ws_ yX8_isDigit cX8_isDigit 1 (some .boolean)) ({ frames := 1, cells := 0, slots := 0, locals := 30 }) (va_Pc [.int (nI x)] (fun _ => True)) (RQi (fun r => r = b2i (isDb x))) 0 0 (NoA) := by
  refine Met.ofW (cc := cX8_isDigit) (maxL := 1) (ret := (some .boolean)) (by decide) rfl ?_
  intro p e s m args below meth c s₁ B hml hv
  obtain ⟨rfl, hv⟩ := hv
  have hx := B.exec
  have hb := B.bytes
  have hr := B.returns
  have hts := atoms_spec (ws := ws_ yX8_isDigit cX8_isDigit 1 (some .boolean)) B.pre
  have hts : ∀ w ∈ lw_all, w.before _ s = true := fun w h => hts w (List.mem_cons_of_mem _ h)
  have hown : s.vm.findClass RX8 = some m.cls := findClass_of_methodNamed B.named
  have hlocks := B.notSynchronized
  have hS : va_S (NoA) s.heap s.heap [] := va_S.rf
  have hl := lv_entry ([.int (nI x)]) (n := 1) (Nat.le_of_ble_eq_true rfl)
  rw [lg_entry_eq]
  generalize (lg_sl ([.int (nI x)]) ++ List.replicate (1 - (lg_sl ([.int (nI x)])).length) Slot.unset).toArray = ls at hl ⊢
  have hl : lv_has ls 1 [(0, .int (nI x))] := hl
  refine lv_iload_n hx hb dX8_isDigit_0 rfl (lv_at hl 0 rfl) ?_
  refine lv_bipush (v := 48) hx hb dX8_isDigit_1 (by decide) ?_
  refine lv_icmp_lt (tgt := 16) hx hb dX8_isDigit_3 (by decide) (fun c1 => ?_) (fun c1 => ?_)
  · refine lv_iconst (v := 0) hx hb dX8_isDigit_16 (by decide) ?_
    exact W.zret (v := 0) hx hb hr rfl (fun t ht _ => ⟨⟨_, (), rfl, by unfold isDb; rw [decide_eq_false (fun h9 => nI_nlt h9.1 (by omega) c1)]; rfl, trivial⟩, hS.F ht⟩) hS.2.2 dX8_isDigit_17 hlocks
  · refine lv_iload_n hx hb dX8_isDigit_6 rfl (lv_at hl 0 rfl) ?_
    refine lv_bipush (v := 57) hx hb dX8_isDigit_7 (by decide) ?_
    refine lv_icmp_gt (tgt := 16) hx hb dX8_isDigit_9 (by decide) (fun c2 => ?_) (fun c2 => ?_)
    · refine lv_iconst (v := 0) hx hb dX8_isDigit_16 (by decide) ?_
      exact W.zret (v := 0) hx hb hr rfl (fun t ht _ => ⟨⟨_, (), rfl, by unfold isDb; rw [decide_eq_false (fun h9 => nI_nlt h9.2 (by decide) c2)]; rfl, trivial⟩, hS.F ht⟩) hS.2.2 dX8_isDigit_17 hlocks
    · refine lv_iconst (v := 1) hx hb dX8_isDigit_12 (by decide) ?_
      refine lv_goto (tgt := 17) hx hb dX8_isDigit_13 (by decide) ?_
      exact W.zret (v := 1) hx hb hr rfl (fun t ht _ => ⟨⟨_, (), rfl, by unfold isDb; rw [decide_eq_true ⟨Nat.not_lt.mp (fun h9 => c1 (nI_lt h9 (by decide))), Nat.not_lt.mp (fun h9 => c2 (nI_lt h9 (by omega)))⟩]; rfl, trivial⟩, hS.F ht⟩) hS.2.2 dX8_isDigit_17 hlocks
set_option maxHeartbeats 4000000 in
set_option maxRecDepth 100000 in
theorem metX8_isSign (l : Launch) {x : Nat} (hx9 : x < 256) : Met l yX8_isSign (ws_ yX8_isSign cX8_isSign 1 (some .boolean)) ({ frames := 1, cells := 0, slots := 0, locals := 30 }) (va_Pc [.int (nI x)] (fun _ => True)) (RQi (fun r => r = b2i (isMb x))) 0 0 (NoA) := by
  refine Met.ofW (cc := cX8_isSign) (maxL := 1) (ret := (some .boolean)) (by decide) rfl ?_
  intro p e s m args below meth c s₁ B hml hv
  obtain ⟨rfl, hv⟩ := hv
  have hx := B.exec
  have hb := B.bytes
  have hr := B.returns
  have hts := atoms_spec (ws := ws_ yX8_isSign cX8_isSign 1 (some .boolean)) B.pre
  have hts : ∀ w ∈ lw_all, w.before _ s = true := fun w h => hts w (List.mem_cons_of_mem _ h)
  have hown : s.vm.findClass RX8 = some m.cls := findClass_of_methodNamed B.named
  have hlocks := B.notSynchronized
  have hS : va_S (NoA) s.heap s.heap [] := va_S.rf
  have hl := lv_entry ([.int (nI x)]) (n := 1) (Nat.le_of_ble_eq_true rfl)
  rw [lg_entry_eq]
  generalize (lg_sl ([.int (nI x)]) ++ List.replicate (1 - (lg_sl ([.int (nI x)])).length) Slot.unset).toArray = ls at hl ⊢
  have hl : lv_has ls 1 [(0, .int (nI x))] := hl
  have one : ∀ ls : Array Slot, isMb x = true → W p l e (headSpec (ws_ yX8_isSign cX8_isSign 1 (some .boolean)) ({ frames := 1, cells := 0, slots := 0, locals := 30 })).room s m ([.int (nI x)] : List Value).toArray below meth c s.heap [] 0 0 (MQ below (RQi (fun r => r = b2i (isMb x))) ([.int (nI x)] : List Value).toArray s 0 0 (NoA)) (F0 m 54 ls []) := by
    intro ls h9
    refine lv_iconst (v := 1) hx hb dX8_isSign_54 (by decide) ?_
    refine lv_goto (tgt := 59) hx hb dX8_isSign_55 (by decide) ?_
    exact W.zret (v := 1) hx hb hr rfl (fun t ht _ => ⟨⟨_, (), rfl, by rw [h9]; rfl, trivial⟩, hS.F ht⟩) hS.2.2 dX8_isSign_59 hlocks
  refine lv_iload_n hx hb dX8_isSign_0 rfl (lv_at hl 0 rfl) ?_
  refine lv_bipush (v := 59) hx hb dX8_isSign_1 (by decide) ?_
  refine lv_icmp_eq (tgt := 54) hx hb dX8_isSign_3 (by decide) (fun c0 => one _ (by unfold isMb; rw [decide_eq_true_iff]; have := (nI_eq (b := 59) (by omega) (by decide)).mp c0; omega)) (fun c0 => ?_)
  refine lv_iload_n hx hb dX8_isSign_6 rfl (lv_at hl 0 rfl) ?_
  refine lv_bipush (v := 40) hx hb dX8_isSign_7 (by decide) ?_
  refine lv_icmp_eq (tgt := 54) hx hb dX8_isSign_9 (by decide) (fun c1 => one _ (by unfold isMb; rw [decide_eq_true_iff]; have := (nI_eq (b := 40) (by omega) (by decide)).mp c1; omega)) (fun c1 => ?_)
  refine lv_iload_n hx hb dX8_isSign_12 rfl (lv_at hl 0 rfl) ?_
  refine lv_bipush (v := 41) hx hb dX8_isSign_13 (by decide) ?_
  refine lv_icmp_eq (tgt := 54) hx hb dX8_isSign_15 (by decide) (fun c2 => one _ (by unfold isMb; rw [decide_eq_true_iff]; have := (nI_eq (b := 41) (by omega) (by decide)).mp c2; omega)) (fun c2 => ?_)
  refine lv_iload_n hx hb dX8_isSign_18 rfl (lv_at hl 0 rfl) ?_
  refine lv_bipush (v := 43) hx hb dX8_isSign_19 (by decide) ?_
  refine lv_icmp_eq (tgt := 54) hx hb dX8_isSign_21 (by decide) (fun c3 => one _ (by unfold isMb; rw [decide_eq_true_iff]; have := (nI_eq (b := 43) (by omega) (by decide)).mp c3; omega)) (fun c3 => ?_)
  refine lv_iload_n hx hb dX8_isSign_24 rfl (lv_at hl 0 rfl) ?_
  refine lv_bipush (v := 45) hx hb dX8_isSign_25 (by decide) ?_
  refine lv_icmp_eq (tgt := 54) hx hb dX8_isSign_27 (by decide) (fun c4 => one _ (by unfold isMb; rw [decide_eq_true_iff]; have := (nI_eq (b := 45) (by omega) (by decide)).mp c4; omega)) (fun c4 => ?_)
  refine lv_iload_n hx hb dX8_isSign_30 rfl (lv_at hl 0 rfl) ?_
  refine lv_bipush (v := 42) hx hb dX8_isSign_31 (by decide) ?_
  refine lv_icmp_eq (tgt := 54) hx hb dX8_isSign_33 (by decide) (fun c5 => one _ (by unfold isMb; rw [decide_eq_true_iff]; have := (nI_eq (b := 42) (by omega) (by decide)).mp c5; omega)) (fun c5 => ?_)
  refine lv_iload_n hx hb dX8_isSign_36 rfl (lv_at hl 0 rfl) ?_
  refine lv_bipush (v := 47) hx hb dX8_isSign_37 (by decide) ?_
  refine lv_icmp_eq (tgt := 54) hx hb dX8_isSign_39 (by decide) (fun c6 => one _ (by unfold isMb; rw [decide_eq_true_iff]; have := (nI_eq (b := 47) (by omega) (by decide)).mp c6; omega)) (fun c6 => ?_)
  refine lv_iload_n hx hb dX8_isSign_42 rfl (lv_at hl 0 rfl) ?_
  refine lv_bipush (v := 60) hx hb dX8_isSign_43 (by decide) ?_
  refine lv_icmp_eq (tgt := 54) hx hb dX8_isSign_45 (by decide) (fun c7 => one _ (by unfold isMb; rw [decide_eq_true_iff]; have := (nI_eq (b := 60) (by omega) (by decide)).mp c7; omega)) (fun c7 => ?_)
  refine lv_iload_n hx hb dX8_isSign_48 rfl (lv_at hl 0 rfl) ?_
  refine lv_bipush (v := 61) hx hb dX8_isSign_49 (by decide) ?_
  refine lv_icmp_ne (tgt := 58) hx hb dX8_isSign_51 (by decide) (fun c8 => ?_) (fun c8 => one _ (by unfold isMb; rw [decide_eq_true_iff]; have := (nI_eq (b := 61) (by omega) (by decide)).mp c8; omega))
  refine lv_iconst (v := 0) hx hb dX8_isSign_58 (by decide) ?_
  have e0 : x ≠ 59 := fun h => c0 ((nI_eq (b := 59) (by omega) (by decide)).mpr h)
  have e1 : x ≠ 40 := fun h => c1 ((nI_eq (b := 40) (by omega) (by decide)).mpr h)
  have e2 : x ≠ 41 := fun h => c2 ((nI_eq (b := 41) (by omega) (by decide)).mpr h)
  have e3 : x ≠ 43 := fun h => c3 ((nI_eq (b := 43) (by omega) (by decide)).mpr h)
  have e4 : x ≠ 45 := fun h => c4 ((nI_eq (b := 45) (by omega) (by decide)).mpr h)
  have e5 : x ≠ 42 := fun h => c5 ((nI_eq (b := 42) (by omega) (by decide)).mpr h)
  have e6 : x ≠ 47 := fun h => c6 ((nI_eq (b := 47) (by omega) (by decide)).mpr h)
  have e7 : x ≠ 60 := fun h => c7 ((nI_eq (b := 60) (by omega) (by decide)).mpr h)
  have e8 : x ≠ 61 := fun h => c8 ((nI_eq (b := 61) (by omega) (by decide)).mpr h)
  exact W.zret (v := 0) hx hb hr rfl (fun t ht _ => ⟨⟨_, (), rfl, by unfold isMb; rw [decide_eq_false (by omega)]; rfl, trivial⟩, hS.F ht⟩) hS.2.2 dX8_isSign_59 hlocks
