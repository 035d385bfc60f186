/-! 97d.go, printed by tools/mk_go.py: Reader.go -/
section GOL
variable {D : va_G} {cA : Nat → ClassId} {z0 : Nat} {E : Nat → Nat → Nat} {tp : Nat → Nat} {n rd ha tx : Nat} {g : Nat → Int32} {f : Nat → Int32} {b : Nat}
theorem wdT_0 (h1 : ty tp n b ≠ 1) (h3 : ty tp n b ≠ 3) : wdT tp n b = [] := by unfold wdT; rw [if_neg h1, if_neg h3]
theorem wdT_c (h : ∀ j, j < n → tp j < 256) : ∀ ch ∈ wdT tp n b, ch < 128 := by
  intro ch hc
  unfold wdT at hc
  split at hc
  · rename_i h1
    rw [List.mem_map] at hc
    obtain ⟨k, hk, rfl⟩ := hc
    rw [List.mem_range] at hk
    have hle : leB tp n (b + k) = true := by
      unfold ty at h1
      split at h1
      · cases h1
      rename_i h2
      split at h1
      · rename_i h4
        unfold en at hk
        rw [if_neg h2, if_pos h4] at hk
        exact (run_p (P := leB tp n) (n := n) (fun _ h => leB_n h) (f := n) (k := b) (by omega) (by omega)).2.2.2 (b + k) (by omega) (by omega)
      · split at h1 <;> (try split at h1) <;> cases h1
    unfold leB isLb at hle
    rw [Bool.and_eq_true, decide_eq_true_iff, decide_eq_true_iff] at hle
    omega
  · split at hc
    · rename_i h3
      rw [List.mem_singleton] at hc
      subst hc
      unfold ty at h3
      split at h3
      · cases h3
      split at h3
      · cases h3
      split at h3
      · cases h3
      split at h3
      · rename_i h5
        unfold isMb at h5
        rw [decide_eq_true_iff] at h5
        omega
      · cases h3
    · cases hc
theorem wdT_len : (wdT tp n b).length ≤ 8 := by
  unfold wdT
  split
  · rw [List.length_map, List.length_range]; omega
  · split
    · show 1 ≤ 8; decide
    · show 0 ≤ 8; decide
/-- what go reaches -/
theorem RW.mk {s : State} {H : Heap} {v lg : Int32} {w wv j t : Nat} (et : ty tp n b = t) (ej : en tp n b = j) (h1 : RO D rd tx ha n j (.int (nI b)) (.int v) (.int lg) (.ref (E 3 (so t))) (.ref w) H) (h2 : va_at D vwCl (ha, .inl (cA 2, 3, .inl g)) H) (h3 : t = 2 → v = nI (v4 tp n b) ∧ lg = b2i (decide (4 < en tp n b - b))) (h4 : SR (R2 rd ha) s H w wv (wdT tp n b)) (h5 : (t = 1 ∨ t = 3) → z0 ≤ w) : RW D cA z0 E tp n rd ha tx g b s H := by
  subst et; subst ej
  exact ⟨v, lg, w, wv, h1, h2, h3, h4, h5⟩
def GoU (D : va_G) (cA : Nat → ClassId) (z0 : Nat) (E : Nat → Nat → Nat) (tp : Nat → Nat) (n : Nat) (f : Nat → Int32) (rd ha tx sz k0 : Nat) (v : Int32) (p lg sr w : Value) (g : Nat → Int32) (U : State) : Prop := RO D rd tx ha n k0 p (.int v) lg sr w U.heap ∧ va_at D vwCl (ha, .inl (cA 2, 3, .inl g)) U.heap ∧ RF D cA z0 E tp n f rd ha tx U ∧ U.heap.size = sz
theorem GoU.blind {sz k0 : Nat} {v : Int32} {p lg sr w : Value} : Blind (GoU D cA z0 E tp n f rd ha tx sz k0 v p lg sr w g) := fun U gg mk a h => ⟨h.1, h.2.1, h.2.2.1.calling, h.2.2.2⟩
end GOL
theorem c2_eq {ch : Nat} (h : ch < 128) : ((nI ch).toUInt32 % 65536).toInt32 = nI ch := (by decide +kernel : ∀ c : Fin 128, ((nI c.1).toUInt32 % 65536).toInt32 = nI c.1) ⟨ch, h⟩
theorem nI_mul9 (a b : Nat) : nI a * nI b = nI (a * b) := (Int32.ofNat_mul a b).symm
theorem SR.back {A : Nat → Prop} {u U : State} {H : Heap} {q v : Nat} {tx : List Nat} (hvm : u.vm.Alike U.vm) (h : SR A U H q v tx) : SR A u H q v tx := h.moved hvm.symm
set_option maxHeartbeats 8000000 in
set_option maxRecDepth 100000 in
theorem metX8_go (l : Launch) {D : va_G} {cA : Nat → ClassId} {z0 : Nat} {E : Nat → Nat → Nat} {tp : Nat → Nat} {n : Nat} {f : Nat → Int32} {rd ha tx sz k0 : Nat} {v : Int32} {p9 lg0 sr0 w0 : Value} {g : Nat → Int32} (hk0 : k0 ≤ n) : Met l yX8_go (ws_ yX8_go cX8_go 3 none) ({ frames := 12, cells := 4, slots := 24, locals := 420 }) (va_Pc [.ref rd] (GoU D cA z0 E tp n f rd ha tx sz k0 v p9 lg0 sr0 w0 g)) (va_Qv (fun _ : Unit => True) (fun _ t => RW D cA z0 E tp n rd ha tx g (sk tp n k0) t t.heap) (RA rd ha sz)) 4 24 (RA rd ha sz) := by
  refine Met.ofW (cc := cX8_go) (maxL := 3) (ret := none) (by decide) rfl ?_
  intro p e s m args below meth c s₁ B hml hv
  obtain ⟨rfl, hv⟩ := hv
  have hx := B.exec
  have hb := B.bytes
  have hret := B.returns
  have hts := atoms_spec (ws := ws_ yX8_go cX8_go 3 none) B.pre
  have hts : ∀ w ∈ lw_all, w.before _ s = true := fun w h => hts w (List.mem_cons_of_mem _ h)
  have hown : s.vm.findClass RX8 = some m.cls := findClass_of_methodNamed B.named
  have hlocks := B.notSynchronized
  have hS : va_S (RA rd ha sz) s.heap s.heap [] := va_S.rf
  have hl := lv_entry ([.ref rd]) (n := 3) (Nat.le_of_ble_eq_true rfl)
  rw [lg_entry_eq]
  generalize (lg_sl ([.ref rd]) ++ List.replicate (3 - (lg_sl ([.ref rd])).length) Slot.unset).toArray = ls at hl ⊢
  have hl : lv_has ls 3 [(0, .ref rd)] := hl
  obtain ⟨hr, hh, ⟨hK, hZ, ht, hC0⟩, hsz⟩ := hv
  obtain ⟨hn6, hfb, hz1, hz2, hrh, htr, hth⟩ := id hC0
  subst hsz
  have hz6 := hZ.2.2.2.2.2
  have hrlt := hr.lt
  have hhlt := hh.lt
  have hAz : ∀ q, RA rd ha s.heap.size q → ZA z0 q := fun q h => h.elim (fun h => h.elim (fun e => e ▸ hz1) (fun e => e ▸ hz2)) (fun h => Nat.le_trans hz6 h)
  have hSR : ∀ (H : Heap) (locs : List Loc), va_S (RA rd ha s.heap.size) s.heap H locs → SR (R2 rd ha) s H (E 0 0) (E 1 0) [] := fun H locs hS => ((hZ.1.1 0 (by decide)).kept (fun a h1 h2 => hS.2.1 a h1 (fun h => h2 (hAz a h)))).narrow (fun q h => hAz q (Or.inl h))
  have hCP : ∀ (H : Heap) (locs : List Loc), va_S (RA rd ha s.heap.size) s.heap H locs → SC NoA s H := fun H locs hS => (SC.kept (A := ZA z0) ⟨hZ.1.2.1, hZ.1.2.2.2.2.2.2.2.2⟩ (fun a h1 h2 => hS.2.1 a h1 (fun h => h2 (hAz a h)))).narrow (fun q h => h.elim)
  have fin : ∀ (b : Nat) (H : Heap) (locs : List Loc) (ls : Array Slot) (cells slots : Nat), sk tp n k0 = b → cells ≤ 4 → slots ≤ 24 → RW D cA z0 E tp n rd ha tx g b s H → va_S (RA rd ha s.heap.size) s.heap H locs → W p l e (headSpec (ws_ yX8_go cX8_go 3 none) ({ frames := 12, cells := 4, slots := 24, locals := 420 })).room s m ([.ref rd] : List Value).toArray below meth c H locs cells slots (MQ below (va_Qv (fun _ : Unit => True) (fun _ t => RW D cA z0 E tp n rd ha tx g (sk tp n k0) t t.heap) (RA rd ha s.heap.size)) ([.ref rd] : List Value).toArray s 4 24 (RA rd ha s.heap.size)) (F0 m 340 ls []) := by
    intro b H locs ls cells slots eb hcl9 hsl9 hM hS
    rw [eb]
    exact W.widen (k := 4) (n := 24) hcl9 hsl9 (W.vret hx hb hret (fun t ht hW => ⟨⟨(), rfl, trivial, (show RW _ _ _ _ _ _ _ _ _ _ _ t t.heap from ht ▸ hM.moved hW.alike)⟩, hS.F ht⟩) hS.2.2 dX8_go_340 hlocks)
  have main : ∀ (b : Nat) (H : Heap) (locs : List Loc) (ls : Array Slot), sk tp n k0 = b → b ≤ n → RO D rd tx ha n b (p9) (.int v) (lg0) (sr0) (w0) H → va_at D vwCl (ha, .inl (cA 2, 3, .inl g)) H → va_at D vwCl (tx, .inl (cA 1, 600, .inl f)) H → va_S (RA rd ha s.heap.size) s.heap H locs → lv_has ls 3 [(0, .ref rd)] → W p l e (headSpec (ws_ yX8_go cX8_go 3 none) ({ frames := 12, cells := 4, slots := 24, locals := 420 })).room s m ([.ref rd] : List Value).toArray below meth c H locs 0 0 (MQ below (va_Qv (fun _ : Unit => True) (fun _ t => RW D cA z0 E tp n rd ha tx g (sk tp n k0) t t.heap) (RA rd ha s.heap.size)) ([.ref rd] : List Value).toArray s 4 24 (RA rd ha s.heap.size)) (F0 m 50 ls []) := by
    intro b H locs ls eb hbn hr hh ht hS hl
    refine lv_aload_n hx hb dX8_go_50 rfl (lv_at hl 0 rfl) ?_
    refine lv_aload_n hx hb dX8_go_51 rfl (lv_at hl 0 rfl) ?_
    refine h_get (C := RX8) (T := TX8) (N := 9) (ci := 6) (v := .int (nI b)) hx hb hts in_X8 hown hK hr rfl 2 (by decide) (hts _ q1079) (fun _ h9 => h9) rfl dX8_go_52 ?_
    refine h_put (A := RA rd ha s.heap.size) (C := RX8) (T := TX8) (N := 9) (ci := 6) (v := .int (nI b)) hx hb hts in_X8 tyX8 tyX8_ok nmX8 hown hK hr (Or.inl (Or.inl rfl)) hS rfl 3 (by decide) (hts _ q1080) (fun _ h9 => h9) rfl (ty := .int) (by decide +kernel) rfl rfl (Nat.lt_of_lt_of_le (by decide : 3 < 9) (Nat.le_of_eq rfl)) dX8_go_55 (fun H locs hr oq hz hS => ?_)
    have hh := hh.kept (oq _ hrh.symm)
    have ht := ht.kept (oq _ htr)
    refine lv_aload_n hx hb dX8_go_58 rfl (lv_at hl 0 rfl) ?_
    refine va_ldcS hx hb hown (hZ.2.2.1 _ (List.mem_of_getElem? (i := 0) rfl)) dX8_go_59 ?_
    refine h_put (A := RA rd ha s.heap.size) (C := RX8) (T := TX8) (N := 9) (ci := 6) (v := .ref (E 0 0)) hx hb hts in_X8 tyX8 tyX8_ok nmX8 hown hK hr (Or.inl (Or.inl rfl)) hS rfl 7 (by decide) (hts _ q1084) (fun _ h9 => h9) rfl (ty := .object "java/lang/String") (by decide +kernel) rfl rfl (Nat.lt_of_lt_of_le (by decide : 7 < 9) (Nat.le_of_eq rfl)) dX8_go_61 (fun H locs hr oq hz hS => ?_)
    have hh := hh.kept (oq _ hrh.symm)
    have ht := ht.kept (oq _ htr)
    refine lv_aload_n hx hb dX8_go_64 rfl (lv_at hl 0 rfl) ?_
    refine lv_iconst (v := 0) hx hb dX8_go_65 (by decide) ?_
    refine h_put (A := RA rd ha s.heap.size) (C := RX8) (T := TX8) (N := 9) (ci := 6) (v := .int 0) hx hb hts in_X8 tyX8 tyX8_ok nmX8 hown hK hr (Or.inl (Or.inl rfl)) hS rfl 5 (by decide) (hts _ q1082) (fun _ h9 => h9) rfl (ty := .boolean) (by decide +kernel) rfl rfl (Nat.lt_of_lt_of_le (by decide : 5 < 9) (Nat.le_of_eq rfl)) dX8_go_66 (fun H locs hr oq hz hS => ?_)
    have hh := hh.kept (oq _ hrh.symm)
    have ht := ht.kept (oq _ htr)
    refine lv_aload_n hx hb dX8_go_69 rfl (lv_at hl 0 rfl) ?_
    refine lv_aload_n hx hb dX8_go_70 rfl (lv_at hl 0 rfl) ?_
    refine h_get (C := RX8) (T := TX8) (N := 9) (ci := 6) (v := .int (nI b)) hx hb hts in_X8 hown hK hr rfl 2 (by decide) (hts _ q1079) (fun _ h9 => h9) rfl dX8_go_71 ?_
    refine R_callI (As := [.int (nI b)]) (rest := []) (C := RX8) ⟨hx, hb, hml, hown, hts⟩ hS (metX8_byteAt l (D := D) (cA := cA) (z0 := z0) (tp := tp) (n := n) (rd := rd) (ha := ha) (tx := tx) (k := b) (f := f) hC0 hbn) RdU.blind (fun U hU hW => RdU.go hr ht hK hU hW) (at_recv (q := (RX8, TX8, 9)) hK hr rfl) (cwV 1 hts (lw_V q1014 q1016 qs19 q131 q1017) rfl rfl rfl (by decide +kernel) ⟨Nat.le_of_ble_eq_true rfl, Nat.le_of_ble_eq_true rfl⟩) rfl hl.1 rfl (Nat.le_of_ble_eq_true rfl) dX8_go_74 ⟨Nat.le_of_ble_eq_true rfl, Nat.le_of_ble_eq_true rfl⟩ (fun r H locs hw hk hS => ?_)
    subst hw
    have hr := hr.kept (hk _ hr.lt)
    have hh := hh.kept (hk _ hh.lt)
    have ht := ht.kept (hk _ ht.lt)
    refine lv_istore_n (lv' := [(1, .int (nI (bt tp n b))), (0, .ref rd)]) hx hb dX8_go_77 rfl hl (by decide) rfl (fun ls hl => ?_)
    refine lv_aload_n hx hb dX8_go_78 rfl (lv_at hl 1 rfl) ?_
    refine h_get (C := RX8) (T := TX8) (N := 9) (ci := 6) (v := .int (nI b)) hx hb hts in_X8 hown hK hr rfl 2 (by decide) (hts _ q1079) (fun _ h9 => h9) rfl dX8_go_79 ?_
    refine lv_aload_n hx hb dX8_go_82 rfl (lv_at hl 1 rfl) ?_
    refine h_get (C := RX8) (T := TX8) (N := 9) (ci := 6) (v := .int (nI n)) hx hb hts in_X8 hown hK hr rfl 1 (by decide) (hts _ q1078) (fun _ h9 => h9) rfl dX8_go_83 ?_
    refine lv_icmp_lt (tgt := 99) hx hb dX8_go_86 (by decide) (fun c1 => ?_) (fun c1 => ?_)
    · have hbl : b < n := by
        rcases Nat.lt_or_ge b n with h9 | h9
        · exact h9
        · exact absurd c1 (nI_nlt h9 (by omega))
      have ebt : bt tp n b = tp b := if_pos hbl
      have htp := (hfb b hbl).2
      refine lv_iload_n hx hb dX8_go_99 rfl (lv_at hl 0 rfl) ?_
      refine R_callIS (Φ := fun _ => True) (As := [.int (nI (bt tp n b))]) (rest := []) ⟨hx, hb, hml, hown, hts⟩ hS (metX8_isLetter l (bt_lt hC0 b)) (fun _ _ _ _ h => h) (fun U hU hW => trivial) (va_cwS 1 hts (lw_S q1020 q1021 q131 q1022) rfl rfl rfl (by decide +kernel) ⟨Nat.le_of_ble_eq_true rfl, Nat.le_of_ble_eq_true rfl⟩) rfl hl.1 rfl (Nat.le_of_ble_eq_true rfl) dX8_go_100 ⟨Nat.le_of_ble_eq_true rfl, Nat.le_of_ble_eq_true rfl⟩ (fun r H locs hw hk hS => ?_)
      subst hw
      have hr := hr.kept (hk _ hr.lt)
      have hh := hh.kept (hk _ hh.lt)
      have ht := ht.kept (hk _ ht.lt)
      refine lv_if_eq (tgt := 184) hx hb dX8_go_103 (by decide) (fun c2 => ?_) (fun c2 => ?_)
      · have c2 : isLb (tp b) = false := by rw [ebt] at c2; cases h9 : isLb (tp b) with | false => rfl | true => rw [h9] at c2; exact absurd c2 (by decide)
        refine lv_iload_n hx hb dX8_go_184 rfl (lv_at hl 0 rfl) ?_
        refine R_callIS (Φ := fun _ => True) (As := [.int (nI (bt tp n b))]) (rest := []) ⟨hx, hb, hml, hown, hts⟩ hS (metX8_isDigit l (bt_lt hC0 b)) (fun _ _ _ _ h => h) (fun U hU hW => trivial) (va_cwS 1 hts (lw_S q1051 q1052 q131 q1053) rfl rfl rfl (by decide +kernel) ⟨Nat.le_of_ble_eq_true rfl, Nat.le_of_ble_eq_true rfl⟩) rfl hl.1 rfl (Nat.le_of_ble_eq_true rfl) dX8_go_185 ⟨Nat.le_of_ble_eq_true rfl, Nat.le_of_ble_eq_true rfl⟩ (fun r H locs hw hk hS => ?_)
        subst hw
        have hr := hr.kept (hk _ hr.lt)
        have hh := hh.kept (hk _ hh.lt)
        have ht := ht.kept (hk _ ht.lt)
        refine lv_if_eq (tgt := 291) hx hb dX8_go_188 (by decide) (fun c3 => ?_) (fun c3 => ?_)
        · have c3 : isDb (tp b) = false := by rw [ebt] at c3; cases h9 : isDb (tp b) with | false => rfl | true => rw [h9] at c3; exact absurd c3 (by decide)
          refine lv_aload_n hx hb dX8_go_291 rfl (lv_at hl 1 rfl) ?_
          refine lv_iload_n hx hb dX8_go_292 rfl (lv_at hl 0 rfl) ?_
          refine R_callIS (Φ := fun _ => True) (As := [.int (nI (bt tp n b))]) (rest := [.ref rd]) ⟨hx, hb, hml, hown, hts⟩ hS (metX8_isSign l (bt_lt hC0 b)) (fun _ _ _ _ h => h) (fun U hU hW => trivial) (va_cwS 1 hts (lw_S q1056 q1057 q131 q1058) rfl rfl rfl (by decide +kernel) ⟨Nat.le_of_ble_eq_true rfl, Nat.le_of_ble_eq_true rfl⟩) rfl hl.1 rfl (Nat.le_of_ble_eq_true rfl) dX8_go_293 ⟨Nat.le_of_ble_eq_true rfl, Nat.le_of_ble_eq_true rfl⟩ (fun r H locs hw hk hS => ?_)
          subst hw
          have hr := hr.kept (hk _ hr.lt)
          have hh := hh.kept (hk _ hh.lt)
          have ht := ht.kept (hk _ ht.lt)
          refine lv_if_eq (tgt := 305) hx hb dX8_go_296 (by decide) (fun c4 => ?_) (fun c4 => ?_)
          · have c4 : isMb (tp b) = false := by rw [ebt] at c4; cases h9 : isMb (tp b) with | false => rfl | true => rw [h9] at c4; exact absurd c4 (by decide)
            have et : ty tp n b = 4 := by unfold ty; rw [if_neg (by omega), c2, c3, c4]; rfl
            have ee : en tp n b = b + 1 := by unfold en; rw [if_neg (by omega), c2, c3]; rfl
            refine va_gets (n := "BAD") (v := .ref (E 3 3)) hx hb (((hZ.1.2.2.2.1.1 3 (by decide)).1).narrow hAz) hS hown (hts _ q1061) (fun _ h => h) dX8_go_305 ?_
            refine h_put (A := RA rd ha s.heap.size) (C := RX8) (T := TX8) (N := 9) (ci := 6) (v := .ref (E 3 3)) hx hb hts in_X8 tyX8 tyX8_ok nmX8 hown hK hr (Or.inl (Or.inl rfl)) hS rfl 6 (by decide) (hts _ q1083) (fun _ h9 => h9) rfl (ty := .object "StrangeKnives$Sort") (by decide +kernel) rfl rfl (Nat.lt_of_lt_of_le (by decide : 6 < 9) (Nat.le_of_eq rfl)) dX8_go_308 (fun H locs hr oq hz hS => ?_)
            have hh := hh.kept (oq _ hrh.symm)
            have ht := ht.kept (oq _ htr)
            refine lv_aload_n hx hb dX8_go_311 rfl (lv_at hl 1 rfl) ?_
            refine h_get (C := RX8) (T := TX8) (N := 9) (ci := 6) (v := .ref (E 3 3)) hx hb hts in_X8 hown hK hr rfl 6 (by decide) (hts _ q1083) (fun _ h9 => h9) rfl dX8_go_312 ?_
            refine va_gets (n := "SIGN") (v := .ref (E 3 2)) hx hb (((hZ.1.2.2.2.1.1 2 (by decide)).1).narrow hAz) hS hown (hts _ q1059) (fun _ h => h) dX8_go_315 ?_
            refine lv_acmp_ne (rx := some (E 3 3)) (ry := some (E 3 2)) (tgt := 330) hx hb dX8_go_318 (by decide) (fun c9 => ?_) (fun c9 => absurd (hZ.1.2.2.2.1.2 3 2 (by decide) (by decide) (Option.some.inj c9)) (by decide))
            refine lv_aload_n hx hb dX8_go_330 rfl (lv_at hl 1 rfl) ?_
            refine lv_dup hx hb dX8_go_331 rfl ?_
            refine h_get (C := RX8) (T := TX8) (N := 9) (ci := 6) (v := .int (nI b)) hx hb hts in_X8 hown hK hr rfl 2 (by decide) (hts _ q1079) (fun _ h9 => h9) rfl dX8_go_332 ?_
            refine lv_iconst (v := 1) hx hb dX8_go_335 (by decide) ?_
            refine lv_iadd hx hb dX8_go_336 ?_
            refine h_put (A := RA rd ha s.heap.size) (C := RX8) (T := TX8) (N := 9) (ci := 6) (v := .int ((nI b) + 1)) hx hb hts in_X8 tyX8 tyX8_ok nmX8 hown hK hr (Or.inl (Or.inl rfl)) hS rfl 2 (by decide) (hts _ q1079) (fun _ h9 => h9) rfl (ty := .int) (by decide +kernel) rfl rfl (Nat.lt_of_lt_of_le (by decide : 2 < 9) (Nat.le_of_eq rfl)) dX8_go_337 (fun H locs hr oq hz hS => ?_)
            have hh := hh.kept (oq _ hrh.symm)
            have ht := ht.kept (oq _ htr)
            rw [nI_1] at hr
            exact fin b _ _ _ _ _ eb (by decide) (by decide) (RW.mk et ee hr hh (fun h9 => absurd h9 (by decide)) (by rw [wdT_0 (by rw [et]; decide) (by rw [et]; decide)]; exact hSR _ _ hS) (fun h9 => absurd h9 (by decide))) hS
          · have c4 : isMb (tp b) = true := by rw [ebt] at c4; cases h9 : isMb (tp b) with | true => rfl | false => rw [h9] at c4; exact absurd rfl c4
            have et : ty tp n b = 3 := by unfold ty; rw [if_neg (by omega), c2, c3, c4]; rfl
            have ee : en tp n b = b + 1 := by unfold en; rw [if_neg (by omega), c2, c3]; rfl
            have hw9 : wdT tp n b = [tp b] := by unfold wdT; rw [if_neg (by rw [et]; decide), if_pos et]
            have h128 : tp b < 128 := by unfold isMb at c4; rw [decide_eq_true_iff] at c4; omega
            refine va_gets (n := "SIGN") (v := .ref (E 3 2)) hx hb (((hZ.1.2.2.2.1.1 2 (by decide)).1).narrow hAz) hS hown (hts _ q1059) (fun _ h => h) dX8_go_299 ?_
            refine lv_goto (tgt := 308) hx hb dX8_go_302 (by decide) ?_
            refine h_put (A := RA rd ha s.heap.size) (C := RX8) (T := TX8) (N := 9) (ci := 6) (v := .ref (E 3 2)) hx hb hts in_X8 tyX8 tyX8_ok nmX8 hown hK hr (Or.inl (Or.inl rfl)) hS rfl 6 (by decide) (hts _ q1083) (fun _ h9 => h9) rfl (ty := .object "StrangeKnives$Sort") (by decide +kernel) rfl rfl (Nat.lt_of_lt_of_le (by decide : 6 < 9) (Nat.le_of_eq rfl)) dX8_go_308 (fun H locs hr oq hz hS => ?_)
            have hh := hh.kept (oq _ hrh.symm)
            have ht := ht.kept (oq _ htr)
            refine lv_aload_n hx hb dX8_go_311 rfl (lv_at hl 1 rfl) ?_
            refine h_get (C := RX8) (T := TX8) (N := 9) (ci := 6) (v := .ref (E 3 2)) hx hb hts in_X8 hown hK hr rfl 6 (by decide) (hts _ q1083) (fun _ h9 => h9) rfl dX8_go_312 ?_
            refine va_gets (n := "SIGN") (v := .ref (E 3 2)) hx hb (((hZ.1.2.2.2.1.1 2 (by decide)).1).narrow hAz) hS hown (hts _ q1059) (fun _ h => h) dX8_go_315 ?_
            refine lv_acmp_ne (rx := some (E 3 2)) (ry := some (E 3 2)) (tgt := 330) hx hb dX8_go_318 (by decide) (fun c9 => absurd rfl c9) (fun c9 => ?_)
            refine lv_aload_n hx hb dX8_go_321 rfl (lv_at hl 1 rfl) ?_
            refine lv_iload_n hx hb dX8_go_322 rfl (lv_at hl 0 rfl) ?_
            refine lv_i2c (v := nI (tp b)) hx hb dX8_go_323 (by rw [ebt]; exact c2_eq h128) ?_
            have hrl := hr.lt
            have hhl := hh.lt
            have hsH0 := hS.1
            refine va_callr (va_runS (As := [.int (nI (tp b))]) (rest := [.ref rd]) ⟨hx, hb, hml, hown, hts⟩ (metJ9_valueOf l (D := D) (cA := cA) (sz := H.size) h128) (va_cwS 1 hts (lw_S q1063 q1064 q115 q1065) rfl rfl rfl (by decide +kernel) ⟨Nat.le_of_ble_eq_true rfl, Nat.le_of_ble_eq_true rfl⟩) ⟨VOU.blind.pc, fun U hU hW => ⟨rfl, by unfold VOU; rw [hU]; exact ⟨va_K.moved hW.alike hK, (hCP _ _ hS).moved hW.alike, rfl⟩⟩⟩ rfl rfl hl.1 rfl (lv_room (Nat.le_of_ble_eq_true rfl)) dX8_go_324 ⟨Nat.le_of_ble_eq_true rfl, Nat.le_of_ble_eq_true rfl⟩) hS (fun q _ h => Or.inr (Nat.le_trans hS.1 h)) (fun q h => Or.inr (Nat.le_trans hS.1 h)) (fun wv ra t H1 locs ht9 hvm hw hW hz hk hS => ?_)
            subst ht9
            have hsH := hS.1
            have hk := fun q (h9 : q < H.size) => hk q h9 (Nat.not_le.mpr h9)
            have hr := hr.kept (hk _ hr.lt)
            have hh := hh.kept (hk _ hh.lt)
            have ht := ht.kept (hk _ ht.lt)
            have hra : z0 ≤ ra := Nat.le_trans (Nat.le_trans hz6 hsH0) (Nat.not_lt.mp (fun h9 => by obtain ⟨cell, -, -, -, h8⟩ := hW.1; exact h8 h9))
            have hW : SR (R2 rd ha) s t.heap ra wv [tp b] := (SR.back hvm hW).narrow (fun q h9 => h9.elim (fun e9 => by rw [e9]; exact hrl) (fun e9 => by rw [e9]; exact hhl))
            refine h_put (A := RA rd ha s.heap.size) (C := RX8) (T := TX8) (N := 9) (ci := 6) (v := .ref ra) hx hb hts in_X8 tyX8 tyX8_ok nmX8 hown hK hr (Or.inl (Or.inl rfl)) hS rfl 7 (by decide) (hts _ q1084) (fun _ h9 => h9) rfl (ty := .object "java/lang/String") (by decide +kernel) rfl rfl (Nat.lt_of_lt_of_le (by decide : 7 < 9) (Nat.le_of_eq rfl)) dX8_go_327 (fun H locs hr oq hz hS => ?_)
            have hh := hh.kept (oq _ hrh.symm)
            have ht := ht.kept (oq _ htr)
            have hW := hW.kept (fun x hx9 hn9 => oq x (fun e9 => hn9 (Or.inl e9)))
            refine lv_aload_n hx hb dX8_go_330 rfl (lv_at hl 1 rfl) ?_
            refine lv_dup hx hb dX8_go_331 rfl ?_
            refine h_get (C := RX8) (T := TX8) (N := 9) (ci := 6) (v := .int (nI b)) hx hb hts in_X8 hown hK hr rfl 2 (by decide) (hts _ q1079) (fun _ h9 => h9) rfl dX8_go_332 ?_
            refine lv_iconst (v := 1) hx hb dX8_go_335 (by decide) ?_
            refine lv_iadd hx hb dX8_go_336 ?_
            refine h_put (A := RA rd ha s.heap.size) (C := RX8) (T := TX8) (N := 9) (ci := 6) (v := .int ((nI b) + 1)) hx hb hts in_X8 tyX8 tyX8_ok nmX8 hown hK hr (Or.inl (Or.inl rfl)) hS rfl 2 (by decide) (hts _ q1079) (fun _ h9 => h9) rfl (ty := .int) (by decide +kernel) rfl rfl (Nat.lt_of_lt_of_le (by decide : 2 < 9) (Nat.le_of_eq rfl)) dX8_go_337 (fun H locs hr oq hz hS => ?_)
            have hh := hh.kept (oq _ hrh.symm)
            have ht := ht.kept (oq _ htr)
            have hW := hW.kept (fun x hx9 hn9 => oq x (fun e9 => hn9 (Or.inl e9)))
            rw [nI_1] at hr
            exact fin b _ _ _ _ _ eb (by decide) (by decide) (RW.mk et ee hr hh (fun h9 => absurd h9 (by decide)) (by rw [hw9]; exact hW) (fun _ => hra)) hS
        · have c3 : isDb (tp b) = true := by rw [ebt] at c3; cases h9 : isDb (tp b) with | true => rfl | false => rw [h9] at c3; exact absurd rfl c3
          have et : ty tp n b = 2 := by unfold ty; rw [if_neg (by omega), c2, c3]; rfl
          have ee : en tp n b = run (diB tp n) n b := by unfold en; rw [if_neg (by omega), c2, c3]; rfl
          refine lv_aload_n hx hb dX8_go_191 rfl (lv_at hl 1 rfl) ?_
          refine lv_iconst (v := 0) hx hb dX8_go_192 (by decide) ?_
          refine h_put (A := RA rd ha s.heap.size) (C := RX8) (T := TX8) (N := 9) (ci := 6) (v := .int 0) hx hb hts in_X8 tyX8 tyX8_ok nmX8 hown hK hr (Or.inl (Or.inl rfl)) hS rfl 4 (by decide) (hts _ q1081) (fun _ h9 => h9) rfl (ty := .int) (by decide +kernel) rfl rfl (Nat.lt_of_lt_of_le (by decide : 4 < 9) (Nat.le_of_eq rfl)) dX8_go_193 (fun H locs hr oq hz hS => ?_)
          have hh := hh.kept (oq _ hrh.symm)
          have ht := ht.kept (oq _ htr)
          have loop : ∀ (r j : Nat) (H : Heap) (locs : List Loc) (ls : Array Slot), j + r = n → b ≤ j → (∀ i, b ≤ i → i < j → diB tp n i = true) → RO D rd tx ha n j (.int (nI b)) (.int (nI (nv tp b (min 4 (j - b))))) (.int 0) (sr0) (.ref (E 0 0)) H → va_at D vwCl (ha, .inl (cA 2, 3, .inl g)) H → va_at D vwCl (tx, .inl (cA 1, 600, .inl f)) H → va_S (RA rd ha s.heap.size) s.heap H locs → lv_has ls 3 [(1, .int (nI (bt tp n b))), (0, .ref rd)] → W p l e (headSpec (ws_ yX8_go cX8_go 3 none) ({ frames := 12, cells := 4, slots := 24, locals := 420 })).room s m ([.ref rd] : List Value).toArray below meth c H locs 0 0 (MQ below (va_Qv (fun _ : Unit => True) (fun _ t => RW D cA z0 E tp n rd ha tx g (sk tp n k0) t t.heap) (RA rd ha s.heap.size)) ([.ref rd] : List Value).toArray s 4 24 (RA rd ha s.heap.size)) (F0 m 196 ls []) := by
            intro r
            induction r with
            | zero =>
              intro j H locs ls ej hbj hdi hr hh ht hS hl
              refine lv_aload_n hx hb dX8_go_196 rfl (lv_at hl 1 rfl) ?_
              refine lv_aload_n hx hb dX8_go_197 rfl (lv_at hl 1 rfl) ?_
              refine h_get (C := RX8) (T := TX8) (N := 9) (ci := 6) (v := .int (nI j)) hx hb hts in_X8 hown hK hr rfl 2 (by decide) (hts _ q1079) (fun _ h9 => h9) rfl dX8_go_198 ?_
              refine R_callI (As := [.int (nI j)]) (rest := []) (C := RX8) ⟨hx, hb, hml, hown, hts⟩ hS (metX8_byteAt l (D := D) (cA := cA) (z0 := z0) (tp := tp) (n := n) (rd := rd) (ha := ha) (tx := tx) (k := j) (f := f) hC0 (by omega)) RdU.blind (fun U hU hW => RdU.go hr ht hK hU hW) (at_recv (q := (RX8, TX8, 9)) hK hr rfl) (cwV 1 hts (lw_V q1014 q1016 qs19 q131 q1017) rfl rfl rfl (by decide +kernel) ⟨Nat.le_of_ble_eq_true rfl, Nat.le_of_ble_eq_true rfl⟩) rfl hl.1 rfl (Nat.le_of_ble_eq_true rfl) dX8_go_201 ⟨Nat.le_of_ble_eq_true rfl, Nat.le_of_ble_eq_true rfl⟩ (fun r H locs hw hk hS => ?_)
              subst hw
              have hr := hr.kept (hk _ hr.lt)
              have hh := hh.kept (hk _ hh.lt)
              have ht := ht.kept (hk _ ht.lt)
              refine R_callIS (Φ := fun _ => True) (As := [.int (nI (bt tp n j))]) (rest := []) ⟨hx, hb, hml, hown, hts⟩ hS (metX8_isDigit l (bt_lt hC0 j)) (fun _ _ _ _ h => h) (fun U hU hW => trivial) (va_cwS 1 hts (lw_S q1051 q1052 q131 q1053) rfl rfl rfl (by decide +kernel) ⟨Nat.le_of_ble_eq_true rfl, Nat.le_of_ble_eq_true rfl⟩) rfl hl.1 rfl (Nat.le_of_ble_eq_true rfl) dX8_go_204 ⟨Nat.le_of_ble_eq_true rfl, Nat.le_of_ble_eq_true rfl⟩ (fun r H locs hw hk hS => ?_)
              subst hw
              have hr := hr.kept (hk _ hr.lt)
              have hh := hh.kept (hk _ hh.lt)
              have ht := ht.kept (hk _ ht.lt)
              refine lv_if_eq (tgt := 259) hx hb dX8_go_207 (by decide) (fun c5 => ?_) (fun c5 => ?_)
              · have c5 : diB tp n j = false := by rw [bt_di] at c5; cases h9 : diB tp n j with | false => rfl | true => rw [h9] at c5; exact absurd c5 (by decide)
                have ej9 : en tp n b = j := by rw [ee]; exact run_eq hbj (by omega) hdi c5
                refine lv_aload_n hx hb dX8_go_259 rfl (lv_at hl 1 rfl) ?_
                refine lv_aload_n hx hb dX8_go_260 rfl (lv_at hl 1 rfl) ?_
                refine h_get (C := RX8) (T := TX8) (N := 9) (ci := 6) (v := .int (nI j)) hx hb hts in_X8 hown hK hr rfl 2 (by decide) (hts _ q1079) (fun _ h9 => h9) rfl dX8_go_261 ?_
                refine lv_aload_n hx hb dX8_go_264 rfl (lv_at hl 1 rfl) ?_
                refine h_get (C := RX8) (T := TX8) (N := 9) (ci := 6) (v := .int (nI b)) hx hb hts in_X8 hown hK hr rfl 3 (by decide) (hts _ q1080) (fun _ h9 => h9) rfl dX8_go_265 ?_
                refine lv_isub hx hb dX8_go_268 ?_
                rw [pk_sub hbj]
                refine lv_iconst (v := 4) hx hb dX8_go_269 (by decide) ?_
                refine lv_icmp_le (tgt := 277) hx hb dX8_go_270 (by decide) (fun c6 => ?_) (fun c6 => ?_)
                · refine lv_iconst (v := 0) hx hb dX8_go_277 (by decide) ?_
                  refine h_put (A := RA rd ha s.heap.size) (C := RX8) (T := TX8) (N := 9) (ci := 6) (v := .int 0) hx hb hts in_X8 tyX8 tyX8_ok nmX8 hown hK hr (Or.inl (Or.inl rfl)) hS rfl 5 (by decide) (hts _ q1082) (fun _ h9 => h9) rfl (ty := .boolean) (by decide +kernel) rfl rfl (Nat.lt_of_lt_of_le (by decide : 5 < 9) (Nat.le_of_eq rfl)) dX8_go_278 (fun H locs hr oq hz hS => ?_)
                  have hh := hh.kept (oq _ hrh.symm)
                  have ht := ht.kept (oq _ htr)
                  refine lv_aload_n hx hb dX8_go_281 rfl (lv_at hl 1 rfl) ?_
                  refine va_gets (n := "NUMBER") (v := .ref (E 3 1)) hx hb (((hZ.1.2.2.2.1.1 1 (by decide)).1).narrow hAz) hS hown (hts _ q1054) (fun _ h => h) dX8_go_282 ?_
                  refine h_put (A := RA rd ha s.heap.size) (C := RX8) (T := TX8) (N := 9) (ci := 6) (v := .ref (E 3 1)) hx hb hts in_X8 tyX8 tyX8_ok nmX8 hown hK hr (Or.inl (Or.inl rfl)) hS rfl 6 (by decide) (hts _ q1083) (fun _ h9 => h9) rfl (ty := .object "StrangeKnives$Sort") (by decide +kernel) rfl rfl (Nat.lt_of_lt_of_le (by decide : 6 < 9) (Nat.le_of_eq rfl)) dX8_go_285 (fun H locs hr oq hz hS => ?_)
                  have hh := hh.kept (oq _ hrh.symm)
                  have ht := ht.kept (oq _ htr)
                  refine lv_goto (tgt := 340) hx hb dX8_go_288 (by decide) ?_
                  have h4 : ¬ 4 < en tp n b - b := by rw [ej9]; intro h9; exact absurd c6 (nI_ge h9 (by omega))
                  exact fin b _ _ _ _ _ eb (by decide) (by decide) (RW.mk et ej9 hr hh (fun _ => ⟨by unfold v4; rw [ej9], by rw [decide_eq_false h4]; rfl⟩) (by rw [wdT_0 (by rw [et]; decide) (by rw [et]; decide)]; exact hSR _ _ hS) (fun h9 => absurd h9 (by decide))) hS
                · refine lv_iconst (v := 1) hx hb dX8_go_273 (by decide) ?_
                  refine lv_goto (tgt := 278) hx hb dX8_go_274 (by decide) ?_
                  refine h_put (A := RA rd ha s.heap.size) (C := RX8) (T := TX8) (N := 9) (ci := 6) (v := .int 1) hx hb hts in_X8 tyX8 tyX8_ok nmX8 hown hK hr (Or.inl (Or.inl rfl)) hS rfl 5 (by decide) (hts _ q1082) (fun _ h9 => h9) rfl (ty := .boolean) (by decide +kernel) rfl rfl (Nat.lt_of_lt_of_le (by decide : 5 < 9) (Nat.le_of_eq rfl)) dX8_go_278 (fun H locs hr oq hz hS => ?_)
                  have hh := hh.kept (oq _ hrh.symm)
                  have ht := ht.kept (oq _ htr)
                  refine lv_aload_n hx hb dX8_go_281 rfl (lv_at hl 1 rfl) ?_
                  refine va_gets (n := "NUMBER") (v := .ref (E 3 1)) hx hb (((hZ.1.2.2.2.1.1 1 (by decide)).1).narrow hAz) hS hown (hts _ q1054) (fun _ h => h) dX8_go_282 ?_
                  refine h_put (A := RA rd ha s.heap.size) (C := RX8) (T := TX8) (N := 9) (ci := 6) (v := .ref (E 3 1)) hx hb hts in_X8 tyX8 tyX8_ok nmX8 hown hK hr (Or.inl (Or.inl rfl)) hS rfl 6 (by decide) (hts _ q1083) (fun _ h9 => h9) rfl (ty := .object "StrangeKnives$Sort") (by decide +kernel) rfl rfl (Nat.lt_of_lt_of_le (by decide : 6 < 9) (Nat.le_of_eq rfl)) dX8_go_285 (fun H locs hr oq hz hS => ?_)
                  have hh := hh.kept (oq _ hrh.symm)
                  have ht := ht.kept (oq _ htr)
                  refine lv_goto (tgt := 340) hx hb dX8_go_288 (by decide) ?_
                  have h4 : 4 < en tp n b - b := by
                    rw [ej9]
                    rcases Nat.lt_or_ge 4 (j - b) with h9 | h9
                    · exact h9
                    · exact absurd (nI_le h9 (by decide)) c6
                  exact fin b _ _ _ _ _ eb (by decide) (by decide) (RW.mk et ej9 hr hh (fun _ => ⟨by unfold v4; rw [ej9], by rw [decide_eq_true h4]; rfl⟩) (by rw [wdT_0 (by rw [et]; decide) (by rw [et]; decide)]; exact hSR _ _ hS) (fun h9 => absurd h9 (by decide))) hS
              · have c5 : diB tp n j = true := by rw [bt_di] at c5; cases h9 : diB tp n j with | true => rfl | false => rw [h9] at c5; exact absurd rfl c5
                have hjn : j < n := by unfold diB at c5; rw [Bool.and_eq_true, decide_eq_true_iff] at c5; exact c5.1
                omega
            | succ r ih =>
              intro j H locs ls ej hbj hdi hr hh ht hS hl
              refine lv_aload_n hx hb dX8_go_196 rfl (lv_at hl 1 rfl) ?_
              refine lv_aload_n hx hb dX8_go_197 rfl (lv_at hl 1 rfl) ?_
              refine h_get (C := RX8) (T := TX8) (N := 9) (ci := 6) (v := .int (nI j)) hx hb hts in_X8 hown hK hr rfl 2 (by decide) (hts _ q1079) (fun _ h9 => h9) rfl dX8_go_198 ?_
              refine R_callI (As := [.int (nI j)]) (rest := []) (C := RX8) ⟨hx, hb, hml, hown, hts⟩ hS (metX8_byteAt l (D := D) (cA := cA) (z0 := z0) (tp := tp) (n := n) (rd := rd) (ha := ha) (tx := tx) (k := j) (f := f) hC0 (by omega)) RdU.blind (fun U hU hW => RdU.go hr ht hK hU hW) (at_recv (q := (RX8, TX8, 9)) hK hr rfl) (cwV 1 hts (lw_V q1014 q1016 qs19 q131 q1017) rfl rfl rfl (by decide +kernel) ⟨Nat.le_of_ble_eq_true rfl, Nat.le_of_ble_eq_true rfl⟩) rfl hl.1 rfl (Nat.le_of_ble_eq_true rfl) dX8_go_201 ⟨Nat.le_of_ble_eq_true rfl, Nat.le_of_ble_eq_true rfl⟩ (fun r H locs hw hk hS => ?_)
              subst hw
              have hr := hr.kept (hk _ hr.lt)
              have hh := hh.kept (hk _ hh.lt)
              have ht := ht.kept (hk _ ht.lt)
              refine R_callIS (Φ := fun _ => True) (As := [.int (nI (bt tp n j))]) (rest := []) ⟨hx, hb, hml, hown, hts⟩ hS (metX8_isDigit l (bt_lt hC0 j)) (fun _ _ _ _ h => h) (fun U hU hW => trivial) (va_cwS 1 hts (lw_S q1051 q1052 q131 q1053) rfl rfl rfl (by decide +kernel) ⟨Nat.le_of_ble_eq_true rfl, Nat.le_of_ble_eq_true rfl⟩) rfl hl.1 rfl (Nat.le_of_ble_eq_true rfl) dX8_go_204 ⟨Nat.le_of_ble_eq_true rfl, Nat.le_of_ble_eq_true rfl⟩ (fun r H locs hw hk hS => ?_)
              subst hw
              have hr := hr.kept (hk _ hr.lt)
              have hh := hh.kept (hk _ hh.lt)
              have ht := ht.kept (hk _ ht.lt)
              refine lv_if_eq (tgt := 259) hx hb dX8_go_207 (by decide) (fun c5 => ?_) (fun c5 => ?_)
              · have c5 : diB tp n j = false := by rw [bt_di] at c5; cases h9 : diB tp n j with | false => rfl | true => rw [h9] at c5; exact absurd c5 (by decide)
                have ej9 : en tp n b = j := by rw [ee]; exact run_eq hbj (by omega) hdi c5
                refine lv_aload_n hx hb dX8_go_259 rfl (lv_at hl 1 rfl) ?_
                refine lv_aload_n hx hb dX8_go_260 rfl (lv_at hl 1 rfl) ?_
                refine h_get (C := RX8) (T := TX8) (N := 9) (ci := 6) (v := .int (nI j)) hx hb hts in_X8 hown hK hr rfl 2 (by decide) (hts _ q1079) (fun _ h9 => h9) rfl dX8_go_261 ?_
                refine lv_aload_n hx hb dX8_go_264 rfl (lv_at hl 1 rfl) ?_
                refine h_get (C := RX8) (T := TX8) (N := 9) (ci := 6) (v := .int (nI b)) hx hb hts in_X8 hown hK hr rfl 3 (by decide) (hts _ q1080) (fun _ h9 => h9) rfl dX8_go_265 ?_
                refine lv_isub hx hb dX8_go_268 ?_
                rw [pk_sub hbj]
                refine lv_iconst (v := 4) hx hb dX8_go_269 (by decide) ?_
                refine lv_icmp_le (tgt := 277) hx hb dX8_go_270 (by decide) (fun c6 => ?_) (fun c6 => ?_)
                · refine lv_iconst (v := 0) hx hb dX8_go_277 (by decide) ?_
                  refine h_put (A := RA rd ha s.heap.size) (C := RX8) (T := TX8) (N := 9) (ci := 6) (v := .int 0) hx hb hts in_X8 tyX8 tyX8_ok nmX8 hown hK hr (Or.inl (Or.inl rfl)) hS rfl 5 (by decide) (hts _ q1082) (fun _ h9 => h9) rfl (ty := .boolean) (by decide +kernel) rfl rfl (Nat.lt_of_lt_of_le (by decide : 5 < 9) (Nat.le_of_eq rfl)) dX8_go_278 (fun H locs hr oq hz hS => ?_)
                  have hh := hh.kept (oq _ hrh.symm)
                  have ht := ht.kept (oq _ htr)
                  refine lv_aload_n hx hb dX8_go_281 rfl (lv_at hl 1 rfl) ?_
                  refine va_gets (n := "NUMBER") (v := .ref (E 3 1)) hx hb (((hZ.1.2.2.2.1.1 1 (by decide)).1).narrow hAz) hS hown (hts _ q1054) (fun _ h => h) dX8_go_282 ?_
                  refine h_put (A := RA rd ha s.heap.size) (C := RX8) (T := TX8) (N := 9) (ci := 6) (v := .ref (E 3 1)) hx hb hts in_X8 tyX8 tyX8_ok nmX8 hown hK hr (Or.inl (Or.inl rfl)) hS rfl 6 (by decide) (hts _ q1083) (fun _ h9 => h9) rfl (ty := .object "StrangeKnives$Sort") (by decide +kernel) rfl rfl (Nat.lt_of_lt_of_le (by decide : 6 < 9) (Nat.le_of_eq rfl)) dX8_go_285 (fun H locs hr oq hz hS => ?_)
                  have hh := hh.kept (oq _ hrh.symm)
                  have ht := ht.kept (oq _ htr)
                  refine lv_goto (tgt := 340) hx hb dX8_go_288 (by decide) ?_
                  have h4 : ¬ 4 < en tp n b - b := by rw [ej9]; intro h9; exact absurd c6 (nI_ge h9 (by omega))
                  exact fin b _ _ _ _ _ eb (by decide) (by decide) (RW.mk et ej9 hr hh (fun _ => ⟨by unfold v4; rw [ej9], by rw [decide_eq_false h4]; rfl⟩) (by rw [wdT_0 (by rw [et]; decide) (by rw [et]; decide)]; exact hSR _ _ hS) (fun h9 => absurd h9 (by decide))) hS
                · refine lv_iconst (v := 1) hx hb dX8_go_273 (by decide) ?_
                  refine lv_goto (tgt := 278) hx hb dX8_go_274 (by decide) ?_
                  refine h_put (A := RA rd ha s.heap.size) (C := RX8) (T := TX8) (N := 9) (ci := 6) (v := .int 1) hx hb hts in_X8 tyX8 tyX8_ok nmX8 hown hK hr (Or.inl (Or.inl rfl)) hS rfl 5 (by decide) (hts _ q1082) (fun _ h9 => h9) rfl (ty := .boolean) (by decide +kernel) rfl rfl (Nat.lt_of_lt_of_le (by decide : 5 < 9) (Nat.le_of_eq rfl)) dX8_go_278 (fun H locs hr oq hz hS => ?_)
                  have hh := hh.kept (oq _ hrh.symm)
                  have ht := ht.kept (oq _ htr)
                  refine lv_aload_n hx hb dX8_go_281 rfl (lv_at hl 1 rfl) ?_
                  refine va_gets (n := "NUMBER") (v := .ref (E 3 1)) hx hb (((hZ.1.2.2.2.1.1 1 (by decide)).1).narrow hAz) hS hown (hts _ q1054) (fun _ h => h) dX8_go_282 ?_
                  refine h_put (A := RA rd ha s.heap.size) (C := RX8) (T := TX8) (N := 9) (ci := 6) (v := .ref (E 3 1)) hx hb hts in_X8 tyX8 tyX8_ok nmX8 hown hK hr (Or.inl (Or.inl rfl)) hS rfl 6 (by decide) (hts _ q1083) (fun _ h9 => h9) rfl (ty := .object "StrangeKnives$Sort") (by decide +kernel) rfl rfl (Nat.lt_of_lt_of_le (by decide : 6 < 9) (Nat.le_of_eq rfl)) dX8_go_285 (fun H locs hr oq hz hS => ?_)
                  have hh := hh.kept (oq _ hrh.symm)
                  have ht := ht.kept (oq _ htr)
                  refine lv_goto (tgt := 340) hx hb dX8_go_288 (by decide) ?_
                  have h4 : 4 < en tp n b - b := by
                    rw [ej9]
                    rcases Nat.lt_or_ge 4 (j - b) with h9 | h9
                    · exact h9
                    · exact absurd (nI_le h9 (by decide)) c6
                  exact fin b _ _ _ _ _ eb (by decide) (by decide) (RW.mk et ej9 hr hh (fun _ => ⟨by unfold v4; rw [ej9], by rw [decide_eq_true h4]; rfl⟩) (by rw [wdT_0 (by rw [et]; decide) (by rw [et]; decide)]; exact hSR _ _ hS) (fun h9 => absurd h9 (by decide))) hS
              · have c5 : diB tp n j = true := by rw [bt_di] at c5; cases h9 : diB tp n j with | true => rfl | false => rw [h9] at c5; exact absurd rfl c5
                have hjn : j < n := by unfold diB at c5; rw [Bool.and_eq_true, decide_eq_true_iff] at c5; exact c5.1
                have ebj : bt tp n j = tp j := if_pos hjn
                have hdj : 48 ≤ tp j ∧ tp j ≤ 57 := by unfold diB isDb at c5; rw [Bool.and_eq_true, decide_eq_true_iff, decide_eq_true_iff] at c5; exact c5.2
                refine lv_aload_n hx hb dX8_go_210 rfl (lv_at hl 1 rfl) ?_
                refine h_get (C := RX8) (T := TX8) (N := 9) (ci := 6) (v := .int (nI j)) hx hb hts in_X8 hown hK hr rfl 2 (by decide) (hts _ q1079) (fun _ h9 => h9) rfl dX8_go_211 ?_
                refine lv_aload_n hx hb dX8_go_214 rfl (lv_at hl 1 rfl) ?_
                refine h_get (C := RX8) (T := TX8) (N := 9) (ci := 6) (v := .int (nI b)) hx hb hts in_X8 hown hK hr rfl 3 (by decide) (hts _ q1080) (fun _ h9 => h9) rfl dX8_go_215 ?_
                refine lv_isub hx hb dX8_go_218 ?_
                rw [pk_sub hbj]
                refine lv_iconst (v := 4) hx hb dX8_go_219 (by decide) ?_
                refine lv_icmp_ge (tgt := 246) hx hb dX8_go_220 (by decide) (fun c7 => ?_) (fun c7 => ?_)
                · have h4 : 4 ≤ j - b := by
                    rcases Nat.lt_or_ge (j - b) 4 with h9 | h9
                    · exact absurd c7 (nI_ge (b := 4) h9 (by decide))
                    · exact h9
                  refine lv_aload_n hx hb dX8_go_246 rfl (lv_at hl 1 rfl) ?_
                  refine lv_dup hx hb dX8_go_247 rfl ?_
                  refine h_get (C := RX8) (T := TX8) (N := 9) (ci := 6) (v := .int (nI j)) hx hb hts in_X8 hown hK hr rfl 2 (by decide) (hts _ q1079) (fun _ h9 => h9) rfl dX8_go_248 ?_
                  refine lv_iconst (v := 1) hx hb dX8_go_251 (by decide) ?_
                  refine lv_iadd hx hb dX8_go_252 ?_
                  refine h_put (A := RA rd ha s.heap.size) (C := RX8) (T := TX8) (N := 9) (ci := 6) (v := .int ((nI j) + 1)) hx hb hts in_X8 tyX8 tyX8_ok nmX8 hown hK hr (Or.inl (Or.inl rfl)) hS rfl 2 (by decide) (hts _ q1079) (fun _ h9 => h9) rfl (ty := .int) (by decide +kernel) rfl rfl (Nat.lt_of_lt_of_le (by decide : 2 < 9) (Nat.le_of_eq rfl)) dX8_go_253 (fun H locs hr oq hz hS => ?_)
                  have hh := hh.kept (oq _ hrh.symm)
                  have ht := ht.kept (oq _ htr)
                  rw [nI_1] at hr
                  refine lv_goto (tgt := 196) hx hb dX8_go_256 (by decide) ?_
                  exact ih (j + 1) _ _ _ (by omega) (by omega) (ltb_s hdi c5) (by rw [show min 4 (j + 1 - b) = min 4 (j - b) by omega]; exact hr) hh ht hS hl
                · have h4 : j - b < 4 := by
                    rcases Nat.lt_or_ge (j - b) 4 with h9 | h9
                    · exact h9
                    · exact absurd (nI_le h9 (by omega)) c7
                  refine lv_aload_n hx hb dX8_go_223 rfl (lv_at hl 1 rfl) ?_
                  refine lv_bipush (v := 10) hx hb dX8_go_224 (by decide) ?_
                  refine lv_aload_n hx hb dX8_go_226 rfl (lv_at hl 1 rfl) ?_
                  refine h_get (C := RX8) (T := TX8) (N := 9) (ci := 6) (v := .int (nI (nv tp b (min 4 (j - b))))) hx hb hts in_X8 hown hK hr rfl 4 (by decide) (hts _ q1081) (fun _ h9 => h9) rfl dX8_go_227 ?_
                  refine lv_imul hx hb dX8_go_230 ?_
                  refine lv_aload_n hx hb dX8_go_231 rfl (lv_at hl 1 rfl) ?_
                  refine lv_aload_n hx hb dX8_go_232 rfl (lv_at hl 1 rfl) ?_
                  refine h_get (C := RX8) (T := TX8) (N := 9) (ci := 6) (v := .int (nI j)) hx hb hts in_X8 hown hK hr rfl 2 (by decide) (hts _ q1079) (fun _ h9 => h9) rfl dX8_go_233 ?_
                  refine R_callI (As := [.int (nI j)]) (rest := [.int (10 * (nI (nv tp b (min 4 (j - b))))), .ref rd]) (C := RX8) ⟨hx, hb, hml, hown, hts⟩ hS (metX8_byteAt l (D := D) (cA := cA) (z0 := z0) (tp := tp) (n := n) (rd := rd) (ha := ha) (tx := tx) (k := j) (f := f) hC0 (by omega)) RdU.blind (fun U hU hW => RdU.go hr ht hK hU hW) (at_recv (q := (RX8, TX8, 9)) hK hr rfl) (cwV 1 hts (lw_V q1014 q1016 qs19 q131 q1017) rfl rfl rfl (by decide +kernel) ⟨Nat.le_of_ble_eq_true rfl, Nat.le_of_ble_eq_true rfl⟩) rfl hl.1 rfl (Nat.le_of_ble_eq_true rfl) dX8_go_236 ⟨Nat.le_of_ble_eq_true rfl, Nat.le_of_ble_eq_true rfl⟩ (fun r H locs hw hk hS => ?_)
                  subst hw
                  have hr := hr.kept (hk _ hr.lt)
                  have hh := hh.kept (hk _ hh.lt)
                  have ht := ht.kept (hk _ ht.lt)
                  refine lv_iadd hx hb dX8_go_239 ?_
                  refine lv_bipush (v := 48) hx hb dX8_go_240 (by decide) ?_
                  refine lv_isub hx hb dX8_go_242 ?_
                  have hm4 : min 4 (j - b) = j - b := by omega
                  have hm5 : min 4 (j + 1 - b) = (j - b) + 1 := by omega
                  have ev : ((10 : Int32) * nI (nv tp b (min 4 (j - b)))) + nI (bt tp n j) - 48 = nI (nv tp b (min 4 (j + 1 - b))) := by
                    rw [hm5, hm4, ebj]
                    show _ = nI (10 * nv tp b (j - b) + (tp (b + (j - b)) - 48))
                    rw [show b + (j - b) = j by omega, show (10 : Int32) = nI 10 by decide, show (48 : Int32) = nI 48 by decide, nI_mul9, nI_add, pk_sub (by omega)]
                    congr 1
                    omega
                  rw [ev]
                  refine h_put (A := RA rd ha s.heap.size) (C := RX8) (T := TX8) (N := 9) (ci := 6) (v := .int (nI (nv tp b (min 4 (j + 1 - b))))) hx hb hts in_X8 tyX8 tyX8_ok nmX8 hown hK hr (Or.inl (Or.inl rfl)) hS rfl 4 (by decide) (hts _ q1081) (fun _ h9 => h9) rfl (ty := .int) (by decide +kernel) rfl rfl (Nat.lt_of_lt_of_le (by decide : 4 < 9) (Nat.le_of_eq rfl)) dX8_go_243 (fun H locs hr oq hz hS => ?_)
                  have hh := hh.kept (oq _ hrh.symm)
                  have ht := ht.kept (oq _ htr)
                  refine lv_aload_n hx hb dX8_go_246 rfl (lv_at hl 1 rfl) ?_
                  refine lv_dup hx hb dX8_go_247 rfl ?_
                  refine h_get (C := RX8) (T := TX8) (N := 9) (ci := 6) (v := .int (nI j)) hx hb hts in_X8 hown hK hr rfl 2 (by decide) (hts _ q1079) (fun _ h9 => h9) rfl dX8_go_248 ?_
                  refine lv_iconst (v := 1) hx hb dX8_go_251 (by decide) ?_
                  refine lv_iadd hx hb dX8_go_252 ?_
                  refine h_put (A := RA rd ha s.heap.size) (C := RX8) (T := TX8) (N := 9) (ci := 6) (v := .int ((nI j) + 1)) hx hb hts in_X8 tyX8 tyX8_ok nmX8 hown hK hr (Or.inl (Or.inl rfl)) hS rfl 2 (by decide) (hts _ q1079) (fun _ h9 => h9) rfl (ty := .int) (by decide +kernel) rfl rfl (Nat.lt_of_lt_of_le (by decide : 2 < 9) (Nat.le_of_eq rfl)) dX8_go_253 (fun H locs hr oq hz hS => ?_)
                  have hh := hh.kept (oq _ hrh.symm)
                  have ht := ht.kept (oq _ htr)
                  rw [nI_1] at hr
                  refine lv_goto (tgt := 196) hx hb dX8_go_256 (by decide) ?_
                  exact ih (j + 1) _ _ _ (by omega) (by omega) (ltb_s hdi c5) (by rw [show (j + 1 - b) = (j + 1 - b) by rfl]; exact hr) hh ht hS hl
          exact loop (n - b) b _ _ _ (by omega) (Nat.le_refl _) (fun i h1 h2 => absurd h2 (Nat.not_lt.mpr h1)) (by rw [Nat.sub_self]; exact hr) hh ht hS hl
      · have c2 : isLb (tp b) = true := by rw [ebt] at c2; cases h9 : isLb (tp b) with | true => rfl | false => rw [h9] at c2; exact absurd rfl c2
        have et : ty tp n b = 1 := by unfold ty; rw [if_neg (by omega), c2]; rfl
        have ee : en tp n b = run (leB tp n) n b := by unfold en; rw [if_neg (by omega), c2]; rfl
        have hsH0 := hS.1
        have htl0 := ht.lt
        refine h_newO (ci := 18) (fs := [.null, .int 0, .int 0, .int 0]) (C := RJ8) (T := TJ8) (N := 4) hx hb hts in_J8 tyJ8 tyJ8_ok hown (hts _ q1023) (hts _ q218) (hts _ q114) hK hS rfl (fun j hj => by rcases (show j = 0 ∨ j = 1 ∨ j = 2 ∨ j = 3 by omega) with rfl | rfl | rfl | rfl <;> rfl) (Nat.le_of_ble_eq_true rfl) (Nat.le_of_ble_eq_true rfl) dX8_go_106 (fun H1 hB oq hz hS => ?_)
        have hr := hr.kept (oq _ hr.lt)
        have hh := hh.kept (oq _ hh.lt)
        have ht := ht.kept (oq _ ht.lt)
        have hsb0 : s.heap.size ≤ H.size := hsH0
        generalize hq9 : H.size = sb at *
        have hsb1 := hB.lt
        refine lv_dup hx hb dX8_go_109 rfl ?_
        refine lv_bipush (v := 8) hx hb dX8_go_110 (by decide) ?_
        refine va_callv (va_runI (As := [.int 8]) (rest := [.ref sb]) ⟨hx, hb, hml, hown, hts⟩ (metJ8_init_2 l (D := D) (cA := cA) (q := sb) (sz := H1.size)) (cwI 1 hts (lw_meth q1026) rfl rfl rfl (hts _ q114) (hts _ q1024) (hts _ q1025) rfl (by decide +kernel) ⟨Nat.le_of_ble_eq_true rfl, Nat.le_of_ble_eq_true rfl⟩) ⟨ACU.blind.pc, fun U hU hW => ⟨rfl, by unfold ACU; rw [hU]; exact ⟨hB, va_K.moved hW.alike hK, (hCP _ _ hS).moved hW.alike, rfl⟩⟩⟩ rfl rfl hl.1 rfl (lv_room (Nat.le_of_ble_eq_true rfl)) dX8_go_112 ⟨Nat.le_of_ble_eq_true rfl, Nat.le_of_ble_eq_true rfl⟩) hS (fun q _ h => Or.inr (h.elim (fun e9 => by rw [e9]; exact hsb0) (fun h9 => Nat.le_trans hS.1 h9))) (fun q h => Or.inr (h.elim (fun e9 => by rw [e9]; exact hsb0) (fun h9 => Nat.le_trans hS.1 h9))) (fun u9 t9 H2 locs ht9 hvm hw9 hB hz hk hS => ?_)
        subst ht9
        have hk9 : ∀ q, q < H1.size → q ≠ sb → t9.heap[q]? = H1[q]? := fun q h1 h2 => hk q h1 (fun h => h.elim h2 (fun h9 => Nat.not_le.mpr h1 h9))
        have hr := hr.kept (hk9 _ hr.lt (by omega))
        have hh := hh.kept (hk9 _ hh.lt (by omega))
        have htl := ht.lt
        have hvb : s.heap.size ≤ H1.size := by omega
        generalize hv9 : H1.size = vb at *
        have ht := ht.kept (hk9 _ (by omega) (by omega))
        refine lv_astore_n (lv' := [(2, .ref sb), (1, .int (nI (bt tp n b))), (0, .ref rd)]) hx hb dX8_go_115 rfl hl (by decide) rfl (fun ls hl => ?_)
        have loop : ∀ (r j : Nat) (ff : Nat → Int32) (H : Heap) (locs : List Loc) (ls : Array Slot), j + r = n → b ≤ j → (∀ i, b ≤ i → i < j → leB tp n i = true) → BY8 ff → (∀ i, i < min 8 (j - b) → ff i = nI (tp (b + i))) → RO D rd tx ha n j (.int (nI b)) (.int v) (.int 0) (sr0) (.ref (E 0 0)) H → SBW D cA sb vb (min 8 (j - b)) ff H → va_at D vwCl (ha, .inl (cA 2, 3, .inl g)) H → va_at D vwCl (tx, .inl (cA 1, 600, .inl f)) H → va_S (RA rd ha s.heap.size) s.heap H locs → lv_has ls 3 [(2, .ref sb), (1, .int (nI (bt tp n b))), (0, .ref rd)] → W p l e (headSpec (ws_ yX8_go cX8_go 3 none) ({ frames := 12, cells := 4, slots := 24, locals := 420 })).room s m ([.ref rd] : List Value).toArray below meth c H locs (0 + 1 + 1) (0 + 4 + 8) (MQ below (va_Qv (fun _ : Unit => True) (fun _ t => RW D cA z0 E tp n rd ha tx g (sk tp n k0) t t.heap) (RA rd ha s.heap.size)) ([.ref rd] : List Value).toArray s 4 24 (RA rd ha s.heap.size)) (F0 m 116 ls []) := by
          intro r
          induction r with
          | zero =>
            intro j ff H locs ls ej hbj hle hby hff hr hB hh ht hS hl
            refine lv_aload_n hx hb dX8_go_116 rfl (lv_at hl 2 rfl) ?_
            refine lv_aload_n hx hb dX8_go_117 rfl (lv_at hl 2 rfl) ?_
            refine h_get (C := RX8) (T := TX8) (N := 9) (ci := 6) (v := .int (nI j)) hx hb hts in_X8 hown hK hr rfl 2 (by decide) (hts _ q1079) (fun _ h9 => h9) rfl dX8_go_118 ?_
            refine R_callI (As := [.int (nI j)]) (rest := []) (C := RX8) ⟨hx, hb, hml, hown, hts⟩ hS (metX8_byteAt l (D := D) (cA := cA) (z0 := z0) (tp := tp) (n := n) (rd := rd) (ha := ha) (tx := tx) (k := j) (f := f) hC0 (by omega)) RdU.blind (fun U hU hW => RdU.go hr ht hK hU hW) (at_recv (q := (RX8, TX8, 9)) hK hr rfl) (cwV 1 hts (lw_V q1014 q1016 qs19 q131 q1017) rfl rfl rfl (by decide +kernel) ⟨Nat.le_of_ble_eq_true rfl, Nat.le_of_ble_eq_true rfl⟩) rfl hl.1 rfl (Nat.le_of_ble_eq_true rfl) dX8_go_121 ⟨by show 0 + 1 + 1 ≤ 4; decide, by show 0 + 4 + 8 ≤ 24; decide⟩ (fun r H locs hw hk hS => ?_)
            subst hw
            have hr := hr.kept (hk _ hr.lt)
            have hh := hh.kept (hk _ hh.lt)
            have ht := ht.kept (hk _ ht.lt)
            have hB := hB.kept hk
            refine R_callIS (Φ := fun _ => True) (As := [.int (nI (bt tp n j))]) (rest := []) ⟨hx, hb, hml, hown, hts⟩ hS (metX8_isLetter l (bt_lt hC0 j)) (fun _ _ _ _ h => h) (fun U hU hW => trivial) (va_cwS 1 hts (lw_S q1020 q1021 q131 q1022) rfl rfl rfl (by decide +kernel) ⟨Nat.le_of_ble_eq_true rfl, Nat.le_of_ble_eq_true rfl⟩) rfl hl.1 rfl (Nat.le_of_ble_eq_true rfl) dX8_go_124 ⟨by show 0 + 1 + 1 ≤ 4; decide, by show 0 + 4 + 8 ≤ 24; decide⟩ (fun r H locs hw hk hS => ?_)
            subst hw
            have hr := hr.kept (hk _ hr.lt)
            have hh := hh.kept (hk _ hh.lt)
            have ht := ht.kept (hk _ ht.lt)
            have hB := hB.kept hk
            refine lv_if_eq (tgt := 166) hx hb dX8_go_127 (by decide) (fun c5 => ?_) (fun c5 => ?_)
            · have c5 : leB tp n j = false := by rw [bt_le] at c5; cases h9 : leB tp n j with | false => rfl | true => rw [h9] at c5; exact absurd c5 (by decide)
              have ej9 : en tp n b = j := by rw [ee]; exact run_eq hbj (by omega) hle c5
              have hwd : wdT tp n b = (List.range (min 8 (j - b))).map (fun k => tp (b + k)) := by unfold wdT; rw [if_pos et, ej9]
              have hwl : (wdT tp n b).length = min 8 (j - b) := by rw [hwd, List.length_map, List.length_range]
              have hwf : ∀ i, i < (wdT tp n b).length → ff i = nI ((wdT tp n b).getD i 0) := fun i hi => by
                rw [hwl] at hi
                rw [hff i hi, hwd, List.getD_eq_getElem?_getD, List.getElem?_map, List.getElem?_range hi]
                rfl
              have hB2 : SBW D cA sb vb (wdT tp n b).length ff H := by rw [hwl]; exact hB
              have hrl := hr.lt
              have hhl := hh.lt
              have hsH0 := hS.1
              refine lv_aload_n hx hb dX8_go_166 rfl (lv_at hl 2 rfl) ?_
              refine lv_aload_n hx hb dX8_go_167 rfl (lv_at hl 0 rfl) ?_
              refine va_callr (va_runV (C := RJ8) (As := []) (rest := [.ref rd]) ⟨hx, hb, hml, hown, hts⟩ (metJ8_toString l (D := D) (cA := cA) (sb := sb) (v := vb) (sz := H.size) (f := ff) (tx := wdT tp n b) wdT_len hby hwf (wdT_c (fun j9 h9 => (hfb j9 h9).2))) (cwV 0 hts (lw_V q1048 q396 q397 q114 q398) rfl rfl rfl (by decide +kernel) ⟨Nat.le_of_ble_eq_true rfl, Nat.le_of_ble_eq_true rfl⟩) ⟨TSU.blind.pc, hB.recv hK, fun U hU hW => ⟨rfl, ⟨SBU.go hB2 hK (hCP _ _ hS) hZ.2.1.2.2.2.2.2 hU hW, va_Nw.warmC hW (hZ.2.1.2.2.1 _ (List.mem_of_getElem? (i := 23) rfl)), by rw [hU]⟩⟩⟩ rfl rfl hl.1 rfl (lv_room (Nat.le_of_ble_eq_true rfl)) dX8_go_168 ⟨by show 0 + 1 + 1 + 2 ≤ 4; decide, by show 0 + 4 + 8 + 12 ≤ 24; decide⟩) hS (fun q _ h => Or.inr (Nat.le_trans hS.1 h)) (fun q h => Or.inr (Nat.le_trans hS.1 h)) (fun wv ra t H1 locs ht9 hvm hw hW hz hk hS => ?_)
              subst ht9
              have hk := fun q (h9 : q < H.size) => hk q h9 (Nat.not_le.mpr h9)
              have hr := hr.kept (hk _ hr.lt)
              have hh := hh.kept (hk _ hh.lt)
              have ht := ht.kept (hk _ ht.lt)
              have hra : z0 ≤ ra := Nat.le_trans (Nat.le_trans hz6 hsH0) (Nat.not_lt.mp (fun h9 => by obtain ⟨cell, -, -, -, h8⟩ := hW.1; exact h8 h9))
              have hW : SR (R2 rd ha) s t.heap ra wv (wdT tp n b) := (SR.back hvm hW).narrow (fun q h9 => h9.elim (fun e9 => by rw [e9]; exact hrl) (fun e9 => by rw [e9]; exact hhl))
              refine h_put (A := RA rd ha s.heap.size) (C := RX8) (T := TX8) (N := 9) (ci := 6) (v := .ref ra) hx hb hts in_X8 tyX8 tyX8_ok nmX8 hown hK hr (Or.inl (Or.inl rfl)) hS rfl 7 (by decide) (hts _ q1084) (fun _ h9 => h9) rfl (ty := .object "java/lang/String") (by decide +kernel) rfl rfl (Nat.lt_of_lt_of_le (by decide : 7 < 9) (Nat.le_of_eq rfl)) dX8_go_171 (fun H locs hr oq hz hS => ?_)
              have hh := hh.kept (oq _ hrh.symm)
              have ht := ht.kept (oq _ htr)
              have hW := hW.kept (fun x hx9 hn9 => oq x (fun e9 => hn9 (Or.inl e9)))
              refine lv_aload_n hx hb dX8_go_174 rfl (lv_at hl 2 rfl) ?_
              refine va_gets (n := "WORD") (v := .ref (E 3 0)) hx hb (((hZ.1.2.2.2.1.1 0 (by decide)).1).narrow hAz) hS hown (hts _ q1049) (fun _ h => h) dX8_go_175 ?_
              refine h_put (A := RA rd ha s.heap.size) (C := RX8) (T := TX8) (N := 9) (ci := 6) (v := .ref (E 3 0)) hx hb hts in_X8 tyX8 tyX8_ok nmX8 hown hK hr (Or.inl (Or.inl rfl)) hS rfl 6 (by decide) (hts _ q1083) (fun _ h9 => h9) rfl (ty := .object "StrangeKnives$Sort") (by decide +kernel) rfl rfl (Nat.lt_of_lt_of_le (by decide : 6 < 9) (Nat.le_of_eq rfl)) dX8_go_178 (fun H locs hr oq hz hS => ?_)
              have hh := hh.kept (oq _ hrh.symm)
              have ht := ht.kept (oq _ htr)
              have hW := hW.kept (fun x hx9 hn9 => oq x (fun e9 => hn9 (Or.inl e9)))
              refine lv_goto (tgt := 340) hx hb dX8_go_181 (by decide) ?_
              exact fin b _ _ _ _ _ eb (by decide) (by decide) (RW.mk et ej9 hr hh (fun h9 => absurd h9 (by decide)) hW (fun _ => hra)) hS
            · have c5 : leB tp n j = true := by rw [bt_le] at c5; cases h9 : leB tp n j with | true => rfl | false => rw [h9] at c5; exact absurd rfl c5
              have hjn : j < n := by unfold leB at c5; rw [Bool.and_eq_true, decide_eq_true_iff] at c5; exact c5.1
              omega
          | succ r ih =>
            intro j ff H locs ls ej hbj hle hby hff hr hB hh ht hS hl
            refine lv_aload_n hx hb dX8_go_116 rfl (lv_at hl 2 rfl) ?_
            refine lv_aload_n hx hb dX8_go_117 rfl (lv_at hl 2 rfl) ?_
            refine h_get (C := RX8) (T := TX8) (N := 9) (ci := 6) (v := .int (nI j)) hx hb hts in_X8 hown hK hr rfl 2 (by decide) (hts _ q1079) (fun _ h9 => h9) rfl dX8_go_118 ?_
            refine R_callI (As := [.int (nI j)]) (rest := []) (C := RX8) ⟨hx, hb, hml, hown, hts⟩ hS (metX8_byteAt l (D := D) (cA := cA) (z0 := z0) (tp := tp) (n := n) (rd := rd) (ha := ha) (tx := tx) (k := j) (f := f) hC0 (by omega)) RdU.blind (fun U hU hW => RdU.go hr ht hK hU hW) (at_recv (q := (RX8, TX8, 9)) hK hr rfl) (cwV 1 hts (lw_V q1014 q1016 qs19 q131 q1017) rfl rfl rfl (by decide +kernel) ⟨Nat.le_of_ble_eq_true rfl, Nat.le_of_ble_eq_true rfl⟩) rfl hl.1 rfl (Nat.le_of_ble_eq_true rfl) dX8_go_121 ⟨by show 0 + 1 + 1 ≤ 4; decide, by show 0 + 4 + 8 ≤ 24; decide⟩ (fun r H locs hw hk hS => ?_)
            subst hw
            have hr := hr.kept (hk _ hr.lt)
            have hh := hh.kept (hk _ hh.lt)
            have ht := ht.kept (hk _ ht.lt)
            have hB := hB.kept hk
            refine R_callIS (Φ := fun _ => True) (As := [.int (nI (bt tp n j))]) (rest := []) ⟨hx, hb, hml, hown, hts⟩ hS (metX8_isLetter l (bt_lt hC0 j)) (fun _ _ _ _ h => h) (fun U hU hW => trivial) (va_cwS 1 hts (lw_S q1020 q1021 q131 q1022) rfl rfl rfl (by decide +kernel) ⟨Nat.le_of_ble_eq_true rfl, Nat.le_of_ble_eq_true rfl⟩) rfl hl.1 rfl (Nat.le_of_ble_eq_true rfl) dX8_go_124 ⟨by show 0 + 1 + 1 ≤ 4; decide, by show 0 + 4 + 8 ≤ 24; decide⟩ (fun r H locs hw hk hS => ?_)
            subst hw
            have hr := hr.kept (hk _ hr.lt)
            have hh := hh.kept (hk _ hh.lt)
            have ht := ht.kept (hk _ ht.lt)
            have hB := hB.kept hk
            refine lv_if_eq (tgt := 166) hx hb dX8_go_127 (by decide) (fun c5 => ?_) (fun c5 => ?_)
            · have c5 : leB tp n j = false := by rw [bt_le] at c5; cases h9 : leB tp n j with | false => rfl | true => rw [h9] at c5; exact absurd c5 (by decide)
              have ej9 : en tp n b = j := by rw [ee]; exact run_eq hbj (by omega) hle c5
              have hwd : wdT tp n b = (List.range (min 8 (j - b))).map (fun k => tp (b + k)) := by unfold wdT; rw [if_pos et, ej9]
              have hwl : (wdT tp n b).length = min 8 (j - b) := by rw [hwd, List.length_map, List.length_range]
              have hwf : ∀ i, i < (wdT tp n b).length → ff i = nI ((wdT tp n b).getD i 0) := fun i hi => by
                rw [hwl] at hi
                rw [hff i hi, hwd, List.getD_eq_getElem?_getD, List.getElem?_map, List.getElem?_range hi]
                rfl
              have hB2 : SBW D cA sb vb (wdT tp n b).length ff H := by rw [hwl]; exact hB
              have hrl := hr.lt
              have hhl := hh.lt
              have hsH0 := hS.1
              refine lv_aload_n hx hb dX8_go_166 rfl (lv_at hl 2 rfl) ?_
              refine lv_aload_n hx hb dX8_go_167 rfl (lv_at hl 0 rfl) ?_
              refine va_callr (va_runV (C := RJ8) (As := []) (rest := [.ref rd]) ⟨hx, hb, hml, hown, hts⟩ (metJ8_toString l (D := D) (cA := cA) (sb := sb) (v := vb) (sz := H.size) (f := ff) (tx := wdT tp n b) wdT_len hby hwf (wdT_c (fun j9 h9 => (hfb j9 h9).2))) (cwV 0 hts (lw_V q1048 q396 q397 q114 q398) rfl rfl rfl (by decide +kernel) ⟨Nat.le_of_ble_eq_true rfl, Nat.le_of_ble_eq_true rfl⟩) ⟨TSU.blind.pc, hB.recv hK, fun U hU hW => ⟨rfl, ⟨SBU.go hB2 hK (hCP _ _ hS) hZ.2.1.2.2.2.2.2 hU hW, va_Nw.warmC hW (hZ.2.1.2.2.1 _ (List.mem_of_getElem? (i := 23) rfl)), by rw [hU]⟩⟩⟩ rfl rfl hl.1 rfl (lv_room (Nat.le_of_ble_eq_true rfl)) dX8_go_168 ⟨by show 0 + 1 + 1 + 2 ≤ 4; decide, by show 0 + 4 + 8 + 12 ≤ 24; decide⟩) hS (fun q _ h => Or.inr (Nat.le_trans hS.1 h)) (fun q h => Or.inr (Nat.le_trans hS.1 h)) (fun wv ra t H1 locs ht9 hvm hw hW hz hk hS => ?_)
              subst ht9
              have hk := fun q (h9 : q < H.size) => hk q h9 (Nat.not_le.mpr h9)
              have hr := hr.kept (hk _ hr.lt)
              have hh := hh.kept (hk _ hh.lt)
              have ht := ht.kept (hk _ ht.lt)
              have hra : z0 ≤ ra := Nat.le_trans (Nat.le_trans hz6 hsH0) (Nat.not_lt.mp (fun h9 => by obtain ⟨cell, -, -, -, h8⟩ := hW.1; exact h8 h9))
              have hW : SR (R2 rd ha) s t.heap ra wv (wdT tp n b) := (SR.back hvm hW).narrow (fun q h9 => h9.elim (fun e9 => by rw [e9]; exact hrl) (fun e9 => by rw [e9]; exact hhl))
              refine h_put (A := RA rd ha s.heap.size) (C := RX8) (T := TX8) (N := 9) (ci := 6) (v := .ref ra) hx hb hts in_X8 tyX8 tyX8_ok nmX8 hown hK hr (Or.inl (Or.inl rfl)) hS rfl 7 (by decide) (hts _ q1084) (fun _ h9 => h9) rfl (ty := .object "java/lang/String") (by decide +kernel) rfl rfl (Nat.lt_of_lt_of_le (by decide : 7 < 9) (Nat.le_of_eq rfl)) dX8_go_171 (fun H locs hr oq hz hS => ?_)
              have hh := hh.kept (oq _ hrh.symm)
              have ht := ht.kept (oq _ htr)
              have hW := hW.kept (fun x hx9 hn9 => oq x (fun e9 => hn9 (Or.inl e9)))
              refine lv_aload_n hx hb dX8_go_174 rfl (lv_at hl 2 rfl) ?_
              refine va_gets (n := "WORD") (v := .ref (E 3 0)) hx hb (((hZ.1.2.2.2.1.1 0 (by decide)).1).narrow hAz) hS hown (hts _ q1049) (fun _ h => h) dX8_go_175 ?_
              refine h_put (A := RA rd ha s.heap.size) (C := RX8) (T := TX8) (N := 9) (ci := 6) (v := .ref (E 3 0)) hx hb hts in_X8 tyX8 tyX8_ok nmX8 hown hK hr (Or.inl (Or.inl rfl)) hS rfl 6 (by decide) (hts _ q1083) (fun _ h9 => h9) rfl (ty := .object "StrangeKnives$Sort") (by decide +kernel) rfl rfl (Nat.lt_of_lt_of_le (by decide : 6 < 9) (Nat.le_of_eq rfl)) dX8_go_178 (fun H locs hr oq hz hS => ?_)
              have hh := hh.kept (oq _ hrh.symm)
              have ht := ht.kept (oq _ htr)
              have hW := hW.kept (fun x hx9 hn9 => oq x (fun e9 => hn9 (Or.inl e9)))
              refine lv_goto (tgt := 340) hx hb dX8_go_181 (by decide) ?_
              exact fin b _ _ _ _ _ eb (by decide) (by decide) (RW.mk et ej9 hr hh (fun h9 => absurd h9 (by decide)) hW (fun _ => hra)) hS
            · have c5 : leB tp n j = true := by rw [bt_le] at c5; cases h9 : leB tp n j with | true => rfl | false => rw [h9] at c5; exact absurd rfl c5
              have hjn : j < n := by unfold leB at c5; rw [Bool.and_eq_true, decide_eq_true_iff] at c5; exact c5.1
              have ebj : bt tp n j = tp j := if_pos hjn
              have htj : tp j < 128 := by unfold leB isLb at c5; rw [Bool.and_eq_true, decide_eq_true_iff, decide_eq_true_iff] at c5; omega
              refine lv_aload_n hx hb dX8_go_130 rfl (lv_at hl 0 rfl) ?_
              refine R_callI (As := []) (rest := []) (C := RJ8) ⟨hx, hb, hml, hown, hts⟩ hS (metJ8_length l (D := D) (cA := cA) (q := sb) (v := vb) (k := min 8 (j - b)) (f := ff)) SBU.blind (fun U hU hW => SBU.go hB hK (hCP _ _ hS) hZ.2.1.2.2.2.2.2 hU hW) (hB.recv hK) (cwV 0 hts (lw_V q1027 q417 q2325 q114 q418) rfl rfl rfl (by decide +kernel) ⟨Nat.le_of_ble_eq_true rfl, Nat.le_of_ble_eq_true rfl⟩) rfl hl.1 rfl (Nat.le_of_ble_eq_true rfl) dX8_go_131 ⟨by show 0 + 1 + 1 ≤ 4; decide, by show 0 + 4 + 8 ≤ 24; decide⟩ (fun r H locs hw hk hS => ?_)
              subst hw
              have hr := hr.kept (hk _ hr.lt)
              have hh := hh.kept (hk _ hh.lt)
              have ht := ht.kept (hk _ ht.lt)
              have hB := hB.kept hk
              refine lv_bipush (v := 8) hx hb dX8_go_134 (by decide) ?_
              refine lv_icmp_ge (tgt := 153) hx hb dX8_go_136 (by decide) (fun c7 => ?_) (fun c7 => ?_)
              · have h8 : 8 ≤ j - b := by
                  rcases Nat.lt_or_ge (j - b) 8 with h9 | h9
                  · exact absurd c7 (nI_ge (show min 8 (j - b) < 8 by omega) (by decide))
                  · exact h9
                have hm : min 8 (j + 1 - b) = min 8 (j - b) := by omega
                rw [← hm] at hB
                refine lv_aload_n hx hb dX8_go_153 rfl (lv_at hl 2 rfl) ?_
                refine lv_dup hx hb dX8_go_154 rfl ?_
                refine h_get (C := RX8) (T := TX8) (N := 9) (ci := 6) (v := .int (nI j)) hx hb hts in_X8 hown hK hr rfl 2 (by decide) (hts _ q1079) (fun _ h9 => h9) rfl dX8_go_155 ?_
                refine lv_iconst (v := 1) hx hb dX8_go_158 (by decide) ?_
                refine lv_iadd hx hb dX8_go_159 ?_
                refine h_put (A := RA rd ha s.heap.size) (C := RX8) (T := TX8) (N := 9) (ci := 6) (v := .int ((nI j) + 1)) hx hb hts in_X8 tyX8 tyX8_ok nmX8 hown hK hr (Or.inl (Or.inl rfl)) hS rfl 2 (by decide) (hts _ q1079) (fun _ h9 => h9) rfl (ty := .int) (by decide +kernel) rfl rfl (Nat.lt_of_lt_of_le (by decide : 2 < 9) (Nat.le_of_eq rfl)) dX8_go_160 (fun H locs hr oq hz hS => ?_)
                have hh := hh.kept (oq _ hrh.symm)
                have ht := ht.kept (oq _ htr)
                have hB : SBW D cA sb vb _ _ H := ⟨hB.1.kept (oq _ (by omega)), hB.2.kept (oq _ (by omega))⟩
                rw [nI_1] at hr
                refine lv_goto (tgt := 116) hx hb dX8_go_163 (by decide) ?_
                exact ih (j + 1) ff _ _ _ (by omega) (by omega) (ltb_s hle c5) hby (fun i hi => hff i (by omega)) hr hB hh ht hS hl
              · have h8 : j - b < 8 := by
                  rcases Nat.lt_or_ge (j - b) 8 with h9 | h9
                  · exact h9
                  · exact absurd (nI_le (show 8 ≤ min 8 (j - b) by omega) (by omega)) c7
                have hm : min 8 (j - b) = j - b := by omega
                have hm1 : min 8 (j + 1 - b) = (j - b) + 1 := by omega
                rw [hm] at hB
                refine lv_aload_n hx hb dX8_go_139 rfl (lv_at hl 0 rfl) ?_
                refine lv_aload_n hx hb dX8_go_140 rfl (lv_at hl 2 rfl) ?_
                refine lv_aload_n hx hb dX8_go_141 rfl (lv_at hl 2 rfl) ?_
                refine h_get (C := RX8) (T := TX8) (N := 9) (ci := 6) (v := .int (nI j)) hx hb hts in_X8 hown hK hr rfl 2 (by decide) (hts _ q1079) (fun _ h9 => h9) rfl dX8_go_142 ?_
                refine R_callI (As := [.int (nI j)]) (rest := [.ref sb]) (C := RX8) ⟨hx, hb, hml, hown, hts⟩ hS (metX8_byteAt l (D := D) (cA := cA) (z0 := z0) (tp := tp) (n := n) (rd := rd) (ha := ha) (tx := tx) (k := j) (f := f) hC0 (by omega)) RdU.blind (fun U hU hW => RdU.go hr ht hK hU hW) (at_recv (q := (RX8, TX8, 9)) hK hr rfl) (cwV 1 hts (lw_V q1014 q1016 qs19 q131 q1017) rfl rfl rfl (by decide +kernel) ⟨Nat.le_of_ble_eq_true rfl, Nat.le_of_ble_eq_true rfl⟩) rfl hl.1 rfl (Nat.le_of_ble_eq_true rfl) dX8_go_145 ⟨by show 0 + 1 + 1 ≤ 4; decide, by show 0 + 4 + 8 ≤ 24; decide⟩ (fun r H locs hw hk hS => ?_)
                subst hw
                have hr := hr.kept (hk _ hr.lt)
                have hh := hh.kept (hk _ hh.lt)
                have ht := ht.kept (hk _ ht.lt)
                have hB := hB.kept hk
                refine lv_i2c (v := nI (tp j)) hx hb dX8_go_148 (by rw [ebj]; exact c2_eq htj) ?_
                refine va_callr (va_runV (C := RJ8) (As := [.int (nI (tp j))]) (rest := []) ⟨hx, hb, hml, hown, hts⟩ (metJ8_append_3 l (D := D) (cA := cA) (q := sb) (v := vb) (k := j - b) (f := ff) h8 htj) (cwV 1 hts (lw_V q1028 q1029 q1030 q114 q1031) rfl rfl rfl (by decide +kernel) ⟨Nat.le_of_ble_eq_true rfl, Nat.le_of_ble_eq_true rfl⟩) ⟨SBU.blind.pc, hB.recv hK, fun U hU hW => ⟨rfl, SBU.go hB hK (hCP _ _ hS) hZ.2.1.2.2.2.2.2 hU hW⟩⟩ rfl rfl hl.1 rfl (lv_room (Nat.le_of_ble_eq_true rfl)) dX8_go_149 ⟨by show 0 + 1 + 1 ≤ 4; decide, by show 0 + 4 + 8 ≤ 24; decide⟩) hS (fun q _ h => Or.inr (h.elim (fun e9 => by rw [e9]; exact hsb0) (fun e9 => by rw [e9]; exact hvb))) (fun q h => Or.inr (h.elim (fun e9 => by rw [e9]; exact hsb0) (fun e9 => by rw [e9]; exact hvb))) (fun u9 ra t9 H1 locs ht9 hvm hw9 hB hz hk hS => ?_)
                obtain ⟨hra9, hB⟩ := hB
                rw [hra9]
                subst ht9
                have hr := hr.kept (hk _ hr.lt (fun h => h.elim (by omega) (by omega)))
                have hh := hh.kept (hk _ hh.lt (fun h => h.elim (by omega) (by omega)))
                have ht := ht.kept (hk _ ht.lt (fun h => h.elim (by omega) (by omega)))
                rw [← hm1] at hB
                refine lv_pop hx hb dX8_go_152 rfl ?_
                refine lv_aload_n hx hb dX8_go_153 rfl (lv_at hl 2 rfl) ?_
                refine lv_dup hx hb dX8_go_154 rfl ?_
                refine h_get (C := RX8) (T := TX8) (N := 9) (ci := 6) (v := .int (nI j)) hx hb hts in_X8 hown hK hr rfl 2 (by decide) (hts _ q1079) (fun _ h9 => h9) rfl dX8_go_155 ?_
                refine lv_iconst (v := 1) hx hb dX8_go_158 (by decide) ?_
                refine lv_iadd hx hb dX8_go_159 ?_
                refine h_put (A := RA rd ha s.heap.size) (C := RX8) (T := TX8) (N := 9) (ci := 6) (v := .int ((nI j) + 1)) hx hb hts in_X8 tyX8 tyX8_ok nmX8 hown hK hr (Or.inl (Or.inl rfl)) hS rfl 2 (by decide) (hts _ q1079) (fun _ h9 => h9) rfl (ty := .int) (by decide +kernel) rfl rfl (Nat.lt_of_lt_of_le (by decide : 2 < 9) (Nat.le_of_eq rfl)) dX8_go_160 (fun H locs hr oq hz hS => ?_)
                have hh := hh.kept (oq _ hrh.symm)
                have ht := ht.kept (oq _ htr)
                have hB : SBW D cA sb vb _ _ H := ⟨hB.1.kept (oq _ (by omega)), hB.2.kept (oq _ (by omega))⟩
                rw [nI_1] at hr
                refine lv_goto (tgt := 116) hx hb dX8_go_163 (by decide) ?_
                exact ih (j + 1) (upd ff (j - b) (nI (tp j))) _ _ _ (by omega) (by omega) (ltb_s hle c5) (fun i hi => by unfold upd; split; exact i8_eq htj; exact hby i hi) (fun i hi => by unfold upd; split; (rename_i e9; rw [e9, show b + (j - b) = j by omega]); exact hff i (by omega)) hr hB hh ht hS hl
        exact loop (n - b) b (fun _ => 0) _ _ _ (by omega) (Nat.le_refl _) (fun i h1 h2 => absurd h2 (Nat.not_lt.mpr h1)) (fun _ _ => rfl) (fun i hi => by omega) hr (by rw [Nat.sub_self]; exact hB) hh ht hS hl
    · have hbl : b = n := by
        rcases Nat.lt_or_ge b n with h9 | h9
        · exact absurd (nI_lt h9 (by omega)) c1
        · omega
      have et : ty tp n b = 0 := by unfold ty; rw [if_pos (by omega)]
      have ee : en tp n b = b := by unfold en; rw [if_pos (by omega)]
      refine lv_aload_n hx hb dX8_go_89 rfl (lv_at hl 1 rfl) ?_
      refine va_gets (n := "END") (v := .ref (E 3 4)) hx hb (((hZ.1.2.2.2.1.1 4 (by decide)).1).narrow hAz) hS hown (hts _ q1018) (fun _ h => h) dX8_go_90 ?_
      refine h_put (A := RA rd ha s.heap.size) (C := RX8) (T := TX8) (N := 9) (ci := 6) (v := .ref (E 3 4)) hx hb hts in_X8 tyX8 tyX8_ok nmX8 hown hK hr (Or.inl (Or.inl rfl)) hS rfl 6 (by decide) (hts _ q1083) (fun _ h9 => h9) rfl (ty := .object "StrangeKnives$Sort") (by decide +kernel) rfl rfl (Nat.lt_of_lt_of_le (by decide : 6 < 9) (Nat.le_of_eq rfl)) dX8_go_93 (fun H locs hr oq hz hS => ?_)
      have hh := hh.kept (oq _ hrh.symm)
      have ht := ht.kept (oq _ htr)
      refine lv_goto (tgt := 340) hx hb dX8_go_96 (by decide) ?_
      exact fin b _ _ _ _ _ eb (by decide) (by decide) (RW.mk et ee hr hh (fun h9 => absurd h9 (by decide)) (by rw [wdT_0 (by rw [et]; decide) (by rw [et]; decide)]; exact hSR _ _ hS) (fun h9 => absurd h9 (by decide))) hS
  have loop : ∀ (r j : Nat) (H : Heap) (locs : List Loc) (ls : Array Slot), j + r = n → k0 ≤ j → (∀ i, k0 ≤ i → i < j → spB tp n i = true) → RO D rd tx ha n j (p9) (.int v) (lg0) (sr0) (w0) H → va_at D vwCl (ha, .inl (cA 2, 3, .inl g)) H → va_at D vwCl (tx, .inl (cA 1, 600, .inl f)) H → va_S (RA rd ha s.heap.size) s.heap H locs → lv_has ls 3 [(0, .ref rd)] → W p l e (headSpec (ws_ yX8_go cX8_go 3 none) ({ frames := 12, cells := 4, slots := 24, locals := 420 })).room s m ([.ref rd] : List Value).toArray below meth c H locs 0 0 (MQ below (va_Qv (fun _ : Unit => True) (fun _ t => RW D cA z0 E tp n rd ha tx g (sk tp n k0) t t.heap) (RA rd ha s.heap.size)) ([.ref rd] : List Value).toArray s 4 24 (RA rd ha s.heap.size)) (F0 m 0 ls []) := by
    intro r
    induction r with
    | zero =>
      intro j H locs ls ej hkj hsp hr hh ht hS hl
      refine lv_aload_n hx hb dX8_go_0 rfl (lv_at hl 0 rfl) ?_
      refine h_get (C := RX8) (T := TX8) (N := 9) (ci := 6) (v := .int (nI j)) hx hb hts in_X8 hown hK hr rfl 2 (by decide) (hts _ q1079) (fun _ h9 => h9) rfl dX8_go_1 ?_
      refine lv_aload_n hx hb dX8_go_4 rfl (lv_at hl 0 rfl) ?_
      refine h_get (C := RX8) (T := TX8) (N := 9) (ci := 6) (v := .int (nI n)) hx hb hts in_X8 hown hK hr rfl 1 (by decide) (hts _ q1078) (fun _ h9 => h9) rfl dX8_go_5 ?_
      refine lv_icmp_ge (tgt := 50) hx hb dX8_go_8 (by decide) (fun c9 => ?_) (fun c9 => absurd (nI_le (by omega) (by omega)) c9)
      exact main j _ _ _ (run_eq hkj (by omega) hsp (spB_n (by omega))) (by omega) hr hh ht hS hl
    | succ r ih =>
      intro j H locs ls ej hkj hsp hr hh ht hS hl
      refine lv_aload_n hx hb dX8_go_0 rfl (lv_at hl 0 rfl) ?_
      refine h_get (C := RX8) (T := TX8) (N := 9) (ci := 6) (v := .int (nI j)) hx hb hts in_X8 hown hK hr rfl 2 (by decide) (hts _ q1079) (fun _ h9 => h9) rfl dX8_go_1 ?_
      refine lv_aload_n hx hb dX8_go_4 rfl (lv_at hl 0 rfl) ?_
      refine h_get (C := RX8) (T := TX8) (N := 9) (ci := 6) (v := .int (nI n)) hx hb hts in_X8 hown hK hr rfl 1 (by decide) (hts _ q1078) (fun _ h9 => h9) rfl dX8_go_5 ?_
      refine lv_icmp_ge (tgt := 50) hx hb dX8_go_8 (by decide) (fun c9 => absurd c9 (nI_ge (by omega) (by omega))) (fun c9 => ?_)
      have hjn : j < n := by omega
      have next : spB tp n j = true → ∀ (H : Heap) (locs : List Loc) (ls : Array Slot), RO D rd tx ha n j (p9) (.int v) (lg0) (sr0) (w0) H → va_at D vwCl (ha, .inl (cA 2, 3, .inl g)) H → va_at D vwCl (tx, .inl (cA 1, 600, .inl f)) H → va_S (RA rd ha s.heap.size) s.heap H locs → lv_has ls 3 [(0, .ref rd)] → W p l e (headSpec (ws_ yX8_go cX8_go 3 none) ({ frames := 12, cells := 4, slots := 24, locals := 420 })).room s m ([.ref rd] : List Value).toArray below meth c H locs 0 0 (MQ below (va_Qv (fun _ : Unit => True) (fun _ t => RW D cA z0 E tp n rd ha tx g (sk tp n k0) t t.heap) (RA rd ha s.heap.size)) ([.ref rd] : List Value).toArray s 4 24 (RA rd ha s.heap.size)) (F0 m 37 ls []) := by
        intro c9 H locs ls hr hh ht hS hl
        refine lv_aload_n hx hb dX8_go_37 rfl (lv_at hl 0 rfl) ?_
        refine lv_dup hx hb dX8_go_38 rfl ?_
        refine h_get (C := RX8) (T := TX8) (N := 9) (ci := 6) (v := .int (nI j)) hx hb hts in_X8 hown hK hr rfl 2 (by decide) (hts _ q1079) (fun _ h9 => h9) rfl dX8_go_39 ?_
        refine lv_iconst (v := 1) hx hb dX8_go_42 (by decide) ?_
        refine lv_iadd hx hb dX8_go_43 ?_
        refine h_put (A := RA rd ha s.heap.size) (C := RX8) (T := TX8) (N := 9) (ci := 6) (v := .int ((nI j) + 1)) hx hb hts in_X8 tyX8 tyX8_ok nmX8 hown hK hr (Or.inl (Or.inl rfl)) hS rfl 2 (by decide) (hts _ q1079) (fun _ h9 => h9) rfl (ty := .int) (by decide +kernel) rfl rfl (Nat.lt_of_lt_of_le (by decide : 2 < 9) (Nat.le_of_eq rfl)) dX8_go_44 (fun H locs hr oq hz hS => ?_)
        have hh := hh.kept (oq _ hrh.symm)
        have ht := ht.kept (oq _ htr)
        rw [nI_1] at hr
        refine lv_goto (tgt := 0) hx hb dX8_go_47 (by decide) ?_
        exact ih (j + 1) _ _ _ (by omega) (by omega) (ltb_s hsp c9) hr hh ht hS hl
      refine lv_aload_n hx hb dX8_go_11 rfl (lv_at hl 0 rfl) ?_
      refine lv_aload_n hx hb dX8_go_12 rfl (lv_at hl 0 rfl) ?_
      refine h_get (C := RX8) (T := TX8) (N := 9) (ci := 6) (v := .int (nI j)) hx hb hts in_X8 hown hK hr rfl 2 (by decide) (hts _ q1079) (fun _ h9 => h9) rfl dX8_go_13 ?_
      refine R_callI (As := [.int (nI j)]) (rest := []) (C := RX8) ⟨hx, hb, hml, hown, hts⟩ hS (metX8_byteAt l (D := D) (cA := cA) (z0 := z0) (tp := tp) (n := n) (rd := rd) (ha := ha) (tx := tx) (k := j) (f := f) hC0 (by omega)) RdU.blind (fun U hU hW => RdU.go hr ht hK hU hW) (at_recv (q := (RX8, TX8, 9)) hK hr rfl) (cwV 1 hts (lw_V q1014 q1016 qs19 q131 q1017) rfl rfl rfl (by decide +kernel) ⟨Nat.le_of_ble_eq_true rfl, Nat.le_of_ble_eq_true rfl⟩) rfl hl.1 rfl (Nat.le_of_ble_eq_true rfl) dX8_go_16 ⟨Nat.le_of_ble_eq_true rfl, Nat.le_of_ble_eq_true rfl⟩ (fun r H locs hw hk hS => ?_)
      subst hw
      have hr := hr.kept (hk _ hr.lt)
      have hh := hh.kept (hk _ hh.lt)
      have ht := ht.kept (hk _ ht.lt)
      refine lv_bipush (v := 32) hx hb dX8_go_19 (by decide) ?_
      refine lv_icmp_eq (tgt := 37) hx hb dX8_go_21 (by decide) (fun c2 => next ((bt_sp hjn (bt_lt hC0 j)).mp (Or.inl c2)) _ _ _ hr hh ht hS hl) (fun c2 => ?_)
      refine lv_aload_n hx hb dX8_go_24 rfl (lv_at hl 0 rfl) ?_
      refine lv_aload_n hx hb dX8_go_25 rfl (lv_at hl 0 rfl) ?_
      refine h_get (C := RX8) (T := TX8) (N := 9) (ci := 6) (v := .int (nI j)) hx hb hts in_X8 hown hK hr rfl 2 (by decide) (hts _ q1079) (fun _ h9 => h9) rfl dX8_go_26 ?_
      refine R_callI (As := [.int (nI j)]) (rest := []) (C := RX8) ⟨hx, hb, hml, hown, hts⟩ hS (metX8_byteAt l (D := D) (cA := cA) (z0 := z0) (tp := tp) (n := n) (rd := rd) (ha := ha) (tx := tx) (k := j) (f := f) hC0 (by omega)) RdU.blind (fun U hU hW => RdU.go hr ht hK hU hW) (at_recv (q := (RX8, TX8, 9)) hK hr rfl) (cwV 1 hts (lw_V q1014 q1016 qs19 q131 q1017) rfl rfl rfl (by decide +kernel) ⟨Nat.le_of_ble_eq_true rfl, Nat.le_of_ble_eq_true rfl⟩) rfl hl.1 rfl (Nat.le_of_ble_eq_true rfl) dX8_go_29 ⟨Nat.le_of_ble_eq_true rfl, Nat.le_of_ble_eq_true rfl⟩ (fun r H locs hw hk hS => ?_)
      subst hw
      have hr := hr.kept (hk _ hr.lt)
      have hh := hh.kept (hk _ hh.lt)
      have ht := ht.kept (hk _ ht.lt)
      refine lv_bipush (v := 10) hx hb dX8_go_32 (by decide) ?_
      refine lv_icmp_ne (tgt := 50) hx hb dX8_go_34 (by decide) (fun c3 => main j _ _ _ (run_eq hkj (by omega) hsp (by cases h9 : spB tp n j with | false => rfl | true => exact ((bt_sp hjn (bt_lt hC0 j)).mpr h9).elim (fun h => absurd h c2) (fun h => absurd h c3))) (by omega) hr hh ht hS hl) (fun c3 => next ((bt_sp hjn (bt_lt hC0 j)).mp (Or.inr c3)) _ _ _ hr hh ht hS hl)
  exact loop (n - k0) k0 _ _ _ (by omega) (Nat.le_refl _) (fun i h1 h2 => absurd h2 (Nat.not_lt.mpr h1)) hr hh ht hS hl
