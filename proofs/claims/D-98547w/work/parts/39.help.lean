/-! 39.help: isHelped, by recursion on a depth; the boolean array lies at qa, its contents are g -/
section BOO
variable {p : Program} {l : Launch} {e : Env} {R : Room} {s : State} {m : MethodId} {args : Array Value} {below : List Frame} {meth : Method} {c : Code} {H : Heap} {locs : List Loc} {cells slots : Nat} {Q : State → Prop}
variable {cc : ByteArray} {pc : Nat} {ls : Array Slot} {rest : List Value} {A : Nat → Prop} {H0 : Heap} {D : va_G} {cl : List vw_C} {tys : List (ClassId × FieldType)} {a : Nat}
theorem h_zald (hexec : p.tables.exec = Jvm.exec) (hb : c.code = cc) (hK : va_K D cl tys s) {cA : ClassId} {n : Nat} {f : Nat → Int32} (hP : va_at D cl (a, .inl (cA, n, .inl f)) H) (t0 : Nat) (ht : tys[t0]? = some (cA, .boolean)) {i : Int32} {j : Nat} (hj : ix i = j) (hin : vp_in i n) (hdg : decode cc pc = .ok (.baload, 1))
    (kk : W p l e R s m args below meth c H locs cells slots Q (F0 m (pc + 1) ls (.int (f j) :: rest))) : W p l e R s m args below meth c H locs cells slots Q (F0 m pc ls (.int i :: .ref a :: rest)) := by
  subst hj
  exact va_zald hexec hb hK (va_P1 hP) 0 t0 rfl ht hin hdg kk
theorem h_zast (hexec : p.tables.exec = Jvm.exec) (hb : c.code = cc) (hK : va_K D cl tys s) {cA : ClassId} {n : Nat} {f : Nat → Int32} (hP : va_at D cl (a, .inl (cA, n, .inl f)) H) (hAa : A a) (hS : va_S A H0 H locs) (t0 : Nat) (ht : tys[t0]? = some (cA, .boolean)) {i x : Int32} {j : Nat} (hj : ix i = j) (hin : vp_in i n) (hdg : decode cc pc = .ok (.bastore, 1))
    (kk : ∀ (H1 : Heap) (locs1 : List Loc), va_at D cl (a, .inl (cA, n, .inl (upd f j (vp_nar .boolean x)))) H1 → (∀ q, q ≠ a → H1[q]? = H[q]?) → H1.size = H.size → va_S A H0 H1 locs1 → W p l e R s m args below meth c H1 locs1 cells slots Q (F0 m (pc + 1) ls rest)) : W p l e R s m args below meth c H locs cells slots Q (F0 m pc ls (.int x :: .int i :: .ref a :: rest)) := by
  subst hj
  refine W.zast hexec hb (show H[a]? = some (vp_cell cA (n, .inl f)) from hP) ((hK.2 t0 _ ht).1 n (fun j => .int (f j))) (fun q => by cases q) (by show ¬ (i < 0 ∨ (arrV _ _ _).slots.size ≤ _); rw [arrV_size]; exact hin) rfl rfl hdg fun H1 e z oq => ?_
  refine kk H1 _ ?_ oq z (hS.put z oq hAa)
  show H1[a]? = some (vp_cell _ _)
  rw [e]
  rw [vp_cell_i, vp_cell_i, arrV_store]
  congr 2
  funext q
  by_cases hq : q = i.toNatClampNeg
  · subst hq
    simp [updV, upd, vp_nar, ix]
    try rfl
  · simp [updV, upd, ix, hq]
end BOO
abbrev HA (ad : Nat → Nat) (qa : Nat) : Nat → Prop := fun q => XA ad q ∨ q = qa
def HZ (D : va_G) (cA : Nat → ClassId) (qa : Nat) (g : Nat → Int32) (H : Heap) : Prop := va_at D vwCl (qa, .inl (cA 2, 8, .inl g)) H
def PhH (D : va_G) (cA : Nat → ClassId) (z0 : Nat) (E : Nat → Nat → Nat) (T : TT) (tw : Nat → Nat) (N : Nat → Prop) (ad : Nat → Nat) (qa : Nat) (h : Mem) (g : Nat → Int32) (U : State) : Prop := XW D cA ad (tw 9) h U.heap ∧ HZ D cA qa g U.heap ∧ XJ z0 ad ∧ (∀ q, N q → ¬ XA ad q ∧ q ≠ qa) ∧ (z0 ≤ qa ∧ ¬ XA ad qa) ∧ PhT D cA z0 E T tw (ad 70) N U
theorem PhH.blind {D : va_G} {cA : Nat → ClassId} {z0 : Nat} {E : Nat → Nat → Nat} {T : TT} {tw : Nat → Nat} {N : Nat → Prop} {ad : Nat → Nat} {qa : Nat} {h : Mem} {g : Nat → Int32} : Blind (PhH D cA z0 E T tw N ad qa h g) := fun U gg mk a h => ⟨h.1, h.2.1, h.2.2.1, h.2.2.2.1, h.2.2.2.2.1, PhT.blind U gg mk a h.2.2.2.2.2⟩
abbrev HPT : Type := Bool → Mem → (Nat → Int32) → Prop
abbrev MeH (l : Launch) (D : va_G) (cA : Nat → ClassId) (z0 : Nat) (E : Nat → Nat → Nat) (T : TT) (tw : Nat → Nat) (N : Nat → Prop) (ad : Nat → Nat) (qa : Nat) (rm : Room) (h : Mem) (g : Nat → Int32) (x : Int32) (post : HPT) : Prop := Met l yX1_isHelped (ws_ yX1_isHelped cX1_isHelped 5 (some .boolean)) rm (va_Pc [.ref (ad 17), .int x, .ref qa] (PhH D cA z0 E T tw N ad qa h g)) (va_Qi (fun r (u : Mem × (Nat → Int32)) => ∃ b : Bool, r = b2i b ∧ post b u.1 u.2) (fun u t => XW D cA ad (tw 9) u.1 t.heap ∧ HZ D cA qa u.2 t.heap) (HA ad qa)) 0 0 (HA ad qa)
def iHp (wE : HPT → Mem → (Nat → Int32) → Int32 → Prop) (post : HPT) (x w : Int32) : Nat → Nat → Mem → (Nat → Int32) → Prop
  | 0, _, h, g => post false h g
  | r + 1, i, h, g => ((w >>> (nI i &&& 31)) &&& 1 = 0 → iHp wE post x w r (i + 1) h g) ∧ (¬ (w >>> (nI i &&& 31)) &&& 1 = 0 → (¬ g i = 0 → iHp wE post x w r (i + 1) h g) ∧ (g i = 0 → (h 15 i = -1 → post true (up2 h 15 i x) (upd g i 1)) ∧ (¬ h 15 i = -1 → wE (fun b h' g' => (b = true → post true (up2 h' 15 i x) g') ∧ (b = false → iHp wE post x w r (i + 1) h' g')) h (upd g i 1) (h 15 i))))
def wpX1_isHelped (T : TT) : Nat → HPT → Mem → (Nat → Int32) → Int32 → Prop
  | 0 => fun _ _ _ _ => False
  | d + 1 => fun post h g x => wpX6_whoCan (fun w => iHp (wpX1_isHelped T d) post x w (T 0 0) 0 h g) (sub h 40) T x
theorem XW.keptX {D : va_G} {cA : Nat → ClassId} {ad : Nat → Nat} {ta : Nat} {h : Mem} {H H1 : Heap} (hM : XW D cA ad ta h H) (ho : ∀ j, Xpl j → H1[ad j]? = H[ad j]?) : XW D cA ad ta h H1 := ⟨hM.1.kept (ho 17 (Or.inr (Or.inl rfl))), hM.2.1.kept (ho 31 (Or.inr (Or.inr (Or.inl rfl)))), hM.2.2.1.kept (ho 45 (Or.inr (Or.inr (Or.inr (Or.inl rfl))))), hM.2.2.2.1.kept (ho 55 (Or.inr (Or.inr (Or.inr (Or.inr (Or.inl rfl)))))), hM.2.2.2.2.1.kept (ho 6 (Or.inr (Or.inr (Or.inr (Or.inr (Or.inr rfl)))))), fun k hk => (hM.2.2.2.2.2 k hk).kept (ho k (Or.inl hk))⟩
set_option maxHeartbeats 4000000 in
set_option maxRecDepth 100000 in
theorem metRX1_isHelped (l : Launch) (D : va_G) (cA : Nat → ClassId) (z0 : Nat) (E : Nat → Nat → Nat) (T : TT) (tw : Nat → Nat) (N : Nat → Prop) (ad : Nat → Nat) (qa : Nat) (hn8 : T 0 0 ≤ 8) (d : Nat) (ih : ∀ (post : HPT) (h : Mem) (g : Nat → Int32) (x : Int32), wpX1_isHelped T d post h g x → MeH l D cA z0 E T tw N ad qa ({ frames := d + 10, cells := 0, slots := 0, locals := 24 * d + 320 }) h g x post) (post : HPT) (h : Mem) (g : Nat → Int32) (x : Int32) (hw : wpX1_isHelped T (d + 1) post h g x) : MeH l D cA z0 E T tw N ad qa ({ frames := (d + 1) + 10, cells := 0, slots := 0, locals := 24 * (d + 1) + 320 }) h g x post := by
  refine Met.ofW (cc := cX1_isHelped) (maxL := 5) (ret := (some .boolean)) (by decide) rfl ?_
  intro p e s m args below meth c s₁ B hml hv
  obtain ⟨rfl, hv⟩ := hv
  have hx := B.exec
  have hb := B.bytes
  have hr := B.returns
  have hts := atoms_spec (ws := ws_ yX1_isHelped cX1_isHelped 5 (some .boolean)) B.pre
  have hts : ∀ w ∈ lw_all, w.before _ s = true := fun w h => hts w (List.mem_cons_of_mem _ h)
  have hown : s.vm.findClass RX1 = some m.cls := findClass_of_methodNamed B.named
  have hlocks := B.notSynchronized
  have hS : va_S (HA ad qa) s.heap s.heap [] := va_S.rf
  have hl := lv_entry ([.ref (ad 17), .int x, .ref qa]) (n := 5) (Nat.le_of_ble_eq_true rfl)
  rw [lg_entry_eq]
  generalize (lg_sl ([.ref (ad 17), .int x, .ref qa]) ++ List.replicate (5 - (lg_sl ([.ref (ad 17), .int x, .ref qa])).length) Slot.unset).toArray = ls at hl ⊢
  have hl : lv_has ls 5 [(0, .ref (ad 17)), (1, .int x), (2, .ref qa)] := hl
  obtain ⟨hM, hG, hJ, hN, hqa, hT, hK, hZ⟩ := hv
  have hAz : ∀ q, HA ad qa q → z0 ≤ q := fun q h => h.elim (hJ.z q) (fun h => h ▸ hqa.1)
  have hNA : ∀ q, N q → q < s.heap.size → ¬ HA ad qa q := fun q h _ h3 => h3.elim (hN q h).1 (hN q h).2
  have hA : ∀ q, XA ad q → HA ad qa q := fun q h => Or.inl h
  have hx15 : ad 15 ≠ qa := fun e => hqa.2 ⟨15, Or.inl rfl, e.symm⟩
  have hk9 : ∀ (H H1 : Heap) (g : Nat → Int32), (∀ q, q < H.size → ¬ XA ad q → H1[q]? = H[q]?) → HZ D cA qa g H → HZ D cA qa g H1 := fun H H1 g hk h => va_at.kept h (hk _ (va_at.lt h) hqa.2)
  refine lv_aload_n hx hb dX1_isHelped_0 rfl (lv_at hl 0 rfl) ?_
  refine X_get17 hx hb hts hown hK hM 3 (v := .ref (ad 45)) (by decide) (hts _ q727) rfl dX1_isHelped_1 ?_
  refine lv_aload_n hx hb dX1_isHelped_4 rfl (lv_at hl 0 rfl) ?_
  refine X_get17 hx hb hts hown hK hM 0 (v := .ref (tw 9)) (by decide) (hts _ q724) rfl dX1_isHelped_5 ?_
  refine lv_iload_n hx hb dX1_isHelped_8 rfl (lv_at hl 1 rfl) ?_
  refine RS_callI (As := [.ref (tw 9), .int x]) (rest := []) (sa := shf ad 40) (h := sub h 40) ⟨hx, hb, hml, hown, hts⟩ hS hAz hK hZ (hT.at hS hNA) hM.now (metX6_whoCan l D cA z0 E tw N (ad 70) (shf ad 40) (sub h 40) T x _ hw) (cwV 2 hts (lw_V q897 q898 q899 q129 q900) rfl rfl rfl (by decide +kernel) ⟨(show 8 + 1 ≤ d + 1 + 10 by omega), (show 8 + (5 + 11) + (270) ≤ 24 * (d + 1) + 320 by omega)⟩) rfl hl.1 rfl (Nat.le_of_ble_eq_true rfl) dX1_isHelped_9 ⟨Nat.zero_le _, Nat.zero_le _⟩ (fun w H locs hw hk hS => ?_)
  have hM := hM.kept hk
  have hG : HZ D cA qa g H := va_at.kept hG (hk _ (va_at.lt hG))
  refine lv_istore_n (lv' := [(3, .int w), (0, .ref (ad 17)), (1, .int x), (2, .ref qa)]) hx hb dX1_isHelped_12 rfl hl (by decide) rfl (fun ls hl => ?_)
  refine lv_iconst (v := nI 0) hx hb dX1_isHelped_13 (by decide) ?_
  refine lv_istore (lv' := [(4, .int (nI 0)), (3, .int w), (0, .ref (ad 17)), (1, .int x), (2, .ref qa)]) hx hb dX1_isHelped_14 hl (by decide) rfl (fun ls hl => ?_)
  have loop : ∀ (r i : Nat) (h : Mem) (g : Nat → Int32) (H : Heap) (locs : List Loc) (ls : Array Slot), i + r = T 0 0 → iHp (wpX1_isHelped T d) post x w r i h g → va_S (HA ad qa) s.heap H locs → XW D cA ad (tw 9) h H → HZ D cA qa g H → lv_has ls 5 [(4, .int (nI i)), (3, .int w), (0, .ref (ad 17)), (1, .int x), (2, .ref qa)] → W p l e (headSpec (ws_ yX1_isHelped cX1_isHelped 5 (some .boolean)) ({ frames := (d + 1) + 10, cells := 0, slots := 0, locals := 24 * (d + 1) + 320 })).room s m ([.ref (ad 17), .int x, .ref qa] : List Value).toArray below meth c H locs 0 0 (MQ below (va_Qi (fun r (u : Mem × (Nat → Int32)) => ∃ b : Bool, r = b2i b ∧ post b u.1 u.2) (fun u t => XW D cA ad (tw 9) u.1 t.heap ∧ HZ D cA qa u.2 t.heap) (HA ad qa)) ([.ref (ad 17), .int x, .ref qa] : List Value).toArray s 0 0 (HA ad qa)) (F0 m 16 ls []) := by
    intro r
    induction r with
    | zero =>
      intro i h g H locs ls ei hw hS hM hG hl
      refine lv_iload hx hb dX1_isHelped_16 (lv_at hl 0 rfl) ?_
      refine lv_aload_n hx hb dX1_isHelped_18 rfl (lv_at hl 2 rfl) ?_
      refine RX_callI (As := []) (rest := [.int (nI i)]) ⟨hx, hb, hml, hown, hts⟩ hS hAz hK hZ (hT.at hS hNA) hM (metX1_people l D cA z0 E tw N ad h T (fun r => r = nI (T 0 0)) rfl) (cwV 0 hts (lw_V q792 q794 qs6 q104 q795) rfl rfl rfl (by decide +kernel) ⟨(show 2 + 1 ≤ d + 1 + 10 by omega), (show 8 + (1 + 11) + (50) ≤ 24 * (d + 1) + 320 by omega)⟩) rfl hl.1 rfl (Nat.le_of_ble_eq_true rfl) dX1_isHelped_19 ⟨Nat.zero_le _, Nat.zero_le _⟩ (fun r9 H locs hw9 hk hS => ?_)
      subst hw9
      have hM := hM.kept hk
      have hG : HZ D cA qa g H := va_at.kept hG (hk _ (va_at.lt hG))
      refine lv_icmp_ge (tgt := 94) hx hb dX1_isHelped_22 (by decide) (fun _ => ?_) (fun h9 => absurd (nI_le (by omega) (by omega)) h9)
      refine lv_iconst (v := 0) hx hb dX1_isHelped_94 (by decide) ?_
      exact W.zret (v := 0) hx hb hr rfl (fun t ht _ => ⟨⟨_, (h, g), rfl, ⟨false, rfl, hw⟩, hM.at ht, (show HZ D cA qa g t.heap from ht ▸ hG)⟩, hS.F ht⟩) hS.2.2 dX1_isHelped_95 hlocks
    | succ r ih2 =>
      intro i h g H locs ls ei hw hS hM hG hl
      have hi : i < 8 := by omega
      have hii : ix (nI i) = i := nI_clamp (by omega)
      have hin : vp_in (nI i) 8 := vp_in_nI hi (by omega)
      refine lv_iload hx hb dX1_isHelped_16 (lv_at hl 0 rfl) ?_
      refine lv_aload_n hx hb dX1_isHelped_18 rfl (lv_at hl 2 rfl) ?_
      refine RX_callI (As := []) (rest := [.int (nI i)]) ⟨hx, hb, hml, hown, hts⟩ hS hAz hK hZ (hT.at hS hNA) hM (metX1_people l D cA z0 E tw N ad h T (fun r => r = nI (T 0 0)) rfl) (cwV 0 hts (lw_V q792 q794 qs6 q104 q795) rfl rfl rfl (by decide +kernel) ⟨(show 2 + 1 ≤ d + 1 + 10 by omega), (show 8 + (1 + 11) + (50) ≤ 24 * (d + 1) + 320 by omega)⟩) rfl hl.1 rfl (Nat.le_of_ble_eq_true rfl) dX1_isHelped_19 ⟨Nat.zero_le _, Nat.zero_le _⟩ (fun r9 H locs hw9 hk hS => ?_)
      subst hw9
      have hM := hM.kept hk
      have hG : HZ D cA qa g H := va_at.kept hG (hk _ (va_at.lt hG))
      refine lv_icmp_ge (tgt := 94) hx hb dX1_isHelped_22 (by decide) (fun h9 => absurd h9 (nI_ge (by omega) (by omega))) (fun _ => ?_)
      have next : ∀ (h : Mem) (g : Nat → Int32) (H : Heap) (locs : List Loc) (ls : Array Slot), iHp (wpX1_isHelped T d) post x w r (i + 1) h g → va_S (HA ad qa) s.heap H locs → XW D cA ad (tw 9) h H → HZ D cA qa g H → lv_has ls 5 [(4, .int (nI i)), (3, .int w), (0, .ref (ad 17)), (1, .int x), (2, .ref qa)] → W p l e (headSpec (ws_ yX1_isHelped cX1_isHelped 5 (some .boolean)) ({ frames := (d + 1) + 10, cells := 0, slots := 0, locals := 24 * (d + 1) + 320 })).room s m ([.ref (ad 17), .int x, .ref qa] : List Value).toArray below meth c H locs 0 0 (MQ below (va_Qi (fun r (u : Mem × (Nat → Int32)) => ∃ b : Bool, r = b2i b ∧ post b u.1 u.2) (fun u t => XW D cA ad (tw 9) u.1 t.heap ∧ HZ D cA qa u.2 t.heap) (HA ad qa)) ([.ref (ad 17), .int x, .ref qa] : List Value).toArray s 0 0 (HA ad qa)) (F0 m 88 ls []) := by
        intro h g H locs ls hw hS hM hG hl
        refine lv_iinc (v := nI i + 1) (lv' := [(4, .int (nI i + 1)), (3, .int w), (0, .ref (ad 17)), (1, .int x), (2, .ref qa)]) hx hb dX1_isHelped_88 hl (k := 0) rfl rfl (by decide) rfl (fun ls hl => ?_)
        rw [nI_1] at hl
        refine lv_goto (tgt := 16) hx hb dX1_isHelped_91 (by decide) ?_
        exact ih2 (i + 1) h g H locs ls (by omega) hw hS hM hG hl
      have fin : ∀ (h : Mem) (g : Nat → Int32) (H : Heap) (locs : List Loc) (ls : Array Slot), post true (up2 h 15 i x) g → va_S (HA ad qa) s.heap H locs → XW D cA ad (tw 9) h H → HZ D cA qa g H → lv_has ls 5 [(4, .int (nI i)), (3, .int w), (0, .ref (ad 17)), (1, .int x), (2, .ref qa)] → W p l e (headSpec (ws_ yX1_isHelped cX1_isHelped 5 (some .boolean)) ({ frames := (d + 1) + 10, cells := 0, slots := 0, locals := 24 * (d + 1) + 320 })).room s m ([.ref (ad 17), .int x, .ref qa] : List Value).toArray below meth c H locs 0 0 (MQ below (va_Qi (fun r (u : Mem × (Nat → Int32)) => ∃ b : Bool, r = b2i b ∧ post b u.1 u.2) (fun u t => XW D cA ad (tw 9) u.1 t.heap ∧ HZ D cA qa u.2 t.heap) (HA ad qa)) ([.ref (ad 17), .int x, .ref qa] : List Value).toArray s 0 0 (HA ad qa)) (F0 m 78 ls []) := by
        intro h g H locs ls hw hS hM hG hl
        refine lv_aload_n hx hb dX1_isHelped_78 rfl (lv_at hl 2 rfl) ?_
        refine X_get17 hx hb hts hown hK hM 15 (v := .ref (ad 15)) (by decide) (hts _ q739) rfl dX1_isHelped_79 ?_
        refine lv_iload hx hb dX1_isHelped_82 (lv_at hl 0 rfl) ?_
        refine lv_iload_n hx hb dX1_isHelped_84 rfl (lv_at hl 3 rfl) ?_
        refine X_iastK hx hb hK hM hJ hA hS 15 rfl (j := i) hii hin dX1_isHelped_85 (fun H1 locs1 hkX hM hS => ?_)
        have hG := hk9 _ _ _ hkX hG
        refine lv_iconst (v := 1) hx hb dX1_isHelped_86 (by decide) ?_
        exact W.zret (v := 1) hx hb hr rfl (fun t ht _ => ⟨⟨_, (up2 h 15 i x, g), rfl, ⟨true, rfl, hw⟩, hM.at ht, (show HZ D cA qa g t.heap from ht ▸ hG)⟩, hS.F ht⟩) hS.2.2 dX1_isHelped_87 hlocks
      simp only [iHp] at hw
      refine lv_iload_n hx hb dX1_isHelped_25 rfl (lv_at hl 1 rfl) ?_
      refine lv_iload hx hb dX1_isHelped_26 (lv_at hl 0 rfl) ?_
      refine lv_ishr hx hb dX1_isHelped_28 ?_
      refine lv_iconst (v := 1) hx hb dX1_isHelped_29 (by decide) ?_
      refine lv_iand hx hb dX1_isHelped_30 ?_
      refine lv_if_eq (tgt := 88) hx hb dX1_isHelped_31 (by decide) (fun c1 => next _ _ _ _ _ (hw.1 c1) hS hM hG hl) (fun c1 => ?_)
      have hw := hw.2 c1
      refine lv_aload_n hx hb dX1_isHelped_34 rfl (lv_at hl 4 rfl) ?_
      refine lv_iload hx hb dX1_isHelped_35 (lv_at hl 0 rfl) ?_
      refine h_zald hx hb hK hG 2 rfl (j := i) hii hin dX1_isHelped_37 ?_
      refine lv_if_eq (tgt := 44) hx hb dX1_isHelped_38 (by decide) (fun c2 => ?_) (fun c2 => ?_)
      · have hw := hw.2 c2
        refine lv_aload_n hx hb dX1_isHelped_44 rfl (lv_at hl 4 rfl) ?_
        refine lv_iload hx hb dX1_isHelped_45 (lv_at hl 0 rfl) ?_
        refine lv_iconst (v := 1) hx hb dX1_isHelped_47 (by decide) ?_
        refine h_zast (A := HA ad qa) hx hb hK hG (Or.inr rfl) hS 2 rfl (j := i) hii hin dX1_isHelped_48 (fun H1 locs1 hG1 oq _ hS => ?_)
        have hM : XW D cA ad (tw 9) h H1 := hM.keptX (fun j hj => oq _ (fun e => hqa.2 ⟨j, hj, e.symm⟩))
        have hG : HZ D cA qa (upd g i 1) H1 := hG1
        refine lv_aload_n hx hb dX1_isHelped_49 rfl (lv_at hl 2 rfl) ?_
        refine X_get17 hx hb hts hown hK hM 15 (v := .ref (ad 15)) (by decide) (hts _ q739) rfl dX1_isHelped_50 ?_
        refine lv_iload hx hb dX1_isHelped_53 (lv_at hl 0 rfl) ?_
        refine X_iald hx hb hK hM 15 rfl (j := i) hii hin dX1_isHelped_55 ?_
        refine lv_iconst (v := -1) hx hb dX1_isHelped_56 (by decide) ?_
        refine lv_icmp_eq (tgt := 78) hx hb dX1_isHelped_57 (by decide) (fun c3 => fin _ _ _ _ _ (hw.1 c3) hS hM hG hl) (fun c3 => ?_)
        have hw := hw.2 c3
        refine lv_aload_n hx hb dX1_isHelped_60 rfl (lv_at hl 2 rfl) ?_
        refine lv_aload_n hx hb dX1_isHelped_61 rfl (lv_at hl 2 rfl) ?_
        refine X_get17 hx hb hts hown hK hM 15 (v := .ref (ad 15)) (by decide) (hts _ q739) rfl dX1_isHelped_62 ?_
        refine lv_iload hx hb dX1_isHelped_65 (lv_at hl 0 rfl) ?_
        refine X_iald hx hb hK hM 15 rfl (j := i) hii hin dX1_isHelped_67 ?_
        refine lv_aload_n hx hb dX1_isHelped_68 rfl (lv_at hl 4 rfl) ?_
        refine va_calli (va_runV (As := [.int (h 15 i), .ref qa]) (rest := []) ⟨hx, hb, hml, hown, hts⟩ (ih _ _ _ _ hw) (cwV 2 hts (lw_V q950 q952 qs16 q104 q953) rfl rfl rfl (by decide +kernel) ⟨(show (d + 10) + 1 ≤ d + 1 + 10 by omega), (show 8 + (5 + 11) + (24 * d + 320) ≤ 24 * (d + 1) + 320 by omega)⟩) ⟨PhH.blind.pc, hM.recv hK, fun U hU hW => ⟨rfl, by rw [hU]; exact hM, by rw [hU]; exact hG, hJ, hN, hqa, PhT.go (hT.at hS hNA) hK hZ hS hAz hU hW⟩⟩ rfl rfl hl.1 rfl (lv_room (Nat.le_of_ble_eq_true rfl)) dX1_isHelped_69 ⟨Nat.zero_le _, Nat.zero_le _⟩) hS (fun q _ h => h) (fun q h => h) (fun r9 u t H2 locs2 ht hvm hw hB hz hk hS => ?_)
        obtain ⟨b, rfl, hw⟩ := hw
        subst ht
        refine lv_if_ne (tgt := 78) hx hb dX1_isHelped_72 (by decide) (fun c4 => ?_) (fun c4 => ?_)
        · exact fin _ _ _ _ _ (hw.1 (by cases b with | true => rfl | false => exact absurd rfl c4)) hS hB.1 hB.2 hl
        · refine lv_goto (tgt := 88) hx hb dX1_isHelped_75 (by decide) ?_
          exact next _ _ _ _ _ (hw.2 (by cases b with | false => rfl | true => exact absurd c4 (by decide))) hS hB.1 hB.2 hl
      · refine lv_goto (tgt := 88) hx hb dX1_isHelped_41 (by decide) ?_
        exact next _ _ _ _ _ (hw.1 c2) hS hM hG hl
  exact loop (T 0 0) 0 h g _ _ _ (by omega) hw hS hM hG hl
theorem metX1_isHelped (l : Launch) (D : va_G) (cA : Nat → ClassId) (z0 : Nat) (E : Nat → Nat → Nat) (T : TT) (tw : Nat → Nat) (N : Nat → Prop) (ad : Nat → Nat) (qa : Nat) (hn8 : T 0 0 ≤ 8) : ∀ (d : Nat) (post : HPT) (h : Mem) (g : Nat → Int32) (x : Int32), wpX1_isHelped T d post h g x → MeH l D cA z0 E T tw N ad qa ({ frames := d + 10, cells := 0, slots := 0, locals := 24 * d + 320 }) h g x post
  | 0, _, _, _, _, hw => False.elim hw
  | d + 1, post, h, g, x, hw => metRX1_isHelped l D cA z0 E T tw N ad qa hn8 d (metX1_isHelped l D cA z0 E T tw N ad qa hn8 d) post h g x hw
section NEWA
variable {p : Program} {l : Launch} {e : Env} {R : Room} {s : State} {m : MethodId} {args : Array Value} {below : List Frame} {meth : Method} {c : Code} {H : Heap} {locs : List Loc} {cells slots : Nat} {Q : State → Prop}
variable {cc : ByteArray} {pc : Nat} {ls : Array Slot} {rest : List Value} {A : Nat → Prop} {H0 : Heap} {D : va_G} {cl : List vw_C} {tys : List (ClassId × FieldType)} {a : Nat}
theorem h_newai (hexec : p.tables.exec = Jvm.exec) (hb : c.code = cc) (harr : (Cond.arrayClass .int).before args s = true) (hK : va_K D cl tys s) {cX : ClassId} (t0 : Nat) (ht : tys[t0]? = some (cX, .int)) (hS : va_S A H0 H locs) {n : Int32} {n9 : Nat} (hn : ¬ n < 0) (hN : ix n = n9) (hbytes : n9 * componentBytes .int ≤ 536870912) (hcells : cells + 1 ≤ R.cells) (hslots : slots + n9 ≤ R.slots) (hdg : decode cc pc = .ok (.newarray .int, 2))
    (kk : ∀ (H1 : Heap), va_at D cl (H.size, .inl (cX, n9, .inl (fun _ => 0))) H1 → (∀ q, q < H.size → H1[q]? = H[q]?) → H1.size = H.size + 1 → va_S A H0 H1 locs → W p l e R s m args below meth c H1 locs (cells + 1) (slots + n9) Q (F0 m (pc + 2) ls (.ref H.size :: rest))) : W p l e R s m args below meth c H locs cells slots Q (F0 m pc ls (.int n :: rest)) := by
  refine va_newaK (atype := .int) hexec hb harr rfl hdg rfl hn hN hbytes hcells hslots rfl fun H1 cB e1 z1 o1 hAr hNm => ?_
  have e : cB = cX := Option.some.inj (hNm.symm.trans (hK.2 t0 _ ht).2)
  subst e
  exact kk H1 e1 o1 z1 ⟨Nat.le_trans hS.1 (by omega), fun x h1 h2 => (o1 x (Nat.lt_of_lt_of_le h1 hS.1)).trans (hS.2.1 x h1 h2), hS.2.2⟩
theorem h_newaz (hexec : p.tables.exec = Jvm.exec) (hb : c.code = cc) (harr : (Cond.arrayClass .boolean).before args s = true) (hK : va_K D cl tys s) {cX : ClassId} (t0 : Nat) (ht : tys[t0]? = some (cX, .boolean)) (hS : va_S A H0 H locs) {n : Int32} {n9 : Nat} (hn : ¬ n < 0) (hN : ix n = n9) (hbytes : n9 * componentBytes .boolean ≤ 536870912) (hcells : cells + 1 ≤ R.cells) (hslots : slots + n9 ≤ R.slots) (hdg : decode cc pc = .ok (.newarray .boolean, 2))
    (kk : ∀ (H1 : Heap), va_at D cl (H.size, .inl (cX, n9, .inl (fun _ => 0))) H1 → (∀ q, q < H.size → H1[q]? = H[q]?) → H1.size = H.size + 1 → va_S A H0 H1 locs → W p l e R s m args below meth c H1 locs (cells + 1) (slots + n9) Q (F0 m (pc + 2) ls (.ref H.size :: rest))) : W p l e R s m args below meth c H locs cells slots Q (F0 m pc ls (.int n :: rest)) := by
  refine va_newaK (atype := .boolean) hexec hb harr rfl hdg rfl hn hN hbytes hcells hslots rfl fun H1 cB e1 z1 o1 hAr hNm => ?_
  have e : cB = cX := Option.some.inj (hNm.symm.trans (hK.2 t0 _ ht).2)
  subst e
  exact kk H1 e1 o1 z1 ⟨Nat.le_trans hS.1 (by omega), fun x h1 h2 => (o1 x (Nat.lt_of_lt_of_le h1 hS.1)).trans (hS.2.1 x h1 h2), hS.2.2⟩
theorem h_newab (hexec : p.tables.exec = Jvm.exec) (hb : c.code = cc) (harr : (Cond.arrayClass .byte).before args s = true) (hK : va_K D cl tys s) {cX : ClassId} (t0 : Nat) (ht : tys[t0]? = some (cX, .byte)) (hS : va_S A H0 H locs) {n : Int32} {n9 : Nat} (hn : ¬ n < 0) (hN : ix n = n9) (hbytes : n9 * componentBytes .byte ≤ 536870912) (hcells : cells + 1 ≤ R.cells) (hslots : slots + n9 ≤ R.slots) (hdg : decode cc pc = .ok (.newarray .byte, 2))
    (kk : ∀ (H1 : Heap), va_at D cl (H.size, .inl (cX, n9, .inl (fun _ => 0))) H1 → (∀ q, q < H.size → H1[q]? = H[q]?) → H1.size = H.size + 1 → va_S A H0 H1 locs → W p l e R s m args below meth c H1 locs (cells + 1) (slots + n9) Q (F0 m (pc + 2) ls (.ref H.size :: rest))) : W p l e R s m args below meth c H locs cells slots Q (F0 m pc ls (.int n :: rest)) := by
  refine va_newaK (atype := .byte) hexec hb harr rfl hdg rfl hn hN hbytes hcells hslots rfl fun H1 cB e1 z1 o1 hAr hNm => ?_
  have e : cB = cX := Option.some.inj (hNm.symm.trans (hK.2 t0 _ ht).2)
  subst e
  exact kk H1 e1 o1 z1 ⟨Nat.le_trans hS.1 (by omega), fun x h1 h2 => (o1 x (Nat.lt_of_lt_of_le h1 hS.1)).trans (hS.2.1 x h1 h2), hS.2.2⟩
end NEWA
theorem XW.ltX {D : va_G} {cA : Nat → ClassId} {ad : Nat → Nat} {ta : Nat} {h : Mem} {H : Heap} (hM : XW D cA ad ta h H) {j : Nat} (hj : Xpl j) : ad j < H.size := by
  rcases hj with hj | rfl | rfl | rfl | rfl | rfl
  · exact (hM.2.2.2.2.2 j hj).lt
  · exact hM.1.lt
  · exact hM.2.1.lt
  · exact hM.2.2.1.lt
  · exact hM.2.2.2.1.lt
  · exact hM.2.2.2.2.1.lt
def hlp (T : TT) (post : Int32 → Mem → Prop) : Nat → Nat → Int32 → Mem → Prop
  | 0, _, n, h => post n h
  | r + 1, i, n, h => (h 41 i = -1 → wpX1_isHelped T 10 (fun b h' _ => hlp T post r (i + 1) (if b = true then n else n + 1) h') h (fun _ => 0) (nI i)) ∧ (¬ h 41 i = -1 → hlp T post r (i + 1) n h)
def fillH (h : Mem) (i : Nat) : Mem := setp h 15 (fun j => if j < i then -1 else h 15 j)
theorem fillH_0 (h : Mem) : fillH h 0 = h := by
  funext k
  unfold fillH setp
  by_cases e : k = 15
  · subst e
    simp
  · rw [if_neg e]
theorem fillH_s (h : Mem) (i : Nat) : up2 (fillH h i) 15 i (-1) = fillH h (i + 1) := by
  funext k
  by_cases e : k = 15
  · subst e
    funext j
    show (if 15 = 15 then upd (fillH h i 15) i (-1) else fillH h i 15) j = (if 15 = 15 then (fun j => if j < i + 1 then (-1 : Int32) else h 15 j) else h 15) j
    rw [if_pos rfl, if_pos rfl]
    show (if j = i then (-1 : Int32) else (if 15 = 15 then (fun j => if j < i then (-1 : Int32) else h 15 j) else h 15) j) = _
    rw [if_pos rfl]
    by_cases e2 : j = i
    · subst e2
      rw [if_pos rfl]
      show _ = if j < j + 1 then (-1 : Int32) else h 15 j
      rw [if_pos (by omega)]
    · rw [if_neg e2]
      show (if j < i then (-1 : Int32) else h 15 j) = if j < i + 1 then (-1 : Int32) else h 15 j
      by_cases e3 : j < i
      · rw [if_pos e3, if_pos (by omega)]
      · rw [if_neg e3, if_neg (by omega)]
  · rw [up2_other e]
    show (if k = 15 then _ else h k) = (if k = 15 then _ else h k)
    rw [if_neg e, if_neg e]
def wpX1_help (post : Int32 → Mem → Prop) (T : TT) (h : Mem) : Prop := hlp T post (T 0 1) 0 0 (fillH h 8)
set_option maxHeartbeats 4000000 in
set_option maxRecDepth 100000 in
theorem metX1_help (l : Launch) (D : va_G) (cA : Nat → ClassId) (z0 : Nat) (E : Nat → Nat → Nat) (T : TT) (tw : Nat → Nat) (N : Nat → Prop) (ad : Nat → Nat) (sz : Nat) (h : Mem) (hn8 : T 0 0 ≤ 8) (hn6 : T 0 1 ≤ 6) (hNz : ∀ q, N q → q < sz) (post : Int32 → Mem → Prop) (hw : wpX1_help post T h) : Met l yX1_help (ws_ yX1_help cX1_help 3 (some .int)) ({ frames := 30, cells := 6, slots := 48, locals := 800 }) (va_Pc [.ref (ad 17)] (PhXt D cA z0 E T tw N ad sz h)) (va_Qi post (fun h' t => XW D cA ad (tw 9) h' t.heap) (XB ad sz)) 6 48 (XB ad sz) := by
  refine Met.ofW (cc := cX1_help) (maxL := 3) (ret := (some .int)) (by decide) rfl ?_
  intro p e s m args below meth c s₁ B hml hv
  obtain ⟨rfl, hv⟩ := hv
  obtain ⟨hsz, hM, hJ, hN, hT, hK, hZ⟩ := hv
  subst hsz
  have hx := B.exec
  have hb := B.bytes
  have hr := B.returns
  have hts := atoms_spec (ws := ws_ yX1_help cX1_help 3 (some .int)) B.pre
  have hts : ∀ w ∈ lw_all, w.before _ s = true := fun w h => hts w (List.mem_cons_of_mem _ h)
  have hown : s.vm.findClass RX1 = some m.cls := findClass_of_methodNamed B.named
  have hlocks := B.notSynchronized
  have hS : va_S (XB ad s.heap.size) s.heap s.heap [] := va_S.rf
  have hl := lv_entry ([.ref (ad 17)]) (n := 3) (Nat.le_of_ble_eq_true rfl)
  rw [lg_entry_eq]
  generalize (lg_sl ([.ref (ad 17)]) ++ List.replicate (3 - (lg_sl ([.ref (ad 17)])).length) Slot.unset).toArray = ls at hl ⊢
  have hl : lv_has ls 3 [(0, .ref (ad 17))] := hl
  have hAz : ∀ q, XB ad s.heap.size q → z0 ≤ q := XB.z hZ hJ
  have hA : ∀ q, XA ad q → XB ad s.heap.size q := fun q h => Or.inl h
  have hNA : ∀ q, N q → q < s.heap.size → ¬ XB ad s.heap.size q := fun q h h2 h3 => h3.elim (hN q h) (fun h4 => absurd h4 (Nat.not_le.mpr h2))
  have loop2 : ∀ (r i cs : Nat) (n : Int32) (h : Mem) (H : Heap) (locs : List Loc) (ls : Array Slot), i + r = T 0 1 → cs ≤ i → hlp T post r i n h → va_S (XB ad s.heap.size) s.heap H locs → XW D cA ad (tw 9) h H → lv_has ls 3 [(2, .int (nI i)), (1, .int n), (0, .ref (ad 17))] → W p l e (headSpec (ws_ yX1_help cX1_help 3 (some .int)) ({ frames := 30, cells := 6, slots := 48, locals := 800 })).room s m ([.ref (ad 17)] : List Value).toArray below meth c H locs cs (8 * cs) (MQ below (va_Qi post (fun h' t => XW D cA ad (tw 9) h' t.heap) (XB ad s.heap.size)) ([.ref (ad 17)] : List Value).toArray s 6 48 (XB ad s.heap.size)) (F0 m 25 ls []) := by
    intro r
    induction r with
    | zero =>
      intro i cs n h H locs ls ei ec hw hS hM hl
      refine lv_iload_n hx hb dX1_help_25 rfl (lv_at hl 0 rfl) ?_
      refine lv_aload_n hx hb dX1_help_26 rfl (lv_at hl 2 rfl) ?_
      refine RX_callI (As := []) (rest := [.int (nI i)]) ⟨hx, hb, hml, hown, hts⟩ hS hAz hK hZ (hT.at hS hNA) hM (metX1_loaves l D cA z0 E tw N ad h T (fun r => r = nI (T 0 1)) rfl) (cwV 0 hts (lw_V q860 q862 qs9 q104 q863) rfl rfl rfl (by decide +kernel) ⟨Nat.le_of_ble_eq_true rfl, Nat.le_of_ble_eq_true rfl⟩) rfl hl.1 rfl (Nat.le_of_ble_eq_true rfl) dX1_help_27 ⟨by show cs ≤ 6; omega, by show 8 * cs ≤ 48; omega⟩ (fun r9 H locs hw9 hk hS => ?_)
      subst hw9
      have hM := hM.kept hk
      refine lv_icmp_ge (tgt := 67) hx hb dX1_help_30 (by decide) (fun _ => ?_) (fun h9 => absurd (nI_le (by omega) (by omega)) h9)
      refine lv_iload_n hx hb dX1_help_67 rfl (lv_at hl 1 rfl) ?_
      exact W.widen (by omega) (by omega) (W.iret hx hb hr (fun t ht _ => ⟨⟨n, h, rfl, hw, hM.at ht⟩, hS.F ht⟩) hS.2.2 dX1_help_68 hlocks)
    | succ r ih2 =>
      intro i cs n h H locs ls ei ec hw hS hM hl
      have hi : i < 6 := by omega
      have hii : ix (nI i) = i := nI_clamp (by omega)
      simp only [hlp] at hw
      refine lv_iload_n hx hb dX1_help_25 rfl (lv_at hl 0 rfl) ?_
      refine lv_aload_n hx hb dX1_help_26 rfl (lv_at hl 2 rfl) ?_
      refine RX_callI (As := []) (rest := [.int (nI i)]) ⟨hx, hb, hml, hown, hts⟩ hS hAz hK hZ (hT.at hS hNA) hM (metX1_loaves l D cA z0 E tw N ad h T (fun r => r = nI (T 0 1)) rfl) (cwV 0 hts (lw_V q860 q862 qs9 q104 q863) rfl rfl rfl (by decide +kernel) ⟨Nat.le_of_ble_eq_true rfl, Nat.le_of_ble_eq_true rfl⟩) rfl hl.1 rfl (Nat.le_of_ble_eq_true rfl) dX1_help_27 ⟨by show cs ≤ 6; omega, by show 8 * cs ≤ 48; omega⟩ (fun r9 H locs hw9 hk hS => ?_)
      subst hw9
      have hM := hM.kept hk
      refine lv_icmp_ge (tgt := 67) hx hb dX1_help_30 (by decide) (fun h9 => absurd h9 (nI_ge (by omega) (by omega))) (fun _ => ?_)
      have next : ∀ (cs : Nat) (n : Int32) (h : Mem) (H : Heap) (locs : List Loc) (ls : Array Slot), cs ≤ i + 1 → hlp T post r (i + 1) n h → va_S (XB ad s.heap.size) s.heap H locs → XW D cA ad (tw 9) h H → lv_has ls 3 [(2, .int (nI i)), (1, .int n), (0, .ref (ad 17))] → W p l e (headSpec (ws_ yX1_help cX1_help 3 (some .int)) ({ frames := 30, cells := 6, slots := 48, locals := 800 })).room s m ([.ref (ad 17)] : List Value).toArray below meth c H locs cs (8 * cs) (MQ below (va_Qi post (fun h' t => XW D cA ad (tw 9) h' t.heap) (XB ad s.heap.size)) ([.ref (ad 17)] : List Value).toArray s 6 48 (XB ad s.heap.size)) (F0 m 61 ls []) := by
        intro cs n h H locs ls ec hw hS hM hl
        refine lv_iinc (v := nI i + 1) (lv' := [(2, .int (nI i + 1)), (1, .int n), (0, .ref (ad 17))]) hx hb dX1_help_61 hl (k := 0) rfl rfl (by decide) rfl (fun ls hl => ?_)
        rw [nI_1] at hl
        refine lv_goto (tgt := 25) hx hb dX1_help_64 (by decide) ?_
        exact ih2 (i + 1) cs n h H locs ls (by omega) ec hw hS hM hl
      refine lv_aload_n hx hb dX1_help_33 rfl (lv_at hl 2 rfl) ?_
      refine X_get17 hx hb hts hown hK hM 3 (v := .ref (ad 45)) (by decide) (hts _ q727) rfl dX1_help_34 ?_
      refine X_get45N hx hb hts hown hK hM 1 (v := .ref (ad 41)) (by decide) (hZ.2.1.nF 9 rfl) rfl dX1_help_37 ?_
      refine lv_iload_n hx hb dX1_help_40 rfl (lv_at hl 0 rfl) ?_
      refine X_iald hx hb hK hM 41 rfl (j := i) hii (vp_in_nI hi (by decide)) dX1_help_41 ?_
      refine lv_iconst (v := -1) hx hb dX1_help_42 (by decide) ?_
      refine lv_icmp_ne (tgt := 61) hx hb dX1_help_43 (by decide) (fun c1 => next cs n h _ _ _ (by omega) (hw.2 c1) hS hM hl) (fun c1 => ?_)
      have hw := hw.1 c1
      have hS0 := hS
      refine lv_aload_n hx hb dX1_help_46 rfl (lv_at hl 2 rfl) ?_
      refine lv_iload_n hx hb dX1_help_47 rfl (lv_at hl 0 rfl) ?_
      refine lv_bipush (v := 8) hx hb dX1_help_48 (by decide) ?_
      refine h_newaz (n9 := 8) hx hb (hts _ q954) hK 2 rfl hS (by decide) (by decide) (by decide) (by show cs + 1 ≤ 6; omega) (by show 8 * cs + 8 ≤ 48; omega) dX1_help_50 (fun H1 hG ho hz1 hS => ?_)
      have hMo := hM
      have hM := hM.keptX (fun j hj => ho _ (hMo.ltX hj))
      have hqz : s.heap.size ≤ H.size := hS0.1
      have hqa : z0 ≤ H.size ∧ ¬ XA ad H.size := ⟨Nat.le_trans hZ.2.2.2.2.2 hqz, fun ⟨j, hj, e⟩ => absurd (hMo.ltX hj) (by omega)⟩
      refine va_calli (va_runV (As := [.int (nI i), .ref H.size]) (rest := []) ⟨hx, hb, hml, hown, hts⟩ (metX1_isHelped l D cA z0 E T tw N ad H.size hn8 10 _ _ _ _ hw) (cwV 2 hts (lw_V q950 q952 qs16 q104 q953) rfl rfl rfl (by decide +kernel) ⟨Nat.le_of_ble_eq_true rfl, Nat.le_of_ble_eq_true rfl⟩) ⟨PhH.blind.pc, hM.recv hK, fun U hU hW => ⟨rfl, by rw [hU]; exact hM, by rw [hU]; exact hG, hJ, fun q h => ⟨hN q h, fun e => absurd (hNz q h) (by omega)⟩, hqa, PhT.go (hT.at hS hNA) hK hZ hS hAz hU hW⟩⟩ rfl rfl hl.1 rfl (lv_room (Nat.le_of_ble_eq_true rfl)) dX1_help_52 ⟨by show cs + 1 ≤ 6; omega, by show 8 * cs + 8 ≤ 48; omega⟩) hS (fun q _ h => h.elim (fun h => Or.inl h) (fun h => Or.inr (by omega))) (fun q h => h.elim (fun h => Or.inl h) (fun h => Or.inr (by omega))) (fun r9 u t H2 locs2 ht hvm hw hB hz hk hS => ?_)
      obtain ⟨b, rfl, hw⟩ := hw
      subst ht
      refine lv_if_ne (tgt := 61) hx hb dX1_help_55 (by decide) (fun c4 => ?_) (fun c4 => ?_)
      · have eb : b = true := by cases b with | true => rfl | false => exact absurd rfl c4
        subst eb
        exact next (cs + 1) n u.1 _ _ _ (by omega) (by simpa using hw) hS hB.1 hl
      · have eb : b = false := by cases b with | false => rfl | true => exact absurd c4 (by decide)
        subst eb
        refine lv_iinc (v := n + 1) (lv' := [(1, .int (n + 1)), (2, .int (nI i)), (0, .ref (ad 17))]) hx hb dX1_help_58 hl (k := 1) rfl rfl (by decide) rfl (fun ls hl => ?_)
        exact next (cs + 1) (n + 1) u.1 _ _ _ (by omega) (by simpa using hw) hS hB.1 (lv_sub hl [1, 0, 2] rfl)
  refine lv_iconst (v := nI 0) hx hb dX1_help_0 (by decide) ?_
  refine lv_istore_n (lv' := [(1, .int (nI 0)), (0, .ref (ad 17))]) hx hb dX1_help_1 rfl hl (by decide) rfl (fun ls hl => ?_)
  have loop1 : ∀ (r i : Nat) (H : Heap) (locs : List Loc) (ls : Array Slot), i + r = 8 → va_S (XB ad s.heap.size) s.heap H locs → XW D cA ad (tw 9) (fillH h i) H → lv_has ls 3 [(1, .int (nI i)), (0, .ref (ad 17))] → W p l e (headSpec (ws_ yX1_help cX1_help 3 (some .int)) ({ frames := 30, cells := 6, slots := 48, locals := 800 })).room s m ([.ref (ad 17)] : List Value).toArray below meth c H locs 0 0 (MQ below (va_Qi post (fun h' t => XW D cA ad (tw 9) h' t.heap) (XB ad s.heap.size)) ([.ref (ad 17)] : List Value).toArray s 6 48 (XB ad s.heap.size)) (F0 m 2 ls []) := by
    intro r
    induction r with
    | zero =>
      intro i H locs ls ei hS hM hl
      have e8 : i = 8 := by omega
      subst e8
      refine lv_iload_n hx hb dX1_help_2 rfl (lv_at hl 0 rfl) ?_
      refine lv_bipush (v := 8) hx hb dX1_help_3 (by decide) ?_
      refine lv_icmp_ge (tgt := 21) hx hb dX1_help_5 (by decide) (fun _ => ?_) (fun h9 => absurd (by decide) h9)
      refine lv_iconst (v := 0) hx hb dX1_help_21 (by decide) ?_
      refine lv_istore_n (lv' := [(1, .int 0), (0, .ref (ad 17))]) hx hb dX1_help_22 rfl hl (by decide) rfl (fun ls hl => ?_)
      refine lv_iconst (v := nI 0) hx hb dX1_help_23 (by decide) ?_
      refine lv_istore_n (lv' := [(2, .int (nI 0)), (1, .int 0), (0, .ref (ad 17))]) hx hb dX1_help_24 rfl hl (by decide) rfl (fun ls hl => ?_)
      exact loop2 (T 0 1) 0 0 0 _ _ _ _ (by omega) (Nat.le_refl _) hw hS hM hl
    | succ r ih2 =>
      intro i H locs ls ei hS hM hl
      have hi : i < 8 := by omega
      refine lv_iload_n hx hb dX1_help_2 rfl (lv_at hl 0 rfl) ?_
      refine lv_bipush (v := 8) hx hb dX1_help_3 (by decide) ?_
      refine lv_icmp_ge (tgt := 21) hx hb dX1_help_5 (by decide) (fun h9 => absurd h9 (nI_ge (a := i) (b := 8) hi (by decide))) (fun _ => ?_)
      refine lv_aload_n hx hb dX1_help_8 rfl (lv_at hl 1 rfl) ?_
      refine X_get17 hx hb hts hown hK hM 15 (v := .ref (ad 15)) (by decide) (hts _ q739) rfl dX1_help_9 ?_
      refine lv_iload_n hx hb dX1_help_12 rfl (lv_at hl 0 rfl) ?_
      refine lv_iconst (v := -1) hx hb dX1_help_13 (by decide) ?_
      refine X_iastK hx hb hK hM hJ hA hS 15 rfl (j := i) (nI_clamp (by omega)) (vp_in_nI hi (by decide)) dX1_help_14 (fun H1 locs1 hkX hM hS => ?_)
      rw [fillH_s] at hM
      refine lv_iinc (v := nI i + 1) (lv' := [(1, .int (nI i + 1)), (0, .ref (ad 17))]) hx hb dX1_help_15 hl (k := 0) rfl rfl (by decide) rfl (fun ls hl => ?_)
      rw [nI_1] at hl
      refine lv_goto (tgt := 2) hx hb dX1_help_18 (by decide) ?_
      exact ih2 (i + 1) _ _ _ (by omega) hS hM hl
  exact loop1 8 0 _ _ _ rfl hS (by rw [fillH_0]; exact hM) hl
