/-! 32.at: personAt and loafAt: a person or a loaf, or NoSuchElementException -/
def PhXp (D : va_G) (cA : Nat → ClassId) (z0 : Nat) (E : Nat → Nat → Nat) (T : TT) (tw : Nat → Nat) (N : Nat → Prop) (ad : Nat → Nat) (sz : Nat) (h : Mem) (U : State) : Prop := U.heap.size = sz ∧ PhX D cA z0 E T tw N ad h U
theorem PhXp.blind {D : va_G} {cA : Nat → ClassId} {z0 : Nat} {E : Nat → Nat → Nat} {T : TT} {tw : Nat → Nat} {N : Nat → Prop} {ad : Nat → Nat} {sz : Nat} {h : Mem} : Blind (PhXp D cA z0 E T tw N ad sz h) := fun U g mk a h => ⟨h.1, PhX.blind U g mk a h.2⟩
theorem rN {H0 H : Heap} {locs : List Loc} (hS : va_S (NwA H0.size) H0 H locs) : ∀ q, q < H0.size → H[q]? = H0[q]? := fun q h => hS.2.1 q h (Nat.not_le.mpr h)
set_option maxHeartbeats 4000000 in
set_option maxRecDepth 100000 in
theorem metX1_personAt (l : Launch) (hlt : l.stackTraces = false) (D : va_G) (cA : Nat → ClassId) (z0 : Nat) (E : Nat → Nat → Nat) (tw : Nat → Nat) (N : Nat → Prop) (ad : Nat → Nat) (sz : Nat) (h : Mem) (T : TT) (hn9 : T 0 0 < 2 ^ 31) (a : Int32) : vx_Met l yX1_personAt (ws_ yX1_personAt cX1_personAt 2 (some (.object "StrangeKnives$Plain"))) ({ frames := 12, cells := 1, slots := 6, locals := 400 }) (va_Pc [.ref (ad 17), .int a] (PhXp D cA z0 E T tw N ad sz h)) (va_Qr (fun i : Nat => a = nI i ∧ i < T 0 0) (fun i q _ => q = tw (100 + i)) (NwA sz)) (vx_X (fun (_ : Unit) => ∀ i, i < T 0 0 → ¬ a = nI i) (fun En _ _ => En = exn 0) (NwA sz)) 1 6 (NwA sz) := by
  refine vx_ofW (cc := cX1_personAt) (maxL := 2) (ret := (some (.object "StrangeKnives$Plain"))) (by decide) rfl ?_
  intro p e s m args below meth c s₁ B hml het hv
  obtain ⟨rfl, hsz, hM, hT, hK, hZ⟩ := hv
  have hx := B.exec
  have hb := B.bytes
  have hr := B.returns
  have hts := atoms_spec (ws := ws_ yX1_personAt cX1_personAt 2 (some (.object "StrangeKnives$Plain"))) B.pre
  have hts : ∀ w ∈ lw_all, w.before _ s = true := fun w h => hts w (List.mem_cons_of_mem _ h)
  have hown : s.vm.findClass RX1 = some m.cls := findClass_of_methodNamed B.named
  have hlocks := B.notSynchronized
  subst hsz
  have hAz : ∀ q, NwA s.heap.size q → z0 ≤ q := fun q h => Nat.le_trans hZ.2.2.2.2.2 h
  have hNA : ∀ q, N q → q < s.heap.size → ¬ NwA s.heap.size q := fun q _ h h2 => absurd h2 (Nat.not_le.mpr h)
  have hS : va_S (NwA s.heap.size) s.heap s.heap [] := va_S.rf
  have hl := lv_entry ([.ref (ad 17), .int a]) (n := 2) (Nat.le_of_ble_eq_true rfl)
  rw [lg_entry_eq]
  generalize (lg_sl ([.ref (ad 17), .int a]) ++ List.replicate (2 - (lg_sl ([.ref (ad 17), .int a])).length) Slot.unset).toArray = ls at hl ⊢
  have hl : lv_has ls 2 [(0, .ref (ad 17)), (1, .int a)] := hl
  have tail : ∀ (b : Int32) (H : Heap) (locs : List Loc), va_S (NwA s.heap.size) s.heap H locs → (b = 0 → ∀ i, i < T 0 0 → ¬ a = nI i) → (¬ b = 0 → ∃ i, i < T 0 0 ∧ a = nI i) → W p l e (headSpec (ws_ yX1_personAt cX1_personAt 2 (some (.object "StrangeKnives$Plain"))) ({ frames := 12, cells := 1, slots := 6, locals := 400 })).room s m ([.ref (ad 17), .int a] : List Value).toArray below meth c H locs 0 0 (vx_MQ below (va_Qr (fun i : Nat => a = nI i ∧ i < T 0 0) (fun i q _ => q = tw (100 + i)) (NwA s.heap.size)) (vx_X (fun (_ : Unit) => ∀ i, i < T 0 0 → ¬ a = nI i) (fun En _ _ => En = exn 0) (NwA s.heap.size)) ([.ref (ad 17), .int a] : List Value).toArray s 1 6 (NwA s.heap.size)) (F0 m 17 ls [.int b]) := by
    intro b H locs hS h0 h1
    refine vx_callv (vx_runS (As := [.int b]) (rest := []) ⟨hx, hb, hml, hown, hts⟩ (metX1_there l hlt z0 E H.size b) (va_cwS 1 hts (lw_S q1394 q1395 q104 q1396) rfl rfl rfl (by decide +kernel) ⟨Nat.le_of_ble_eq_true rfl, Nat.le_of_ble_eq_true rfl⟩) ⟨fun a U g mk q => ⟨q.1, q.2.1, q.2.2.calling⟩, fun U hU hW => ⟨rfl, by rw [hU], hZ.go hS hAz hU hW⟩⟩ rfl rfl hl.1 rfl (lv_room (Nat.le_of_ble_eq_true rfl)) dX1_personAt_17 ⟨Nat.le_refl _, Nat.le_refl _⟩) hS (fun q _ h => Nat.le_trans hS.1 h) (fun q h => Nat.le_trans hS.1 h) (fun q _ h => Nat.le_trans hS.1 h)
      (fun En ce q9 u t H1 locs1 ht hvm hpx hBX hsz hk hS1 hce hcv hcl => vx_out (fun x hx => (het x hx).elim) hlocks hce hcv hcl (fun t2 ht2 _ => ⟨(), h0 hpx, hBX, hS1.F ht2⟩) hS1.2.2 (Nat.le_refl _) (Nat.le_refl _))
      (fun u t H locs ht hvm hw hB hsz hk hS => ?_)
    obtain ⟨i, hi, rfl⟩ := h1 hw
    refine lv_aload_n hx hb dX1_personAt_20 rfl (lv_at hl 0 rfl) ?_
    refine X_get17 hx hb hts hown hK (hM.kept (rN hS)) 0 (v := .ref (tw 9)) (by decide) (hts _ q724) rfl dX1_personAt_21 ?_
    refine T_fldN hx hb hts hown hK (hT.at hS hNA) 3 (v := .ref (tw 0)) (by decide) (hZ.2.1.nF 1 rfl) (fun _ _ => rfl) dX1_personAt_24 ?_
    refine lv_iload_n hx hb dX1_personAt_27 rfl (lv_at hl 1 rfl) ?_
    refine T_pget ⟨hx, hb, hml, hown, hts⟩ hS hK (hT.at hS hNA) q854 ⟨Nat.le_of_ble_eq_true rfl, Nat.le_of_ble_eq_true rfl⟩ i hi hl.1 (Nat.le_of_ble_eq_true rfl) dX1_personAt_28 ⟨Nat.le_of_ble_eq_true rfl, Nat.le_of_ble_eq_true rfl⟩ (fun H locs hk hS => ?_)
    refine P_cast hx hb hown hK (hT.at hS hNA) hZ.2.1 i hi (hts _ q1431) dX1_personAt_31 ?_
    exact vx_ret (W.aret (v := .ref (tw (100 + i))) hx hb hr (Or.inl ⟨_, rfl⟩) (Or.inr ⟨_, rfl⟩) (fun t ht _ => ⟨⟨i, _, rfl, ⟨rfl, hi⟩, rfl⟩, hS.F ht⟩) hS.2.2 dX1_personAt_34 hlocks)
  refine lv_iload_n hx hb dX1_personAt_0 rfl (lv_at hl 1 rfl) ?_
  refine lv_if_lt (tgt := 16) hx hb dX1_personAt_1 (by decide) (fun c1 => ?_) (fun c1 => ?_)
  · refine lv_iconst (v := 0) hx hb dX1_personAt_16 (by decide) ?_
    exact tail 0 _ _ hS (fun _ i hi e => absurd c1 (by rw [e]; exact nI_pos (by omega))) (fun h => absurd rfl h)
  · refine lv_iload_n hx hb dX1_personAt_4 rfl (lv_at hl 1 rfl) ?_
    refine lv_aload_n hx hb dX1_personAt_5 rfl (lv_at hl 0 rfl) ?_
    refine RX_callI (As := []) (rest := [.int a]) ⟨hx, hb, hml, hown, hts⟩ hS hAz hK hZ (hT.at hS hNA) (hM.kept (rN hS)) (metX1_people l D cA z0 E tw N ad h T (fun r => r = nI (T 0 0)) (by unfold wpX1_people; exact rfl)) (cwV 0 hts (lw_V q792 q794 qs6 q104 q795) rfl rfl rfl (by decide +kernel) ⟨Nat.le_of_ble_eq_true rfl, Nat.le_of_ble_eq_true rfl⟩) rfl hl.1 rfl (Nat.le_of_ble_eq_true rfl) dX1_personAt_6 ⟨Nat.zero_le _, Nat.zero_le _⟩ (fun r H locs hw hk hS => ?_)
    subst hw
    refine lv_icmp_ge (tgt := 16) hx hb dX1_personAt_9 (by decide) (fun c2 => ?_) (fun c2 => ?_)
    · refine lv_iconst (v := 0) hx hb dX1_personAt_16 (by decide) ?_
      exact tail 0 _ _ hS (fun _ i hi e => absurd c2 (by rw [e]; exact nI_ge hi hn9)) (fun h => absurd rfl h)
    · refine lv_iconst (v := 1) hx hb dX1_personAt_12 (by decide) ?_
      refine lv_goto (tgt := 17) hx hb dX1_personAt_13 (by decide) ?_
      refine tail 1 _ _ hS (fun h => absurd h (by decide)) (fun _ => ?_)
      obtain ⟨j, hj, rfl⟩ := nI_of c1
      refine ⟨j, ?_, rfl⟩
      rcases Nat.lt_or_ge j (T 0 0) with q | q
      · exact q
      · exact absurd (nI_le q hj) c2
set_option maxHeartbeats 4000000 in
set_option maxRecDepth 100000 in
theorem metX1_loafAt (l : Launch) (hlt : l.stackTraces = false) (D : va_G) (cA : Nat → ClassId) (z0 : Nat) (E : Nat → Nat → Nat) (tw : Nat → Nat) (N : Nat → Prop) (ad : Nat → Nat) (sz : Nat) (h : Mem) (T : TT) (hn9 : T 0 1 < 2 ^ 31) (a : Int32) : vx_Met l yX1_loafAt (ws_ yX1_loafAt cX1_loafAt 2 (some (.object "StrangeKnives$Loaf"))) ({ frames := 12, cells := 1, slots := 6, locals := 400 }) (va_Pc [.ref (ad 17), .int a] (PhXp D cA z0 E T tw N ad sz h)) (va_Qr (fun i : Nat => a = nI i ∧ i < T 0 1) (fun i q _ => q = tw (200 + i)) (NwA sz)) (vx_X (fun (_ : Unit) => ∀ i, i < T 0 1 → ¬ a = nI i) (fun En _ _ => En = exn 0) (NwA sz)) 1 6 (NwA sz) := by
  refine vx_ofW (cc := cX1_loafAt) (maxL := 2) (ret := (some (.object "StrangeKnives$Loaf"))) (by decide) rfl ?_
  intro p e s m args below meth c s₁ B hml het hv
  obtain ⟨rfl, hsz, hM, hT, hK, hZ⟩ := hv
  have hx := B.exec
  have hb := B.bytes
  have hr := B.returns
  have hts := atoms_spec (ws := ws_ yX1_loafAt cX1_loafAt 2 (some (.object "StrangeKnives$Loaf"))) B.pre
  have hts : ∀ w ∈ lw_all, w.before _ s = true := fun w h => hts w (List.mem_cons_of_mem _ h)
  have hown : s.vm.findClass RX1 = some m.cls := findClass_of_methodNamed B.named
  have hlocks := B.notSynchronized
  subst hsz
  have hAz : ∀ q, NwA s.heap.size q → z0 ≤ q := fun q h => Nat.le_trans hZ.2.2.2.2.2 h
  have hNA : ∀ q, N q → q < s.heap.size → ¬ NwA s.heap.size q := fun q _ h h2 => absurd h2 (Nat.not_le.mpr h)
  have hS : va_S (NwA s.heap.size) s.heap s.heap [] := va_S.rf
  have hl := lv_entry ([.ref (ad 17), .int a]) (n := 2) (Nat.le_of_ble_eq_true rfl)
  rw [lg_entry_eq]
  generalize (lg_sl ([.ref (ad 17), .int a]) ++ List.replicate (2 - (lg_sl ([.ref (ad 17), .int a])).length) Slot.unset).toArray = ls at hl ⊢
  have hl : lv_has ls 2 [(0, .ref (ad 17)), (1, .int a)] := hl
  have tail : ∀ (b : Int32) (H : Heap) (locs : List Loc), va_S (NwA s.heap.size) s.heap H locs → (b = 0 → ∀ i, i < T 0 1 → ¬ a = nI i) → (¬ b = 0 → ∃ i, i < T 0 1 ∧ a = nI i) → W p l e (headSpec (ws_ yX1_loafAt cX1_loafAt 2 (some (.object "StrangeKnives$Loaf"))) ({ frames := 12, cells := 1, slots := 6, locals := 400 })).room s m ([.ref (ad 17), .int a] : List Value).toArray below meth c H locs 0 0 (vx_MQ below (va_Qr (fun i : Nat => a = nI i ∧ i < T 0 1) (fun i q _ => q = tw (200 + i)) (NwA s.heap.size)) (vx_X (fun (_ : Unit) => ∀ i, i < T 0 1 → ¬ a = nI i) (fun En _ _ => En = exn 0) (NwA s.heap.size)) ([.ref (ad 17), .int a] : List Value).toArray s 1 6 (NwA s.heap.size)) (F0 m 17 ls [.int b]) := by
    intro b H locs hS h0 h1
    refine vx_callv (vx_runS (As := [.int b]) (rest := []) ⟨hx, hb, hml, hown, hts⟩ (metX1_there l hlt z0 E H.size b) (va_cwS 1 hts (lw_S q1394 q1395 q104 q1396) rfl rfl rfl (by decide +kernel) ⟨Nat.le_of_ble_eq_true rfl, Nat.le_of_ble_eq_true rfl⟩) ⟨fun a U g mk q => ⟨q.1, q.2.1, q.2.2.calling⟩, fun U hU hW => ⟨rfl, by rw [hU], hZ.go hS hAz hU hW⟩⟩ rfl rfl hl.1 rfl (lv_room (Nat.le_of_ble_eq_true rfl)) dX1_loafAt_17 ⟨Nat.le_refl _, Nat.le_refl _⟩) hS (fun q _ h => Nat.le_trans hS.1 h) (fun q h => Nat.le_trans hS.1 h) (fun q _ h => Nat.le_trans hS.1 h)
      (fun En ce q9 u t H1 locs1 ht hvm hpx hBX hsz hk hS1 hce hcv hcl => vx_out (fun x hx => (het x hx).elim) hlocks hce hcv hcl (fun t2 ht2 _ => ⟨(), h0 hpx, hBX, hS1.F ht2⟩) hS1.2.2 (Nat.le_refl _) (Nat.le_refl _))
      (fun u t H locs ht hvm hw hB hsz hk hS => ?_)
    obtain ⟨i, hi, rfl⟩ := h1 hw
    refine lv_aload_n hx hb dX1_loafAt_20 rfl (lv_at hl 0 rfl) ?_
    refine X_get17 hx hb hts hown hK (hM.kept (rN hS)) 0 (v := .ref (tw 9)) (by decide) (hts _ q724) rfl dX1_loafAt_21 ?_
    refine T_fldN hx hb hts hown hK (hT.at hS hNA) 4 (v := .ref (tw 2)) (by decide) (hZ.2.1.nF 2 rfl) (fun _ _ => rfl) dX1_loafAt_24 ?_
    refine lv_iload_n hx hb dX1_loafAt_27 rfl (lv_at hl 1 rfl) ?_
    refine T_lget ⟨hx, hb, hml, hown, hts⟩ hS hK (hT.at hS hNA) q854 ⟨Nat.le_of_ble_eq_true rfl, Nat.le_of_ble_eq_true rfl⟩ i hi hl.1 (Nat.le_of_ble_eq_true rfl) dX1_loafAt_28 ⟨Nat.le_of_ble_eq_true rfl, Nat.le_of_ble_eq_true rfl⟩ (fun H locs hk hS => ?_)
    refine L_cast hx hb hown hK (hT.at hS hNA) i hi (hts _ q880) dX1_loafAt_31 ?_
    exact vx_ret (W.aret (v := .ref (tw (200 + i))) hx hb hr (Or.inl ⟨_, rfl⟩) (Or.inr ⟨_, rfl⟩) (fun t ht _ => ⟨⟨i, _, rfl, ⟨rfl, hi⟩, rfl⟩, hS.F ht⟩) hS.2.2 dX1_loafAt_34 hlocks)
  refine lv_iload_n hx hb dX1_loafAt_0 rfl (lv_at hl 1 rfl) ?_
  refine lv_if_lt (tgt := 16) hx hb dX1_loafAt_1 (by decide) (fun c1 => ?_) (fun c1 => ?_)
  · refine lv_iconst (v := 0) hx hb dX1_loafAt_16 (by decide) ?_
    exact tail 0 _ _ hS (fun _ i hi e => absurd c1 (by rw [e]; exact nI_pos (by omega))) (fun h => absurd rfl h)
  · refine lv_iload_n hx hb dX1_loafAt_4 rfl (lv_at hl 1 rfl) ?_
    refine lv_aload_n hx hb dX1_loafAt_5 rfl (lv_at hl 0 rfl) ?_
    refine RX_callI (As := []) (rest := [.int a]) ⟨hx, hb, hml, hown, hts⟩ hS hAz hK hZ (hT.at hS hNA) (hM.kept (rN hS)) (metX1_loaves l D cA z0 E tw N ad h T (fun r => r = nI (T 0 1)) (by unfold wpX1_loaves; exact rfl)) (cwV 0 hts (lw_V q860 q862 qs9 q104 q863) rfl rfl rfl (by decide +kernel) ⟨Nat.le_of_ble_eq_true rfl, Nat.le_of_ble_eq_true rfl⟩) rfl hl.1 rfl (Nat.le_of_ble_eq_true rfl) dX1_loafAt_6 ⟨Nat.zero_le _, Nat.zero_le _⟩ (fun r H locs hw hk hS => ?_)
    subst hw
    refine lv_icmp_ge (tgt := 16) hx hb dX1_loafAt_9 (by decide) (fun c2 => ?_) (fun c2 => ?_)
    · refine lv_iconst (v := 0) hx hb dX1_loafAt_16 (by decide) ?_
      exact tail 0 _ _ hS (fun _ i hi e => absurd c2 (by rw [e]; exact nI_ge hi hn9)) (fun h => absurd rfl h)
    · refine lv_iconst (v := 1) hx hb dX1_loafAt_12 (by decide) ?_
      refine lv_goto (tgt := 17) hx hb dX1_loafAt_13 (by decide) ?_
      refine tail 1 _ _ hS (fun h => absurd h (by decide)) (fun _ => ?_)
      obtain ⟨j, hj, rfl⟩ := nI_of c1
      refine ⟨j, ?_, rfl⟩
      rcases Nat.lt_or_ge j (T 0 1) with q | q
      · exact q
      · exact absurd (nI_le q hj) c2
section VXR
variable {p : Program} {l : Launch} {e : Env} {R : Room} {s : State} {m : MethodId} {args : Array Value} {below : List Frame} {meth : Method} {c : Code} {H : Heap} {locs : List Loc} {cells slots mc ms : Nat} {Q : State → Prop}
variable {pc : Nat} {ls : Array Slot} {rest st0 : List Value} {a : Array Value} {A0 A1 : Nat → Prop} {H0 : Heap} {free : Addr → Prop}
theorem vx_callr {S SX : Type} {post : S → Prop} {px : SX → Prop} {B : S → Nat → State → Prop} {BX : String → SX → State → Prop} {AX : Nat → Prop} (hr : vx_Run p l e R s m args below meth c H locs cells slots mc ms (F0 m pc ls st0) rest (va_Qr post B A1 a) (vx_X px BX AX) free) (hS : va_S A0 H0 H locs) (hA : ∀ q, q < H.size → A1 q → A0 q) (hf : ∀ q, free q → A0 q) (hAX : ∀ q, q < H.size → AX q → A0 q)
    (kx : ∀ (E : String) (ce : Cell) (q9 : Addr) (u : SX) (t : State) (H1 : Heap) (locs1 : List Loc), t.heap = H1 → s.vm.Alike t.vm → px u → BX E u t → H.size ≤ H1.size → (∀ q : Nat, q < H.size → ¬ AX q → H1[q]? = H[q]?) → va_S A0 H0 H1 locs1 → H1[q9]? = some ce → ce.vm = .none → s.vm.findClass E = some ce.cls → vx_W p l e R s m args below meth c H1 locs1 (cells + mc) (slots + ms) Q (F0 m pc ls rest) q9)
    (kk : ∀ (u : S) (ra : Nat) (t : State) (H1 : Heap) (locs1 : List Loc), t.heap = H1 → s.vm.Alike t.vm → post u → B u ra t → H.size ≤ H1.size → (∀ q : Nat, q < H.size → ¬ A1 q → H1[q]? = H[q]?) → va_S A0 H0 H1 locs1 → W p l e R s m args below meth c H1 locs1 (cells + mc) (slots + ms) Q (F0 m (pc + 3) ls (.ref ra :: rest))) : W p l e R s m args below meth c H locs cells slots Q (F0 m pc ls st0) := by
  intro T hT X
  rcases hr T hT X with ⟨v, st₀, t, T', L, h0, X', hL, e1, e2, ⟨⟨u, ra, hv, hp, hb⟩, hF⟩, st⟩ | ⟨q, st₀, t, T', L, E, ce, h0, X', hL, e1, e2, ⟨u, hp, hb, hF⟩, hce, hcv, hcl, st⟩
  · cases hv
    obtain ⟨k1, k2, k3⟩ := vx_keep h0 e1 hS hA hf hL hF
    obtain ⟨t2, a1, b1⟩ := kk u ra t T'.heap (locs ++ L) e1.symm (by rw [← e2]; exact X'.warmed.alike) hp hb k1 k2 k3 T' rfl X'
    exact ⟨t2, st t2 a1, b1⟩
  · obtain ⟨k1, k2, k3⟩ := vx_keep h0 e1 hS hAX hf hL hF
    obtain ⟨t2, a1, b1⟩ := kx E ce q u t T'.heap (locs ++ L) e1.symm (by rw [← e2]; exact X'.warmed.alike) hp hb k1 k2 k3 (by rw [e1]; exact hce) hcv hcl T' rfl X'
    exact ⟨t2, st.trans a1, b1⟩
end VXR
section XT2
variable {p : Program} {l : Launch} {e : Env} {R : Room} {s : State} {m : MethodId} {args : Array Value} {below : List Frame} {meth : Method} {c : Code} {H : Heap} {locs : List Loc} {cells slots mc ms : Nat}
variable {cc : ByteArray} {pc nL : Nat} {ls : Array Slot} {rest st0 : List Value} {D : va_G} {cA : Nat → ClassId} {E : Nat → Nat → Nat} {T : TT} {tw : Nat → Nat} {z0 : Nat} {N : Nat → Prop} {index : Nat} {ad : Nat → Nat} {h h0 : Mem} {px : Nat → Prop} {Qc : Array Value → State → Outcome → State → Prop}
theorem XT_pers (S : CallFix p m c cc nL s args lw_all RX1) (e0 : h = h0) (hlt : l.stackTraces = false) (hK : KK D cA s) (hZ : FZ z0 E s s.heap) (hT : TW D cA E T tw (ad 70) N H) (hJ : XJ z0 ad) (hM : XW D cA ad (tw 9) h H) (hS : va_S (XB ad s.heap.size) s.heap H locs) (het : ∀ x ∈ c.exceptionTable.toList, False) (hlocks : meth.locks = false) (hn9 : T 0 0 < 2 ^ 31) {a : Int32} (hq : (∀ i, i < T 0 0 → ¬ a = nI i) → px 0) (cw : CallW R s args RX1 RX1 index yX1_personAt cX1_personAt 2 (some (.object "StrangeKnives$Plain")) (ws_ yX1_personAt cX1_personAt 2 (some (.object "StrangeKnives$Plain"))) ({ frames := 12, cells := 1, slots := 6, locals := 400 }) 1 6 1) (hsize : ls.size = nL) (hW : (rest.map fun v => v.category).sum ≤ 8) (hdg : decode cc pc = .ok (.invokevirtual index, 3)) (hc : cells + 1 ≤ R.cells ∧ slots + 6 ≤ R.slots) (hmc : cells + 1 ≤ mc) (hms : slots + 6 ≤ ms)
    (kk : ∀ (i : Nat), i < T 0 0 → a = nI i → ∀ (H1 : Heap) (locs1 : List Loc), XW D cA ad (tw 9) h H1 → va_S (XB ad s.heap.size) s.heap H1 locs1 → W p l e R s m args below meth c H1 locs1 (cells + 1) (slots + 6) (vx_MQ below Qc (XTx D cA tw ad s.heap.size h0 px) args s mc ms (XB ad s.heap.size)) (F0 m (pc + 3) ls (.ref (tw (100 + i)) :: rest))) : W p l e R s m args below meth c H locs cells slots (vx_MQ below Qc (XTx D cA tw ad s.heap.size h0 px) args s mc ms (XB ad s.heap.size)) (F0 m pc ls (.int a :: .ref (ad 17) :: rest)) := by
  subst e0
  exact vx_callr (vx_runV (As := [.int a]) S (metX1_personAt l hlt D cA z0 E tw N ad H.size h T hn9 a) cw ⟨PhXp.blind.pc, hM.recv hK, fun U hU hW => ⟨rfl, by rw [hU], by rw [hU]; exact hM, PhT.go hT hK hZ hS (XB.z hZ hJ) hU hW⟩⟩ rfl rfl hsize rfl (lv_room hW) hdg hc) hS (fun q _ h => NwX hS q h) (fun q h => NwX hS q h) (fun q _ h => NwX hS q h)
    (fun En ce q9 u t H1 locs1 ht hvm hpx hBX hsz hk hS1 hce hcv hcl => vx_out (fun x hx => (het x hx).elim) hlocks hce hcv hcl (fun t2 ht2 _ => ⟨0, hq hpx, ⟨hBX, (hM.kept (fun q h1 => hk q h1 (Nat.not_le.mpr h1))).at ht2⟩, hS1.F ht2⟩) hS1.2.2 hmc hms)
    (fun i ra t H1 locs1 ht hvm hw hB hsz hk hS1 => by subst hB; exact kk i hw.2 hw.1 H1 locs1 (hM.kept (fun q h1 => hk q h1 (Nat.not_le.mpr h1))) hS1)
theorem XT_loaf (S : CallFix p m c cc nL s args lw_all RX1) (e0 : h = h0) (hlt : l.stackTraces = false) (hK : KK D cA s) (hZ : FZ z0 E s s.heap) (hT : TW D cA E T tw (ad 70) N H) (hJ : XJ z0 ad) (hM : XW D cA ad (tw 9) h H) (hS : va_S (XB ad s.heap.size) s.heap H locs) (het : ∀ x ∈ c.exceptionTable.toList, False) (hlocks : meth.locks = false) (hn9 : T 0 1 < 2 ^ 31) {a : Int32} (hq : (∀ i, i < T 0 1 → ¬ a = nI i) → px 0) (cw : CallW R s args RX1 RX1 index yX1_loafAt cX1_loafAt 2 (some (.object "StrangeKnives$Loaf")) (ws_ yX1_loafAt cX1_loafAt 2 (some (.object "StrangeKnives$Loaf"))) ({ frames := 12, cells := 1, slots := 6, locals := 400 }) 1 6 1) (hsize : ls.size = nL) (hW : (rest.map fun v => v.category).sum ≤ 8) (hdg : decode cc pc = .ok (.invokevirtual index, 3)) (hc : cells + 1 ≤ R.cells ∧ slots + 6 ≤ R.slots) (hmc : cells + 1 ≤ mc) (hms : slots + 6 ≤ ms)
    (kk : ∀ (i : Nat), i < T 0 1 → a = nI i → ∀ (H1 : Heap) (locs1 : List Loc), XW D cA ad (tw 9) h H1 → va_S (XB ad s.heap.size) s.heap H1 locs1 → W p l e R s m args below meth c H1 locs1 (cells + 1) (slots + 6) (vx_MQ below Qc (XTx D cA tw ad s.heap.size h0 px) args s mc ms (XB ad s.heap.size)) (F0 m (pc + 3) ls (.ref (tw (200 + i)) :: rest))) : W p l e R s m args below meth c H locs cells slots (vx_MQ below Qc (XTx D cA tw ad s.heap.size h0 px) args s mc ms (XB ad s.heap.size)) (F0 m pc ls (.int a :: .ref (ad 17) :: rest)) := by
  subst e0
  exact vx_callr (vx_runV (As := [.int a]) S (metX1_loafAt l hlt D cA z0 E tw N ad H.size h T hn9 a) cw ⟨PhXp.blind.pc, hM.recv hK, fun U hU hW => ⟨rfl, by rw [hU], by rw [hU]; exact hM, PhT.go hT hK hZ hS (XB.z hZ hJ) hU hW⟩⟩ rfl rfl hsize rfl (lv_room hW) hdg hc) hS (fun q _ h => NwX hS q h) (fun q h => NwX hS q h) (fun q _ h => NwX hS q h)
    (fun En ce q9 u t H1 locs1 ht hvm hpx hBX hsz hk hS1 hce hcv hcl => vx_out (fun x hx => (het x hx).elim) hlocks hce hcv hcl (fun t2 ht2 _ => ⟨0, hq hpx, ⟨hBX, (hM.kept (fun q h1 => hk q h1 (Nat.not_le.mpr h1))).at ht2⟩, hS1.F ht2⟩) hS1.2.2 hmc hms)
    (fun i ra t H1 locs1 ht hvm hw hB hsz hk hS1 => by subst hB; exact kk i hw.2 hw.1 H1 locs1 (hM.kept (fun q h1 => hk q h1 (Nat.not_le.mpr h1))) hS1)
end XT2
