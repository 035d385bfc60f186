/-! 97.js, printed by tools/mk_js.py: rows for final fields and new objects; String.equals, String.valueOf(char), StringBuilder of Latin-1 letters -/
section NRW
variable {p : Program} {l : Launch} {e : Env} {R : Room} {s : State} {m : MethodId} {args : Array Value} {below : List Frame} {meth : Method} {c : Code} {H : Heap} {locs : List Loc} {cells slots : Nat} {Q : State → Prop}
variable {cc : ByteArray} {pc nL : Nat} {ls : Array Slot} {rest st0 : List Value} {A A0 : Nat → Prop} {H0 : Heap} {D : va_G} {cA : Nat → ClassId} {cl : List vw_C} {tys : List (ClassId × FieldType)} {a : Nat}
theorem h_putF (hexec : p.tables.exec = Jvm.exec) (hb : c.code = cc) {own ref C : String} {T : u_T} {N ci index : Nat} {Ts : List Cond} (hts : ∀ w ∈ Ts, w.before args s = true) (hin : ∀ w ∈ u_ws C T N, w ∈ Ts) (ty0 : Nat → FieldType) (hty : ∀ k, k < N → parseFieldDescriptor (T k).2.2.1 = some (ty0 k)) (hnm : ∀ a, a < N → ∀ b, b < N → a ≠ b → (T a).2.1 ≠ (T b).2.1) (hown : s.vm.findClass own = some m.cls) (hK : va_K D cl tys s) {fs : List Value} (hP : va_at D cl (a, .inr (ci, fs)) H) (hAa : A a) (hS0 : va_S A H0 H locs) (hc : cl[ci]? = some (C, T, N)) (k : Nat) (hk : k < N) (hlink : (Cond.fieldLink own index ref (T k).2.1 (T k).2.2.1).before args s = true) (hsame : ∀ x, s.fieldFound? (T k).1 (T k).2.1 (T k).2.2.1 = some x → s.fieldFound? ref (T k).2.1 (T k).2.2.1 = some x) (hfin : (T k).2.2.2 = true) (hin2 : meth.name = "<init>") (hdecl : (T k).1 = own) {ty : FieldType} {v : Value} (hd : parseFieldDescriptor (T k).2.2.1 = some ty) (hn : narrow ty v = v) (hfit : fits ty v = true) (hl : k < fs.length)
    (hdg : decode cc pc = .ok (.putfield index, 3)) (kk : ∀ (H1 : Heap) (locs1 : List Loc), va_at D cl (a, .inr (ci, fs.set k v)) H1 → (∀ q, q ≠ a → H1[q]? = H[q]?) → H1.size = H.size → va_S A H0 H1 locs1 → W p l e R s m args below meth c H1 locs1 cells slots Q (F0 m (pc + 3) ls rest)) : W p l e R s m args below meth c H locs cells slots Q (F0 m pc ls (v :: .ref a :: rest)) := by
  have hap := va_apart (own := own) hts hin ty0 hty hnm hK hc
  obtain ⟨r, h1, cell, q1, q2, q3, q4⟩ := hP
  have hr : r = (C, T, N) := Option.some.inj (h1.symm.trans hc)
  subst hr
  obtain ⟨hS, hfc, kC, hkC, hkind⟩ := hK.1 ci _ hc
  obtain ⟨cf, kf, fi, f, hi, hsl⟩ := hS k hk
  have hlay := hts _ (hin _ (u_in_lay hk))
  unfold u_lay at hlay
  rw [if_pos hfin] at hlay
  have hst := (u_facts hfc hkC (u_lays hts hin hk) hi).1
  have hcf : m.cls = cf := by
    obtain ⟨_, _, c', _, _, _, -, -, hf', -, -, -, hown2, -⟩ := Cond.laysFinal_spec hlay
    have e1 : c' = cf := by have := hi.symm.trans hf'; simp at this; exact this.1.symm
    rw [hdecl] at hown2
    rw [← e1]; exact Option.some.inj (hown.symm.trans hown2)
  have h6 := u_fits hfc hkC hkind (Or.inr hlay) hi hd hn hfit
  refine W.putFinK hexec hb hown hlink (hsame _ hi) hst hcf hin2 (by rw [q2]; exact h6) q1 q3 (by rw [hsl]; exact k2_hasslot (q4 k hk)) rfl rfl hdg fun H' e1 e2 e3 => ?_
  rw [hsl] at e1 ⊢
  exact kk H' _ ⟨_, hc, t_OB.to (V := updV (vp_V fs) k v) ⟨_, e1, q2, q3, t_set q4 hap hk v⟩ (fun j _ => vp_updV_set hl v j)⟩ e3 e2 (hS0.put e2 e3 hAa)
theorem h_newO {c0 : Code} (hexec : p.tables.exec = Jvm.exec) (hb : c0.code = cc) {own C : String} {T : u_T} {N ci index : Nat} {Ts : List Cond} (hts : ∀ w ∈ Ts, w.before args s = true) (hin : ∀ w ∈ u_ws C T N, w ∈ Ts) (ty : Nat → FieldType) (hty : ∀ k, k < N → parseFieldDescriptor (T k).2.2.1 = some (ty k)) (hown : s.vm.findClass own = some m.cls) (hcl : (Cond.classLink own index C).before args s = true) (hinst : (Cond.instantiable C N).before args s = true) (hini : (Cond.initialized C).before args s = true)
    (hK : va_K D cl tys s) (hS : va_S A H0 H locs) (hc : cl[ci]? = some (C, T, N)) {fs : List Value} (hfs : ∀ j, j < N → defaultValue (ty j) = vp_V fs j) (hcells : cells + 1 ≤ R.cells) (hslots : slots + N ≤ R.slots) (hdg : decode cc pc = .ok (.new index, 3))
    (kk : ∀ (H1 : Heap), va_at D cl (H.size, .inr (ci, fs)) H1 → (∀ q, q < H.size → H1[q]? = H[q]?) → H1.size = H.size + 1 → va_S A H0 H1 locs →
      W p l e R s m args below meth c0 H1 locs (cells + 1) (slots + N) Q (F0 m (pc + 3) ls (.ref H.size :: rest))) : W p l e R s m args below meth c0 H locs cells slots Q (F0 m pc ls rest) := by
  have hKn := hK.1 ci _ hc
  refine W.newcK hexec hb hown hcl hinst hini rfl hdg hcells hslots hKn.2.1 rfl fun H1 kC hkC e1 z1 o1 => ?_
  exact kk H1 ⟨_, hc, (u_born ty hts hin hKn hkC e1 hty).to hfs⟩ o1 z1 ⟨Nat.le_trans hS.1 (by omega), fun x h1 h2 => (o1 x (Nat.lt_of_lt_of_le h1 hS.1)).trans (hS.2.1 x h1 h2), hS.2.2⟩
theorem SF_at (hts : ∀ w ∈ lw_all, w.before args s = true) (hK : KK D cA s) {fs : List Value} (h : va_at D vwCl (a, .inr (19, fs)) H) (k : Nat) (hk : k < 4) (hA : ¬ A a) : va_OF (TJ9 k).1 (TJ9 k).2.1 (TJ9 k).2.2.1 (vp_V fs k) a A s H := by
  obtain ⟨r, h1, cell, q1, q2, q3, q4⟩ := h
  have hr : r = (RJ9, TJ9, 4) := (Option.some.inj h1).symm
  subst hr
  obtain ⟨hS, hfc, kC, hkC, hkind⟩ := hK.1 19 (RJ9, TJ9, 4) rfl
  obtain ⟨cf, kf, fi, f, hi, hsl⟩ := hS k hk
  have hst := (u_facts hfc hkC (u_lays hts in_J9 hk) hi).1
  exact ⟨cf, kf, fi, f, cell, hi, hst, q1, (fun e => by rw [q3] at e; cases e), by rw [hsl]; exact q4 k hk, hA⟩
theorem SR.of_at (hts : ∀ w ∈ lw_all, w.before args s = true) (hK : KK D cA s) {q v n : Nat} {x y : Value} {f : Nat → Int32} {tx : List Nat} (h1 : va_at D vwCl (q, .inr (19, [.ref v, .int 0, x, y])) H) (h2 : va_at D vwCl (v, .inl (cA 1, n, .inl f)) H) (hn : n = tx.length) (hf : ∀ j, j < n → f j = nI (tx.getD j 0)) (hq : ¬ A q) (hv : ¬ A v) (hc : ∀ c ∈ tx, c < 128) (hl : tx.length < 65536) : SR A s H q v tx := by
  obtain ⟨cell, g1, g2, g3⟩ := at_recv (q := (RJ9, TJ9, 4)) hK h1 rfl
  refine ⟨⟨cell, g1, g2, g3, hq⟩, SF_at hts hK h1 1 (by decide) hq, SF_at hts hK h1 0 (by decide) hq, ?_, hc, hl⟩
  refine ⟨_, h2, (hK.2 1 (cA 1, .byte) rfl).1 n (fun j => .int (f j)), (fun e => by cases e), Nat.le_of_eq (by rw [vp_cell_i, arrV_size]; exact hn.symm), by rw [vp_cell_i, arrV_size, hn], fun j hj => ?_, hv⟩
  rw [vp_cell_i, arrV_read _ _ (by omega), hf j (by omega)]
theorem va_Z.nw {C n d : String} {v : Value} (h : va_Z C n d v A s H) : va_Z C n d v (NwA H.size) s H := by
  obtain ⟨cf, kf, fi, f, a, cell, h1, h2, h3, h4, h5, h6, h7, h8⟩ := h
  exact ⟨cf, kf, fi, f, a, cell, h1, h2, h3, h4, h5, h6, h7, Nat.not_le.mpr (Array.getElem?_eq_some_iff.mp h5).1⟩
end NRW
theorem i8_eq {ch : Nat} (h : ch < 128) : (nI ch).toInt8.toInt32 = nI ch := (by decide +kernel : ∀ c : Fin 128, (nI c.1).toInt8.toInt32 = nI c.1) ⟨ch, h⟩
theorem tx_ext {a b : List Nat} (hl : a.length = b.length) (h : ∀ i, i < a.length → a.getD i 0 = b.getD i 0) : a = b := by
  refine List.ext_getElem hl (fun i h1 h2 => ?_)
  have h9 := h i h1
  rw [List.getD_eq_getElem?_getD, List.getD_eq_getElem?_getD, List.getElem?_eq_getElem h1, List.getElem?_eq_getElem h2] at h9
  exact h9
theorem b2i_1 {x : Bool} (h : ¬ b2i x = 0) : (1 : Int32) = b2i x := by
  cases x with
  | true => rfl
  | false => exact absurd rfl h
theorem ltb_s {b j : Nat} {P : Nat → Prop} (h : ∀ i, b ≤ i → i < j → P i) (hj : P j) : ∀ i, b ≤ i → i < j + 1 → P i := by
  intro i h1 h2
  by_cases e : i = j
  · rw [e]; exact hj
  · exact h i h1 (by omega)
theorem tx_lt {tx : List Nat} (h : ∀ c ∈ tx, c < 128) (i : Nat) : tx.getD i 0 < 128 := getD_lt h i
set_option maxHeartbeats 4000000 in
set_option maxRecDepth 100000 in
theorem metJ15_equals (l : Launch) {v v2 : Nat} {tx tx2 : List Nat} (hn1 : tx.length < 65536) (hn2 : tx2.length < 65536) (hc1 : ∀ ch ∈ tx, ch < 128) (hc2 : ∀ ch ∈ tx2, ch < 128) : Met l yJ15_equals (ws_ yJ15_equals cJ15_equals 3 (some .boolean)) ({ frames := 1, cells := 0, slots := 0, locals := 30 }) (va_Pc [.ref v, .ref v2] (fun U => va_T .byte v tx.length (fun j => .int (nI (tx.getD j 0))) NoA U U.heap ∧ va_T .byte v2 tx2.length (fun j => .int (nI (tx2.getD j 0))) NoA U U.heap)) (RQi (fun r => r = b2i (decide (tx = tx2)))) 0 0 (NoA) := by
  refine Met.ofW (cc := cJ15_equals) (maxL := 3) (ret := (some .boolean)) (by decide) rfl ?_
  intro p e s m args below meth c s₁ B hml hv
  obtain ⟨rfl, hv⟩ := hv
  have hx := B.exec
  have hb := B.bytes
  have hr := B.returns
  have hts := atoms_spec (ws := ws_ yJ15_equals cJ15_equals 3 (some .boolean)) B.pre
  have hts : ∀ w ∈ lw_all, w.before _ s = true := fun w h => hts w (List.mem_cons_of_mem _ h)
  have hown : s.vm.findClass RJ15 = some m.cls := findClass_of_methodNamed B.named
  have hlocks := B.notSynchronized
  have hS : va_S (NoA) s.heap s.heap [] := va_S.rf
  have hl := lv_entry ([.ref v, .ref v2]) (n := 3) (Nat.le_of_ble_eq_true rfl)
  rw [lg_entry_eq]
  generalize (lg_sl ([.ref v, .ref v2]) ++ List.replicate (3 - (lg_sl ([.ref v, .ref v2])).length) Slot.unset).toArray = ls at hl ⊢
  have hl : lv_has ls 3 [(0, .ref v), (1, .ref v2)] := hl
  obtain ⟨h1, h2⟩ := hv
  have nz : ∀ (ls : Array Slot), ¬ tx = tx2 → ∀ r : Int32, r = 0 → r = b2i (decide (tx = tx2)) := fun _ h r hr => by rw [hr, decide_eq_false h]; rfl
  refine lv_aload_n hx hb dJ15_equals_0 rfl (lv_at hl 0 rfl) ?_
  refine va_tlen (v := nI tx.length) hx hb h1 hS rfl dJ15_equals_1 ?_
  refine lv_aload_n hx hb dJ15_equals_2 rfl (lv_at hl 1 rfl) ?_
  refine va_tlen (v := nI tx2.length) hx hb h2 hS rfl dJ15_equals_3 ?_
  refine lv_icmp_ne (tgt := 34) hx hb dJ15_equals_4 (by decide) (fun c1 => ?_) (fun c1 => ?_)
  · have hne : ¬ tx = tx2 := fun e9 => c1 (by rw [e9])
    refine lv_iconst (v := 0) hx hb dJ15_equals_34 (by decide) ?_
    exact W.zret (v := 0) hx hb hr rfl (fun t ht _ => ⟨⟨_, (), rfl, nz ls hne _ rfl, trivial⟩, hS.F ht⟩) hS.2.2 dJ15_equals_35 hlocks
  · have hle : tx.length = tx2.length := (nI_eq (by omega) (by omega)).mp c1
    refine lv_iconst (v := nI 0) hx hb dJ15_equals_7 (by decide) ?_
    refine lv_istore_n (lv' := [(2, .int (nI 0)), (0, .ref v), (1, .ref v2)]) hx hb dJ15_equals_8 rfl hl (by decide) rfl (fun ls hl => ?_)
    have loop : ∀ (r i : Nat) (ls : Array Slot), i + r = tx.length → (∀ j, j < i → tx.getD j 0 = tx2.getD j 0) → lv_has ls 3 [(2, .int (nI i)), (0, .ref v), (1, .ref v2)] → W p l e (headSpec (ws_ yJ15_equals cJ15_equals 3 (some .boolean)) ({ frames := 1, cells := 0, slots := 0, locals := 30 })).room s m ([.ref v, .ref v2] : List Value).toArray below meth c s.heap [] 0 0 (MQ below (RQi (fun r => r = b2i (decide (tx = tx2)))) ([.ref v, .ref v2] : List Value).toArray s 0 0 (NoA)) (F0 m 9 ls []) := by
      intro r
      induction r with
      | zero =>
        intro i ls ei hp hl
        refine lv_iload_n hx hb dJ15_equals_9 rfl (lv_at hl 0 rfl) ?_
        refine lv_aload_n hx hb dJ15_equals_10 rfl (lv_at hl 1 rfl) ?_
        refine va_tlen (v := nI tx.length) hx hb h1 hS rfl dJ15_equals_11 ?_
        refine lv_icmp_ge (tgt := 32) hx hb dJ15_equals_12 (by decide) (fun c9 => ?_) (fun c9 => absurd (nI_le (by omega) (by omega)) c9)
        refine lv_iconst (v := 1) hx hb dJ15_equals_32 (by decide) ?_
        exact W.zret (v := 1) hx hb hr rfl (fun t ht _ => ⟨⟨_, (), rfl, by rw [decide_eq_true (tx_ext hle (fun j hj => hp j (by omega)))]; rfl, trivial⟩, hS.F ht⟩) hS.2.2 dJ15_equals_33 hlocks
      | succ r ih =>
        intro i ls ei hp hl
        refine lv_iload_n hx hb dJ15_equals_9 rfl (lv_at hl 0 rfl) ?_
        refine lv_aload_n hx hb dJ15_equals_10 rfl (lv_at hl 1 rfl) ?_
        refine va_tlen (v := nI tx.length) hx hb h1 hS rfl dJ15_equals_11 ?_
        refine lv_icmp_ge (tgt := 32) hx hb dJ15_equals_12 (by decide) (fun c9 => absurd c9 (nI_ge (by omega) (by omega))) (fun c9 => ?_)
        refine lv_aload_n hx hb dJ15_equals_15 rfl (lv_at hl 1 rfl) ?_
        refine lv_iload_n hx hb dJ15_equals_16 rfl (lv_at hl 0 rfl) ?_
        refine va_tb (v := .int (nI (tx.getD i 0))) hx hb h1 hS (vp_in_nI (by omega) (by omega)) (by rw [nI_clamp (by omega)]) dJ15_equals_17 ?_
        refine lv_aload_n hx hb dJ15_equals_18 rfl (lv_at hl 2 rfl) ?_
        refine lv_iload_n hx hb dJ15_equals_19 rfl (lv_at hl 0 rfl) ?_
        refine va_tb (v := .int (nI (tx2.getD i 0))) hx hb h2 hS (vp_in_nI (by omega) (by omega)) (by rw [nI_clamp (by omega)]) dJ15_equals_20 ?_
        refine lv_icmp_eq (tgt := 26) hx hb dJ15_equals_21 (by decide) (fun c2 => ?_) (fun c2 => ?_)
        · have hi9 : tx.getD i 0 = tx2.getD i 0 := (nI_eq (Nat.lt_of_lt_of_le (getD_lt hc1 i) (by decide)) (Nat.lt_of_lt_of_le (getD_lt hc2 i) (by decide))).mp c2
          refine lv_iinc (v := nI i + 1) (lv' := [(2, .int (nI i + 1)), (0, .ref v), (1, .ref v2)]) hx hb dJ15_equals_26 hl (k := 0) rfl rfl (by decide) rfl (fun ls hl => ?_)
          rw [nI_1] at hl
          refine lv_goto (tgt := 9) hx hb dJ15_equals_29 (by decide) ?_
          exact ih (i + 1) ls (by omega) (lt_s hp hi9) hl
        · refine lv_iconst (v := 0) hx hb dJ15_equals_24 (by decide) ?_
          exact W.zret (v := 0) hx hb hr rfl (fun t ht _ => ⟨⟨_, (), rfl, nz ls (fun e9 => c2 (by rw [e9])) _ rfl, trivial⟩, hS.F ht⟩) hS.2.2 dJ15_equals_25 hlocks
    exact loop tx.length 0 ls (by omega) (fun j hj => absurd hj (Nat.not_lt_zero j)) hl
abbrev SE2 (D : va_G) (cA : Nat → ClassId) (q v q2 v2 : Nat) (tx tx2 : List Nat) (U : State) : Prop := SRU q v tx U ∧ SR NoA U U.heap q2 v2 tx2 ∧ KK D cA U
theorem SE2.blind {D : va_G} {cA : Nat → ClassId} {q v q2 v2 : Nat} {tx tx2 : List Nat} : Blind (SE2 D cA q v q2 v2 tx tx2) := fun U g mk a h => ⟨SRU.blind U g mk a h.1, SR.moved (U := U.calling g mk a) (Vm.Alike.refl U.vm) h.2.1, va_K.moved (u := U) (U := U.calling g mk a) (Vm.Alike.refl U.vm) h.2.2⟩
set_option maxHeartbeats 4000000 in
set_option maxRecDepth 100000 in
theorem metJ9_equals (l : Launch) {D : va_G} {cA : Nat → ClassId} {q v q2 v2 : Nat} {tx tx2 : List Nat} (hne : q ≠ q2) : Met l yJ9_equals (ws_ yJ9_equals cJ9_equals 3 (some .boolean)) ({ frames := 2, cells := 0, slots := 0, locals := 80 }) (va_Pc [.ref q, .ref q2] (SE2 D cA q v q2 v2 tx tx2)) (RQi (fun r => r = b2i (decide (tx = tx2)))) 0 0 (NoA) := by
  refine Met.ofW (cc := cJ9_equals) (maxL := 3) (ret := (some .boolean)) (by decide) rfl ?_
  intro p e s m args below meth c s₁ B hml hv
  obtain ⟨rfl, hv⟩ := hv
  have hx := B.exec
  have hb := B.bytes
  have hr := B.returns
  have hts := atoms_spec (ws := ws_ yJ9_equals cJ9_equals 3 (some .boolean)) B.pre
  have hts : ∀ w ∈ lw_all, w.before _ s = true := fun w h => hts w (List.mem_cons_of_mem _ h)
  have hown : s.vm.findClass RJ9 = some m.cls := findClass_of_methodNamed B.named
  have hlocks := B.notSynchronized
  have hS : va_S (NoA) s.heap s.heap [] := va_S.rf
  have hl := lv_entry ([.ref q, .ref q2]) (n := 3) (Nat.le_of_ble_eq_true rfl)
  rw [lg_entry_eq]
  generalize (lg_sl ([.ref q, .ref q2]) ++ List.replicate (3 - (lg_sl ([.ref q, .ref q2])).length) Slot.unset).toArray = ls at hl ⊢
  have hl : lv_has ls 3 [(0, .ref q), (1, .ref q2)] := hl
  obtain ⟨⟨hR, hC⟩, hR2, hK⟩ := hv
  refine lv_aload_n hx hb dJ9_equals_0 rfl (lv_at hl 0 rfl) ?_
  refine lv_aload_n hx hb dJ9_equals_1 rfl (lv_at hl 1 rfl) ?_
  refine lv_acmp_ne (rx := some q) (ry := some q2) (tgt := 7) hx hb dJ9_equals_2 (by decide) (fun c9 => ?_) (fun c9 => absurd (Option.some.inj c9) hne)
  refine lv_aload_n hx hb dJ9_equals_7 rfl (lv_at hl 1 rfl) ?_
  refine va_instS hx hb hown (hts _ q1067) (K_at hK (ci := 19) rfl) (by obtain ⟨cell, g1, g2, g3, -⟩ := hR2.1; exact ⟨cell, g1, g2, g3⟩) dJ9_equals_8 ?_
  refine lv_if_eq (tgt := 54) hx hb dJ9_equals_11 (by decide) (fun c9 => absurd c9 (by decide)) (fun c9 => ?_)
  refine lv_aload_n hx hb dJ9_equals_14 rfl (lv_at hl 1 rfl) ?_
  refine va_castS hx hb hown (hts _ q1067) (K_at hK (ci := 19) rfl) (by obtain ⟨cell, g1, g2, g3, -⟩ := hR2.1; exact ⟨cell, g1, g2, g3⟩) dJ9_equals_15 ?_
  refine lv_astore_n (lv' := [(2, .ref q2), (0, .ref q), (1, .ref q2)]) hx hb dJ9_equals_18 rfl hl (by decide) rfl (fun ls hl => ?_)
  refine va_gets hx hb hC.1 hS hown (hts _ q335) (fun _ h9 => h9) dJ9_equals_19 ?_
  refine lv_if_eq (tgt := 36) hx hb dJ9_equals_22 (by decide) (fun c9 => absurd c9 (by decide)) (fun c9 => ?_)
  refine lv_aload_n hx hb dJ9_equals_25 rfl (lv_at hl 1 rfl) ?_
  refine vk_getf hx hb hR.2.1 hS hown (hts _ q477) (fun _ h9 => h9) dJ9_equals_26 ?_
  refine lv_aload_n hx hb dJ9_equals_29 rfl (lv_at hl 0 rfl) ?_
  refine vk_getf hx hb hR2.2.1 hS hown (hts _ q477) (fun _ h9 => h9) dJ9_equals_30 ?_
  refine lv_icmp_ne (tgt := 54) hx hb dJ9_equals_33 (by decide) (fun c9 => absurd rfl c9) (fun c9 => ?_)
  refine lv_aload_n hx hb dJ9_equals_36 rfl (lv_at hl 1 rfl) ?_
  refine vk_getf hx hb hR.2.2.1 hS hown (hts _ q476) (fun _ h9 => h9) dJ9_equals_37 ?_
  refine lv_aload_n hx hb dJ9_equals_40 rfl (lv_at hl 0 rfl) ?_
  refine vk_getf hx hb hR2.2.2.1 hS hown (hts _ q476) (fun _ h9 => h9) dJ9_equals_41 ?_
  refine R_callIS (Φ := (fun U => va_T .byte v tx.length (fun j => .int (nI (tx.getD j 0))) NoA U U.heap ∧ va_T .byte v2 tx2.length (fun j => .int (nI (tx2.getD j 0))) NoA U U.heap)) (As := [.ref v, .ref v2]) (rest := []) ⟨hx, hb, hml, hown, hts⟩ hS (metJ15_equals l hR.2.2.2.2.2 hR2.2.2.2.2.2 hR.2.2.2.2.1 hR2.2.2.2.2.1) (fun U g mk a h => ⟨va_T.moved (U := U.calling g mk a) (Vm.Alike.refl U.vm) h.1, va_T.moved (U := U.calling g mk a) (Vm.Alike.refl U.vm) h.2⟩) (fun U hU hW => by rw [hU]; exact ⟨(hR.2.2.2.1.moved hW.alike), (hR2.2.2.2.1.moved hW.alike)⟩) (va_cwS 2 hts (lw_S q1120 q1121 q122 q1122) rfl rfl rfl (by decide +kernel) ⟨Nat.le_of_ble_eq_true rfl, Nat.le_of_ble_eq_true rfl⟩) rfl hl.1 rfl (Nat.le_of_ble_eq_true rfl) dJ9_equals_44 ⟨Nat.zero_le _, Nat.zero_le _⟩ (fun r H locs hw hk hS => ?_)
  subst hw
  refine lv_if_eq (tgt := 54) hx hb dJ9_equals_47 (by decide) (fun c1 => ?_) (fun c1 => ?_)
  · refine lv_iconst (v := 0) hx hb dJ9_equals_54 (by decide) ?_
    exact W.zret (v := 0) hx hb hr rfl (fun t ht _ => ⟨⟨_, (), rfl, c1.symm, trivial⟩, hS.F ht⟩) hS.2.2 dJ9_equals_55 hlocks
  · refine lv_iconst (v := 1) hx hb dJ9_equals_50 (by decide) ?_
    refine lv_goto (tgt := 55) hx hb dJ9_equals_51 (by decide) ?_
    exact W.zret (v := 1) hx hb hr rfl (fun t ht _ => ⟨⟨_, (), rfl, b2i_1 c1, trivial⟩, hS.F ht⟩) hS.2.2 dJ9_equals_55 hlocks
set_option maxHeartbeats 4000000 in
set_option maxRecDepth 100000 in
theorem metJ15_canEncode (l : Launch) {ch : Nat} (hc : ch < 128) : Met l yJ15_canEncode (ws_ yJ15_canEncode cJ15_canEncode 1 (some .boolean)) ({ frames := 1, cells := 0, slots := 0, locals := 30 }) (va_Pc [.int (nI ch)] (fun _ => True)) (RQi (fun r => r = 1)) 0 0 (NoA) := by
  refine Met.ofW (cc := cJ15_canEncode) (maxL := 1) (ret := (some .boolean)) (by decide) rfl ?_
  intro p e s m args below meth c s₁ B hml hv
  obtain ⟨rfl, hv⟩ := hv
  have hx := B.exec
  have hb := B.bytes
  have hr := B.returns
  have hts := atoms_spec (ws := ws_ yJ15_canEncode cJ15_canEncode 1 (some .boolean)) B.pre
  have hts : ∀ w ∈ lw_all, w.before _ s = true := fun w h => hts w (List.mem_cons_of_mem _ h)
  have hown : s.vm.findClass RJ15 = some m.cls := findClass_of_methodNamed B.named
  have hlocks := B.notSynchronized
  have hS : va_S (NoA) s.heap s.heap [] := va_S.rf
  have hl := lv_entry ([.int (nI ch)]) (n := 1) (Nat.le_of_ble_eq_true rfl)
  rw [lg_entry_eq]
  generalize (lg_sl ([.int (nI ch)]) ++ List.replicate (1 - (lg_sl ([.int (nI ch)])).length) Slot.unset).toArray = ls at hl ⊢
  have hl : lv_has ls 1 [(0, .int (nI ch))] := hl
  refine lv_iload_n hx hb dJ15_canEncode_0 rfl (lv_at hl 0 rfl) ?_
  refine lv_sipush (v := 255) hx hb dJ15_canEncode_1 (by decide) ?_
  refine lv_icmp_gt (tgt := 11) hx hb dJ15_canEncode_4 (by decide) (fun c9 => absurd c9 (show ¬ nI 255 < nI ch from nI_nlt (by omega) (by omega))) (fun c9 => ?_)
  refine lv_iconst (v := 1) hx hb dJ15_canEncode_7 (by decide) ?_
  refine lv_goto (tgt := 12) hx hb dJ15_canEncode_8 (by decide) ?_
  exact W.zret (v := 1) hx hb hr rfl (fun t ht _ => ⟨⟨_, (), rfl, rfl, trivial⟩, hS.F ht⟩) hS.2.2 dJ15_canEncode_12 hlocks
set_option maxHeartbeats 4000000 in
set_option maxRecDepth 100000 in
theorem metJ15_toBytes (l : Launch) {D : va_G} {cA : Nat → ClassId} {ch sz : Nat} (hc : ch < 128) : Met l yJ15_toBytes (ws_ yJ15_toBytes cJ15_toBytes 1 (some (.array .byte))) ({ frames := 1, cells := 1, slots := 1, locals := 30 }) (va_Pc [.int (nI ch)] (fun U => KK D cA U ∧ U.heap.size = sz)) (va_Qr (fun _ : Unit => True) (fun _ a t => a = sz ∧ va_at D vwCl (sz, .inl (cA 1, 1, .inl (upd (fun _ => 0) 0 (nI ch)))) t.heap) (NwA sz)) 1 1 (NwA sz) := by
  refine Met.ofW (cc := cJ15_toBytes) (maxL := 1) (ret := (some (.array .byte))) (by decide) rfl ?_
  intro p e s m args below meth c s₁ B hml hv
  obtain ⟨rfl, hv⟩ := hv
  have hx := B.exec
  have hb := B.bytes
  have hr := B.returns
  have hts := atoms_spec (ws := ws_ yJ15_toBytes cJ15_toBytes 1 (some (.array .byte))) B.pre
  have hts : ∀ w ∈ lw_all, w.before _ s = true := fun w h => hts w (List.mem_cons_of_mem _ h)
  have hown : s.vm.findClass RJ15 = some m.cls := findClass_of_methodNamed B.named
  have hlocks := B.notSynchronized
  have hS : va_S (NwA sz) s.heap s.heap [] := va_S.rf
  have hl := lv_entry ([.int (nI ch)]) (n := 1) (Nat.le_of_ble_eq_true rfl)
  rw [lg_entry_eq]
  generalize (lg_sl ([.int (nI ch)]) ++ List.replicate (1 - (lg_sl ([.int (nI ch)])).length) Slot.unset).toArray = ls at hl ⊢
  have hl : lv_has ls 1 [(0, .int (nI ch))] := hl
  obtain ⟨hK, hsz⟩ := hv
  subst hsz
  refine lv_iconst (v := 1) hx hb dJ15_toBytes_0 (by decide) ?_
  refine h_newab (n9 := 1) hx hb (hts _ q248) hK 1 rfl hS (by decide) (by decide) (by decide) (Nat.le_of_ble_eq_true rfl) (Nat.le_of_ble_eq_true rfl) dJ15_toBytes_1 (fun H1 h1 oq hz hS => ?_)
  refine lv_dup hx hb dJ15_toBytes_3 rfl ?_
  refine lv_iconst (v := 0) hx hb dJ15_toBytes_4 (by decide) ?_
  refine lv_iload_n hx hb dJ15_toBytes_5 rfl (lv_at hl 0 rfl) ?_
  refine lv_i2b (v := nI ch) hx hb dJ15_toBytes_6 (i8_eq hc) ?_
  refine h_bast (A := NwA s.heap.size) hx hb hK h1 (Nat.le_refl _) hS 1 rfl (j := 0) rfl (by unfold vp_in; decide) dJ15_toBytes_7 (fun H locs h1 oq2 hz2 hS => ?_)
  rw [vp_nar_byte, i8_eq hc] at h1
  exact W.aret (v := .ref s.heap.size) hx hb hr (Or.inr ⟨_, rfl⟩) (Or.inr ⟨_, rfl⟩) (fun t ht _ => ⟨⟨(), _, rfl, trivial, rfl, (show va_at _ _ _ t.heap from ht ▸ h1)⟩, hS.F ht⟩) hS.2.2 dJ15_toBytes_8 hlocks
abbrev ONE (q : Nat) : Nat → Prop := fun x => x = q
def OBU (D : va_G) (cA : Nat → ClassId) (q ci : Nat) (fs : List Value) (U : State) : Prop := va_at D vwCl (q, .inr (ci, fs)) U.heap ∧ KK D cA U
theorem OBU.blind {D : va_G} {cA : Nat → ClassId} {q ci : Nat} {fs : List Value} : Blind (OBU D cA q ci fs) := fun U g mk a h => ⟨h.1, va_K.moved (u := U) (U := U.calling g mk a) (Vm.Alike.refl U.vm) h.2⟩
theorem OBU.go {D : va_G} {cA : Nat → ClassId} {q ci : Nat} {fs : List Value} {s U : State} {H : Heap} (h : va_at D vwCl (q, .inr (ci, fs)) H) (hK : KK D cA s) (hU : U.heap = H) (hW : s.WarmedH U.vm) : OBU D cA q ci fs U := ⟨by rw [hU]; exact h, va_K.moved hW.alike hK⟩
def KZU (D : va_G) (cA : Nat → ClassId) (sz : Nat) (U : State) : Prop := KK D cA U ∧ U.heap.size = sz
theorem KZU.blind {D : va_G} {cA : Nat → ClassId} {sz : Nat} : Blind (KZU D cA sz) := fun U g mk a h => ⟨va_K.moved (u := U) (U := U.calling g mk a) (Vm.Alike.refl U.vm) h.1, h.2⟩
set_option maxHeartbeats 4000000 in
set_option maxRecDepth 100000 in
theorem metJ9_init_3 (l : Launch) {D : va_G} {cA : Nat → ClassId} {q v : Nat} : Met l yJ9_init_3 (ws_ yJ9_init_3 cJ9_init_3 3 none) ({ frames := 2, cells := 0, slots := 0, locals := 60 }) (va_Pc [.ref q, .ref v, .int 0] (OBU D cA q 19 [.null, .int 0, .int 0, .int 0])) (va_Qv (fun _ : Unit => True) (fun _ t => va_at D vwCl (q, .inr (19, [.ref v, .int 0, .int 0, .int 0])) t.heap) (ONE q)) 0 0 (ONE q) := by
  refine Met.ofW (cc := cJ9_init_3) (maxL := 3) (ret := none) (by decide) rfl ?_
  intro p e s m args below meth c s₁ B hml hv
  obtain ⟨rfl, hv⟩ := hv
  have hx := B.exec
  have hb := B.bytes
  have hr := B.returns
  have hts := atoms_spec (ws := ws_ yJ9_init_3 cJ9_init_3 3 none) B.pre
  have hts : ∀ w ∈ lw_all, w.before _ s = true := fun w h => hts w (List.mem_cons_of_mem _ h)
  have hown : s.vm.findClass RJ9 = some m.cls := findClass_of_methodNamed B.named
  have hlocks := B.notSynchronized
  have hS : va_S (ONE q) s.heap s.heap [] := va_S.rf
  have hl := lv_entry ([.ref q, .ref v, .int 0]) (n := 3) (Nat.le_of_ble_eq_true rfl)
  rw [lg_entry_eq]
  generalize (lg_sl ([.ref q, .ref v, .int 0]) ++ List.replicate (3 - (lg_sl ([.ref q, .ref v, .int 0])).length) Slot.unset).toArray = ls at hl ⊢
  have hl : lv_has ls 3 [(0, .ref q), (1, .ref v), (2, .int 0)] := hl
  have hin : meth.name = "<init>" := (name_of_methodNamed B.named B.method).1
  obtain ⟨h1, hK⟩ := hv
  refine lv_aload_n hx hb dJ9_init_3_0 rfl (lv_at hl 0 rfl) ?_
  refine W.objInit hx hb hown (hts _ q407) (hts _ q152) (hts _ q153) rfl (by rw [hml]; exact hl.1) rfl dJ9_init_3_1 (Nat.le_of_ble_eq_true rfl) (Nat.le_of_ble_eq_true rfl) ?_
  show W p l e _ s m _ below meth c _ _ _ _ _ (F0 m 4 ls [])
  refine lv_aload_n hx hb dJ9_init_3_4 rfl (lv_at hl 0 rfl) ?_
  refine lv_aload_n hx hb dJ9_init_3_5 rfl (lv_at hl 1 rfl) ?_
  refine h_putF (A := ONE q) (C := RJ9) (T := TJ9) (N := 4) (ci := 19) (v := .ref v) hx hb hts in_J9 tyJ9 tyJ9_ok nmJ9 hown hK h1 rfl hS rfl 0 (by decide) (hts _ q476) (fun _ h9 => h9) rfl hin rfl (ty := .array .byte) (by decide +kernel) rfl rfl (Nat.lt_of_lt_of_le (by decide : 0 < 4) (Nat.le_of_eq rfl)) dJ9_init_3_6 (fun H locs h1 oq hz hS => ?_)
  refine lv_aload_n hx hb dJ9_init_3_9 rfl (lv_at hl 0 rfl) ?_
  refine lv_iload_n hx hb dJ9_init_3_10 rfl (lv_at hl 2 rfl) ?_
  refine h_putF (A := ONE q) (C := RJ9) (T := TJ9) (N := 4) (ci := 19) (v := .int 0) hx hb hts in_J9 tyJ9 tyJ9_ok nmJ9 hown hK h1 rfl hS rfl 1 (by decide) (hts _ q477) (fun _ h9 => h9) rfl hin rfl (ty := .byte) (by decide +kernel) rfl rfl (Nat.lt_of_lt_of_le (by decide : 1 < 4) (Nat.le_of_eq rfl)) dJ9_init_3_11 (fun H locs h1 oq hz hS => ?_)
  exact W.vret hx hb hr (fun t ht _ => ⟨⟨(), rfl, trivial, (show va_at _ _ _ t.heap from ht ▸ h1)⟩, hS.F ht⟩) hS.2.2 dJ9_init_3_14 hlocks
def VOU (D : va_G) (cA : Nat → ClassId) (sz : Nat) (U : State) : Prop := KK D cA U ∧ SC NoA U U.heap ∧ U.heap.size = sz
theorem VOU.blind {D : va_G} {cA : Nat → ClassId} {sz : Nat} : Blind (VOU D cA sz) := fun U g mk a h => ⟨va_K.moved (u := U) (U := U.calling g mk a) (Vm.Alike.refl U.vm) h.1, SC.moved (U := U.calling g mk a) (Vm.Alike.refl U.vm) h.2.1, h.2.2⟩
abbrev STQ (sz : Nat) (tx : List Nat) : Array Value → State → Outcome → State → Prop := va_Qr (fun _ : Nat => True) (fun v a t => SR (fun x => x < sz) t t.heap a v tx) (NwA sz)
set_option maxHeartbeats 4000000 in
set_option maxRecDepth 100000 in
theorem metJ9_valueOf (l : Launch) {D : va_G} {cA : Nat → ClassId} {ch sz : Nat} (hc : ch < 128) : Met l yJ9_valueOf (ws_ yJ9_valueOf cJ9_valueOf 1 (some (.object "java/lang/String"))) ({ frames := 3, cells := 2, slots := 5, locals := 120 }) (va_Pc [.int (nI ch)] (VOU D cA sz)) (STQ sz [ch]) 2 5 (NwA sz) := by
  refine Met.ofW (cc := cJ9_valueOf) (maxL := 1) (ret := (some (.object "java/lang/String"))) (by decide) rfl ?_
  intro p e s m args below meth c s₁ B hml hv
  obtain ⟨rfl, hv⟩ := hv
  have hx := B.exec
  have hb := B.bytes
  have hr := B.returns
  have hts := atoms_spec (ws := ws_ yJ9_valueOf cJ9_valueOf 1 (some (.object "java/lang/String"))) B.pre
  have hts : ∀ w ∈ lw_all, w.before _ s = true := fun w h => hts w (List.mem_cons_of_mem _ h)
  have hown : s.vm.findClass RJ9 = some m.cls := findClass_of_methodNamed B.named
  have hlocks := B.notSynchronized
  have hS : va_S (NwA sz) s.heap s.heap [] := va_S.rf
  have hl := lv_entry ([.int (nI ch)]) (n := 1) (Nat.le_of_ble_eq_true rfl)
  rw [lg_entry_eq]
  generalize (lg_sl ([.int (nI ch)]) ++ List.replicate (1 - (lg_sl ([.int (nI ch)])).length) Slot.unset).toArray = ls at hl ⊢
  have hl : lv_has ls 1 [(0, .int (nI ch))] := hl
  obtain ⟨hK, hC, hsz⟩ := hv
  subst hsz
  refine va_gets hx hb hC.1.nw hS hown (hts _ q335) (fun _ h9 => h9) dJ9_valueOf_0 ?_
  refine lv_if_eq (tgt := 26) hx hb dJ9_valueOf_3 (by decide) (fun c9 => absurd c9 (by decide)) (fun c9 => ?_)
  refine lv_iload_n hx hb dJ9_valueOf_6 rfl (lv_at hl 0 rfl) ?_
  refine R_callIS (Φ := fun _ => True) (As := [.int (nI ch)]) (rest := []) ⟨hx, hb, hml, hown, hts⟩ hS (metJ15_canEncode l hc) (fun _ _ _ _ h => h) (fun U hU hW => trivial) (va_cwS 1 hts (lw_S q1066 q1036 q122 q1037) rfl rfl rfl (by decide +kernel) ⟨Nat.le_of_ble_eq_true rfl, Nat.le_of_ble_eq_true rfl⟩) rfl hl.1 rfl (Nat.le_of_ble_eq_true rfl) dJ9_valueOf_7 ⟨Nat.zero_le _, Nat.zero_le _⟩ (fun r H locs hw hk hS => ?_)
  subst hw
  refine lv_if_eq (tgt := 26) hx hb dJ9_valueOf_10 (by decide) (fun c9 => absurd c9 (by decide)) (fun c9 => ?_)
  have hq0 := hS.1
  refine h_newO (ci := 19) (fs := [.null, .int 0, .int 0, .int 0]) (C := RJ9) (T := TJ9) (N := 4) hx hb hts in_J9 tyJ9 tyJ9_ok hown (hts _ q1067) (hts _ q400) (hts _ q115) hK hS rfl (fun j hj => by rcases (show j = 0 ∨ j = 1 ∨ j = 2 ∨ j = 3 by omega) with rfl | rfl | rfl | rfl <;> rfl) (Nat.le_of_ble_eq_true rfl) (Nat.le_of_ble_eq_true rfl) dJ9_valueOf_13 (fun H1 h1 oq1 hz1 hS => ?_)
  generalize hq9 : H.size = q at *
  refine lv_dup hx hb dJ9_valueOf_16 rfl ?_
  refine lv_iload_n hx hb dJ9_valueOf_17 rfl (lv_at hl 0 rfl) ?_
  refine va_callr (va_runS (As := [.int (nI ch)]) (rest := [.ref q, .ref q]) ⟨hx, hb, hml, hown, hts⟩ (metJ15_toBytes l (D := D) (cA := cA) (sz := H1.size) hc) (va_cwS 1 hts (lw_S q1068 q1069 q122 q1070) rfl rfl rfl (by decide +kernel) ⟨Nat.le_of_ble_eq_true rfl, Nat.le_of_ble_eq_true rfl⟩) ⟨KZU.blind.pc, fun U hU hW => ⟨rfl, va_K.moved hW.alike hK, by rw [hU]⟩⟩ rfl rfl hl.1 rfl (lv_room (Nat.le_of_ble_eq_true rfl)) dJ9_valueOf_18 ⟨Nat.le_of_ble_eq_true rfl, Nat.le_of_ble_eq_true rfl⟩) hS (fun x _ h => Nat.le_trans hS.1 h) (fun x h => Nat.le_trans hS.1 h) (fun u ra t H2 locs ht hvm hw hB hz2 hk2 hS => ?_)
  obtain ⟨rfl, h2⟩ := hB
  subst ht
  have h1 := h1.kept (hk2 _ h1.lt (Nat.not_le.mpr h1.lt))
  have hlt1 := h1.lt
  have hvge : s.heap.size ≤ H1.size := by omega
  refine lv_iconst (v := 0) hx hb dJ9_valueOf_21 (by decide) ?_
  refine va_callv (va_runI (As := [.ref H1.size, .int 0]) (rest := [.ref q]) ⟨hx, hb, hml, hown, hts⟩ (metJ9_init_3 l (D := D) (cA := cA) (q := q) (v := H1.size)) (cwI 2 hts (lw_meth q1073) rfl rfl rfl (hts _ q115) (hts _ q1071) (hts _ q1072) rfl (by decide +kernel) ⟨Nat.le_of_ble_eq_true rfl, Nat.le_of_ble_eq_true rfl⟩) ⟨OBU.blind.pc, fun U hU hW => ⟨rfl, OBU.go h1 hK hU hW⟩⟩ rfl rfl hl.1 rfl (lv_room (Nat.le_of_ble_eq_true rfl)) dJ9_valueOf_22 ⟨Nat.le_of_ble_eq_true rfl, Nat.le_of_ble_eq_true rfl⟩) hS (fun x _ h => (show s.heap.size ≤ x by rw [show x = q from h]; exact hq0)) (fun x h => (show s.heap.size ≤ x by rw [show x = q from h]; exact hq0)) (fun u2 t2 H3 locs ht hvm2 hw2 h1 hz3 hk3 hS => ?_)
  subst ht
  have h2 := h2.kept (hk3 _ h2.lt (fun e9 => by have : H1.size = q := e9; omega))
  exact W.aret (v := .ref q) hx hb hr (Or.inl ⟨_, rfl⟩) (Or.inr ⟨_, rfl⟩) (fun t ht hW => ⟨⟨H1.size, _, rfl, trivial, by show SR _ _ _ _ _ _; rw [ht]; exact SR.moved hW.alike (SR.of_at hts hK h1 h2 rfl (fun j hj => by rw [show j = 0 by omega]; rfl) (Nat.not_lt.mpr hq0) (Nat.not_lt.mpr hvge) (fun c9 h9 => by rw [List.mem_singleton.mp h9]; exact hc) (by rw [List.length_singleton]; decide))⟩, hS.F ht⟩) hS.2.2 dJ9_valueOf_25 hlocks
