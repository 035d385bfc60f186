/-! 35.book: the states that a book keeps (a list of 40); Book.keeps -/
def Bfs (bk : Nat → Nat) (x y z : Int32) : List Value := [.ref (bk 45), .ref (bk 32), .ref (bk 22), .ref (bk 23), .ref (bk 24), .ref (bk 25), .ref (bk 26), .ref (bk 27), .int x, .int y, .int z]
/-- where a book and its pool lie: P are the pool's places -/
def PJ (z0 : Nat) (bk : Nat → Nat) (P : Nat → Prop) : Prop := (∀ q, P q → z0 ≤ q) ∧ (P (bk 32) ∧ P (bk 33) ∧ bk 32 ≠ bk 33) ∧ (z0 ≤ bk 31 ∧ ¬ P (bk 31)) ∧ (∀ q, SA (shf bk 40) q → ¬ P q ∧ q ≠ bk 31)
/-- the pool's states, in the list's order -/
def PL (D : va_G) (cA : Nat → ClassId) (bk : Nat → Nat) (P : Nat → Prop) (M : Nat → Mem) (H : Heap) : Prop := ∃ (f : Nat → Option Nat) (ps : Nat → Nat → Nat), ALW D cA (bk 32) (bk 33) 40 40 f H ∧ (∀ i, i < 40 → f i = some (ps i 5)) ∧ (∀ i, i < 40 → SW D cA (ps i) (M i) H) ∧ (∀ i j a b, i < 40 → j < 40 → Spl a → Spl b → ps i a = ps j b → i = j ∧ a = b) ∧ (∀ i a, i < 40 → Spl a → P (ps i a) ∧ ps i a ≠ bk 32 ∧ ps i a ≠ bk 33)
def rotM (M : Nat → Mem) : Nat → Mem := fun i => if i < 40 then M ((i + 1) % 40) else M i
def setM (M : Nat → Mem) (i : Nat) (S : Mem) : Nat → Mem := fun j => if j = i then S else M j
theorem SW.keptP {D : va_G} {cA : Nat → ClassId} {sa : Nat → Nat} {S : Mem} {H H1 : Heap} (h : SW D cA sa S H) (hk : ∀ a, Spl a → sa a < H.size → H1[sa a]? = H[sa a]?) : SW D cA sa S H1 := ⟨h.1.kept (hk 5 (Or.inr rfl) h.1.lt), fun k h1 => (h.2 k h1).kept (hk k (Or.inl h1) (h.2 k h1).lt)⟩
theorem PL.kept {D : va_G} {cA : Nat → ClassId} {z0 : Nat} {bk : Nat → Nat} {P : Nat → Prop} {M : Nat → Mem} {H H1 : Heap} (h : PL D cA bk P M H) (hJ : PJ z0 bk P) (hk : ∀ q, P q → q < H.size → H1[q]? = H[q]?) : PL D cA bk P M H1 := by
  obtain ⟨f, ps, h1, h2, h3, h4, h5⟩ := h
  exact ⟨f, ps, h1.kept (fun h => hk _ hJ.2.1.1 h) (fun h => hk _ hJ.2.1.2.1 h), h2, fun i hi => (h3 i hi).keptP (fun a ha hz => hk _ (h5 i a hi ha).1 hz), h4, h5⟩
theorem PL.at {D : va_G} {cA : Nat → ClassId} {bk : Nat → Nat} {P : Nat → Prop} {M : Nat → Mem} {H : Heap} {t : State} (h : PL D cA bk P M H) (ht : t.heap = H) : PL D cA bk P M t.heap := ht ▸ h
theorem shf1_at {f : Nat → Option Nat} {v : Option Nat} {i : Nat} (hi : i < 40) (h0 : f 0 = v) : va_up (shf1 f 40) 39 v i = f ((i + 1) % 40) := by
  unfold shf1 va_up va_cpy
  by_cases e : i = 39
  · subst e
    simp [h0]
  · have e2 : (i + 1) % 40 = i + 1 := by omega
    have e3 : i < 39 := by omega
    simp [e, e2, e3, Nat.add_comm]
/-- the first comes last -/
theorem PL.rot {D : va_G} {cA : Nat → ClassId} {bk : Nat → Nat} {P : Nat → Prop} {M : Nat → Mem} {H : Heap} {f : Nat → Option Nat} {ps : Nat → Nat → Nat} (h1 : ALW D cA (bk 32) (bk 33) 40 40 (va_up (shf1 f 40) 39 (some (ps 0 5))) H) (h2 : ∀ i, i < 40 → f i = some (ps i 5)) (h3 : ∀ i, i < 40 → SW D cA (ps i) (M i) H) (h4 : ∀ i j a b, i < 40 → j < 40 → Spl a → Spl b → ps i a = ps j b → i = j ∧ a = b) (h5 : ∀ i a, i < 40 → Spl a → P (ps i a) ∧ ps i a ≠ bk 32 ∧ ps i a ≠ bk 33) : PL D cA bk P (rotM M) H := by
  refine ⟨_, fun i => ps ((i + 1) % 40), h1, fun i hi => ?_, fun i hi => ?_, fun i j a b hi hj ha hb e => ?_, fun i a hi ha => h5 _ a (Nat.mod_lt _ (by decide)) ha⟩
  · rw [shf1_at hi (h2 0 (by decide))]
    exact h2 _ (Nat.mod_lt _ (by decide))
  · unfold rotM
    rw [if_pos hi]
    exact h3 _ (Nat.mod_lt _ (by decide))
  · obtain ⟨e1, e2⟩ := h4 _ _ a b (Nat.mod_lt _ (by decide)) (Nat.mod_lt _ (by decide)) ha hb e
    exact ⟨by omega, e2⟩
def PhK (D : va_G) (cA : Nat → ClassId) (z0 : Nat) (E : Nat → Nat → Nat) (bk : Nat → Nat) (P : Nat → Prop) (x y z : Int32) (S : Mem) (M : Nat → Mem) (U : State) : Prop := va_at D vwCl (bk 31, .inr (4, Bfs bk x y z)) U.heap ∧ SW D cA (shf bk 40) S U.heap ∧ PL D cA bk P M U.heap ∧ KK D cA U ∧ FZ z0 E U U.heap
theorem PhK.blind {D : va_G} {cA : Nat → ClassId} {z0 : Nat} {E : Nat → Nat → Nat} {bk : Nat → Nat} {P : Nat → Prop} {x y z : Int32} {S : Mem} {M : Nat → Mem} : Blind (PhK D cA z0 E bk P x y z S M) := fun U g mk a h => ⟨h.1, h.2.1, h.2.2.1, va_K.moved (u := U) (U := U.calling g mk a) (Vm.Alike.refl U.vm) h.2.2.2.1, h.2.2.2.2.calling⟩
abbrev KA (bk : Nat → Nat) (P : Nat → Prop) : Nat → Prop := fun q => q = bk 31 ∨ P q
def keepX (a : Nat) : Int32 := if a = 40 then 40 else nI (a + 1)
def keepP (a : Nat) (S : Mem) (M : Nat → Mem) : Nat → Mem := if a = 40 then setM (rotM M) 39 (likeM (rotM M 39) S) else setM M a (likeM (M a) S)
set_option maxHeartbeats 4000000 in
set_option maxRecDepth 100000 in
theorem metX5_keeps (l : Launch) {D : va_G} {cA : Nat → ClassId} {z0 : Nat} {E : Nat → Nat → Nat} {bk : Nat → Nat} {P : Nat → Prop} (hJ : PJ z0 bk P) (hSJ : SJ z0 (shf bk 40)) {a : Nat} (ha : a ≤ 40) {y z : Int32} {S : Mem} {M : Nat → Mem} : Met l yX5_keeps (ws_ yX5_keeps cX5_keeps 1 none) ({ frames := 5, cells := 0, slots := 0, locals := 400 }) (va_Pc [.ref (bk 31)] (PhK D cA z0 E bk P (nI a) y z S M)) (va_Qv (fun _ : Unit => True) (fun _ t => va_at D vwCl (bk 31, .inr (4, Bfs bk (keepX a) y z)) t.heap ∧ PL D cA bk P (keepP a S M) t.heap) (KA bk P)) 0 0 (KA bk P) := by
  refine Met.ofW (cc := cX5_keeps) (maxL := 1) (ret := none) (by decide) rfl ?_
  intro p e s m args below meth c s₁ B hml hv
  obtain ⟨rfl, hv⟩ := hv
  have hx := B.exec
  have hb := B.bytes
  have hr := B.returns
  have hts := atoms_spec (ws := ws_ yX5_keeps cX5_keeps 1 none) B.pre
  have hts : ∀ w ∈ lw_all, w.before _ s = true := fun w h => hts w (List.mem_cons_of_mem _ h)
  have hown : s.vm.findClass RX5 = some m.cls := findClass_of_methodNamed B.named
  have hlocks := B.notSynchronized
  have hS : va_S (KA bk P) s.heap s.heap [] := va_S.rf
  have hl := lv_entry ([.ref (bk 31)]) (n := 1) (Nat.le_of_ble_eq_true rfl)
  rw [lg_entry_eq]
  generalize (lg_sl ([.ref (bk 31)]) ++ List.replicate (1 - (lg_sl ([.ref (bk 31)])).length) Slot.unset).toArray = ls at hl ⊢
  have hl : lv_has ls 1 [(0, .ref (bk 31))] := hl
  obtain ⟨hB, hN, hP, hK, hZ⟩ := hv
  have hAz : ∀ q, KA bk P q → z0 ≤ q := fun q h => h.elim (fun h => by rw [h]; exact hJ.2.2.1.1) (hJ.1 q)
  have h31 : ∀ q, P q → q ≠ bk 31 := fun q h e => hJ.2.2.1.2 (e ▸ h)
  have hOV : ∀ (H : Heap) (sa : Nat → Nat) (S : Mem), SW D cA sa S H → OV "java/lang/Object" s H (sa 5) := fun H sa S h => by
    obtain ⟨cell, c1, c2, c3⟩ := h.recv hK
    exact ⟨cell, RX6, c1, c2, c3, va_Nw.of rfl (hZ.2.1.nC (A := #[]) 15 rfl)⟩
  have tail : ∀ (a1 : Nat) (M1 : Nat → Mem) (H : Heap) (locs : List Loc), a1 < 40 → nI a1 + 1 = keepX a → setM M1 a1 (likeM (M1 a1) S) = keepP a S M → va_S (KA bk P) s.heap H locs → va_at D vwCl (bk 31, .inr (4, Bfs bk (nI a1) y z)) H → SW D cA (shf bk 40) S H → PL D cA bk P M1 H → W p l e (headSpec (ws_ yX5_keeps cX5_keeps 1 none) ({ frames := 5, cells := 0, slots := 0, locals := 400 })).room s m ([.ref (bk 31)] : List Value).toArray below meth c H locs 0 0 (MQ below (va_Qv (fun _ : Unit => True) (fun _ t => va_at D vwCl (bk 31, .inr (4, Bfs bk (keepX a) y z)) t.heap ∧ PL D cA bk P (keepP a S M) t.heap) (KA bk P)) ([.ref (bk 31)] : List Value).toArray s 0 0 (KA bk P)) (F0 m 38 ls []) := by
    intro a1 M1 H locs ha1 ex eM hS hB hN hP
    obtain ⟨f, ps, h1, h2, h3, h4, h5⟩ := hP
    refine lv_aload_n hx hb dX5_keeps_38 rfl (lv_at hl 0 rfl) ?_
    refine h_get (C := RX5) (T := TX5) (N := 11) (ci := 4) hx hb hts in_X5 hown hK hB rfl 1 (v := .ref (bk 32)) (by decide) (hts _ q661) (fun _ h9 => h9) rfl dX5_keeps_39 ?_
    refine lv_aload_n hx hb dX5_keeps_42 rfl (lv_at hl 0 rfl) ?_
    refine h_get (C := RX5) (T := TX5) (N := 11) (ci := 4) hx hb hts in_X5 hown hK hB rfl 8 (v := .int (nI a1)) (by decide) (hts _ q675) (fun _ h9 => h9) rfl dX5_keeps_43 ?_
    refine R_callR (As := [.int (nI a1)]) (rest := []) (C := RJ2) (q0 := ps a1 5) ⟨hx, hb, hml, hown, hts⟩ hS (metJ2_get l (D := D) (cA := cA) ha1 (h2 a1 ha1)) ALU.blind (fun U hU hW => ALU.go h1 hK hU hW) (h1.recv hK) (cwV 1 hts (lw_V q826 q827 q828 q108 q829) rfl rfl rfl (by decide +kernel) ⟨Nat.le_of_ble_eq_true rfl, Nat.le_of_ble_eq_true rfl⟩) rfl hl.1 rfl (Nat.le_of_ble_eq_true rfl) dX5_keeps_46 ⟨Nat.zero_le _, Nat.zero_le _⟩ (fun H1 locs hk hS => ?_)
    have hB := hB.kept (hk _ hB.lt)
    have hN := hN.kept hk
    have h1 := h1.kept (fun h => hk _ h) (fun h => hk _ h)
    have h3 := fun i hi => (h3 i hi).kept hk
    refine va_castE hx hb hown (hts _ q574) ((h3 a1 ha1).recv hK) dX5_keeps_49 ?_
    refine lv_aload_n hx hb dX5_keeps_52 rfl (lv_at hl 0 rfl) ?_
    refine h_get (C := RX5) (T := TX5) (N := 11) (ci := 4) hx hb hts in_X5 hown hK hB rfl 0 (v := .ref (bk 45)) (by decide) (hts _ q659) (fun _ h9 => h9) rfl dX5_keeps_53 ?_
    have hsd : SD (ps a1) (shf bk 40) := fun i j hi hj e => (hJ.2.2.2 _ ⟨j, hj, rfl⟩).1 (e ▸ (h5 a1 i ha1 hi).1)
    have hsj : SJ z0 (ps a1) := ⟨fun i j hi hj e => (h4 a1 a1 i j ha1 ha1 hi hj e).2, fun i hi => hJ.1 _ (h5 a1 i ha1 hi).1⟩
    refine va_callv (va_runV (As := [.ref (bk 45)]) (rest := []) ⟨hx, hb, hml, hown, hts⟩ (metX6_like l (E := fun _ _ => 0) (S := M1 a1) (S2 := S) (sa := ps a1) (sb := shf bk 40) (D := D) (cA := cA) (z0 := z0)) (cwV 1 hts (lw_V q834 q835 q836 q129 q837) rfl rfl rfl (by decide +kernel) ⟨Nat.le_of_ble_eq_true rfl, Nat.le_of_ble_eq_true rfl⟩) ⟨PhL.blind.pc, (h3 a1 ha1).recv hK, fun U hU hW => ⟨rfl, by rw [hU]; exact h3 a1 ha1, by rw [hU]; exact hN, hsj, hsd, va_K.moved hW.alike hK⟩⟩ rfl rfl hl.1 rfl (lv_room (Nat.le_of_ble_eq_true rfl)) dX5_keeps_56 ⟨Nat.zero_le _, Nat.zero_le _⟩) hS (fun q _ h => by obtain ⟨i, hi, rfl⟩ := h; exact Or.inr (h5 a1 i ha1 hi).1) (fun q h => by obtain ⟨i, hi, rfl⟩ := h; exact Or.inr (h5 a1 i ha1 hi).1) (fun h' t H locs ht hvm hw hB2 hz hk hS => ?_)
    subst hw
    subst ht
    have hkn : ∀ q, q < H1.size → (∀ i, Spl i → q ≠ ps a1 i) → t.heap[q]? = H1[q]? := fun q h1 h2 => hk q h1 (fun ⟨i, hi, e⟩ => h2 i hi e)
    have hB := hB.kept (hkn _ hB.lt (fun i hi e => h31 _ (h5 a1 i ha1 hi).1 e.symm))
    have hPn : PL D cA bk P (keepP a S M) t.heap := by
      rw [← eM]
      refine ⟨f, ps, h1.kept (fun h => hkn _ h (fun i hi e => (h5 a1 i ha1 hi).2.1 e.symm)) (fun h => hkn _ h (fun i hi e => (h5 a1 i ha1 hi).2.2 e.symm)), h2, fun i hi => ?_, h4, h5⟩
      by_cases e : i = a1
      · subst e
        unfold setM
        rw [if_pos rfl]
        exact hB2
      · unfold setM
        rw [if_neg e]
        exact (h3 i hi).keptP (fun j hj hz => hkn _ hz (fun b hb9 e9 => e (h4 i a1 j b hi ha1 hj hb9 e9).1))
    refine lv_aload_n hx hb dX5_keeps_59 rfl (lv_at hl 0 rfl) ?_
    refine lv_dup hx hb dX5_keeps_60 rfl ?_
    refine h_get (C := RX5) (T := TX5) (N := 11) (ci := 4) hx hb hts in_X5 hown hK hB rfl 8 (v := .int (nI a1)) (by decide) (hts _ q675) (fun _ h9 => h9) rfl dX5_keeps_61 ?_
    refine lv_iconst (v := 1) hx hb dX5_keeps_64 (by decide) ?_
    refine lv_iadd hx hb dX5_keeps_65 ?_
    rw [ex]
    refine h_put (A := KA bk P) (C := RX5) (T := TX5) (N := 11) (ci := 4) hx hb hts in_X5 tyX5 tyX5_ok nmX5 hown hK hB (Or.inl rfl) hS rfl 8 (by decide) (hts _ q675) (fun _ h9 => h9) rfl (ty := .int) (by decide +kernel) rfl rfl (Nat.lt_of_lt_of_le (by decide : 8 < 11) (Nat.le_of_eq rfl)) dX5_keeps_66 (fun H locs hB oq hz hS => ?_)
    have hB : va_at D vwCl (bk 31, .inr (4, Bfs bk (keepX a) y z)) H := hB
    have hPn := hPn.kept hJ (fun q h _ => oq q (h31 q h))
    exact W.vret hx hb hr (fun t ht _ => ⟨⟨(), rfl, trivial, ht ▸ hB, hPn.at ht⟩, hS.F ht⟩) hS.2.2 dX5_keeps_69 hlocks
  refine lv_aload_n hx hb dX5_keeps_0 rfl (lv_at hl 0 rfl) ?_
  refine h_get (C := RX5) (T := TX5) (N := 11) (ci := 4) hx hb hts in_X5 hown hK hB rfl 8 (v := .int (nI a)) (by decide) (hts _ q675) (fun _ h9 => h9) rfl dX5_keeps_1 ?_
  refine lv_bipush (v := 40) hx hb dX5_keeps_4 (by decide) ?_
  refine lv_icmp_ne (tgt := 38) hx hb dX5_keeps_6 (by decide) (fun c1 => ?_) (fun c1 => ?_)
  · have hn : ¬ a = 40 := fun e => c1 (by rw [e]; rfl)
    exact tail a M _ _ (by omega) (by unfold keepX; rw [if_neg hn, nI_1]) (by unfold keepP; rw [if_neg hn]) hS hB hN hP
  have ea : a = 40 := (nI_eq (by omega) (by decide)).mp c1
  subst ea
  obtain ⟨f, ps, h1, h2, h3, h4, h5⟩ := hP
  refine lv_aload_n hx hb dX5_keeps_9 rfl (lv_at hl 0 rfl) ?_
  refine h_get (C := RX5) (T := TX5) (N := 11) (ci := 4) hx hb hts in_X5 hown hK hB rfl 1 (v := .ref (bk 32)) (by decide) (hts _ q661) (fun _ h9 => h9) rfl dX5_keeps_10 ?_
  refine lv_aload_n hx hb dX5_keeps_13 rfl (lv_at hl 0 rfl) ?_
  refine h_get (C := RX5) (T := TX5) (N := 11) (ci := 4) hx hb hts in_X5 hown hK hB rfl 1 (v := .ref (bk 32)) (by decide) (hts _ q661) (fun _ h9 => h9) rfl dX5_keeps_14 ?_
  refine lv_iconst (v := nI 0) hx hb dX5_keeps_17 (by decide) ?_
  refine R_callRL (As := [.int (nI 0)]) (rest := [.ref (bk 32)]) (C := RJ2) ⟨hx, hb, hml, hown, hts⟩ hS (fun q h => h.elim (fun h => Or.inr (h ▸ hJ.2.1.1)) (fun h => Or.inr (h ▸ hJ.2.1.2.1))) (metJ2_remove l (D := D) (cA := cA) (z0 := z0) (E := E) (n := 40) (cap := 40) (by decide) (h2 0 (by decide))) ALRV.blind (fun U hU hW => ⟨⟨by rw [hU]; exact h1, va_K.moved hW.alike hK, hJ.2.1.2.2⟩, fun i y hi hy => by
    have e : y = ps i 5 := Option.some.inj (hy.symm.trans (h2 i hi))
    rw [e, hU]
    exact ⟨(hOV _ _ _ (h3 i hi)).warm hW, (h5 i 5 hi (Or.inr rfl)).2.1⟩⟩) (h1.recv hK) (cwV 1 hts (lw_V q811 q812 q813 q108 q814) rfl rfl rfl (by decide +kernel) ⟨Nat.le_of_ble_eq_true rfl, Nat.le_of_ble_eq_true rfl⟩) rfl hl.1 rfl (Nat.le_of_ble_eq_true rfl) dX5_keeps_18 ⟨Nat.zero_le _, Nat.zero_le _⟩ (fun t H locs ht h1 hk hS => ?_)
  subst ht
  have hkP : ∀ i a, i < 40 → Spl a → ps i a < s.heap.size → t.heap[ps i a]? = s.heap[ps i a]? := fun i a hi ha hz => hk _ hz (fun h => h.elim (h5 i a hi ha).2.1 (h5 i a hi ha).2.2)
  have h3 := fun i (hi : i < 40) => (h3 i hi).keptP (fun a ha hz => hkP i a hi ha hz)
  have hB := hB.kept (hk _ hB.lt (fun h => h.elim (fun h => h31 _ hJ.2.1.1 h.symm) (fun h => h31 _ hJ.2.1.2.1 h.symm)))
  have hN := hN.keptP (fun a ha hz => hk _ hz (fun h => (hJ.2.2.2 _ ⟨a, ha, rfl⟩).1 (h.elim (fun h => h ▸ hJ.2.1.1) (fun h => h ▸ hJ.2.1.2.1))))
  refine va_castE hx hb hown (hts _ q574) ((h3 0 (by decide)).recv hK) dX5_keeps_21 ?_
  refine R_callIL (As := [.ref (ps 0 5)]) (rest := []) (C := RJ2) ⟨hx, hb, hml, hown, hts⟩ hS (fun q h => h.elim (fun h => Or.inr (h ▸ hJ.2.1.1)) (fun h => Or.inr (h ▸ hJ.2.1.2.1))) (metJ2_add l (D := D) (cA := cA) (n := 39) (cap := 40) (f := shf1 f 40) (v := ps 0 5) (by decide) (h5 0 5 (by decide) (Or.inr rfl)).2.1) ALOV.blind (fun U hU hW => ⟨⟨by rw [hU]; exact h1, va_K.moved hW.alike hK, hJ.2.1.2.2⟩, by rw [hU]; exact (hOV _ _ _ (h3 0 (by decide))).warm hW⟩) (ALW.recv (n := 39) h1 hK) (cwV 1 hts (lw_V q603 q604 q605 q108 q606) rfl rfl rfl (by decide +kernel) ⟨Nat.le_of_ble_eq_true rfl, Nat.le_of_ble_eq_true rfl⟩) rfl hl.1 rfl (Nat.le_of_ble_eq_true rfl) dX5_keeps_24 ⟨Nat.zero_le _, Nat.zero_le _⟩ (fun r t2 H locs ht _ h1 hk2 hS => ?_)
  subst ht
  have h3 := fun i (hi : i < 40) => (h3 i hi).keptP (fun a ha hz => hk2 _ hz (fun h => h.elim (h5 i a hi ha).2.1 (h5 i a hi ha).2.2))
  have hB := hB.kept (hk2 _ hB.lt (fun h => h.elim (fun h => h31 _ hJ.2.1.1 h.symm) (fun h => h31 _ hJ.2.1.2.1 h.symm)))
  have hN := hN.keptP (fun a ha hz => hk2 _ hz (fun h => (hJ.2.2.2 _ ⟨a, ha, rfl⟩).1 (h.elim (fun h => h ▸ hJ.2.1.1) (fun h => h ▸ hJ.2.1.2.1))))
  have hP := PL.rot h1 h2 h3 h4 h5
  refine lv_pop hx hb dX5_keeps_27 rfl ?_
  refine lv_aload_n hx hb dX5_keeps_28 rfl (lv_at hl 0 rfl) ?_
  refine lv_dup hx hb dX5_keeps_29 rfl ?_
  refine h_get (C := RX5) (T := TX5) (N := 11) (ci := 4) hx hb hts in_X5 hown hK hB rfl 8 (v := .int (nI 40)) (by decide) (hts _ q675) (fun _ h9 => h9) rfl dX5_keeps_30 ?_
  refine lv_iconst (v := 1) hx hb dX5_keeps_33 (by decide) ?_
  refine lv_isub hx hb dX5_keeps_34 ?_
  refine h_put (A := KA bk P) (C := RX5) (T := TX5) (N := 11) (ci := 4) hx hb hts in_X5 tyX5 tyX5_ok nmX5 hown hK hB (Or.inl rfl) hS rfl 8 (by decide) (hts _ q675) (fun _ h9 => h9) rfl (ty := .int) (by decide +kernel) rfl rfl (Nat.lt_of_lt_of_le (by decide : 8 < 11) (Nat.le_of_eq rfl)) dX5_keeps_35 (fun H locs hB oq hz hS => ?_)
  exact tail 39 (rotM M) _ _ (by decide) rfl rfl hS hB (hN.keptP (fun a ha _ => oq _ (hJ.2.2.2 _ ⟨a, ha, rfl⟩).2)) (hP.kept hJ (fun q h _ => oq q (h31 q h)))
