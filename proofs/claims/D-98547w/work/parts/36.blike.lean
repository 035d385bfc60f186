/-! 36.blike: a book's own cells, and Book.like -/
def BPl (i : Nat) : Prop := (22 ≤ i ∧ i ≤ 27) ∨ i = 31 ∨ ∃ j, Spl j ∧ i = 40 + j
def BAr (k : Nat) : Prop := 22 ≤ k ∧ k ≤ 27
/-- where a book and its pool lie, its own places apart -/
def BJ (z0 : Nat) (bk : Nat → Nat) (P : Nat → Prop) : Prop := (∀ q, P q → z0 ≤ q) ∧ (P (bk 32) ∧ P (bk 33) ∧ bk 32 ≠ bk 33) ∧ (∀ i j, BPl i → BPl j → bk i = bk j → i = j) ∧ (∀ i, BPl i → z0 ≤ bk i ∧ ¬ P (bk i))
theorem bpl_st {j : Nat} (h : Spl j) : BPl (40 + j) := Or.inr (Or.inr ⟨j, h, rfl⟩)
theorem BJ.pj {z0 : Nat} {bk : Nat → Nat} {P : Nat → Prop} (h : BJ z0 bk P) : PJ z0 bk P := ⟨h.1, h.2.1, h.2.2.2 31 (Or.inr (Or.inl rfl)), fun q ⟨i, hi, e⟩ => ⟨by rw [e]; exact (h.2.2.2 _ (bpl_st hi)).2, fun e2 => by
  have := h.2.2.1 _ _ (bpl_st hi) (Or.inr (Or.inl rfl)) (e.symm.trans e2)
  rcases spl_cases hi with rfl | rfl | rfl | rfl <;> omega⟩⟩
theorem BJ.sj {z0 : Nat} {bk : Nat → Nat} {P : Nat → Prop} (h : BJ z0 bk P) : SJ z0 (shf bk 40) := ⟨fun i j hi hj e => by have := h.2.2.1 _ _ (bpl_st hi) (bpl_st hj) e; omega, fun i hi => (h.2.2.2 _ (bpl_st hi)).1⟩
/-- all that a book's work may change -/
def KB (bk : Nat → Nat) (P : Nat → Prop) : Nat → Prop := fun q => P q ∨ ∃ i, BPl i ∧ q = bk i
theorem BJ.z {z0 : Nat} {bk : Nat → Nat} {P : Nat → Prop} (h : BJ z0 bk P) : ∀ q, KB bk P q → z0 ≤ q := fun q h2 => h2.elim (h.1 q) (fun ⟨i, hi, e⟩ => by rw [e]; exact (h.2.2.2 i hi).1)
def BW (D : va_G) (cA : Nat → ClassId) (bk : Nat → Nat) (h : Mem) (H : Heap) : Prop := va_at D vwCl (bk 31, .inr (4, Bfs bk (h 28 0) (h 29 0) (h 30 0))) H ∧ (∀ k, BAr k → va_at D vwCl (bk k, .inl (cA 0, Xlen k, .inl (h k))) H) ∧ SW D cA (shf bk 40) (sub h 40) H
theorem BW.kept {D : va_G} {cA : Nat → ClassId} {bk : Nat → Nat} {h : Mem} {H H1 : Heap} (hB : BW D cA bk h H) (hk : ∀ i, BPl i → bk i < H.size → H1[bk i]? = H[bk i]?) : BW D cA bk h H1 := ⟨hB.1.kept (hk 31 (Or.inr (Or.inl rfl)) hB.1.lt), fun k h1 => (hB.2.1 k h1).kept (hk k (Or.inl h1) (hB.2.1 k h1).lt), hB.2.2.keptP (fun a ha hz => hk (40 + a) (bpl_st ha) hz)⟩
/-- now has S -/
theorem BW.now {D : va_G} {cA : Nat → ClassId} {z0 : Nat} {bk : Nat → Nat} {P : Nat → Prop} {h S : Mem} {H H1 : Heap} (hB : BW D cA bk h H) (hJ : BJ z0 bk P) (hs : SW D cA (shf bk 40) S H1) (oq : ∀ q, q < H.size → ¬ SA (shf bk 40) q → H1[q]? = H[q]?) : BW D cA bk (put5 h 40 S) H1 := by
  have hn : ∀ j, BPl j → j < 40 → ¬ SA (shf bk 40) (bk j) := fun j hj hlt ⟨i, hi, e⟩ => by
    have e2 := hJ.2.2.1 j (40 + i) hj (bpl_st hi) e
    omega
  refine ⟨hB.1.kept (oq _ hB.1.lt (hn 31 (Or.inr (Or.inl rfl)) (by decide))), fun k hk => ?_, ⟨hs.1, fun k hk => ?_⟩⟩
  · rw [put5_out (by unfold BAr at hk; omega)]
    exact (hB.2.1 k hk).kept (oq _ (hB.2.1 k hk).lt (hn k (Or.inl hk) (by unfold BAr at hk; omega)))
  · match k, hk with
    | 0, _ => exact hs.2 0 rfl
    | 1, _ => exact hs.2 1 rfl
    | 2, _ => exact hs.2 2 rfl
/-- an array's contents are changed -/
theorem BW.cp {D : va_G} {cA : Nat → ClassId} {z0 : Nat} {bk : Nat → Nat} {P : Nat → Prop} {h : Mem} {H H1 : Heap} {k : Nat} {f : Nat → Int32} (hB : BW D cA bk h H) (hJ : BJ z0 bk P) (hk : BAr k) (hc : va_at D vwCl (bk k, .inl (cA 0, Xlen k, .inl f)) H1) (oq : ∀ q, q ≠ bk k → H1[q]? = H[q]?) : BW D cA bk (setp h k f) H1 := by
  have hk2 : 22 ≤ k ∧ k ≤ 27 := hk
  have ho : ∀ j, BPl j → j ≠ k → H1[bk j]? = H[bk j]? := fun j hj hn => oq _ fun q => hn (hJ.2.2.1 j k hj (Or.inl hk) q)
  refine ⟨?_, fun j hj => ?_, ?_⟩
  · rw [setp_other (by omega), setp_other (by omega), setp_other (by omega)]
    exact hB.1.kept (ho 31 (Or.inr (Or.inl rfl)) (by omega))
  · by_cases e : j = k
    · subst e
      rw [setp_same]
      exact hc
    · rw [setp_other e]
      exact (hB.2.1 j hj).kept (ho j (Or.inl hj) e)
  · have e9 : sub (setp h k f) 40 = sub h 40 := by
      funext j
      unfold sub
      rw [setp_other (by omega)]
    rw [e9]
    exact hB.2.2.keptP (fun a ha _ => ho _ (bpl_st ha) (by omega))
/-- the book's own object is changed -/
theorem BW.pt {D : va_G} {cA : Nat → ClassId} {z0 : Nat} {bk : Nat → Nat} {P : Nat → Prop} {h : Mem} {H H1 : Heap} {k : Nat} {x : Int32} (hB : BW D cA bk h H) (hJ : BJ z0 bk P) (hk : k = 28 ∨ k = 29 ∨ k = 30) (hc : va_at D vwCl (bk 31, .inr (4, (Bfs bk (h 28 0) (h 29 0) (h 30 0)).set (k - 20) (.int x))) H1) (oq : ∀ q, q ≠ bk 31 → H1[q]? = H[q]?) : BW D cA bk (up2 h k 0 x) H1 := by
  have ho : ∀ j, BPl j → j ≠ 31 → H1[bk j]? = H[bk j]? := fun j hj hn => oq _ fun q => hn (hJ.2.2.1 j 31 hj (Or.inr (Or.inl rfl)) q)
  have e1 : ∀ j, j ≠ k → up2 h k 0 x j = h j := fun j hj => by unfold up2; rw [if_neg hj]
  refine ⟨?_, fun j hj => ?_, ?_⟩
  · rcases hk with rfl | rfl | rfl <;> exact hc
  · have hj2 : 22 ≤ j ∧ j ≤ 27 := hj
    rw [e1 j (by omega)]
    exact (hB.2.1 j hj).kept (ho j (Or.inl hj) (by omega))
  · have e9 : sub (up2 h k 0 x) 40 = sub h 40 := by
      funext j
      unfold sub
      rw [e1 _ (by omega)]
    rw [e9]
    exact hB.2.2.keptP (fun a ha _ => ho _ (bpl_st ha) (by omega))
theorem BW.at {D : va_G} {cA : Nat → ClassId} {bk : Nat → Nat} {h : Mem} {H : Heap} {t : State} (h1 : BW D cA bk h H) (ht : t.heap = H) : BW D cA bk h t.heap := ht ▸ h1
def cpB (h g : Mem) (k n : Nat) : Mem := setp h k (va_cpy (g k) (h k) 0 0 n)
def bkNow (h g : Mem) : Mem := put5 h 40 (likeM (sub h 40) (sub g 40))
def bkArr (h g : Mem) : Mem := cpB (cpB (cpB (cpB (cpB (cpB h g 22 6) g 23 6) g 24 6) g 25 4) g 26 4) g 27 3
def bkInt (h g : Mem) : Mem := up2 (up2 (up2 h 28 0 (g 28 0)) 29 0 (g 29 0)) 30 0 (g 30 0)
/-- h made like g -/
def bkLike (h g : Mem) : Mem := bkInt (bkArr (bkNow h g) g) g
def plLike (n : Nat) (M N : Nat → Mem) : Nat → Mem := fun i => if i < n then likeM (M i) (N i) else M i
def PhBL (D : va_G) (cA : Nat → ClassId) (z0 : Nat) (bk bo : Nat → Nat) (P O : Nat → Prop) (h g : Mem) (M N : Nat → Mem) (U : State) : Prop := (BW D cA bk h U.heap ∧ PL D cA bk P M U.heap) ∧ (BW D cA bo g U.heap ∧ PL D cA bo O N U.heap) ∧ KK D cA U
theorem PhBL.blind {D : va_G} {cA : Nat → ClassId} {z0 : Nat} {bk bo : Nat → Nat} {P O : Nat → Prop} {h g : Mem} {M N : Nat → Mem} : Blind (PhBL D cA z0 bk bo P O h g M N) := fun U g mk a h => ⟨h.1, h.2.1, va_K.moved (u := U) (U := U.calling g mk a) (Vm.Alike.refl U.vm) h.2.2⟩
/-- one state of the pool is changed -/
theorem PL.one {D : va_G} {cA : Nat → ClassId} {bk : Nat → Nat} {M : Nat → Mem} {H H1 : Heap} {P : Nat → Prop} {f : Nat → Option Nat} {ps : Nat → Nat → Nat} {a1 : Nat} {S : Mem} (ha1 : a1 < 40) (h1 : ALW D cA (bk 32) (bk 33) 40 40 f H) (h2 : ∀ i, i < 40 → f i = some (ps i 5)) (h3 : ∀ i, i < 40 → SW D cA (ps i) (M i) H) (h4 : ∀ i j a b, i < 40 → j < 40 → Spl a → Spl b → ps i a = ps j b → i = j ∧ a = b) (h5 : ∀ i a, i < 40 → Spl a → P (ps i a) ∧ ps i a ≠ bk 32 ∧ ps i a ≠ bk 33) (hs : SW D cA (ps a1) S H1) (hkn : ∀ q, q < H.size → (∀ i, Spl i → q ≠ ps a1 i) → H1[q]? = H[q]?) : PL D cA bk P (setM M a1 S) H1 := by
  refine ⟨f, ps, h1.kept (fun h => hkn _ h (fun i hi e => (h5 a1 i ha1 hi).2.1 e.symm)) (fun h => hkn _ h (fun i hi e => (h5 a1 i ha1 hi).2.2 e.symm)), h2, fun i hi => ?_, h4, h5⟩
  by_cases e : i = a1
  · subst e
    unfold setM
    rw [if_pos rfl]
    exact hs
  · unfold setM
    rw [if_neg e]
    exact (h3 i hi).keptP (fun j hj hz => hkn _ hz (fun b hb9 e9 => e (h4 i a1 j b hi ha1 hj hb9 e9).1))
theorem plLike_s {i : Nat} {M N : Nat → Mem} : plLike (i + 1) M N = setM (plLike i M N) i (likeM (plLike i M N i) (N i)) := by
  funext j
  show (if j < i + 1 then likeM (M j) (N j) else M j) = if j = i then likeM (if i < i then likeM (M i) (N i) else M i) (N i) else (if j < i then likeM (M j) (N j) else M j)
  by_cases e : j = i
  · subst e
    rw [if_pos (by omega), if_pos rfl, if_neg (by omega)]
  · rw [if_neg e]
    by_cases e2 : j < i
    · rw [if_pos (by omega), if_pos e2]
    · rw [if_neg (by omega), if_neg e2]
set_option maxHeartbeats 4000000 in
set_option maxRecDepth 100000 in
theorem metX5_like (l : Launch) {D : va_G} {cA : Nat → ClassId} {z0 : Nat} {bk bo : Nat → Nat} {P O : Nat → Prop} (hJ : BJ z0 bk P) (hJo : BJ z0 bo O) (hd : ∀ q, KB bk P q → ¬ KB bo O q) {n : Nat} (hn : n ≤ 40) {h g : Mem} {M N : Nat → Mem} (hgn : g 28 0 = nI n) : Met l yX5_like (ws_ yX5_like cX5_like 3 none) ({ frames := 5, cells := 0, slots := 0, locals := 400 }) (va_Pc [.ref (bk 31), .ref (bo 31)] (PhBL D cA z0 bk bo P O h g M N)) (va_Qv (fun _ : Unit => True) (fun _ t => BW D cA bk (bkLike h g) t.heap ∧ PL D cA bk P (plLike n M N) t.heap) (KB bk P)) 0 0 (KB bk P) := by
  refine Met.ofW (cc := cX5_like) (maxL := 3) (ret := none) (by decide) rfl ?_
  intro p e s m args below meth c s₁ B hml hv
  obtain ⟨rfl, hv⟩ := hv
  have hx := B.exec
  have hb := B.bytes
  have hr := B.returns
  have hts := atoms_spec (ws := ws_ yX5_like cX5_like 3 none) B.pre
  have hts : ∀ w ∈ lw_all, w.before _ s = true := fun w h => hts w (List.mem_cons_of_mem _ h)
  have hown : s.vm.findClass RX5 = some m.cls := findClass_of_methodNamed B.named
  have hlocks := B.notSynchronized
  have hS : va_S (KB bk P) s.heap s.heap [] := va_S.rf
  have hl := lv_entry ([.ref (bk 31), .ref (bo 31)]) (n := 3) (Nat.le_of_ble_eq_true rfl)
  rw [lg_entry_eq]
  generalize (lg_sl ([.ref (bk 31), .ref (bo 31)]) ++ List.replicate (3 - (lg_sl ([.ref (bk 31), .ref (bo 31)])).length) Slot.unset).toArray = ls at hl ⊢
  have hl : lv_has ls 3 [(0, .ref (bk 31)), (1, .ref (bo 31))] := hl
  obtain ⟨⟨hB, hP⟩, ⟨hO, hQ⟩, hK⟩ := hv
  have ob : ∀ i, BPl i → KB bo O (bo i) := fun i hi => Or.inr ⟨i, hi, rfl⟩
  have hsdB : SD (shf bk 40) (shf bo 40) := fun i j hi hj e => hd _ (Or.inr ⟨_, bpl_st hi, rfl⟩) (Or.inr ⟨_, bpl_st hj, e⟩)
  refine lv_aload_n hx hb dX5_like_0 rfl (lv_at hl 0 rfl) ?_
  refine h_get (C := RX5) (T := TX5) (N := 11) (ci := 4) hx hb hts in_X5 hown hK hB.1 rfl 0 (v := .ref (bk 45)) (by decide) (hts _ q659) (fun _ h9 => h9) rfl dX5_like_1 ?_
  refine lv_aload_n hx hb dX5_like_4 rfl (lv_at hl 1 rfl) ?_
  refine h_get (C := RX5) (T := TX5) (N := 11) (ci := 4) hx hb hts in_X5 hown hK hO.1 rfl 0 (v := .ref (bo 45)) (by decide) (hts _ q659) (fun _ h9 => h9) rfl dX5_like_5 ?_
  refine va_callv (va_runV (As := [.ref (bo 45)]) (rest := []) ⟨hx, hb, hml, hown, hts⟩ (metX6_like l (E := fun _ _ => 0) (S := sub h 40) (S2 := sub g 40) (sa := shf bk 40) (sb := shf bo 40) (D := D) (cA := cA) (z0 := z0)) (cwV 1 hts (lw_V q834 q835 q836 q129 q837) rfl rfl rfl (by decide +kernel) ⟨Nat.le_of_ble_eq_true rfl, Nat.le_of_ble_eq_true rfl⟩) ⟨PhL.blind.pc, hB.2.2.recv hK, fun U hU hW => ⟨rfl, by rw [hU]; exact hB.2.2, by rw [hU]; exact hO.2.2, hJ.sj, hsdB, va_K.moved hW.alike hK⟩⟩ rfl rfl hl.1 rfl (lv_room (Nat.le_of_ble_eq_true rfl)) dX5_like_8 ⟨Nat.zero_le _, Nat.zero_le _⟩) hS (fun q _ h => by obtain ⟨i, hi, rfl⟩ := h; exact Or.inr ⟨_, bpl_st hi, rfl⟩) (fun q h => by obtain ⟨i, hi, rfl⟩ := h; exact Or.inr ⟨_, bpl_st hi, rfl⟩) (fun h' t H locs ht hvm hw hB2 hz hk hS => ?_)
  subst hw
  subst ht
  have hsa : ∀ q, SA (shf bk 40) q → KB bk P q := fun q ⟨i, hi, e⟩ => Or.inr ⟨_, bpl_st hi, e⟩
  have hO := hO.kept (fun i hi hz => hk _ hz (fun h => hd _ (hsa _ h) (ob i hi)))
  have hQ := hQ.kept hJo.pj (fun q hq hz => hk _ hz (fun h => hd _ (hsa _ h) (Or.inl hq)))
  have hP := hP.kept hJ.pj (fun q hq hz => hk _ hz (fun h => (hJ.pj.2.2.2 _ h).1 hq))
  have hB : BW D cA bk (bkNow h g) t.heap := hB.now hJ hB2 hk
  refine lv_iconst (v := nI 0) hx hb dX5_like_11 (by decide) ?_
  refine lv_istore_n (lv' := [(2, .int (nI 0)), (0, .ref (bk 31)), (1, .ref (bo 31))]) hx hb dX5_like_12 rfl hl (by decide) rfl (fun ls hl => ?_)
  have loop : ∀ (r i : Nat) (H : Heap) (locs : List Loc) (ls : Array Slot), i + r = n → va_S (KB bk P) s.heap H locs → BW D cA bk (bkNow h g) H → PL D cA bk P (plLike i M N) H → BW D cA bo g H → PL D cA bo O N H → lv_has ls 3 [(2, .int (nI i)), (0, .ref (bk 31)), (1, .ref (bo 31))] → W p l e (headSpec (ws_ yX5_like cX5_like 3 none) ({ frames := 5, cells := 0, slots := 0, locals := 400 })).room s m ([.ref (bk 31), .ref (bo 31)] : List Value).toArray below meth c H locs 0 0 (MQ below (va_Qv (fun _ : Unit => True) (fun _ t => BW D cA bk (bkLike h g) t.heap ∧ PL D cA bk P (plLike n M N) t.heap) (KB bk P)) ([.ref (bk 31), .ref (bo 31)] : List Value).toArray s 0 0 (KB bk P)) (F0 m 13 ls []) := by
    intro r
    induction r with
    | zero =>
      intro i H locs ls e9 hS hB hP hO hQ hl
      have e8 : i = n := by omega
      subst e8
      refine lv_iload_n hx hb dX5_like_13 rfl (lv_at hl 0 rfl) ?_
      refine lv_aload_n hx hb dX5_like_14 rfl (lv_at hl 2 rfl) ?_
      refine h_get (C := RX5) (T := TX5) (N := 11) (ci := 4) hx hb hts in_X5 hown hK hO.1 rfl 8 (v := .int (g 28 0)) (by decide) (hts _ q675) (fun _ h9 => h9) rfl dX5_like_15 ?_
      rw [hgn]
      refine lv_icmp_ge (tgt := 52) hx hb dX5_like_18 (by decide) (fun _ => ?_) (fun h => absurd (nI_le (Nat.le_refl _) (by omega)) h)
      have hO1 := hO
      have hB1 := hB
      refine lv_aload_n hx hb dX5_like_52 rfl (lv_at hl 2 rfl) ?_
      refine h_get (C := RX5) (T := TX5) (N := 11) (ci := 4) hx hb hts in_X5 hown hK hO.1 rfl 2 (v := .ref (bo 22)) (by decide) (hts _ q663) (fun _ h9 => h9) rfl dX5_like_53 ?_
      refine lv_iconst (v := 0) hx hb dX5_like_56 (by decide) ?_
      refine lv_aload_n hx hb dX5_like_57 rfl (lv_at hl 1 rfl) ?_
      refine h_get (C := RX5) (T := TX5) (N := 11) (ci := 4) hx hb hts in_X5 hown hK hB.1 rfl 2 (v := .ref (bk 22)) (by decide) (hts _ q663) (fun _ h9 => h9) rfl dX5_like_58 ?_
      refine lv_iconst (v := 0) hx hb dX5_like_61 (by decide) ?_
      refine lv_bipush (v := 6) hx hb dX5_like_62 (by decide) ?_
      refine h_copyi (A := KB bk P) (ty := .int) hx hb (hml.trans hl.1.symm) hown (hts _ q975) (hts _ q295) (hts _ q294) (hts _ q120) hK (hO.2.1 22 (by unfold BAr; omega)) (hB.2.1 22 (by unfold BAr; omega)) (Or.inr ⟨22, Or.inl (by omega), rfl⟩) hS 0 0 rfl rfl rfl (by decide) (by decide) (by decide) (by decide) (by decide) (fun _ _ => rfl) (Nat.le_of_ble_eq_true rfl) (Nat.le_of_ble_eq_true (by decide +kernel)) dX5_like_64 (fun H locs hc oq _ hS => ?_)
      have hB : BW D cA bk (cpB (bkNow h g) g 22 6) H := hB.cp hJ (by unfold BAr; omega) hc oq
      have hO := hO.kept (fun i hi _ => oq _ (fun e => hd _ (Or.inr ⟨22, Or.inl (by omega), rfl⟩) (e ▸ ob i hi)))
      have hP := hP.kept hJ.pj (fun q hq _ => oq _ (fun e => (hJ.2.2.2 22 (Or.inl (by omega))).2 (e ▸ hq)))
      refine lv_aload_n hx hb dX5_like_67 rfl (lv_at hl 2 rfl) ?_
      refine h_get (C := RX5) (T := TX5) (N := 11) (ci := 4) hx hb hts in_X5 hown hK hO.1 rfl 3 (v := .ref (bo 23)) (by decide) (hts _ q665) (fun _ h9 => h9) rfl dX5_like_68 ?_
      refine lv_iconst (v := 0) hx hb dX5_like_71 (by decide) ?_
      refine lv_aload_n hx hb dX5_like_72 rfl (lv_at hl 1 rfl) ?_
      refine h_get (C := RX5) (T := TX5) (N := 11) (ci := 4) hx hb hts in_X5 hown hK hB.1 rfl 3 (v := .ref (bk 23)) (by decide) (hts _ q665) (fun _ h9 => h9) rfl dX5_like_73 ?_
      refine lv_iconst (v := 0) hx hb dX5_like_76 (by decide) ?_
      refine lv_bipush (v := 6) hx hb dX5_like_77 (by decide) ?_
      refine h_copyi (A := KB bk P) (ty := .int) hx hb (hml.trans hl.1.symm) hown (hts _ q975) (hts _ q295) (hts _ q294) (hts _ q120) hK (hO.2.1 23 (by unfold BAr; omega)) (hB.2.1 23 (by unfold BAr; omega)) (Or.inr ⟨23, Or.inl (by omega), rfl⟩) hS 0 0 rfl rfl rfl (by decide) (by decide) (by decide) (by decide) (by decide) (fun _ _ => rfl) (Nat.le_of_ble_eq_true rfl) (Nat.le_of_ble_eq_true (by decide +kernel)) dX5_like_79 (fun H locs hc oq _ hS => ?_)
      have hB : BW D cA bk (cpB (cpB (bkNow h g) g 22 6) g 23 6) H := hB.cp hJ (by unfold BAr; omega) hc oq
      have hO := hO.kept (fun i hi _ => oq _ (fun e => hd _ (Or.inr ⟨23, Or.inl (by omega), rfl⟩) (e ▸ ob i hi)))
      have hP := hP.kept hJ.pj (fun q hq _ => oq _ (fun e => (hJ.2.2.2 23 (Or.inl (by omega))).2 (e ▸ hq)))
      refine lv_aload_n hx hb dX5_like_82 rfl (lv_at hl 2 rfl) ?_
      refine h_get (C := RX5) (T := TX5) (N := 11) (ci := 4) hx hb hts in_X5 hown hK hO.1 rfl 4 (v := .ref (bo 24)) (by decide) (hts _ q667) (fun _ h9 => h9) rfl dX5_like_83 ?_
      refine lv_iconst (v := 0) hx hb dX5_like_86 (by decide) ?_
      refine lv_aload_n hx hb dX5_like_87 rfl (lv_at hl 1 rfl) ?_
      refine h_get (C := RX5) (T := TX5) (N := 11) (ci := 4) hx hb hts in_X5 hown hK hB.1 rfl 4 (v := .ref (bk 24)) (by decide) (hts _ q667) (fun _ h9 => h9) rfl dX5_like_88 ?_
      refine lv_iconst (v := 0) hx hb dX5_like_91 (by decide) ?_
      refine lv_bipush (v := 6) hx hb dX5_like_92 (by decide) ?_
      refine h_copyi (A := KB bk P) (ty := .int) hx hb (hml.trans hl.1.symm) hown (hts _ q975) (hts _ q295) (hts _ q294) (hts _ q120) hK (hO.2.1 24 (by unfold BAr; omega)) (hB.2.1 24 (by unfold BAr; omega)) (Or.inr ⟨24, Or.inl (by omega), rfl⟩) hS 0 0 rfl rfl rfl (by decide) (by decide) (by decide) (by decide) (by decide) (fun _ _ => rfl) (Nat.le_of_ble_eq_true rfl) (Nat.le_of_ble_eq_true (by decide +kernel)) dX5_like_94 (fun H locs hc oq _ hS => ?_)
      have hB : BW D cA bk (cpB (cpB (cpB (bkNow h g) g 22 6) g 23 6) g 24 6) H := hB.cp hJ (by unfold BAr; omega) hc oq
      have hO := hO.kept (fun i hi _ => oq _ (fun e => hd _ (Or.inr ⟨24, Or.inl (by omega), rfl⟩) (e ▸ ob i hi)))
      have hP := hP.kept hJ.pj (fun q hq _ => oq _ (fun e => (hJ.2.2.2 24 (Or.inl (by omega))).2 (e ▸ hq)))
      refine lv_aload_n hx hb dX5_like_97 rfl (lv_at hl 2 rfl) ?_
      refine h_get (C := RX5) (T := TX5) (N := 11) (ci := 4) hx hb hts in_X5 hown hK hO.1 rfl 5 (v := .ref (bo 25)) (by decide) (hts _ q669) (fun _ h9 => h9) rfl dX5_like_98 ?_
      refine lv_iconst (v := 0) hx hb dX5_like_101 (by decide) ?_
      refine lv_aload_n hx hb dX5_like_102 rfl (lv_at hl 1 rfl) ?_
      refine h_get (C := RX5) (T := TX5) (N := 11) (ci := 4) hx hb hts in_X5 hown hK hB.1 rfl 5 (v := .ref (bk 25)) (by decide) (hts _ q669) (fun _ h9 => h9) rfl dX5_like_103 ?_
      refine lv_iconst (v := 0) hx hb dX5_like_106 (by decide) ?_
      refine lv_iconst (v := 4) hx hb dX5_like_107 (by decide) ?_
      refine h_copyi (A := KB bk P) (ty := .int) hx hb (hml.trans hl.1.symm) hown (hts _ q975) (hts _ q295) (hts _ q294) (hts _ q120) hK (hO.2.1 25 (by unfold BAr; omega)) (hB.2.1 25 (by unfold BAr; omega)) (Or.inr ⟨25, Or.inl (by omega), rfl⟩) hS 0 0 rfl rfl rfl (by decide) (by decide) (by decide) (by decide) (by decide) (fun _ _ => rfl) (Nat.le_of_ble_eq_true rfl) (Nat.le_of_ble_eq_true (by decide +kernel)) dX5_like_108 (fun H locs hc oq _ hS => ?_)
      have hB : BW D cA bk (cpB (cpB (cpB (cpB (bkNow h g) g 22 6) g 23 6) g 24 6) g 25 4) H := hB.cp hJ (by unfold BAr; omega) hc oq
      have hO := hO.kept (fun i hi _ => oq _ (fun e => hd _ (Or.inr ⟨25, Or.inl (by omega), rfl⟩) (e ▸ ob i hi)))
      have hP := hP.kept hJ.pj (fun q hq _ => oq _ (fun e => (hJ.2.2.2 25 (Or.inl (by omega))).2 (e ▸ hq)))
      refine lv_aload_n hx hb dX5_like_111 rfl (lv_at hl 2 rfl) ?_
      refine h_get (C := RX5) (T := TX5) (N := 11) (ci := 4) hx hb hts in_X5 hown hK hO.1 rfl 6 (v := .ref (bo 26)) (by decide) (hts _ q671) (fun _ h9 => h9) rfl dX5_like_112 ?_
      refine lv_iconst (v := 0) hx hb dX5_like_115 (by decide) ?_
      refine lv_aload_n hx hb dX5_like_116 rfl (lv_at hl 1 rfl) ?_
      refine h_get (C := RX5) (T := TX5) (N := 11) (ci := 4) hx hb hts in_X5 hown hK hB.1 rfl 6 (v := .ref (bk 26)) (by decide) (hts _ q671) (fun _ h9 => h9) rfl dX5_like_117 ?_
      refine lv_iconst (v := 0) hx hb dX5_like_120 (by decide) ?_
      refine lv_iconst (v := 4) hx hb dX5_like_121 (by decide) ?_
      refine h_copyi (A := KB bk P) (ty := .int) hx hb (hml.trans hl.1.symm) hown (hts _ q975) (hts _ q295) (hts _ q294) (hts _ q120) hK (hO.2.1 26 (by unfold BAr; omega)) (hB.2.1 26 (by unfold BAr; omega)) (Or.inr ⟨26, Or.inl (by omega), rfl⟩) hS 0 0 rfl rfl rfl (by decide) (by decide) (by decide) (by decide) (by decide) (fun _ _ => rfl) (Nat.le_of_ble_eq_true rfl) (Nat.le_of_ble_eq_true (by decide +kernel)) dX5_like_122 (fun H locs hc oq _ hS => ?_)
      have hB : BW D cA bk (cpB (cpB (cpB (cpB (cpB (bkNow h g) g 22 6) g 23 6) g 24 6) g 25 4) g 26 4) H := hB.cp hJ (by unfold BAr; omega) hc oq
      have hO := hO.kept (fun i hi _ => oq _ (fun e => hd _ (Or.inr ⟨26, Or.inl (by omega), rfl⟩) (e ▸ ob i hi)))
      have hP := hP.kept hJ.pj (fun q hq _ => oq _ (fun e => (hJ.2.2.2 26 (Or.inl (by omega))).2 (e ▸ hq)))
      refine lv_aload_n hx hb dX5_like_125 rfl (lv_at hl 2 rfl) ?_
      refine h_get (C := RX5) (T := TX5) (N := 11) (ci := 4) hx hb hts in_X5 hown hK hO.1 rfl 7 (v := .ref (bo 27)) (by decide) (hts _ q673) (fun _ h9 => h9) rfl dX5_like_126 ?_
      refine lv_iconst (v := 0) hx hb dX5_like_129 (by decide) ?_
      refine lv_aload_n hx hb dX5_like_130 rfl (lv_at hl 1 rfl) ?_
      refine h_get (C := RX5) (T := TX5) (N := 11) (ci := 4) hx hb hts in_X5 hown hK hB.1 rfl 7 (v := .ref (bk 27)) (by decide) (hts _ q673) (fun _ h9 => h9) rfl dX5_like_131 ?_
      refine lv_iconst (v := 0) hx hb dX5_like_134 (by decide) ?_
      refine lv_aload_n hx hb dX5_like_135 rfl (lv_at hl 1 rfl) ?_
      refine h_get (C := RX5) (T := TX5) (N := 11) (ci := 4) hx hb hts in_X5 hown hK hB.1 rfl 7 (v := .ref (bk 27)) (by decide) (hts _ q673) (fun _ h9 => h9) rfl dX5_like_136 ?_
      refine h_alen hx hb hK (hB.2.1 27 (by unfold BAr; omega)) 0 rfl (v := 3) rfl dX5_like_139 ?_
      refine h_copyi (A := KB bk P) (ty := .int) hx hb (hml.trans hl.1.symm) hown (hts _ q975) (hts _ q295) (hts _ q294) (hts _ q120) hK (hO.2.1 27 (by unfold BAr; omega)) (hB.2.1 27 (by unfold BAr; omega)) (Or.inr ⟨27, Or.inl (by omega), rfl⟩) hS 0 0 rfl rfl rfl (by decide) (by decide) (by decide) (by decide) (by decide) (fun _ _ => rfl) (Nat.le_of_ble_eq_true rfl) (Nat.le_of_ble_eq_true (by decide +kernel)) dX5_like_140 (fun H locs hc oq _ hS => ?_)
      have hB : BW D cA bk (cpB (cpB (cpB (cpB (cpB (cpB (bkNow h g) g 22 6) g 23 6) g 24 6) g 25 4) g 26 4) g 27 3) H := hB.cp hJ (by unfold BAr; omega) hc oq
      have hO := hO.kept (fun i hi _ => oq _ (fun e => hd _ (Or.inr ⟨27, Or.inl (by omega), rfl⟩) (e ▸ ob i hi)))
      have hP := hP.kept hJ.pj (fun q hq _ => oq _ (fun e => (hJ.2.2.2 27 (Or.inl (by omega))).2 (e ▸ hq)))
      have hB : BW D cA bk (bkArr (bkNow h g) g) H := hB
      refine lv_aload_n hx hb dX5_like_143 rfl (lv_at hl 1 rfl) ?_
      refine lv_aload_n hx hb dX5_like_144 rfl (lv_at hl 2 rfl) ?_
      refine h_get (C := RX5) (T := TX5) (N := 11) (ci := 4) hx hb hts in_X5 hown hK hO.1 rfl 8 (v := .int (g 28 0)) (by decide) (hts _ q675) (fun _ h9 => h9) rfl dX5_like_145 ?_
      refine h_put (A := KB bk P) (C := RX5) (T := TX5) (N := 11) (ci := 4) hx hb hts in_X5 tyX5 tyX5_ok nmX5 hown hK hB.1 (Or.inr ⟨31, Or.inr (Or.inl rfl), rfl⟩) hS rfl 8 (by decide) (hts _ q675) (fun _ h9 => h9) rfl (ty := .int) (by decide +kernel) rfl rfl (Nat.lt_of_lt_of_le (by decide : 8 < 11) (Nat.le_of_eq rfl)) dX5_like_148 (fun H locs hc oq hz hS => ?_)
      have hB : BW D cA bk (up2 (bkArr (bkNow h g) g) 28 0 (g 28 0)) H := hB.pt (k := 28) hJ (by omega) hc oq
      have hO := hO.kept (fun i hi _ => oq _ (fun e => hd _ (Or.inr ⟨31, Or.inr (Or.inl rfl), rfl⟩) (e ▸ ob i hi)))
      have hP := hP.kept hJ.pj (fun q hq _ => oq _ (fun e => (hJ.2.2.2 31 (Or.inr (Or.inl rfl))).2 (e ▸ hq)))
      refine lv_aload_n hx hb dX5_like_151 rfl (lv_at hl 1 rfl) ?_
      refine lv_aload_n hx hb dX5_like_152 rfl (lv_at hl 2 rfl) ?_
      refine h_get (C := RX5) (T := TX5) (N := 11) (ci := 4) hx hb hts in_X5 hown hK hO.1 rfl 9 (v := .int (g 29 0)) (by decide) (hts _ q677) (fun _ h9 => h9) rfl dX5_like_153 ?_
      refine h_put (A := KB bk P) (C := RX5) (T := TX5) (N := 11) (ci := 4) hx hb hts in_X5 tyX5 tyX5_ok nmX5 hown hK hB.1 (Or.inr ⟨31, Or.inr (Or.inl rfl), rfl⟩) hS rfl 9 (by decide) (hts _ q677) (fun _ h9 => h9) rfl (ty := .int) (by decide +kernel) rfl rfl (Nat.lt_of_lt_of_le (by decide : 9 < 11) (Nat.le_of_eq rfl)) dX5_like_156 (fun H locs hc oq hz hS => ?_)
      have hB : BW D cA bk (up2 (up2 (bkArr (bkNow h g) g) 28 0 (g 28 0)) 29 0 (g 29 0)) H := hB.pt (k := 29) hJ (by omega) hc oq
      have hO := hO.kept (fun i hi _ => oq _ (fun e => hd _ (Or.inr ⟨31, Or.inr (Or.inl rfl), rfl⟩) (e ▸ ob i hi)))
      have hP := hP.kept hJ.pj (fun q hq _ => oq _ (fun e => (hJ.2.2.2 31 (Or.inr (Or.inl rfl))).2 (e ▸ hq)))
      refine lv_aload_n hx hb dX5_like_159 rfl (lv_at hl 1 rfl) ?_
      refine lv_aload_n hx hb dX5_like_160 rfl (lv_at hl 2 rfl) ?_
      refine h_get (C := RX5) (T := TX5) (N := 11) (ci := 4) hx hb hts in_X5 hown hK hO.1 rfl 10 (v := .int (g 30 0)) (by decide) (hts _ q679) (fun _ h9 => h9) rfl dX5_like_161 ?_
      refine h_put (A := KB bk P) (C := RX5) (T := TX5) (N := 11) (ci := 4) hx hb hts in_X5 tyX5 tyX5_ok nmX5 hown hK hB.1 (Or.inr ⟨31, Or.inr (Or.inl rfl), rfl⟩) hS rfl 10 (by decide) (hts _ q679) (fun _ h9 => h9) rfl (ty := .int) (by decide +kernel) rfl rfl (Nat.lt_of_lt_of_le (by decide : 10 < 11) (Nat.le_of_eq rfl)) dX5_like_164 (fun H locs hc oq hz hS => ?_)
      have hB : BW D cA bk (up2 (up2 (up2 (bkArr (bkNow h g) g) 28 0 (g 28 0)) 29 0 (g 29 0)) 30 0 (g 30 0)) H := hB.pt (k := 30) hJ (by omega) hc oq
      have hO := hO.kept (fun i hi _ => oq _ (fun e => hd _ (Or.inr ⟨31, Or.inr (Or.inl rfl), rfl⟩) (e ▸ ob i hi)))
      have hP := hP.kept hJ.pj (fun q hq _ => oq _ (fun e => (hJ.2.2.2 31 (Or.inr (Or.inl rfl))).2 (e ▸ hq)))
      have hB : BW D cA bk (bkLike h g) H := hB
      exact W.vret hx hb hr (fun t ht _ => ⟨⟨(), rfl, trivial, hB.at ht, hP.at ht⟩, hS.F ht⟩) hS.2.2 dX5_like_167 hlocks
    | succ r ih =>
      intro i H locs ls e9 hS hB hP hO hQ hl
      have hi : i < 40 := by omega
      refine lv_iload_n hx hb dX5_like_13 rfl (lv_at hl 0 rfl) ?_
      refine lv_aload_n hx hb dX5_like_14 rfl (lv_at hl 2 rfl) ?_
      refine h_get (C := RX5) (T := TX5) (N := 11) (ci := 4) hx hb hts in_X5 hown hK hO.1 rfl 8 (v := .int (g 28 0)) (by decide) (hts _ q675) (fun _ h9 => h9) rfl dX5_like_15 ?_
      rw [hgn]
      refine lv_icmp_ge (tgt := 52) hx hb dX5_like_18 (by decide) (fun h => absurd h (nI_ge (by omega) (by omega))) (fun _ => ?_)
      obtain ⟨f, ps, h1, h2, h3, h4, h5⟩ := hP
      obtain ⟨f2, pt, g1, g2, g3, g4, g5⟩ := hQ
      refine lv_aload_n hx hb dX5_like_21 rfl (lv_at hl 1 rfl) ?_
      refine h_get (C := RX5) (T := TX5) (N := 11) (ci := 4) hx hb hts in_X5 hown hK hB.1 rfl 1 (v := .ref (bk 32)) (by decide) (hts _ q661) (fun _ h9 => h9) rfl dX5_like_22 ?_
      refine lv_iload_n hx hb dX5_like_25 rfl (lv_at hl 0 rfl) ?_
      refine R_callR (As := [.int (nI i)]) (rest := []) (C := RJ2) (q0 := ps i 5) ⟨hx, hb, hml, hown, hts⟩ hS (metJ2_get l (D := D) (cA := cA) hi (h2 i hi)) ALU.blind (fun U hU hW => ALU.go h1 hK hU hW) (h1.recv hK) (cwV 1 hts (lw_V q826 q827 q828 q108 q829) rfl rfl rfl (by decide +kernel) ⟨Nat.le_of_ble_eq_true rfl, Nat.le_of_ble_eq_true rfl⟩) rfl hl.1 rfl (Nat.le_of_ble_eq_true rfl) dX5_like_26 ⟨Nat.zero_le _, Nat.zero_le _⟩ (fun H1 locs hk hS => ?_)
      have hB := hB.kept (fun i _ hz => hk _ hz)
      have hO := hO.kept (fun i _ hz => hk _ hz)
      have h1 := h1.kept (fun h => hk _ h) (fun h => hk _ h)
      have g1 := g1.kept (fun h => hk _ h) (fun h => hk _ h)
      have h3 := fun i hi => (h3 i hi).kept hk
      have g3 := fun i hi => (g3 i hi).kept hk
      refine va_castE hx hb hown (hts _ q574) ((h3 i hi).recv hK) dX5_like_29 ?_
      refine lv_aload_n hx hb dX5_like_32 rfl (lv_at hl 2 rfl) ?_
      refine h_get (C := RX5) (T := TX5) (N := 11) (ci := 4) hx hb hts in_X5 hown hK hO.1 rfl 1 (v := .ref (bo 32)) (by decide) (hts _ q661) (fun _ h9 => h9) rfl dX5_like_33 ?_
      refine lv_iload_n hx hb dX5_like_36 rfl (lv_at hl 0 rfl) ?_
      refine R_callR (As := [.int (nI i)]) (rest := [.ref (ps i 5)]) (C := RJ2) (q0 := pt i 5) ⟨hx, hb, hml, hown, hts⟩ hS (metJ2_get l (D := D) (cA := cA) hi (g2 i hi)) ALU.blind (fun U hU hW => ALU.go g1 hK hU hW) (g1.recv hK) (cwV 1 hts (lw_V q826 q827 q828 q108 q829) rfl rfl rfl (by decide +kernel) ⟨Nat.le_of_ble_eq_true rfl, Nat.le_of_ble_eq_true rfl⟩) rfl hl.1 rfl (Nat.le_of_ble_eq_true rfl) dX5_like_37 ⟨Nat.zero_le _, Nat.zero_le _⟩ (fun H2 locs hk hS => ?_)
      have hB := hB.kept (fun i _ hz => hk _ hz)
      have hO := hO.kept (fun i _ hz => hk _ hz)
      have h1 := h1.kept (fun h => hk _ h) (fun h => hk _ h)
      have g1 := g1.kept (fun h => hk _ h) (fun h => hk _ h)
      have h3 := fun i hi => (h3 i hi).kept hk
      have g3 := fun i hi => (g3 i hi).kept hk
      refine va_castE hx hb hown (hts _ q574) ((g3 i hi).recv hK) dX5_like_40 ?_
      have hsd : SD (ps i) (pt i) := fun a b ha hb9 e => hd _ (Or.inl (h5 i a hi ha).1) (Or.inl (e ▸ (g5 i b hi hb9).1))
      have hsj : SJ z0 (ps i) := ⟨fun a b ha hb9 e => (h4 i i a b hi hi ha hb9 e).2, fun a ha => hJ.1 _ (h5 i a hi ha).1⟩
      refine va_callv (va_runV (As := [.ref (pt i 5)]) (rest := []) ⟨hx, hb, hml, hown, hts⟩ (metX6_like l (E := fun _ _ => 0) (S := plLike i M N i) (S2 := N i) (sa := ps i) (sb := pt i) (D := D) (cA := cA) (z0 := z0)) (cwV 1 hts (lw_V q834 q835 q836 q129 q837) rfl rfl rfl (by decide +kernel) ⟨Nat.le_of_ble_eq_true rfl, Nat.le_of_ble_eq_true rfl⟩) ⟨PhL.blind.pc, (h3 i hi).recv hK, fun U hU hW => ⟨rfl, by rw [hU]; exact h3 i hi, by rw [hU]; exact g3 i hi, hsj, hsd, va_K.moved hW.alike hK⟩⟩ rfl rfl hl.1 rfl (lv_room (Nat.le_of_ble_eq_true rfl)) dX5_like_43 ⟨Nat.zero_le _, Nat.zero_le _⟩) hS (fun q _ h => by obtain ⟨a, ha, rfl⟩ := h; exact Or.inl (h5 i a hi ha).1) (fun q h => by obtain ⟨a, ha, rfl⟩ := h; exact Or.inl (h5 i a hi ha).1) (fun h' t H locs ht hvm hw hB2 hz hk hS => ?_)
      subst hw
      subst ht
      have hkn : ∀ q, q < H2.size → (∀ a, Spl a → q ≠ ps i a) → t.heap[q]? = H2[q]? := fun q h1 h2 => hk q h1 (fun ⟨a, ha, e⟩ => h2 a ha e)
      have hB := hB.kept (fun j hj hz => hkn _ hz (fun a ha e => (hJ.2.2.2 j hj).2 (e ▸ (h5 i a hi ha).1)))
      have hO := hO.kept (fun j hj hz => hkn _ hz (fun a ha e => hd _ (Or.inl (h5 i a hi ha).1) (e ▸ ob j hj)))
      have hQ : PL D cA bo O N t.heap := PL.kept ⟨f2, pt, g1, g2, g3, g4, g5⟩ hJo.pj (fun q hq hz => hkn _ hz (fun a ha e => hd _ (Or.inl (h5 i a hi ha).1) (Or.inl (e ▸ hq))))
      have hP : PL D cA bk P (plLike (i + 1) M N) t.heap := by
        have := PL.one hi h1 h2 h3 h4 h5 hB2 hkn
        rw [show plLike (i + 1) M N = setM (plLike i M N) i (likeM (plLike i M N i) (N i)) from plLike_s]
        exact this
      refine lv_iinc (v := nI i + 1) (lv' := [(2, .int (nI i + 1)), (0, .ref (bk 31)), (1, .ref (bo 31))]) hx hb dX5_like_46 hl (k := 0) rfl rfl (by decide) rfl (fun ls hl => ?_)
      rw [nI_1] at hl
      refine lv_goto (tgt := 13) hx hb dX5_like_49 (by decide) ?_
      exact ih (i + 1) _ _ _ (by omega) hS hB hP hO hQ hl
  exact loop n 0 _ _ _ (by omega) hS hB (by rw [show plLike 0 M N = M by funext i; unfold plLike; rw [if_neg (by omega)]]; exact hP) hO hQ hl
