/-! 11.mworld: the cells of the twin (StrangeKnivesModel): its memory is h: place k (a field's number), index i; an int field k is h k 0 -/
def marr : Nat → Bool := fun k => match k with
  | 3 => true
  | 4 => true
  | 5 => true
  | 6 => true
  | 7 => true
  | 8 => true
  | 9 => true
  | 10 => true
  | 11 => true
  | 12 => true
  | 13 => true
  | 14 => true
  | 15 => true
  | 16 => true
  | 27 => true
  | 28 => true
  | 29 => true
  | 35 => true
  | 36 => true
  | 37 => true
  | 38 => true
  | 39 => true
  | 42 => true
  | 43 => true
  | 47 => true
  | 48 => true
  | 49 => true
  | 51 => true
  | 52 => true
  | 53 => true
  | 54 => true
  | 55 => true
  | 61 => true
  | 62 => true
  | 63 => true
  | 64 => true
  | 65 => true
  | 66 => true
  | 67 => true
  | 68 => true
  | _ => false
def mlen : Nat → Nat := fun k => match k with
  | 3 => 12
  | 4 => 16
  | 5 => 16
  | 6 => 16
  | 7 => 12
  | 8 => 12
  | 9 => 12
  | 10 => 12
  | 11 => 12
  | 12 => 72
  | 13 => 128
  | 14 => 1200
  | 15 => 3
  | 16 => 600
  | 27 => 6
  | 28 => 8
  | 29 => 3200
  | 35 => 6
  | 36 => 64
  | 37 => 6
  | 38 => 6
  | 39 => 6
  | 42 => 6
  | 43 => 6
  | 47 => 6
  | 48 => 80
  | 49 => 8
  | 51 => 6
  | 52 => 6
  | 53 => 6
  | 54 => 4
  | 55 => 4
  | 61 => 80
  | 62 => 3200
  | 63 => 6
  | 64 => 6
  | 65 => 6
  | 66 => 4
  | 67 => 4
  | 68 => 3
  | _ => 0
def mfs (ad : Nat → Nat) (h : Mem) : List Value := [.ref (ad 0), .ref (ad 1), .int (h 2 0), .ref (ad 3), .ref (ad 4), .ref (ad 5), .ref (ad 6), .ref (ad 7), .ref (ad 8), .ref (ad 9), .ref (ad 10), .ref (ad 11), .ref (ad 12), .ref (ad 13), .ref (ad 14), .ref (ad 15), .ref (ad 16), .int (h 17 0), .int (h 18 0), .int (h 19 0), .int (h 20 0), .int (h 21 0), .int (h 22 0), .int (h 23 0), .int (h 24 0), .int (h 25 0), .int (h 26 0), .ref (ad 27), .ref (ad 28), .ref (ad 29), .int (h 30 0), .int (h 31 0), .int (h 32 0), .int (h 33 0), .int (h 34 0), .ref (ad 35), .ref (ad 36), .ref (ad 37), .ref (ad 38), .ref (ad 39), .int (h 40 0), .int (h 41 0), .ref (ad 42), .ref (ad 43), .int (h 44 0), .int (h 45 0), .int (h 46 0), .ref (ad 47), .ref (ad 48), .ref (ad 49), .int (h 50 0), .ref (ad 51), .ref (ad 52), .ref (ad 53), .ref (ad 54), .ref (ad 55), .int (h 56 0), .int (h 57 0), .int (h 58 0), .int (h 59 0), .int (h 60 0), .ref (ad 61), .ref (ad 62), .ref (ad 63), .ref (ad 64), .ref (ad 65), .ref (ad 66), .ref (ad 67), .ref (ad 68)]
def mfld : Nat → Bool := fun k => match k with
  | 2 => true
  | 17 => true
  | 18 => true
  | 19 => true
  | 20 => true
  | 21 => true
  | 22 => true
  | 23 => true
  | 24 => true
  | 25 => true
  | 26 => true
  | 30 => true
  | 31 => true
  | 32 => true
  | 33 => true
  | 34 => true
  | 40 => true
  | 41 => true
  | 44 => true
  | 45 => true
  | 46 => true
  | 50 => true
  | 56 => true
  | 57 => true
  | 58 => true
  | 59 => true
  | 60 => true
  | _ => false
theorem marr_lt {k : Nat} (h : marr k = true) : k < 69 := by
  rcases Nat.lt_or_ge k 69 with q | q
  · exact q
  · unfold marr at h
    split at h <;> first | omega | cases h
theorem mfs_put (ad : Nat → Nat) (h : Mem) (v : Int32) (k : Nat) (hk : mfld k = true) : (mfs ad h).set k (.int v) = mfs ad (up2 h k 0 v) := by
  unfold mfld at hk
  split at hk <;> first | rfl | cases hk
theorem mfs_arr (ad : Nat → Nat) (h : Mem) (i : Nat) (v : Int32) (k : Nat) (hk : marr k = true) : mfs ad (up2 h k i v) = mfs ad h := by
  unfold marr at hk
  split at hk <;> first | rfl | cases hk
theorem mfs_len (ad : Nat → Nat) (h : Mem) : (mfs ad h).length = 69 := rfl
theorem up2_same (h : Mem) (k i : Nat) (x : Int32) : up2 h k i x k = upd (h k) i x := by unfold up2; rw [if_pos rfl]
theorem up2_other {h : Mem} {k j i : Nat} {x : Int32} (q : j ≠ k) : up2 h k i x j = h j := by unfold up2; rw [if_neg q]
def wlen : Nat → Nat := fun k => match k with
  | 0 => 4
  | _ => 6
def widx : Nat → Nat → Nat := fun k i => match k with
  | 0 => [6, 7, 8, 9].getD i 0
  | _ => [22, 23, 24, 25, 26, 27].getD i 0
theorem widx_lt (k i : Nat) : widx k i < 30 := by
  unfold widx
  split
  · match i with
    | 0 => decide
    | 1 => decide
    | 2 => decide
    | 3 => decide
    | i + 4 => exact Nat.lt_of_le_of_lt (Nat.le_of_eq (by simp)) (by decide : 0 < 30)
  · match i with
    | 0 => decide
    | 1 => decide
    | 2 => decide
    | 3 => decide
    | 4 => decide
    | 5 => decide
    | i + 6 => exact Nat.lt_of_le_of_lt (Nat.le_of_eq (by simp)) (by decide : 0 < 30)
def MW (D : va_G) (cA : Nat → ClassId) (E : Nat → Nat → Nat) (ad : Nat → Nat) (h : Mem) (H : Heap) : Prop := va_at D vwCl (ad 69, .inr (0, mfs ad h)) H ∧ (∀ k, marr k = true → va_at D vwCl (ad k, .inl (cA 0, mlen k, .inl (h k))) H) ∧ ∀ k, k < 2 → va_at D vwCl (ad k, .inl (cA 4, wlen k, .inr (.inr (.inr (.inr (fun i => some (E 0 (widx k i)))))))) H
def mpl (i : Nat) : Prop := marr i = true ∨ i = 69 ∨ i < 2
def MJ (z0 : Nat) (ad : Nat → Nat) : Prop := (∀ i j, mpl i → mpl j → ad i = ad j → i = j) ∧ ∀ i, mpl i → z0 ≤ ad i
theorem MJ.z {z0 : Nat} {ad : Nat → Nat} (h : MJ z0 ad) : ∀ q, (∃ i, mpl i ∧ q = ad i) → z0 ≤ q := fun q ⟨i, h1, h2⟩ => by rw [h2]; exact h.2 i h1
def MA (ad : Nat → Nat) : Nat → Prop := fun q => ∃ i, mpl i ∧ q = ad i
theorem MA_of {ad : Nat → Nat} {k : Nat} (hk : marr k = true) : MA ad (ad k) := ⟨k, Or.inl hk, rfl⟩
theorem MA_ob {ad : Nat → Nat} : MA ad (ad 69) := ⟨69, Or.inr (Or.inl rfl), rfl⟩
theorem marr_2 {k : Nat} (h : marr k = true) : ¬ k < 2 := by
  intro q
  match k, q, h with
  | 0, _, h => cases h
  | 1, _, h => cases h
theorem MW.st {z0 : Nat} {D : va_G} {cA : Nat → ClassId} {E : Nat → Nat → Nat} {ad : Nat → Nat} {h : Mem} {H H1 : Heap} {k i : Nat} {x : Int32} (hM : MW D cA E ad h H) (hJ : MJ z0 ad) (hk : marr k = true) (hc : va_at D vwCl (ad k, .inl (cA 0, mlen k, .inl (upd (h k) i x))) H1) (oq : ∀ q, q ≠ ad k → H1[q]? = H[q]?) : MW D cA E ad (up2 h k i x) H1 := by
  refine ⟨?_, fun j hj => ?_, fun j hj => ?_⟩
  · rw [mfs_arr ad h i x k hk]
    refine hM.1.kept (oq _ fun q => ?_)
    have := hJ.1 69 k (Or.inr (Or.inl rfl)) (Or.inl hk) q
    have := marr_lt hk
    omega
  · by_cases e : j = k
    · subst e
      rw [up2_same]
      exact hc
    · rw [up2_other e]
      exact (hM.2.1 j hj).kept (oq _ fun q => e (hJ.1 j k (Or.inl hj) (Or.inl hk) q))
  · refine (hM.2.2 j hj).kept (oq _ fun q => ?_)
    have := hJ.1 j k (Or.inr (Or.inr hj)) (Or.inl hk) q
    exact marr_2 hk (by omega)
theorem MW.pt {z0 : Nat} {D : va_G} {cA : Nat → ClassId} {E : Nat → Nat → Nat} {ad : Nat → Nat} {h : Mem} {H H1 : Heap} {k : Nat} {x : Int32} (hM : MW D cA E ad h H) (hJ : MJ z0 ad) (hk : mfld k = true) (hn : marr k = false) (hc : va_at D vwCl (ad 69, .inr (0, (mfs ad h).set k (.int x))) H1) (oq : ∀ q, q ≠ ad 69 → H1[q]? = H[q]?) : MW D cA E ad (up2 h k 0 x) H1 := by
  refine ⟨?_, fun j hj => ?_, fun j hj => ?_⟩
  · rw [← mfs_put ad h x k hk]
    exact hc
  · have e : j ≠ k := fun e => by rw [e, hn] at hj; cases hj
    rw [up2_other e]
    refine (hM.2.1 j hj).kept (oq _ fun q => ?_)
    have := hJ.1 j 69 (Or.inl hj) (Or.inr (Or.inl rfl)) q
    have := marr_lt hj
    omega
  · refine (hM.2.2 j hj).kept (oq _ fun q => ?_)
    have := hJ.1 j 69 (Or.inr (Or.inr hj)) (Or.inr (Or.inl rfl)) q
    omega
theorem MW.at {D : va_G} {cA : Nat → ClassId} {E : Nat → Nat → Nat} {ad : Nat → Nat} {h : Mem} {H H1 : Heap} (ht : H1 = H) (hM : MW D cA E ad h H) : MW D cA E ad h H1 := by rw [ht]; exact hM
theorem TX7_own (k : Nat) : (TX7 k).1 = RX7 := by
  unfold TX7
  split <;> rfl
theorem MW.kept {D : va_G} {cA : Nat → ClassId} {E : Nat → Nat → Nat} {ad : Nat → Nat} {h : Mem} {H H1 : Heap} (hM : MW D cA E ad h H) (oq : ∀ q, q < H.size → H1[q]? = H[q]?) : MW D cA E ad h H1 :=
  ⟨hM.1.kept (oq _ hM.1.lt), fun k hk => (hM.2.1 k hk).kept (oq _ (hM.2.1 k hk).lt), fun k hk => (hM.2.2 k hk).kept (oq _ (hM.2.2 k hk).lt)⟩
/-- a contract's start -/
abbrev MPc (D : va_G) (cA : Nat → ClassId) (z0 : Nat) (E : Nat → Nat → Nat) (ad : Nat → Nat) (h : Mem) (av : List Value) : Array Value → State → Prop := va_Pc av (fun U => MW D cA E ad h U.heap ∧ KK D cA U ∧ MJ z0 ad ∧ FZ z0 E U U.heap)
/-- the ends: an int, a boolean, nothing; and of methods that only read -/
abbrev MQi (D : va_G) (cA : Nat → ClassId) (E : Nat → Nat → Nat) (ad : Nat → Nat) (post : Int32 → Mem → Prop) : Array Value → State → Outcome → State → Prop := va_Qi post (fun h' t => MW D cA E ad h' t.heap) (MA ad)
abbrev MQz (D : va_G) (cA : Nat → ClassId) (E : Nat → Nat → Nat) (ad : Nat → Nat) (post : Bool → Mem → Prop) : Array Value → State → Outcome → State → Prop := va_Qi (fun r h' => ∃ b : Bool, r = b2i b ∧ post b h') (fun h' t => MW D cA E ad h' t.heap) (MA ad)
abbrev MQv (D : va_G) (cA : Nat → ClassId) (E : Nat → Nat → Nat) (ad : Nat → Nat) (post : Mem → Prop) : Array Value → State → Outcome → State → Prop := va_Qv post (fun h' t => MW D cA E ad h' t.heap) (MA ad)
abbrev MeI (l : Launch) (D : va_G) (cA : Nat → ClassId) (z0 : Nat) (E : Nat → Nat → Nat) (ad : Nat → Nat) (y : MethodName) (ws : List Cond) (rm : Room) (av : List Value) (h : Mem) (post : Int32 → Mem → Prop) : Prop := Met l y ws rm (MPc D cA z0 E ad h av) (MQi D cA E ad post) 0 0 (MA ad)
abbrev MeZ (l : Launch) (D : va_G) (cA : Nat → ClassId) (z0 : Nat) (E : Nat → Nat → Nat) (ad : Nat → Nat) (y : MethodName) (ws : List Cond) (rm : Room) (av : List Value) (h : Mem) (post : Bool → Mem → Prop) : Prop := Met l y ws rm (MPc D cA z0 E ad h av) (MQz D cA E ad post) 0 0 (MA ad)
abbrev MeV (l : Launch) (D : va_G) (cA : Nat → ClassId) (z0 : Nat) (E : Nat → Nat → Nat) (ad : Nat → Nat) (y : MethodName) (ws : List Cond) (rm : Room) (av : List Value) (h : Mem) (post : Mem → Prop) : Prop := Met l y ws rm (MPc D cA z0 E ad h av) (MQv D cA E ad post) 0 0 (MA ad)
theorem MPc_blind {D : va_G} {cA : Nat → ClassId} {z0 : Nat} {E : Nat → Nat → Nat} {ad : Nat → Nat} {h : Mem} {av : List Value} : FrameBlind (MPc D cA z0 E ad h av) := fun a U g mk q => by
  obtain ⟨q0, q1, q2, q3, q4⟩ := q
  exact ⟨q0, q1, va_K.moved (u := U) (U := U.calling g mk a) (Vm.Alike.refl U.vm) q2, q3, q4.calling⟩
section MR
variable {p : Program} {l : Launch} {e : Env} {R : Room} {s : State} {m : MethodId} {args : Array Value} {below : List Frame} {meth : Method} {c : Code} {H : Heap} {locs : List Loc} {cells slots : Nat} {Q : State → Prop}
variable {cc : ByteArray} {pc : Nat} {ls : Array Slot} {rest : List Value} {H0 : Heap} {D : va_G} {cA : Nat → ClassId} {E : Nat → Nat → Nat} {ad : Nat → Nat} {h : Mem} {z0 : Nat}
theorem M_get (hx : p.tables.exec = Jvm.exec) (hb : c.code = cc) (hts : ∀ w ∈ lw_all, w.before args s = true) (hown : s.vm.findClass RX7 = some m.cls) (hK : KK D cA s) (hM : MW D cA E ad h H) (k : Nat) {v : Value} {index : Nat} (hk : k < 69) (hlink : (Cond.fieldLink RX7 index RX7 (TX7 k).2.1 (TX7 k).2.2.1).before args s = true) (hv : (mfs ad h)[k]? = some v) (hdg : decode cc pc = .ok (.getfield index, 3))
    (kk : W p l e R s m args below meth c H locs cells slots Q (F0 m (pc + 3) ls (v :: rest))) : W p l e R s m args below meth c H locs cells slots Q (F0 m pc ls (.ref (ad 69) :: rest)) :=
  h_get (C := RX7) (T := TX7) (N := 69) (ci := 0) hx hb hts in_X7 hown hK hM.1 rfl k hk hlink (fun _ h9 => by rw [TX7_own] at h9; exact h9) hv hdg kk
theorem M_put (hx : p.tables.exec = Jvm.exec) (hb : c.code = cc) (hts : ∀ w ∈ lw_all, w.before args s = true) (hown : s.vm.findClass RX7 = some m.cls) (hK : KK D cA s) (hM : MW D cA E ad h H) (hJ : MJ z0 ad) (hS : va_S (MA ad) H0 H locs) (k : Nat) {x : Int32} {index : Nat} (hk : mfld k = true) (hn : marr k = false) (hlink : (Cond.fieldLink RX7 index RX7 (TX7 k).2.1 (TX7 k).2.2.1).before args s = true) (hfin : (TX7 k).2.2.2 = false) (ty : FieldType) (hd : parseFieldDescriptor (TX7 k).2.2.1 = some ty) (hw : narrow ty (.int x) = .int x) (hf : fits ty (.int x) = true) (hdg : decode cc pc = .ok (.putfield index, 3))
    (kk : ∀ (H1 : Heap) (locs1 : List Loc), MW D cA E ad (up2 h k 0 x) H1 → va_S (MA ad) H0 H1 locs1 → W p l e R s m args below meth c H1 locs1 cells slots Q (F0 m (pc + 3) ls rest)) : W p l e R s m args below meth c H locs cells slots Q (F0 m pc ls (.int x :: .ref (ad 69) :: rest)) := by
  have hk69 : k < 69 := by
    rcases Nat.lt_or_ge k 69 with q | q
    · exact q
    · unfold mfld at hk
      split at hk <;> first | omega | cases hk
  exact h_put (C := RX7) (T := TX7) (N := 69) (ci := 0) hx hb hts in_X7 tyX7 tyX7_ok nmX7 hown hK hM.1 MA_ob hS rfl k hk69 hlink (fun _ h9 => by rw [TX7_own] at h9; exact h9) hfin hd hw hf (by rw [mfs_len]; exact hk69) hdg (fun H1 locs1 hc oq _ hS1 => kk H1 locs1 (hM.pt hJ hk hn hc oq) hS1)
theorem M_iald (hx : p.tables.exec = Jvm.exec) (hb : c.code = cc) (hK : KK D cA s) (hM : MW D cA E ad h H) (k : Nat) (hk : marr k = true) {i : Int32} {j : Nat} (hj : ix i = j) (hin : vp_in i (mlen k)) (hdg : decode cc pc = .ok (.iaload, 1))
    (kk : W p l e R s m args below meth c H locs cells slots Q (F0 m (pc + 1) ls (.int (h k j) :: rest))) : W p l e R s m args below meth c H locs cells slots Q (F0 m pc ls (.int i :: .ref (ad k) :: rest)) :=
  h_iald hx hb hK (hM.2.1 k hk) 0 rfl hj hin hdg kk
theorem M_alen (hx : p.tables.exec = Jvm.exec) (hb : c.code = cc) (hK : KK D cA s) (hM : MW D cA E ad h H) (k : Nat) (hk : marr k = true) (hdg : decode cc pc = .ok (.arraylength, 1))
    (kk : W p l e R s m args below meth c H locs cells slots Q (F0 m (pc + 1) ls (.int (nI (mlen k)) :: rest))) : W p l e R s m args below meth c H locs cells slots Q (F0 m pc ls (.ref (ad k) :: rest)) :=
  h_alen hx hb hK (hM.2.1 k hk) 0 rfl rfl hdg kk
theorem M_iast (hx : p.tables.exec = Jvm.exec) (hb : c.code = cc) (hK : KK D cA s) (hM : MW D cA E ad h H) (hJ : MJ z0 ad) (hS : va_S (MA ad) H0 H locs) (k : Nat) (hk : marr k = true) {i x : Int32} {j : Nat} (hj : ix i = j) (hin : vp_in i (mlen k)) (hdg : decode cc pc = .ok (.iastore, 1))
    (kk : ∀ (H1 : Heap) (locs1 : List Loc), MW D cA E ad (up2 h k j x) H1 → va_S (MA ad) H0 H1 locs1 → W p l e R s m args below meth c H1 locs1 cells slots Q (F0 m (pc + 1) ls rest)) : W p l e R s m args below meth c H locs cells slots Q (F0 m pc ls (.int x :: .int i :: .ref (ad k) :: rest)) :=
  h_iast hx hb hK (hM.2.1 k hk) (MA_of hk) hS 0 rfl hj hin hdg (fun H1 locs1 hc oq _ hS1 => kk H1 locs1 (hM.st hJ hk hc oq) hS1)
theorem M_iret (hx : p.tables.exec = Jvm.exec) (hb : c.code = cc) (hr : meth.sig.returnType = some .int) (hlocks : meth.locks = false) {post : Int32 → Mem → Prop} {v : Int32} (hM : MW D cA E ad h H) (hS : va_S (MA ad) s.heap H locs) (hw : post v h) (hdg : decode cc pc = .ok (.ireturn, 1)) : W p l e R s m args below meth c H locs cells slots (MQ below (MQi D cA E ad post) args s cells slots (MA ad)) (F0 m pc ls [.int v]) :=
  W.iret hx hb hr (fun t ht _ => ⟨⟨v, h, rfl, hw, MW.at ht hM⟩, hS.F ht⟩) hS.2.2 hdg hlocks
theorem M_zret (hx : p.tables.exec = Jvm.exec) (hb : c.code = cc) (hr : meth.sig.returnType = some .boolean) (hlocks : meth.locks = false) {post : Bool → Mem → Prop} {v : Int32} (hM : MW D cA E ad h H) (hS : va_S (MA ad) s.heap H locs) (hw : ∃ b, v = b2i b ∧ post b h) (hdg : decode cc pc = .ok (.ireturn, 1)) : W p l e R s m args below meth c H locs cells slots (MQ below (MQz D cA E ad post) args s cells slots (MA ad)) (F0 m pc ls [.int v]) := by
  obtain ⟨b, rfl, hw⟩ := hw
  exact W.zret hx hb hr (by cases b <;> rfl) (fun t ht _ => ⟨⟨_, h, rfl, ⟨b, rfl, hw⟩, MW.at ht hM⟩, hS.F ht⟩) hS.2.2 hdg hlocks
theorem M_vret (hx : p.tables.exec = Jvm.exec) (hb : c.code = cc) (hr : meth.sig.returnType = none) (hlocks : meth.locks = false) {post : Mem → Prop} (hM : MW D cA E ad h H) (hS : va_S (MA ad) s.heap H locs) (hw : post h) (hdg : decode cc pc = .ok (.return_, 1)) : W p l e R s m args below meth c H locs cells slots (MQ below (MQv D cA E ad post) args s cells slots (MA ad)) (F0 m pc ls []) :=
  W.vret hx hb hr (fun t ht _ => ⟨⟨h, rfl, hw, MW.at ht hM⟩, hS.F ht⟩) hS.2.2 hdg hlocks
theorem M_recv (hK : KK D cA s) (hM : MW D cA E ad h H) : ∃ cell : Cell, H[ad 69]? = some cell ∧ cell.vm.isStatics = false ∧ s.vm.findClass RX7 = some cell.cls := va_recv (q := (RX7, TX7, 69)) (ci := 0) (q0 := 0) hK (va_P1 hM.1) rfl rfl
variable {y : MethodName} {bytes : ByteArray} {maxL nL n index : Nat} {ret : Option FieldType} {ws : List Cond} {rm : Room} {As : List Value} {st0 : List Value}
theorem M_ca {sv : State} (h1 : s.vm.Alike sv.vm) (hK : KK D cA s) : KK D cA sv := va_K.moved h1 hK
theorem M_callI (S : CallFix p m c cc nL s args lw_all RX7) (hK : KK D cA s) (hZ : FZ z0 E s s.heap) (hM : MW D cA E ad h H) (hJ : MJ z0 ad) (hS : va_S (MA ad) s.heap H locs) {post : Int32 → Mem → Prop} (met : MeI l D cA z0 E ad y ws rm (.ref (ad 69) :: As) h post) (cw : CallW R s args RX7 RX7 index y bytes maxL ret ws rm 0 0 n) (hn : As.length = n) (hsize : ls.size = nL) (hst : st0 = As.reverse ++ .ref (ad 69) :: rest) (hW : (rest.map fun v => v.category).sum ≤ 8) (hdg : decode cc pc = .ok (.invokevirtual index, 3)) (hc : cells ≤ R.cells ∧ slots ≤ R.slots)
    (kk : ∀ (r : Int32) (h' : Mem) (H1 : Heap) (locs1 : List Loc), post r h' → MW D cA E ad h' H1 → va_S (MA ad) s.heap H1 locs1 → W p l e R s m args below meth c H1 locs1 cells slots Q (F0 m (pc + 3) ls (.int r :: rest))) : W p l e R s m args below meth c H locs cells slots Q (F0 m pc ls st0) :=
  va_calli (va_runV S met cw ⟨MPc_blind, M_recv hK hM, fun U hU hW => ⟨rfl, by rw [hU]; exact hM, va_K.moved hW.alike hK, hJ, hZ.go hS hJ.z hU hW⟩⟩ rfl hn hsize hst (lv_room hW) hdg hc) hS (fun _ _ h => h) (fun _ h => h) (fun r u t H1 locs1 ht hvm hw hB hz hk hS1 => kk r u H1 locs1 hw (ht ▸ hB) hS1)
theorem M_callZ (S : CallFix p m c cc nL s args lw_all RX7) (hK : KK D cA s) (hZ : FZ z0 E s s.heap) (hM : MW D cA E ad h H) (hJ : MJ z0 ad) (hS : va_S (MA ad) s.heap H locs) {post : Bool → Mem → Prop} (met : MeZ l D cA z0 E ad y ws rm (.ref (ad 69) :: As) h post) (cw : CallW R s args RX7 RX7 index y bytes maxL ret ws rm 0 0 n) (hn : As.length = n) (hsize : ls.size = nL) (hst : st0 = As.reverse ++ .ref (ad 69) :: rest) (hW : (rest.map fun v => v.category).sum ≤ 8) (hdg : decode cc pc = .ok (.invokevirtual index, 3)) (hc : cells ≤ R.cells ∧ slots ≤ R.slots)
    (kk : ∀ (r : Bool) (h' : Mem) (H1 : Heap) (locs1 : List Loc), post r h' → MW D cA E ad h' H1 → va_S (MA ad) s.heap H1 locs1 → W p l e R s m args below meth c H1 locs1 cells slots Q (F0 m (pc + 3) ls (.int (b2i r) :: rest))) : W p l e R s m args below meth c H locs cells slots Q (F0 m pc ls st0) :=
  va_calli (va_runV S met cw ⟨MPc_blind, M_recv hK hM, fun U hU hW => ⟨rfl, by rw [hU]; exact hM, va_K.moved hW.alike hK, hJ, hZ.go hS hJ.z hU hW⟩⟩ rfl hn hsize hst (lv_room hW) hdg hc) hS (fun _ _ h => h) (fun _ h => h) (fun r u t H1 locs1 ht hvm hw hB hz hk hS1 => by obtain ⟨b, rfl, hw⟩ := hw; exact kk b u H1 locs1 hw (ht ▸ hB) hS1)
theorem M_callV (S : CallFix p m c cc nL s args lw_all RX7) (hK : KK D cA s) (hZ : FZ z0 E s s.heap) (hM : MW D cA E ad h H) (hJ : MJ z0 ad) (hS : va_S (MA ad) s.heap H locs) {post : Mem → Prop} (met : MeV l D cA z0 E ad y ws rm (.ref (ad 69) :: As) h post) (cw : CallW R s args RX7 RX7 index y bytes maxL ret ws rm 0 0 n) (hn : As.length = n) (hsize : ls.size = nL) (hst : st0 = As.reverse ++ .ref (ad 69) :: rest) (hW : (rest.map fun v => v.category).sum ≤ 8) (hdg : decode cc pc = .ok (.invokevirtual index, 3)) (hc : cells ≤ R.cells ∧ slots ≤ R.slots)
    (kk : ∀ (h' : Mem) (H1 : Heap) (locs1 : List Loc), post h' → MW D cA E ad h' H1 → va_S (MA ad) s.heap H1 locs1 → W p l e R s m args below meth c H1 locs1 cells slots Q (F0 m (pc + 3) ls rest)) : W p l e R s m args below meth c H locs cells slots Q (F0 m pc ls st0) :=
  va_callv (va_runV S met cw ⟨MPc_blind, M_recv hK hM, fun U hU hW => ⟨rfl, by rw [hU]; exact hM, va_K.moved hW.alike hK, hJ, hZ.go hS hJ.z hU hW⟩⟩ rfl hn hsize hst (lv_room hW) hdg hc) hS (fun _ _ h => h) (fun _ h => h) (fun u t H1 locs1 ht hvm hw hB hz hk hS1 => kk u H1 locs1 hw (ht ▸ hB) hS1)
theorem M_callIS (S : CallFix p m c cc nL s args lw_all RX7) (hK : KK D cA s) (hZ : FZ z0 E s s.heap) (hM : MW D cA E ad h H) (hJ : MJ z0 ad) (hS : va_S (MA ad) s.heap H locs) {post : Int32 → Mem → Prop} (met : MeI l D cA z0 E ad y ws rm As h post) (cw : CallB R s args RX7 index y bytes maxL ret ws rm 0 0 n ∧ (Cond.static y).before args s = true) (hn : As.length = n) (hsize : ls.size = nL) (hst : st0 = As.reverse ++ rest) (hW : (rest.map fun v => v.category).sum ≤ 8) (hdg : decode cc pc = .ok (.invokestatic index, 3)) (hc : cells ≤ R.cells ∧ slots ≤ R.slots)
    (kk : ∀ (r : Int32) (h' : Mem) (H1 : Heap) (locs1 : List Loc), post r h' → MW D cA E ad h' H1 → va_S (MA ad) s.heap H1 locs1 → W p l e R s m args below meth c H1 locs1 cells slots Q (F0 m (pc + 3) ls (.int r :: rest))) : W p l e R s m args below meth c H locs cells slots Q (F0 m pc ls st0) :=
  va_calli (va_runS S met cw ⟨MPc_blind, fun U hU hW => ⟨rfl, by rw [hU]; exact hM, va_K.moved hW.alike hK, hJ, hZ.go hS hJ.z hU hW⟩⟩ rfl hn hsize hst (lv_room hW) hdg hc) hS (fun _ _ h => h) (fun _ h => h) (fun r u t H1 locs1 ht hvm hw hB hz hk hS1 => kk r u H1 locs1 hw (ht ▸ hB) hS1)
theorem M_callZS (S : CallFix p m c cc nL s args lw_all RX7) (hK : KK D cA s) (hZ : FZ z0 E s s.heap) (hM : MW D cA E ad h H) (hJ : MJ z0 ad) (hS : va_S (MA ad) s.heap H locs) {post : Bool → Mem → Prop} (met : MeZ l D cA z0 E ad y ws rm As h post) (cw : CallB R s args RX7 index y bytes maxL ret ws rm 0 0 n ∧ (Cond.static y).before args s = true) (hn : As.length = n) (hsize : ls.size = nL) (hst : st0 = As.reverse ++ rest) (hW : (rest.map fun v => v.category).sum ≤ 8) (hdg : decode cc pc = .ok (.invokestatic index, 3)) (hc : cells ≤ R.cells ∧ slots ≤ R.slots)
    (kk : ∀ (r : Bool) (h' : Mem) (H1 : Heap) (locs1 : List Loc), post r h' → MW D cA E ad h' H1 → va_S (MA ad) s.heap H1 locs1 → W p l e R s m args below meth c H1 locs1 cells slots Q (F0 m (pc + 3) ls (.int (b2i r) :: rest))) : W p l e R s m args below meth c H locs cells slots Q (F0 m pc ls st0) :=
  va_calli (va_runS S met cw ⟨MPc_blind, fun U hU hW => ⟨rfl, by rw [hU]; exact hM, va_K.moved hW.alike hK, hJ, hZ.go hS hJ.z hU hW⟩⟩ rfl hn hsize hst (lv_room hW) hdg hc) hS (fun _ _ h => h) (fun _ h => h) (fun r u t H1 locs1 ht hvm hw hB hz hk hS1 => by obtain ⟨b, rfl, hw⟩ := hw; exact kk b u H1 locs1 hw (ht ▸ hB) hS1)
theorem M_callVS (S : CallFix p m c cc nL s args lw_all RX7) (hK : KK D cA s) (hZ : FZ z0 E s s.heap) (hM : MW D cA E ad h H) (hJ : MJ z0 ad) (hS : va_S (MA ad) s.heap H locs) {post : Mem → Prop} (met : MeV l D cA z0 E ad y ws rm As h post) (cw : CallB R s args RX7 index y bytes maxL ret ws rm 0 0 n ∧ (Cond.static y).before args s = true) (hn : As.length = n) (hsize : ls.size = nL) (hst : st0 = As.reverse ++ rest) (hW : (rest.map fun v => v.category).sum ≤ 8) (hdg : decode cc pc = .ok (.invokestatic index, 3)) (hc : cells ≤ R.cells ∧ slots ≤ R.slots)
    (kk : ∀ (h' : Mem) (H1 : Heap) (locs1 : List Loc), post h' → MW D cA E ad h' H1 → va_S (MA ad) s.heap H1 locs1 → W p l e R s m args below meth c H1 locs1 cells slots Q (F0 m (pc + 3) ls rest)) : W p l e R s m args below meth c H locs cells slots Q (F0 m pc ls st0) :=
  va_callv (va_runS S met cw ⟨MPc_blind, fun U hU hW => ⟨rfl, by rw [hU]; exact hM, va_K.moved hW.alike hK, hJ, hZ.go hS hJ.z hU hW⟩⟩ rfl hn hsize hst (lv_room hW) hdg hc) hS (fun _ _ h => h) (fun _ h => h) (fun u t H1 locs1 ht hvm hw hB hz hk hS1 => kk u H1 locs1 hw (ht ▸ hB) hS1)
end MR
/-- a place of a method's code: from there on, over the twin's cells -/
def JM (p : Program) (l : Launch) (e : Env) (R : Room) (s : State) (m : MethodId) (args : Array Value) (below : List Frame) (meth : Method) (c : Code) (Q : State → Prop) (D : va_G) (cA : Nat → ClassId) (E : Nat → Nat → Nat) (ad : Nat → Nat) (nL pc : Nat) (h : Mem) (lv : List (Nat × Value)) (st : List Value) : Prop :=
  ∀ (H : Heap) (locs : List Loc) (ls : Array Slot), MW D cA E ad h H → va_S (MA ad) s.heap H locs → lv_has ls nL lv → W p l e R s m args below meth c H locs 0 0 Q (F0 m pc ls st)
