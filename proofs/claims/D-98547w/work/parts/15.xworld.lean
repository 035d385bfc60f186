/-! 15.xworld, printed by tools/mk_xworld.py: the component's own cells (X: the object, its arrays, its book, the states now and tried, the view's array), one state's (S), a view's array (V); memories by place as with the twin -/
section PN
variable {p : Program} {l : Launch} {e : Env} {R : Room} {s : State} {m : MethodId} {args : Array Value} {below : List Frame} {meth : Method} {c : Code} {H : Heap} {locs : List Loc} {cells slots : Nat} {Q : State → Prop}
variable {cc : ByteArray} {pc : Nat} {ls : Array Slot} {rest : List Value} {A : Nat → Prop} {H0 : Heap} {D : va_G} {cl : List vw_C} {tys : List (ClassId × FieldType)} {a : Nat}
theorem h_putN (hexec : p.tables.exec = Jvm.exec) (hb : c.code = cc) {own ref C host : String} {T : u_T} {N ci index : Nat} {Ts : List Cond} (hts : ∀ w ∈ Ts, w.before args s = true) (hin : ∀ w ∈ u_ws C T N, w ∈ Ts) (ty0 : Nat → FieldType) (hty : ∀ k, k < N → parseFieldDescriptor (T k).2.2.1 = some (ty0 k)) (hnm : ∀ a, a < N → ∀ b, b < N → a ≠ b → (T a).2.1 ≠ (T b).2.1) (hown : s.vm.findClass own = some m.cls) (hK : va_K D cl tys s) {fs : List Value} (hP : va_at D cl (a, .inr (ci, fs)) H) (hAa : A a) (hS0 : va_S A H0 H locs) (hc : cl[ci]? = some (C, T, N)) (k : Nat) (hk : k < N) (hlink : (Cond.fieldLinkNest own index ref (T k).2.1 (T k).2.2.1 host).before args s = true) (hsame : ∀ x, s.fieldFound? (T k).1 (T k).2.1 (T k).2.2.1 = some x → s.fieldFound? ref (T k).2.1 (T k).2.2.1 = some x) (hfin : (T k).2.2.2 = false) {ty : FieldType} {v : Value} (hd : parseFieldDescriptor (T k).2.2.1 = some ty) (hn : narrow ty v = v) (hfit : fits ty v = true) (hl : k < fs.length)
    (hdg : decode cc pc = .ok (.putfield index, 3)) (kk : ∀ (H1 : Heap) (locs1 : List Loc), va_at D cl (a, .inr (ci, fs.set k v)) H1 → (∀ q, q ≠ a → H1[q]? = H[q]?) → H1.size = H.size → va_S A H0 H1 locs1 → W p l e R s m args below meth c H1 locs1 cells slots Q (F0 m (pc + 3) ls rest)) : W p l e R s m args below meth c H locs cells slots Q (F0 m pc ls (v :: .ref a :: rest)) := by
  have hap := va_apart (own := own) hts hin ty0 hty hnm hK hc
  obtain ⟨r, h1, cell, q1, q2, q3, q4⟩ := hP
  have hr : r = (C, T, N) := Option.some.inj (h1.symm.trans hc)
  subst hr
  obtain ⟨hS, hfc, kC, hkC, hkind⟩ := hK.1 ci _ hc
  obtain ⟨cf, kf, fi, f, hi, hsl⟩ := hS k hk
  have hlay := hts _ (hin _ (u_in_lay hk))
  unfold u_lay at hlay
  rw [if_neg (by rw [hfin]; decide)] at hlay
  have hst := (u_facts hfc hkC (u_lays hts hin hk) hi).1
  have h6 := u_store hfc hkC hkind hlay hi hd hn hfit
  refine va_WputK hexec hb (f := f) hown hlink (hsame _ hi) hst (by rw [q2]; exact h6) q1 q3 (by rw [hsl]; exact k2_hasslot (q4 k hk)) rfl rfl hdg fun H' e1 e2 e3 => ?_
  rw [hsl] at e1 ⊢
  exact kk H' _ ⟨_, hc, t_OB.to (V := updV (vp_V fs) k v) ⟨_, e1, q2, q3, t_set q4 hap hk v⟩ (fun j _ => vp_updV_set hl v j)⟩ e3 e2 (hS0.put e2 e3 hAa)
theorem h_bald (hexec : p.tables.exec = Jvm.exec) (hb : c.code = cc) (hK : va_K D cl tys s) {cA : ClassId} {n : Nat} {f : Nat → Int32} (hP : va_at D cl (a, .inl (cA, n, .inl f)) H) (t0 : Nat) (ht : tys[t0]? = some (cA, .byte)) {i : Int32} {j : Nat} (hj : ix i = j) (hin : vp_in i n) (hdg : decode cc pc = .ok (.baload, 1))
    (kk : W p l e R s m args below meth c H locs cells slots Q (F0 m (pc + 1) ls (.int (f j) :: rest))) : W p l e R s m args below meth c H locs cells slots Q (F0 m pc ls (.int i :: .ref a :: rest)) := by
  subst hj
  exact va_bald hexec hb hK (va_P1 hP) 0 t0 rfl ht hin hdg kk
theorem h_bast (hexec : p.tables.exec = Jvm.exec) (hb : c.code = cc) (hK : va_K D cl tys s) {cA : ClassId} {n : Nat} {f : Nat → Int32} (hP : va_at D cl (a, .inl (cA, n, .inl f)) H) (hAa : A a) (hS : va_S A H0 H locs) (t0 : Nat) (ht : tys[t0]? = some (cA, .byte)) {i x : Int32} {j : Nat} (hj : ix i = j) (hin : vp_in i n) (hdg : decode cc pc = .ok (.bastore, 1))
    (kk : ∀ (H1 : Heap) (locs1 : List Loc), va_at D cl (a, .inl (cA, n, .inl (upd f j (vp_nar .byte x)))) H1 → (∀ q, q ≠ a → H1[q]? = H[q]?) → H1.size = H.size → va_S A H0 H1 locs1 → W p l e R s m args below meth c H1 locs1 cells slots Q (F0 m (pc + 1) ls rest)) : W p l e R s m args below meth c H locs cells slots Q (F0 m pc ls (.int x :: .int i :: .ref a :: rest)) := by
  subst hj
  refine W.bast hexec hb (show H[a]? = some (vp_cell cA (n, .inl f)) from hP) ((hK.2 t0 _ ht).1 n (fun j => .int (f j))) (fun q => by cases q) (by show ¬ (i < 0 ∨ (arrV _ _ _).slots.size ≤ _); rw [arrV_size]; exact hin) rfl rfl hdg fun H1 e z oq => ?_
  refine kk H1 _ ?_ oq z (hS.put z oq hAa)
  show H1[a]? = some (vp_cell _ _)
  rw [e]
  rw [vp_cell_i, vp_cell_i, arrV_store]
  congr 2
  funext q
  by_cases hq : q = i.toNatClampNeg
  · subst hq
    simp [updV, upd, vp_nar, ix]
    try rfl
  · simp [updV, upd, ix, hq]
end PN
/-! the region S -/
def Sarr : Nat → Bool := fun k => match k with
  | 0 => true
  | 1 => true
  | 2 => true
  | _ => false
def Slen : Nat → Nat := fun k => match k with
  | 0 => 64
  | 1 => 6
  | 2 => 8
  | _ => 0
def Sfs5 (sa : Nat → Nat) (h : Mem) : List Value := [.ref (sa 0), .ref (sa 1), .ref (sa 2), .int (h 3 0), .int (h 4 0)]
def SW (D : va_G) (cA : Nat → ClassId) (sa : Nat → Nat) (h : Mem) (H : Heap) : Prop := va_at D vwCl (sa 5, .inr (5, Sfs5 sa h)) H ∧ (∀ k, Sarr k = true → va_at D vwCl (sa k, .inl (cA 0, Slen k, .inl (h k))) H)
def Spl (i : Nat) : Prop := Sarr i = true ∨ i = 5
def SA (sa : Nat → Nat) : Nat → Prop := fun q => ∃ i, Spl i ∧ q = sa i
def SJ (z0 : Nat) (sa : Nat → Nat) : Prop := (∀ i j, Spl i → Spl j → sa i = sa j → i = j) ∧ ∀ i, Spl i → z0 ≤ sa i
theorem SJ.z {z0 : Nat} {sa : Nat → Nat} (h : SJ z0 sa) : ∀ q, SA sa q → z0 ≤ q := fun q ⟨i, h1, h2⟩ => by rw [h2]; exact h.2 i h1
theorem Sarr_5 {k : Nat} (h : Sarr k = true) : k ≠ 5 := fun e => by rw [e] at h; cases h
theorem Sarr_3 {k : Nat} (h : Sarr k = true) : k ≠ 3 := fun e => by rw [e] at h; cases h
theorem Sarr_4 {k : Nat} (h : Sarr k = true) : k ≠ 4 := fun e => by rw [e] at h; cases h
theorem SW.kept {D : va_G} {cA : Nat → ClassId} {sa : Nat → Nat} {h : Mem} {H H1 : Heap} (hM : SW D cA sa h H) (oq : ∀ q, q < H.size → H1[q]? = H[q]?) : SW D cA sa h H1 := ⟨(hM.1).kept (oq _ (hM.1).lt), fun k hk => (hM.2 k hk).kept (oq _ (hM.2 k hk).lt)⟩
theorem SW.at {D : va_G} {cA : Nat → ClassId} {sa : Nat → Nat} {h : Mem} {H H1 : Heap} (ht : H1 = H) (hM : SW D cA sa h H) : SW D cA sa h H1 := by rw [ht]; exact hM
theorem SW.st {z0 : Nat} {D : va_G} {cA : Nat → ClassId} {sa : Nat → Nat} {h : Mem} {H H1 : Heap} {k i : Nat} {x : Int32} (hM : SW D cA sa h H) (hJ : SJ z0 sa) (hk : Sarr k = true) (hc : va_at D vwCl (sa k, .inl (cA 0, Slen k, .inl (upd (h k) i x))) H1) (oq : ∀ q, q ≠ sa k → H1[q]? = H[q]?) : SW D cA sa (up2 h k i x) H1 := by
  refine ⟨?_, ?_⟩
  · exact (by
    have e9 : Sfs5 sa (up2 h k i x) = Sfs5 sa h := by
      unfold Sfs5
      simp only [up2_other (Sarr_3 hk).symm, up2_other (Sarr_4 hk).symm]
    rw [e9]
    exact (hM.1).kept (oq _ fun q => Sarr_5 hk (hJ.1 k 5 (Or.inl hk) (Or.inr (rfl)) q.symm)))
  · exact (fun j hj => by
    by_cases e : j = k
    · subst e
      rw [up2_same]
      exact hc
    · rw [up2_other e]
      exact (hM.2 j hj).kept (oq _ fun q => e (hJ.1 j k (Or.inl hj) (Or.inl hk) q)))
theorem SW.pt3 {z0 : Nat} {D : va_G} {cA : Nat → ClassId} {sa : Nat → Nat} {h : Mem} {H H1 : Heap} {x : Int32} (hM : SW D cA sa h H) (hJ : SJ z0 sa) (hc : va_at D vwCl (sa 5, .inr (5, (Sfs5 sa h).set 3 (.int x))) H1) (oq : ∀ q, q ≠ sa 5 → H1[q]? = H[q]?) : SW D cA sa (up2 h 3 0 x) H1 := by
  refine ⟨?_, ?_⟩
  · exact (show va_at D vwCl (sa 5, .inr (5, Sfs5 sa (up2 h 3 0 x))) H1 from hc)
  · exact (fun j hj => by rw [up2_other (Sarr_3 hj)]; exact (hM.2 j hj).kept (oq _ fun q => Sarr_5 hj (hJ.1 j 5 (Or.inl hj) (Or.inr (rfl)) q)))
theorem SW.pt4 {z0 : Nat} {D : va_G} {cA : Nat → ClassId} {sa : Nat → Nat} {h : Mem} {H H1 : Heap} {x : Int32} (hM : SW D cA sa h H) (hJ : SJ z0 sa) (hc : va_at D vwCl (sa 5, .inr (5, (Sfs5 sa h).set 4 (.int x))) H1) (oq : ∀ q, q ≠ sa 5 → H1[q]? = H[q]?) : SW D cA sa (up2 h 4 0 x) H1 := by
  refine ⟨?_, ?_⟩
  · exact (show va_at D vwCl (sa 5, .inr (5, Sfs5 sa (up2 h 4 0 x))) H1 from hc)
  · exact (fun j hj => by rw [up2_other (Sarr_4 hj)]; exact (hM.2 j hj).kept (oq _ fun q => Sarr_5 hj (hJ.1 j 5 (Or.inl hj) (Or.inr (rfl)) q)))
section RS
variable {p : Program} {l : Launch} {e : Env} {R : Room} {s : State} {m : MethodId} {args : Array Value} {below : List Frame} {meth : Method} {c : Code} {H : Heap} {locs : List Loc} {cells slots : Nat} {Q : State → Prop}
variable {cc : ByteArray} {pc z0 : Nat} {ls : Array Slot} {rest : List Value} {A : Nat → Prop} {H0 : Heap} {D : va_G} {cA : Nat → ClassId} {sa : Nat → Nat} {h : Mem} {own : String} {index : Nat}
theorem S_get5 (hx : p.tables.exec = Jvm.exec) (hb : c.code = cc) (hts : ∀ w ∈ lw_all, w.before args s = true) (hown : s.vm.findClass own = some m.cls) (hK : KK D cA s) (hM : SW D cA sa h H) (k : Nat) {v : Value} (hk : k < 5) (hlink : (Cond.fieldLink own index RX6 (TX6 k).2.1 (TX6 k).2.2.1).before args s = true) (hv : (Sfs5 sa h)[k]? = some v) (hdg : decode cc pc = .ok (.getfield index, 3))
    (kk : W p l e R s m args below meth c H locs cells slots Q (F0 m (pc + 3) ls (v :: rest))) : W p l e R s m args below meth c H locs cells slots Q (F0 m pc ls (.ref (sa 5) :: rest)) :=
  h_get (C := RX6) (T := TX6) (N := 5) (ci := 5) hx hb hts in_X6 hown hK (hM.1) rfl k hk hlink (fun _ h9 => by rw [show (TX6 k).1 = RX6 by unfold TX6; split <;> rfl] at h9; exact h9) hv hdg kk
theorem S_get5N (hx : p.tables.exec = Jvm.exec) (hb : c.code = cc) (hts : ∀ w ∈ lw_all, w.before args s = true) (hown : s.vm.findClass own = some m.cls) (hK : KK D cA s) (hM : SW D cA sa h H) (k : Nat) {v : Value} (hk : k < 5) (hlink : (Cond.fieldLinkNest own index RX6 (TX6 k).2.1 (TX6 k).2.2.1 "StrangeKnives").before args s = true) (hv : (Sfs5 sa h)[k]? = some v) (hdg : decode cc pc = .ok (.getfield index, 3))
    (kk : W p l e R s m args below meth c H locs cells slots Q (F0 m (pc + 3) ls (v :: rest))) : W p l e R s m args below meth c H locs cells slots Q (F0 m pc ls (.ref (sa 5) :: rest)) :=
  h_getN (host := "StrangeKnives") (C := RX6) (T := TX6) (N := 5) (ci := 5) hx hb hts in_X6 hown hK (hM.1) rfl k hk hlink (fun _ h9 => by rw [show (TX6 k).1 = RX6 by unfold TX6; split <;> rfl] at h9; exact h9) hv hdg kk
theorem S_put3 (hx : p.tables.exec = Jvm.exec) (hb : c.code = cc) (hts : ∀ w ∈ lw_all, w.before args s = true) (hown : s.vm.findClass own = some m.cls) (hK : KK D cA s) (hM : SW D cA sa h H) (hJ : SJ z0 sa) (hA : ∀ q, SA sa q → A q) (hS : va_S A H0 H locs) {x : Int32} (hlink : (Cond.fieldLink own index RX6 (TX6 3).2.1 (TX6 3).2.2.1).before args s = true) (ty : FieldType) (hd : parseFieldDescriptor (TX6 3).2.2.1 = some ty) (hw : narrow ty (.int x) = .int x) (hf : fits ty (.int x) = true) (hdg : decode cc pc = .ok (.putfield index, 3))
    (kk : ∀ (H1 : Heap) (locs1 : List Loc), SW D cA sa (up2 h 3 0 x) H1 → va_S A H0 H1 locs1 → W p l e R s m args below meth c H1 locs1 cells slots Q (F0 m (pc + 3) ls rest)) : W p l e R s m args below meth c H locs cells slots Q (F0 m pc ls (.int x :: .ref (sa 5) :: rest)) :=
  h_put (C := RX6) (T := TX6) (N := 5) (ci := 5) hx hb hts in_X6 tyX6 tyX6_ok nmX6 hown hK (hM.1) (hA _ ⟨5, Or.inr (rfl), rfl⟩) hS rfl 3 (by decide) hlink (fun _ h9 => h9) rfl hd hw hf (Nat.lt_of_lt_of_le (by decide : 3 < 5) (Nat.le_of_eq rfl)) hdg (fun H1 locs1 hc oq _ hS1 => kk H1 locs1 (SW.pt3 hM hJ hc oq) hS1)
theorem S_put3N (hx : p.tables.exec = Jvm.exec) (hb : c.code = cc) (hts : ∀ w ∈ lw_all, w.before args s = true) (hown : s.vm.findClass own = some m.cls) (hK : KK D cA s) (hM : SW D cA sa h H) (hJ : SJ z0 sa) (hA : ∀ q, SA sa q → A q) (hS : va_S A H0 H locs) {x : Int32} (hlink : (Cond.fieldLinkNest own index RX6 (TX6 3).2.1 (TX6 3).2.2.1 "StrangeKnives").before args s = true) (ty : FieldType) (hd : parseFieldDescriptor (TX6 3).2.2.1 = some ty) (hw : narrow ty (.int x) = .int x) (hf : fits ty (.int x) = true) (hdg : decode cc pc = .ok (.putfield index, 3))
    (kk : ∀ (H1 : Heap) (locs1 : List Loc), SW D cA sa (up2 h 3 0 x) H1 → va_S A H0 H1 locs1 → W p l e R s m args below meth c H1 locs1 cells slots Q (F0 m (pc + 3) ls rest)) : W p l e R s m args below meth c H locs cells slots Q (F0 m pc ls (.int x :: .ref (sa 5) :: rest)) :=
  h_putN (host := "StrangeKnives") (C := RX6) (T := TX6) (N := 5) (ci := 5) hx hb hts in_X6 tyX6 tyX6_ok nmX6 hown hK (hM.1) (hA _ ⟨5, Or.inr (rfl), rfl⟩) hS rfl 3 (by decide) hlink (fun _ h9 => h9) rfl hd hw hf (Nat.lt_of_lt_of_le (by decide : 3 < 5) (Nat.le_of_eq rfl)) hdg (fun H1 locs1 hc oq _ hS1 => kk H1 locs1 (SW.pt3 hM hJ hc oq) hS1)
theorem S_put4 (hx : p.tables.exec = Jvm.exec) (hb : c.code = cc) (hts : ∀ w ∈ lw_all, w.before args s = true) (hown : s.vm.findClass own = some m.cls) (hK : KK D cA s) (hM : SW D cA sa h H) (hJ : SJ z0 sa) (hA : ∀ q, SA sa q → A q) (hS : va_S A H0 H locs) {x : Int32} (hlink : (Cond.fieldLink own index RX6 (TX6 4).2.1 (TX6 4).2.2.1).before args s = true) (ty : FieldType) (hd : parseFieldDescriptor (TX6 4).2.2.1 = some ty) (hw : narrow ty (.int x) = .int x) (hf : fits ty (.int x) = true) (hdg : decode cc pc = .ok (.putfield index, 3))
    (kk : ∀ (H1 : Heap) (locs1 : List Loc), SW D cA sa (up2 h 4 0 x) H1 → va_S A H0 H1 locs1 → W p l e R s m args below meth c H1 locs1 cells slots Q (F0 m (pc + 3) ls rest)) : W p l e R s m args below meth c H locs cells slots Q (F0 m pc ls (.int x :: .ref (sa 5) :: rest)) :=
  h_put (C := RX6) (T := TX6) (N := 5) (ci := 5) hx hb hts in_X6 tyX6 tyX6_ok nmX6 hown hK (hM.1) (hA _ ⟨5, Or.inr (rfl), rfl⟩) hS rfl 4 (by decide) hlink (fun _ h9 => h9) rfl hd hw hf (Nat.lt_of_lt_of_le (by decide : 4 < 5) (Nat.le_of_eq rfl)) hdg (fun H1 locs1 hc oq _ hS1 => kk H1 locs1 (SW.pt4 hM hJ hc oq) hS1)
theorem S_put4N (hx : p.tables.exec = Jvm.exec) (hb : c.code = cc) (hts : ∀ w ∈ lw_all, w.before args s = true) (hown : s.vm.findClass own = some m.cls) (hK : KK D cA s) (hM : SW D cA sa h H) (hJ : SJ z0 sa) (hA : ∀ q, SA sa q → A q) (hS : va_S A H0 H locs) {x : Int32} (hlink : (Cond.fieldLinkNest own index RX6 (TX6 4).2.1 (TX6 4).2.2.1 "StrangeKnives").before args s = true) (ty : FieldType) (hd : parseFieldDescriptor (TX6 4).2.2.1 = some ty) (hw : narrow ty (.int x) = .int x) (hf : fits ty (.int x) = true) (hdg : decode cc pc = .ok (.putfield index, 3))
    (kk : ∀ (H1 : Heap) (locs1 : List Loc), SW D cA sa (up2 h 4 0 x) H1 → va_S A H0 H1 locs1 → W p l e R s m args below meth c H1 locs1 cells slots Q (F0 m (pc + 3) ls rest)) : W p l e R s m args below meth c H locs cells slots Q (F0 m pc ls (.int x :: .ref (sa 5) :: rest)) :=
  h_putN (host := "StrangeKnives") (C := RX6) (T := TX6) (N := 5) (ci := 5) hx hb hts in_X6 tyX6 tyX6_ok nmX6 hown hK (hM.1) (hA _ ⟨5, Or.inr (rfl), rfl⟩) hS rfl 4 (by decide) hlink (fun _ h9 => h9) rfl hd hw hf (Nat.lt_of_lt_of_le (by decide : 4 < 5) (Nat.le_of_eq rfl)) hdg (fun H1 locs1 hc oq _ hS1 => kk H1 locs1 (SW.pt4 hM hJ hc oq) hS1)
theorem S_iald (hx : p.tables.exec = Jvm.exec) (hb : c.code = cc) (hK : KK D cA s) (hM : SW D cA sa h H) (k : Nat) (hk : Sarr k = true) {i : Int32} {j : Nat} (hj : ix i = j) (hin : vp_in i (Slen k)) (hdg : decode cc pc = .ok (.iaload, 1))
    (kk : W p l e R s m args below meth c H locs cells slots Q (F0 m (pc + 1) ls (.int (h k j) :: rest))) : W p l e R s m args below meth c H locs cells slots Q (F0 m pc ls (.int i :: .ref (sa k) :: rest)) :=
  h_iald hx hb hK (hM.2 k hk) 0 rfl hj hin hdg kk
theorem S_alen (hx : p.tables.exec = Jvm.exec) (hb : c.code = cc) (hK : KK D cA s) (hM : SW D cA sa h H) (k : Nat) (hk : Sarr k = true) (hdg : decode cc pc = .ok (.arraylength, 1))
    (kk : W p l e R s m args below meth c H locs cells slots Q (F0 m (pc + 1) ls (.int (nI (Slen k)) :: rest))) : W p l e R s m args below meth c H locs cells slots Q (F0 m pc ls (.ref (sa k) :: rest)) :=
  h_alen hx hb hK (hM.2 k hk) 0 rfl rfl hdg kk
theorem S_iast (hx : p.tables.exec = Jvm.exec) (hb : c.code = cc) (hK : KK D cA s) (hM : SW D cA sa h H) (hJ : SJ z0 sa) (hA : ∀ q, SA sa q → A q) (hS : va_S A H0 H locs) (k : Nat) (hk : Sarr k = true) {i x : Int32} {j : Nat} (hj : ix i = j) (hin : vp_in i (Slen k)) (hdg : decode cc pc = .ok (.iastore, 1))
    (kk : ∀ (H1 : Heap) (locs1 : List Loc), SW D cA sa (up2 h k j x) H1 → va_S A H0 H1 locs1 → W p l e R s m args below meth c H1 locs1 cells slots Q (F0 m (pc + 1) ls rest)) : W p l e R s m args below meth c H locs cells slots Q (F0 m pc ls (.int x :: .int i :: .ref (sa k) :: rest)) :=
  h_iast hx hb hK (hM.2 k hk) (hA _ ⟨k, Or.inl hk, rfl⟩) hS 0 rfl hj hin hdg (fun H1 locs1 hc oq _ hS1 => kk H1 locs1 (SW.st hM hJ hk hc oq) hS1)
end RS
/-! the region X -/
def Xarr : Nat → Bool := fun k => match k with
  | 9 => true
  | 10 => true
  | 11 => true
  | 12 => true
  | 15 => true
  | 22 => true
  | 23 => true
  | 24 => true
  | 25 => true
  | 26 => true
  | 27 => true
  | 40 => true
  | 41 => true
  | 42 => true
  | 50 => true
  | 51 => true
  | 52 => true
  | 70 => true
  | _ => false
def Xlen : Nat → Nat := fun k => match k with
  | 6 => 600
  | 9 => 6
  | 10 => 6
  | 11 => 6
  | 12 => 6
  | 15 => 8
  | 22 => 6
  | 23 => 6
  | 24 => 6
  | 25 => 4
  | 26 => 4
  | 27 => 3
  | 40 => 64
  | 41 => 6
  | 42 => 8
  | 50 => 64
  | 51 => 6
  | 52 => 8
  | 70 => 6
  | _ => 0
def Xfs17 (ad : Nat → Nat) (ta : Nat) (h : Mem) : List Value := [.ref ta, .ref (ad 31), .ref (ad 60), .ref (ad 45), .ref (ad 55), .int (h 5 0), .ref (ad 6), .int (h 7 0), .int (h 8 0), .ref (ad 9), .ref (ad 10), .ref (ad 11), .ref (ad 12), .int (h 13 0), .int (h 14 0), .ref (ad 15), .int (h 16 0)]
def Xfs31 (ad : Nat → Nat) (ta : Nat) (h : Mem) : List Value := [.ref (ad 45), .ref (ad 32), .ref (ad 22), .ref (ad 23), .ref (ad 24), .ref (ad 25), .ref (ad 26), .ref (ad 27), .int (h 28 0), .int (h 29 0), .int (h 30 0)]
def Xfs45 (ad : Nat → Nat) (ta : Nat) (h : Mem) : List Value := [.ref (ad 40), .ref (ad 41), .ref (ad 42), .int (h 43 0), .int (h 44 0)]
def Xfs55 (ad : Nat → Nat) (ta : Nat) (h : Mem) : List Value := [.ref (ad 50), .ref (ad 51), .ref (ad 52), .int (h 53 0), .int (h 54 0)]
def XW (D : va_G) (cA : Nat → ClassId) (ad : Nat → Nat) (ta : Nat) (h : Mem) (H : Heap) : Prop := va_at D vwCl (ad 17, .inr (1, Xfs17 ad ta h)) H ∧ va_at D vwCl (ad 31, .inr (4, Xfs31 ad ta h)) H ∧ va_at D vwCl (ad 45, .inr (5, Xfs45 ad ta h)) H ∧ va_at D vwCl (ad 55, .inr (5, Xfs55 ad ta h)) H ∧ va_at D vwCl (ad 6, .inl (cA 1, 600, .inl (h 6))) H ∧ (∀ k, Xarr k = true → va_at D vwCl (ad k, .inl (cA 0, Xlen k, .inl (h k))) H)
def Xpl (i : Nat) : Prop := Xarr i = true ∨ i = 17 ∨ i = 31 ∨ i = 45 ∨ i = 55 ∨ i = 6
def XA (ad : Nat → Nat) : Nat → Prop := fun q => ∃ i, Xpl i ∧ q = ad i
def XJ (z0 : Nat) (ad : Nat → Nat) : Prop := (∀ i j, Xpl i → Xpl j → ad i = ad j → i = j) ∧ ∀ i, Xpl i → z0 ≤ ad i
theorem XJ.z {z0 : Nat} {ad : Nat → Nat} (h : XJ z0 ad) : ∀ q, XA ad q → z0 ≤ q := fun q ⟨i, h1, h2⟩ => by rw [h2]; exact h.2 i h1
theorem Xarr_17 {k : Nat} (h : Xarr k = true) : k ≠ 17 := fun e => by rw [e] at h; cases h
theorem Xarr_31 {k : Nat} (h : Xarr k = true) : k ≠ 31 := fun e => by rw [e] at h; cases h
theorem Xarr_45 {k : Nat} (h : Xarr k = true) : k ≠ 45 := fun e => by rw [e] at h; cases h
theorem Xarr_55 {k : Nat} (h : Xarr k = true) : k ≠ 55 := fun e => by rw [e] at h; cases h
theorem Xarr_6 {k : Nat} (h : Xarr k = true) : k ≠ 6 := fun e => by rw [e] at h; cases h
theorem Xarr_5 {k : Nat} (h : Xarr k = true) : k ≠ 5 := fun e => by rw [e] at h; cases h
theorem Xarr_7 {k : Nat} (h : Xarr k = true) : k ≠ 7 := fun e => by rw [e] at h; cases h
theorem Xarr_8 {k : Nat} (h : Xarr k = true) : k ≠ 8 := fun e => by rw [e] at h; cases h
theorem Xarr_13 {k : Nat} (h : Xarr k = true) : k ≠ 13 := fun e => by rw [e] at h; cases h
theorem Xarr_14 {k : Nat} (h : Xarr k = true) : k ≠ 14 := fun e => by rw [e] at h; cases h
theorem Xarr_16 {k : Nat} (h : Xarr k = true) : k ≠ 16 := fun e => by rw [e] at h; cases h
theorem Xarr_28 {k : Nat} (h : Xarr k = true) : k ≠ 28 := fun e => by rw [e] at h; cases h
theorem Xarr_29 {k : Nat} (h : Xarr k = true) : k ≠ 29 := fun e => by rw [e] at h; cases h
theorem Xarr_30 {k : Nat} (h : Xarr k = true) : k ≠ 30 := fun e => by rw [e] at h; cases h
theorem Xarr_43 {k : Nat} (h : Xarr k = true) : k ≠ 43 := fun e => by rw [e] at h; cases h
theorem Xarr_44 {k : Nat} (h : Xarr k = true) : k ≠ 44 := fun e => by rw [e] at h; cases h
theorem Xarr_53 {k : Nat} (h : Xarr k = true) : k ≠ 53 := fun e => by rw [e] at h; cases h
theorem Xarr_54 {k : Nat} (h : Xarr k = true) : k ≠ 54 := fun e => by rw [e] at h; cases h
theorem XW.kept {D : va_G} {cA : Nat → ClassId} {ad : Nat → Nat} {ta : Nat} {h : Mem} {H H1 : Heap} (hM : XW D cA ad ta h H) (oq : ∀ q, q < H.size → H1[q]? = H[q]?) : XW D cA ad ta h H1 := ⟨(hM.1).kept (oq _ (hM.1).lt), (hM.2.1).kept (oq _ (hM.2.1).lt), (hM.2.2.1).kept (oq _ (hM.2.2.1).lt), (hM.2.2.2.1).kept (oq _ (hM.2.2.2.1).lt), (hM.2.2.2.2.1).kept (oq _ (hM.2.2.2.2.1).lt), fun k hk => (hM.2.2.2.2.2 k hk).kept (oq _ (hM.2.2.2.2.2 k hk).lt)⟩
theorem XW.at {D : va_G} {cA : Nat → ClassId} {ad : Nat → Nat} {ta : Nat} {h : Mem} {H H1 : Heap} (ht : H1 = H) (hM : XW D cA ad ta h H) : XW D cA ad ta h H1 := by rw [ht]; exact hM
theorem XW.st {z0 : Nat} {D : va_G} {cA : Nat → ClassId} {ad : Nat → Nat} {ta : Nat} {h : Mem} {H H1 : Heap} {k i : Nat} {x : Int32} (hM : XW D cA ad ta h H) (hJ : XJ z0 ad) (hk : Xarr k = true) (hc : va_at D vwCl (ad k, .inl (cA 0, Xlen k, .inl (upd (h k) i x))) H1) (oq : ∀ q, q ≠ ad k → H1[q]? = H[q]?) : XW D cA ad ta (up2 h k i x) H1 := by
  refine ⟨?_, ?_, ?_, ?_, ?_, ?_⟩
  · exact (by
    have e9 : Xfs17 ad ta (up2 h k i x) = Xfs17 ad ta h := by
      unfold Xfs17
      simp only [up2_other (Xarr_5 hk).symm, up2_other (Xarr_7 hk).symm, up2_other (Xarr_8 hk).symm, up2_other (Xarr_13 hk).symm, up2_other (Xarr_14 hk).symm, up2_other (Xarr_16 hk).symm]
    rw [e9]
    exact (hM.1).kept (oq _ fun q => Xarr_17 hk (hJ.1 k 17 (Or.inl hk) (Or.inr (Or.inl rfl)) q.symm)))
  · exact (by
    have e9 : Xfs31 ad ta (up2 h k i x) = Xfs31 ad ta h := by
      unfold Xfs31
      simp only [up2_other (Xarr_28 hk).symm, up2_other (Xarr_29 hk).symm, up2_other (Xarr_30 hk).symm]
    rw [e9]
    exact (hM.2.1).kept (oq _ fun q => Xarr_31 hk (hJ.1 k 31 (Or.inl hk) (Or.inr (Or.inr (Or.inl rfl))) q.symm)))
  · exact (by
    have e9 : Xfs45 ad ta (up2 h k i x) = Xfs45 ad ta h := by
      unfold Xfs45
      simp only [up2_other (Xarr_43 hk).symm, up2_other (Xarr_44 hk).symm]
    rw [e9]
    exact (hM.2.2.1).kept (oq _ fun q => Xarr_45 hk (hJ.1 k 45 (Or.inl hk) (Or.inr (Or.inr (Or.inr (Or.inl rfl)))) q.symm)))
  · exact (by
    have e9 : Xfs55 ad ta (up2 h k i x) = Xfs55 ad ta h := by
      unfold Xfs55
      simp only [up2_other (Xarr_53 hk).symm, up2_other (Xarr_54 hk).symm]
    rw [e9]
    exact (hM.2.2.2.1).kept (oq _ fun q => Xarr_55 hk (hJ.1 k 55 (Or.inl hk) (Or.inr (Or.inr (Or.inr (Or.inr (Or.inl rfl))))) q.symm)))
  · exact (by rw [up2_other (Xarr_6 hk).symm]; exact (hM.2.2.2.2.1).kept (oq _ fun q => Xarr_6 hk (hJ.1 k 6 (Or.inl hk) (Or.inr (Or.inr (Or.inr (Or.inr (Or.inr (rfl)))))) q.symm)))
  · exact (fun j hj => by
    by_cases e : j = k
    · subst e
      rw [up2_same]
      exact hc
    · rw [up2_other e]
      exact (hM.2.2.2.2.2 j hj).kept (oq _ fun q => e (hJ.1 j k (Or.inl hj) (Or.inl hk) q)))
theorem XW.sb6 {z0 : Nat} {D : va_G} {cA : Nat → ClassId} {ad : Nat → Nat} {ta : Nat} {h : Mem} {H H1 : Heap} {i : Nat} {x : Int32} (hM : XW D cA ad ta h H) (hJ : XJ z0 ad) (hc : va_at D vwCl (ad 6, .inl (cA 1, 600, .inl (upd (h 6) i x))) H1) (oq : ∀ q, q ≠ ad 6 → H1[q]? = H[q]?) : XW D cA ad ta (up2 h 6 i x) H1 := by
  refine ⟨?_, ?_, ?_, ?_, ?_, ?_⟩
  · exact (hM.1).kept (oq _ fun q => absurd (hJ.1 17 6 (Or.inr (Or.inl rfl)) (Or.inr (Or.inr (Or.inr (Or.inr (Or.inr (rfl)))))) q) (by decide))
  · exact (hM.2.1).kept (oq _ fun q => absurd (hJ.1 31 6 (Or.inr (Or.inr (Or.inl rfl))) (Or.inr (Or.inr (Or.inr (Or.inr (Or.inr (rfl)))))) q) (by decide))
  · exact (hM.2.2.1).kept (oq _ fun q => absurd (hJ.1 45 6 (Or.inr (Or.inr (Or.inr (Or.inl rfl)))) (Or.inr (Or.inr (Or.inr (Or.inr (Or.inr (rfl)))))) q) (by decide))
  · exact (hM.2.2.2.1).kept (oq _ fun q => absurd (hJ.1 55 6 (Or.inr (Or.inr (Or.inr (Or.inr (Or.inl rfl))))) (Or.inr (Or.inr (Or.inr (Or.inr (Or.inr (rfl)))))) q) (by decide))
  · exact (by rw [up2_same]; exact hc)
  · exact (fun j hj => by rw [up2_other (Xarr_6 hj)]; exact (hM.2.2.2.2.2 j hj).kept (oq _ fun q => Xarr_6 hj (hJ.1 j 6 (Or.inl hj) (Or.inr (Or.inr (Or.inr (Or.inr (Or.inr (rfl)))))) q)))
theorem XW.pt5 {z0 : Nat} {D : va_G} {cA : Nat → ClassId} {ad : Nat → Nat} {ta : Nat} {h : Mem} {H H1 : Heap} {x : Int32} (hM : XW D cA ad ta h H) (hJ : XJ z0 ad) (hc : va_at D vwCl (ad 17, .inr (1, (Xfs17 ad ta h).set 5 (.int x))) H1) (oq : ∀ q, q ≠ ad 17 → H1[q]? = H[q]?) : XW D cA ad ta (up2 h 5 0 x) H1 := by
  refine ⟨?_, ?_, ?_, ?_, ?_, ?_⟩
  · exact (show va_at D vwCl (ad 17, .inr (1, Xfs17 ad ta (up2 h 5 0 x))) H1 from hc)
  · exact (show va_at D vwCl (ad 31, .inr (4, Xfs31 ad ta h)) H1 from (hM.2.1).kept (oq _ fun q => absurd (hJ.1 31 17 (Or.inr (Or.inr (Or.inl rfl))) (Or.inr (Or.inl rfl)) q) (by decide)))
  · exact (show va_at D vwCl (ad 45, .inr (5, Xfs45 ad ta h)) H1 from (hM.2.2.1).kept (oq _ fun q => absurd (hJ.1 45 17 (Or.inr (Or.inr (Or.inr (Or.inl rfl)))) (Or.inr (Or.inl rfl)) q) (by decide)))
  · exact (show va_at D vwCl (ad 55, .inr (5, Xfs55 ad ta h)) H1 from (hM.2.2.2.1).kept (oq _ fun q => absurd (hJ.1 55 17 (Or.inr (Or.inr (Or.inr (Or.inr (Or.inl rfl))))) (Or.inr (Or.inl rfl)) q) (by decide)))
  · exact (show va_at D vwCl (ad 6, .inl (cA 1, 600, .inl (h 6))) H1 from (hM.2.2.2.2.1).kept (oq _ fun q => absurd (hJ.1 6 17 (Or.inr (Or.inr (Or.inr (Or.inr (Or.inr (rfl)))))) (Or.inr (Or.inl rfl)) q) (by decide)))
  · exact (fun j hj => by rw [up2_other (Xarr_5 hj)]; exact (hM.2.2.2.2.2 j hj).kept (oq _ fun q => Xarr_17 hj (hJ.1 j 17 (Or.inl hj) (Or.inr (Or.inl rfl)) q)))
theorem XW.pt7 {z0 : Nat} {D : va_G} {cA : Nat → ClassId} {ad : Nat → Nat} {ta : Nat} {h : Mem} {H H1 : Heap} {x : Int32} (hM : XW D cA ad ta h H) (hJ : XJ z0 ad) (hc : va_at D vwCl (ad 17, .inr (1, (Xfs17 ad ta h).set 7 (.int x))) H1) (oq : ∀ q, q ≠ ad 17 → H1[q]? = H[q]?) : XW D cA ad ta (up2 h 7 0 x) H1 := by
  refine ⟨?_, ?_, ?_, ?_, ?_, ?_⟩
  · exact (show va_at D vwCl (ad 17, .inr (1, Xfs17 ad ta (up2 h 7 0 x))) H1 from hc)
  · exact (show va_at D vwCl (ad 31, .inr (4, Xfs31 ad ta h)) H1 from (hM.2.1).kept (oq _ fun q => absurd (hJ.1 31 17 (Or.inr (Or.inr (Or.inl rfl))) (Or.inr (Or.inl rfl)) q) (by decide)))
  · exact (show va_at D vwCl (ad 45, .inr (5, Xfs45 ad ta h)) H1 from (hM.2.2.1).kept (oq _ fun q => absurd (hJ.1 45 17 (Or.inr (Or.inr (Or.inr (Or.inl rfl)))) (Or.inr (Or.inl rfl)) q) (by decide)))
  · exact (show va_at D vwCl (ad 55, .inr (5, Xfs55 ad ta h)) H1 from (hM.2.2.2.1).kept (oq _ fun q => absurd (hJ.1 55 17 (Or.inr (Or.inr (Or.inr (Or.inr (Or.inl rfl))))) (Or.inr (Or.inl rfl)) q) (by decide)))
  · exact (show va_at D vwCl (ad 6, .inl (cA 1, 600, .inl (h 6))) H1 from (hM.2.2.2.2.1).kept (oq _ fun q => absurd (hJ.1 6 17 (Or.inr (Or.inr (Or.inr (Or.inr (Or.inr (rfl)))))) (Or.inr (Or.inl rfl)) q) (by decide)))
  · exact (fun j hj => by rw [up2_other (Xarr_7 hj)]; exact (hM.2.2.2.2.2 j hj).kept (oq _ fun q => Xarr_17 hj (hJ.1 j 17 (Or.inl hj) (Or.inr (Or.inl rfl)) q)))
theorem XW.pt8 {z0 : Nat} {D : va_G} {cA : Nat → ClassId} {ad : Nat → Nat} {ta : Nat} {h : Mem} {H H1 : Heap} {x : Int32} (hM : XW D cA ad ta h H) (hJ : XJ z0 ad) (hc : va_at D vwCl (ad 17, .inr (1, (Xfs17 ad ta h).set 8 (.int x))) H1) (oq : ∀ q, q ≠ ad 17 → H1[q]? = H[q]?) : XW D cA ad ta (up2 h 8 0 x) H1 := by
  refine ⟨?_, ?_, ?_, ?_, ?_, ?_⟩
  · exact (show va_at D vwCl (ad 17, .inr (1, Xfs17 ad ta (up2 h 8 0 x))) H1 from hc)
  · exact (show va_at D vwCl (ad 31, .inr (4, Xfs31 ad ta h)) H1 from (hM.2.1).kept (oq _ fun q => absurd (hJ.1 31 17 (Or.inr (Or.inr (Or.inl rfl))) (Or.inr (Or.inl rfl)) q) (by decide)))
  · exact (show va_at D vwCl (ad 45, .inr (5, Xfs45 ad ta h)) H1 from (hM.2.2.1).kept (oq _ fun q => absurd (hJ.1 45 17 (Or.inr (Or.inr (Or.inr (Or.inl rfl)))) (Or.inr (Or.inl rfl)) q) (by decide)))
  · exact (show va_at D vwCl (ad 55, .inr (5, Xfs55 ad ta h)) H1 from (hM.2.2.2.1).kept (oq _ fun q => absurd (hJ.1 55 17 (Or.inr (Or.inr (Or.inr (Or.inr (Or.inl rfl))))) (Or.inr (Or.inl rfl)) q) (by decide)))
  · exact (show va_at D vwCl (ad 6, .inl (cA 1, 600, .inl (h 6))) H1 from (hM.2.2.2.2.1).kept (oq _ fun q => absurd (hJ.1 6 17 (Or.inr (Or.inr (Or.inr (Or.inr (Or.inr (rfl)))))) (Or.inr (Or.inl rfl)) q) (by decide)))
  · exact (fun j hj => by rw [up2_other (Xarr_8 hj)]; exact (hM.2.2.2.2.2 j hj).kept (oq _ fun q => Xarr_17 hj (hJ.1 j 17 (Or.inl hj) (Or.inr (Or.inl rfl)) q)))
theorem XW.pt13 {z0 : Nat} {D : va_G} {cA : Nat → ClassId} {ad : Nat → Nat} {ta : Nat} {h : Mem} {H H1 : Heap} {x : Int32} (hM : XW D cA ad ta h H) (hJ : XJ z0 ad) (hc : va_at D vwCl (ad 17, .inr (1, (Xfs17 ad ta h).set 13 (.int x))) H1) (oq : ∀ q, q ≠ ad 17 → H1[q]? = H[q]?) : XW D cA ad ta (up2 h 13 0 x) H1 := by
  refine ⟨?_, ?_, ?_, ?_, ?_, ?_⟩
  · exact (show va_at D vwCl (ad 17, .inr (1, Xfs17 ad ta (up2 h 13 0 x))) H1 from hc)
  · exact (show va_at D vwCl (ad 31, .inr (4, Xfs31 ad ta h)) H1 from (hM.2.1).kept (oq _ fun q => absurd (hJ.1 31 17 (Or.inr (Or.inr (Or.inl rfl))) (Or.inr (Or.inl rfl)) q) (by decide)))
  · exact (show va_at D vwCl (ad 45, .inr (5, Xfs45 ad ta h)) H1 from (hM.2.2.1).kept (oq _ fun q => absurd (hJ.1 45 17 (Or.inr (Or.inr (Or.inr (Or.inl rfl)))) (Or.inr (Or.inl rfl)) q) (by decide)))
  · exact (show va_at D vwCl (ad 55, .inr (5, Xfs55 ad ta h)) H1 from (hM.2.2.2.1).kept (oq _ fun q => absurd (hJ.1 55 17 (Or.inr (Or.inr (Or.inr (Or.inr (Or.inl rfl))))) (Or.inr (Or.inl rfl)) q) (by decide)))
  · exact (show va_at D vwCl (ad 6, .inl (cA 1, 600, .inl (h 6))) H1 from (hM.2.2.2.2.1).kept (oq _ fun q => absurd (hJ.1 6 17 (Or.inr (Or.inr (Or.inr (Or.inr (Or.inr (rfl)))))) (Or.inr (Or.inl rfl)) q) (by decide)))
  · exact (fun j hj => by rw [up2_other (Xarr_13 hj)]; exact (hM.2.2.2.2.2 j hj).kept (oq _ fun q => Xarr_17 hj (hJ.1 j 17 (Or.inl hj) (Or.inr (Or.inl rfl)) q)))
theorem XW.pt14 {z0 : Nat} {D : va_G} {cA : Nat → ClassId} {ad : Nat → Nat} {ta : Nat} {h : Mem} {H H1 : Heap} {x : Int32} (hM : XW D cA ad ta h H) (hJ : XJ z0 ad) (hc : va_at D vwCl (ad 17, .inr (1, (Xfs17 ad ta h).set 14 (.int x))) H1) (oq : ∀ q, q ≠ ad 17 → H1[q]? = H[q]?) : XW D cA ad ta (up2 h 14 0 x) H1 := by
  refine ⟨?_, ?_, ?_, ?_, ?_, ?_⟩
  · exact (show va_at D vwCl (ad 17, .inr (1, Xfs17 ad ta (up2 h 14 0 x))) H1 from hc)
  · exact (show va_at D vwCl (ad 31, .inr (4, Xfs31 ad ta h)) H1 from (hM.2.1).kept (oq _ fun q => absurd (hJ.1 31 17 (Or.inr (Or.inr (Or.inl rfl))) (Or.inr (Or.inl rfl)) q) (by decide)))
  · exact (show va_at D vwCl (ad 45, .inr (5, Xfs45 ad ta h)) H1 from (hM.2.2.1).kept (oq _ fun q => absurd (hJ.1 45 17 (Or.inr (Or.inr (Or.inr (Or.inl rfl)))) (Or.inr (Or.inl rfl)) q) (by decide)))
  · exact (show va_at D vwCl (ad 55, .inr (5, Xfs55 ad ta h)) H1 from (hM.2.2.2.1).kept (oq _ fun q => absurd (hJ.1 55 17 (Or.inr (Or.inr (Or.inr (Or.inr (Or.inl rfl))))) (Or.inr (Or.inl rfl)) q) (by decide)))
  · exact (show va_at D vwCl (ad 6, .inl (cA 1, 600, .inl (h 6))) H1 from (hM.2.2.2.2.1).kept (oq _ fun q => absurd (hJ.1 6 17 (Or.inr (Or.inr (Or.inr (Or.inr (Or.inr (rfl)))))) (Or.inr (Or.inl rfl)) q) (by decide)))
  · exact (fun j hj => by rw [up2_other (Xarr_14 hj)]; exact (hM.2.2.2.2.2 j hj).kept (oq _ fun q => Xarr_17 hj (hJ.1 j 17 (Or.inl hj) (Or.inr (Or.inl rfl)) q)))
theorem XW.pt16 {z0 : Nat} {D : va_G} {cA : Nat → ClassId} {ad : Nat → Nat} {ta : Nat} {h : Mem} {H H1 : Heap} {x : Int32} (hM : XW D cA ad ta h H) (hJ : XJ z0 ad) (hc : va_at D vwCl (ad 17, .inr (1, (Xfs17 ad ta h).set 16 (.int x))) H1) (oq : ∀ q, q ≠ ad 17 → H1[q]? = H[q]?) : XW D cA ad ta (up2 h 16 0 x) H1 := by
  refine ⟨?_, ?_, ?_, ?_, ?_, ?_⟩
  · exact (show va_at D vwCl (ad 17, .inr (1, Xfs17 ad ta (up2 h 16 0 x))) H1 from hc)
  · exact (show va_at D vwCl (ad 31, .inr (4, Xfs31 ad ta h)) H1 from (hM.2.1).kept (oq _ fun q => absurd (hJ.1 31 17 (Or.inr (Or.inr (Or.inl rfl))) (Or.inr (Or.inl rfl)) q) (by decide)))
  · exact (show va_at D vwCl (ad 45, .inr (5, Xfs45 ad ta h)) H1 from (hM.2.2.1).kept (oq _ fun q => absurd (hJ.1 45 17 (Or.inr (Or.inr (Or.inr (Or.inl rfl)))) (Or.inr (Or.inl rfl)) q) (by decide)))
  · exact (show va_at D vwCl (ad 55, .inr (5, Xfs55 ad ta h)) H1 from (hM.2.2.2.1).kept (oq _ fun q => absurd (hJ.1 55 17 (Or.inr (Or.inr (Or.inr (Or.inr (Or.inl rfl))))) (Or.inr (Or.inl rfl)) q) (by decide)))
  · exact (show va_at D vwCl (ad 6, .inl (cA 1, 600, .inl (h 6))) H1 from (hM.2.2.2.2.1).kept (oq _ fun q => absurd (hJ.1 6 17 (Or.inr (Or.inr (Or.inr (Or.inr (Or.inr (rfl)))))) (Or.inr (Or.inl rfl)) q) (by decide)))
  · exact (fun j hj => by rw [up2_other (Xarr_16 hj)]; exact (hM.2.2.2.2.2 j hj).kept (oq _ fun q => Xarr_17 hj (hJ.1 j 17 (Or.inl hj) (Or.inr (Or.inl rfl)) q)))
theorem XW.pt28 {z0 : Nat} {D : va_G} {cA : Nat → ClassId} {ad : Nat → Nat} {ta : Nat} {h : Mem} {H H1 : Heap} {x : Int32} (hM : XW D cA ad ta h H) (hJ : XJ z0 ad) (hc : va_at D vwCl (ad 31, .inr (4, (Xfs31 ad ta h).set 8 (.int x))) H1) (oq : ∀ q, q ≠ ad 31 → H1[q]? = H[q]?) : XW D cA ad ta (up2 h 28 0 x) H1 := by
  refine ⟨?_, ?_, ?_, ?_, ?_, ?_⟩
  · exact (show va_at D vwCl (ad 17, .inr (1, Xfs17 ad ta h)) H1 from (hM.1).kept (oq _ fun q => absurd (hJ.1 17 31 (Or.inr (Or.inl rfl)) (Or.inr (Or.inr (Or.inl rfl))) q) (by decide)))
  · exact (show va_at D vwCl (ad 31, .inr (4, Xfs31 ad ta (up2 h 28 0 x))) H1 from hc)
  · exact (show va_at D vwCl (ad 45, .inr (5, Xfs45 ad ta h)) H1 from (hM.2.2.1).kept (oq _ fun q => absurd (hJ.1 45 31 (Or.inr (Or.inr (Or.inr (Or.inl rfl)))) (Or.inr (Or.inr (Or.inl rfl))) q) (by decide)))
  · exact (show va_at D vwCl (ad 55, .inr (5, Xfs55 ad ta h)) H1 from (hM.2.2.2.1).kept (oq _ fun q => absurd (hJ.1 55 31 (Or.inr (Or.inr (Or.inr (Or.inr (Or.inl rfl))))) (Or.inr (Or.inr (Or.inl rfl))) q) (by decide)))
  · exact (show va_at D vwCl (ad 6, .inl (cA 1, 600, .inl (h 6))) H1 from (hM.2.2.2.2.1).kept (oq _ fun q => absurd (hJ.1 6 31 (Or.inr (Or.inr (Or.inr (Or.inr (Or.inr (rfl)))))) (Or.inr (Or.inr (Or.inl rfl))) q) (by decide)))
  · exact (fun j hj => by rw [up2_other (Xarr_28 hj)]; exact (hM.2.2.2.2.2 j hj).kept (oq _ fun q => Xarr_31 hj (hJ.1 j 31 (Or.inl hj) (Or.inr (Or.inr (Or.inl rfl))) q)))
theorem XW.pt29 {z0 : Nat} {D : va_G} {cA : Nat → ClassId} {ad : Nat → Nat} {ta : Nat} {h : Mem} {H H1 : Heap} {x : Int32} (hM : XW D cA ad ta h H) (hJ : XJ z0 ad) (hc : va_at D vwCl (ad 31, .inr (4, (Xfs31 ad ta h).set 9 (.int x))) H1) (oq : ∀ q, q ≠ ad 31 → H1[q]? = H[q]?) : XW D cA ad ta (up2 h 29 0 x) H1 := by
  refine ⟨?_, ?_, ?_, ?_, ?_, ?_⟩
  · exact (show va_at D vwCl (ad 17, .inr (1, Xfs17 ad ta h)) H1 from (hM.1).kept (oq _ fun q => absurd (hJ.1 17 31 (Or.inr (Or.inl rfl)) (Or.inr (Or.inr (Or.inl rfl))) q) (by decide)))
  · exact (show va_at D vwCl (ad 31, .inr (4, Xfs31 ad ta (up2 h 29 0 x))) H1 from hc)
  · exact (show va_at D vwCl (ad 45, .inr (5, Xfs45 ad ta h)) H1 from (hM.2.2.1).kept (oq _ fun q => absurd (hJ.1 45 31 (Or.inr (Or.inr (Or.inr (Or.inl rfl)))) (Or.inr (Or.inr (Or.inl rfl))) q) (by decide)))
  · exact (show va_at D vwCl (ad 55, .inr (5, Xfs55 ad ta h)) H1 from (hM.2.2.2.1).kept (oq _ fun q => absurd (hJ.1 55 31 (Or.inr (Or.inr (Or.inr (Or.inr (Or.inl rfl))))) (Or.inr (Or.inr (Or.inl rfl))) q) (by decide)))
  · exact (show va_at D vwCl (ad 6, .inl (cA 1, 600, .inl (h 6))) H1 from (hM.2.2.2.2.1).kept (oq _ fun q => absurd (hJ.1 6 31 (Or.inr (Or.inr (Or.inr (Or.inr (Or.inr (rfl)))))) (Or.inr (Or.inr (Or.inl rfl))) q) (by decide)))
  · exact (fun j hj => by rw [up2_other (Xarr_29 hj)]; exact (hM.2.2.2.2.2 j hj).kept (oq _ fun q => Xarr_31 hj (hJ.1 j 31 (Or.inl hj) (Or.inr (Or.inr (Or.inl rfl))) q)))
theorem XW.pt30 {z0 : Nat} {D : va_G} {cA : Nat → ClassId} {ad : Nat → Nat} {ta : Nat} {h : Mem} {H H1 : Heap} {x : Int32} (hM : XW D cA ad ta h H) (hJ : XJ z0 ad) (hc : va_at D vwCl (ad 31, .inr (4, (Xfs31 ad ta h).set 10 (.int x))) H1) (oq : ∀ q, q ≠ ad 31 → H1[q]? = H[q]?) : XW D cA ad ta (up2 h 30 0 x) H1 := by
  refine ⟨?_, ?_, ?_, ?_, ?_, ?_⟩
  · exact (show va_at D vwCl (ad 17, .inr (1, Xfs17 ad ta h)) H1 from (hM.1).kept (oq _ fun q => absurd (hJ.1 17 31 (Or.inr (Or.inl rfl)) (Or.inr (Or.inr (Or.inl rfl))) q) (by decide)))
  · exact (show va_at D vwCl (ad 31, .inr (4, Xfs31 ad ta (up2 h 30 0 x))) H1 from hc)
  · exact (show va_at D vwCl (ad 45, .inr (5, Xfs45 ad ta h)) H1 from (hM.2.2.1).kept (oq _ fun q => absurd (hJ.1 45 31 (Or.inr (Or.inr (Or.inr (Or.inl rfl)))) (Or.inr (Or.inr (Or.inl rfl))) q) (by decide)))
  · exact (show va_at D vwCl (ad 55, .inr (5, Xfs55 ad ta h)) H1 from (hM.2.2.2.1).kept (oq _ fun q => absurd (hJ.1 55 31 (Or.inr (Or.inr (Or.inr (Or.inr (Or.inl rfl))))) (Or.inr (Or.inr (Or.inl rfl))) q) (by decide)))
  · exact (show va_at D vwCl (ad 6, .inl (cA 1, 600, .inl (h 6))) H1 from (hM.2.2.2.2.1).kept (oq _ fun q => absurd (hJ.1 6 31 (Or.inr (Or.inr (Or.inr (Or.inr (Or.inr (rfl)))))) (Or.inr (Or.inr (Or.inl rfl))) q) (by decide)))
  · exact (fun j hj => by rw [up2_other (Xarr_30 hj)]; exact (hM.2.2.2.2.2 j hj).kept (oq _ fun q => Xarr_31 hj (hJ.1 j 31 (Or.inl hj) (Or.inr (Or.inr (Or.inl rfl))) q)))
theorem XW.pt43 {z0 : Nat} {D : va_G} {cA : Nat → ClassId} {ad : Nat → Nat} {ta : Nat} {h : Mem} {H H1 : Heap} {x : Int32} (hM : XW D cA ad ta h H) (hJ : XJ z0 ad) (hc : va_at D vwCl (ad 45, .inr (5, (Xfs45 ad ta h).set 3 (.int x))) H1) (oq : ∀ q, q ≠ ad 45 → H1[q]? = H[q]?) : XW D cA ad ta (up2 h 43 0 x) H1 := by
  refine ⟨?_, ?_, ?_, ?_, ?_, ?_⟩
  · exact (show va_at D vwCl (ad 17, .inr (1, Xfs17 ad ta h)) H1 from (hM.1).kept (oq _ fun q => absurd (hJ.1 17 45 (Or.inr (Or.inl rfl)) (Or.inr (Or.inr (Or.inr (Or.inl rfl)))) q) (by decide)))
  · exact (show va_at D vwCl (ad 31, .inr (4, Xfs31 ad ta h)) H1 from (hM.2.1).kept (oq _ fun q => absurd (hJ.1 31 45 (Or.inr (Or.inr (Or.inl rfl))) (Or.inr (Or.inr (Or.inr (Or.inl rfl)))) q) (by decide)))
  · exact (show va_at D vwCl (ad 45, .inr (5, Xfs45 ad ta (up2 h 43 0 x))) H1 from hc)
  · exact (show va_at D vwCl (ad 55, .inr (5, Xfs55 ad ta h)) H1 from (hM.2.2.2.1).kept (oq _ fun q => absurd (hJ.1 55 45 (Or.inr (Or.inr (Or.inr (Or.inr (Or.inl rfl))))) (Or.inr (Or.inr (Or.inr (Or.inl rfl)))) q) (by decide)))
  · exact (show va_at D vwCl (ad 6, .inl (cA 1, 600, .inl (h 6))) H1 from (hM.2.2.2.2.1).kept (oq _ fun q => absurd (hJ.1 6 45 (Or.inr (Or.inr (Or.inr (Or.inr (Or.inr (rfl)))))) (Or.inr (Or.inr (Or.inr (Or.inl rfl)))) q) (by decide)))
  · exact (fun j hj => by rw [up2_other (Xarr_43 hj)]; exact (hM.2.2.2.2.2 j hj).kept (oq _ fun q => Xarr_45 hj (hJ.1 j 45 (Or.inl hj) (Or.inr (Or.inr (Or.inr (Or.inl rfl)))) q)))
theorem XW.pt44 {z0 : Nat} {D : va_G} {cA : Nat → ClassId} {ad : Nat → Nat} {ta : Nat} {h : Mem} {H H1 : Heap} {x : Int32} (hM : XW D cA ad ta h H) (hJ : XJ z0 ad) (hc : va_at D vwCl (ad 45, .inr (5, (Xfs45 ad ta h).set 4 (.int x))) H1) (oq : ∀ q, q ≠ ad 45 → H1[q]? = H[q]?) : XW D cA ad ta (up2 h 44 0 x) H1 := by
  refine ⟨?_, ?_, ?_, ?_, ?_, ?_⟩
  · exact (show va_at D vwCl (ad 17, .inr (1, Xfs17 ad ta h)) H1 from (hM.1).kept (oq _ fun q => absurd (hJ.1 17 45 (Or.inr (Or.inl rfl)) (Or.inr (Or.inr (Or.inr (Or.inl rfl)))) q) (by decide)))
  · exact (show va_at D vwCl (ad 31, .inr (4, Xfs31 ad ta h)) H1 from (hM.2.1).kept (oq _ fun q => absurd (hJ.1 31 45 (Or.inr (Or.inr (Or.inl rfl))) (Or.inr (Or.inr (Or.inr (Or.inl rfl)))) q) (by decide)))
  · exact (show va_at D vwCl (ad 45, .inr (5, Xfs45 ad ta (up2 h 44 0 x))) H1 from hc)
  · exact (show va_at D vwCl (ad 55, .inr (5, Xfs55 ad ta h)) H1 from (hM.2.2.2.1).kept (oq _ fun q => absurd (hJ.1 55 45 (Or.inr (Or.inr (Or.inr (Or.inr (Or.inl rfl))))) (Or.inr (Or.inr (Or.inr (Or.inl rfl)))) q) (by decide)))
  · exact (show va_at D vwCl (ad 6, .inl (cA 1, 600, .inl (h 6))) H1 from (hM.2.2.2.2.1).kept (oq _ fun q => absurd (hJ.1 6 45 (Or.inr (Or.inr (Or.inr (Or.inr (Or.inr (rfl)))))) (Or.inr (Or.inr (Or.inr (Or.inl rfl)))) q) (by decide)))
  · exact (fun j hj => by rw [up2_other (Xarr_44 hj)]; exact (hM.2.2.2.2.2 j hj).kept (oq _ fun q => Xarr_45 hj (hJ.1 j 45 (Or.inl hj) (Or.inr (Or.inr (Or.inr (Or.inl rfl)))) q)))
theorem XW.pt53 {z0 : Nat} {D : va_G} {cA : Nat → ClassId} {ad : Nat → Nat} {ta : Nat} {h : Mem} {H H1 : Heap} {x : Int32} (hM : XW D cA ad ta h H) (hJ : XJ z0 ad) (hc : va_at D vwCl (ad 55, .inr (5, (Xfs55 ad ta h).set 3 (.int x))) H1) (oq : ∀ q, q ≠ ad 55 → H1[q]? = H[q]?) : XW D cA ad ta (up2 h 53 0 x) H1 := by
  refine ⟨?_, ?_, ?_, ?_, ?_, ?_⟩
  · exact (show va_at D vwCl (ad 17, .inr (1, Xfs17 ad ta h)) H1 from (hM.1).kept (oq _ fun q => absurd (hJ.1 17 55 (Or.inr (Or.inl rfl)) (Or.inr (Or.inr (Or.inr (Or.inr (Or.inl rfl))))) q) (by decide)))
  · exact (show va_at D vwCl (ad 31, .inr (4, Xfs31 ad ta h)) H1 from (hM.2.1).kept (oq _ fun q => absurd (hJ.1 31 55 (Or.inr (Or.inr (Or.inl rfl))) (Or.inr (Or.inr (Or.inr (Or.inr (Or.inl rfl))))) q) (by decide)))
  · exact (show va_at D vwCl (ad 45, .inr (5, Xfs45 ad ta h)) H1 from (hM.2.2.1).kept (oq _ fun q => absurd (hJ.1 45 55 (Or.inr (Or.inr (Or.inr (Or.inl rfl)))) (Or.inr (Or.inr (Or.inr (Or.inr (Or.inl rfl))))) q) (by decide)))
  · exact (show va_at D vwCl (ad 55, .inr (5, Xfs55 ad ta (up2 h 53 0 x))) H1 from hc)
  · exact (show va_at D vwCl (ad 6, .inl (cA 1, 600, .inl (h 6))) H1 from (hM.2.2.2.2.1).kept (oq _ fun q => absurd (hJ.1 6 55 (Or.inr (Or.inr (Or.inr (Or.inr (Or.inr (rfl)))))) (Or.inr (Or.inr (Or.inr (Or.inr (Or.inl rfl))))) q) (by decide)))
  · exact (fun j hj => by rw [up2_other (Xarr_53 hj)]; exact (hM.2.2.2.2.2 j hj).kept (oq _ fun q => Xarr_55 hj (hJ.1 j 55 (Or.inl hj) (Or.inr (Or.inr (Or.inr (Or.inr (Or.inl rfl))))) q)))
theorem XW.pt54 {z0 : Nat} {D : va_G} {cA : Nat → ClassId} {ad : Nat → Nat} {ta : Nat} {h : Mem} {H H1 : Heap} {x : Int32} (hM : XW D cA ad ta h H) (hJ : XJ z0 ad) (hc : va_at D vwCl (ad 55, .inr (5, (Xfs55 ad ta h).set 4 (.int x))) H1) (oq : ∀ q, q ≠ ad 55 → H1[q]? = H[q]?) : XW D cA ad ta (up2 h 54 0 x) H1 := by
  refine ⟨?_, ?_, ?_, ?_, ?_, ?_⟩
  · exact (show va_at D vwCl (ad 17, .inr (1, Xfs17 ad ta h)) H1 from (hM.1).kept (oq _ fun q => absurd (hJ.1 17 55 (Or.inr (Or.inl rfl)) (Or.inr (Or.inr (Or.inr (Or.inr (Or.inl rfl))))) q) (by decide)))
  · exact (show va_at D vwCl (ad 31, .inr (4, Xfs31 ad ta h)) H1 from (hM.2.1).kept (oq _ fun q => absurd (hJ.1 31 55 (Or.inr (Or.inr (Or.inl rfl))) (Or.inr (Or.inr (Or.inr (Or.inr (Or.inl rfl))))) q) (by decide)))
  · exact (show va_at D vwCl (ad 45, .inr (5, Xfs45 ad ta h)) H1 from (hM.2.2.1).kept (oq _ fun q => absurd (hJ.1 45 55 (Or.inr (Or.inr (Or.inr (Or.inl rfl)))) (Or.inr (Or.inr (Or.inr (Or.inr (Or.inl rfl))))) q) (by decide)))
  · exact (show va_at D vwCl (ad 55, .inr (5, Xfs55 ad ta (up2 h 54 0 x))) H1 from hc)
  · exact (show va_at D vwCl (ad 6, .inl (cA 1, 600, .inl (h 6))) H1 from (hM.2.2.2.2.1).kept (oq _ fun q => absurd (hJ.1 6 55 (Or.inr (Or.inr (Or.inr (Or.inr (Or.inr (rfl)))))) (Or.inr (Or.inr (Or.inr (Or.inr (Or.inl rfl))))) q) (by decide)))
  · exact (fun j hj => by rw [up2_other (Xarr_54 hj)]; exact (hM.2.2.2.2.2 j hj).kept (oq _ fun q => Xarr_55 hj (hJ.1 j 55 (Or.inl hj) (Or.inr (Or.inr (Or.inr (Or.inr (Or.inl rfl))))) q)))
section RX
variable {p : Program} {l : Launch} {e : Env} {R : Room} {s : State} {m : MethodId} {args : Array Value} {below : List Frame} {meth : Method} {c : Code} {H : Heap} {locs : List Loc} {cells slots : Nat} {Q : State → Prop}
variable {cc : ByteArray} {pc z0 : Nat} {ls : Array Slot} {rest : List Value} {A : Nat → Prop} {H0 : Heap} {D : va_G} {cA : Nat → ClassId} {ad : Nat → Nat} {ta : Nat} {h : Mem} {own : String} {index : Nat}
theorem X_get17 (hx : p.tables.exec = Jvm.exec) (hb : c.code = cc) (hts : ∀ w ∈ lw_all, w.before args s = true) (hown : s.vm.findClass own = some m.cls) (hK : KK D cA s) (hM : XW D cA ad ta h H) (k : Nat) {v : Value} (hk : k < 17) (hlink : (Cond.fieldLink own index RX1 (TX1 k).2.1 (TX1 k).2.2.1).before args s = true) (hv : (Xfs17 ad ta h)[k]? = some v) (hdg : decode cc pc = .ok (.getfield index, 3))
    (kk : W p l e R s m args below meth c H locs cells slots Q (F0 m (pc + 3) ls (v :: rest))) : W p l e R s m args below meth c H locs cells slots Q (F0 m pc ls (.ref (ad 17) :: rest)) :=
  h_get (C := RX1) (T := TX1) (N := 17) (ci := 1) hx hb hts in_X1 hown hK (hM.1) rfl k hk hlink (fun _ h9 => by rw [show (TX1 k).1 = RX1 by unfold TX1; split <;> rfl] at h9; exact h9) hv hdg kk
theorem X_get17N (hx : p.tables.exec = Jvm.exec) (hb : c.code = cc) (hts : ∀ w ∈ lw_all, w.before args s = true) (hown : s.vm.findClass own = some m.cls) (hK : KK D cA s) (hM : XW D cA ad ta h H) (k : Nat) {v : Value} (hk : k < 17) (hlink : (Cond.fieldLinkNest own index RX1 (TX1 k).2.1 (TX1 k).2.2.1 "StrangeKnives").before args s = true) (hv : (Xfs17 ad ta h)[k]? = some v) (hdg : decode cc pc = .ok (.getfield index, 3))
    (kk : W p l e R s m args below meth c H locs cells slots Q (F0 m (pc + 3) ls (v :: rest))) : W p l e R s m args below meth c H locs cells slots Q (F0 m pc ls (.ref (ad 17) :: rest)) :=
  h_getN (host := "StrangeKnives") (C := RX1) (T := TX1) (N := 17) (ci := 1) hx hb hts in_X1 hown hK (hM.1) rfl k hk hlink (fun _ h9 => by rw [show (TX1 k).1 = RX1 by unfold TX1; split <;> rfl] at h9; exact h9) hv hdg kk
theorem X_get31 (hx : p.tables.exec = Jvm.exec) (hb : c.code = cc) (hts : ∀ w ∈ lw_all, w.before args s = true) (hown : s.vm.findClass own = some m.cls) (hK : KK D cA s) (hM : XW D cA ad ta h H) (k : Nat) {v : Value} (hk : k < 11) (hlink : (Cond.fieldLink own index RX5 (TX5 k).2.1 (TX5 k).2.2.1).before args s = true) (hv : (Xfs31 ad ta h)[k]? = some v) (hdg : decode cc pc = .ok (.getfield index, 3))
    (kk : W p l e R s m args below meth c H locs cells slots Q (F0 m (pc + 3) ls (v :: rest))) : W p l e R s m args below meth c H locs cells slots Q (F0 m pc ls (.ref (ad 31) :: rest)) :=
  h_get (C := RX5) (T := TX5) (N := 11) (ci := 4) hx hb hts in_X5 hown hK (hM.2.1) rfl k hk hlink (fun _ h9 => by rw [show (TX5 k).1 = RX5 by unfold TX5; split <;> rfl] at h9; exact h9) hv hdg kk
theorem X_get31N (hx : p.tables.exec = Jvm.exec) (hb : c.code = cc) (hts : ∀ w ∈ lw_all, w.before args s = true) (hown : s.vm.findClass own = some m.cls) (hK : KK D cA s) (hM : XW D cA ad ta h H) (k : Nat) {v : Value} (hk : k < 11) (hlink : (Cond.fieldLinkNest own index RX5 (TX5 k).2.1 (TX5 k).2.2.1 "StrangeKnives").before args s = true) (hv : (Xfs31 ad ta h)[k]? = some v) (hdg : decode cc pc = .ok (.getfield index, 3))
    (kk : W p l e R s m args below meth c H locs cells slots Q (F0 m (pc + 3) ls (v :: rest))) : W p l e R s m args below meth c H locs cells slots Q (F0 m pc ls (.ref (ad 31) :: rest)) :=
  h_getN (host := "StrangeKnives") (C := RX5) (T := TX5) (N := 11) (ci := 4) hx hb hts in_X5 hown hK (hM.2.1) rfl k hk hlink (fun _ h9 => by rw [show (TX5 k).1 = RX5 by unfold TX5; split <;> rfl] at h9; exact h9) hv hdg kk
theorem X_get45 (hx : p.tables.exec = Jvm.exec) (hb : c.code = cc) (hts : ∀ w ∈ lw_all, w.before args s = true) (hown : s.vm.findClass own = some m.cls) (hK : KK D cA s) (hM : XW D cA ad ta h H) (k : Nat) {v : Value} (hk : k < 5) (hlink : (Cond.fieldLink own index RX6 (TX6 k).2.1 (TX6 k).2.2.1).before args s = true) (hv : (Xfs45 ad ta h)[k]? = some v) (hdg : decode cc pc = .ok (.getfield index, 3))
    (kk : W p l e R s m args below meth c H locs cells slots Q (F0 m (pc + 3) ls (v :: rest))) : W p l e R s m args below meth c H locs cells slots Q (F0 m pc ls (.ref (ad 45) :: rest)) :=
  h_get (C := RX6) (T := TX6) (N := 5) (ci := 5) hx hb hts in_X6 hown hK (hM.2.2.1) rfl k hk hlink (fun _ h9 => by rw [show (TX6 k).1 = RX6 by unfold TX6; split <;> rfl] at h9; exact h9) hv hdg kk
theorem X_get45N (hx : p.tables.exec = Jvm.exec) (hb : c.code = cc) (hts : ∀ w ∈ lw_all, w.before args s = true) (hown : s.vm.findClass own = some m.cls) (hK : KK D cA s) (hM : XW D cA ad ta h H) (k : Nat) {v : Value} (hk : k < 5) (hlink : (Cond.fieldLinkNest own index RX6 (TX6 k).2.1 (TX6 k).2.2.1 "StrangeKnives").before args s = true) (hv : (Xfs45 ad ta h)[k]? = some v) (hdg : decode cc pc = .ok (.getfield index, 3))
    (kk : W p l e R s m args below meth c H locs cells slots Q (F0 m (pc + 3) ls (v :: rest))) : W p l e R s m args below meth c H locs cells slots Q (F0 m pc ls (.ref (ad 45) :: rest)) :=
  h_getN (host := "StrangeKnives") (C := RX6) (T := TX6) (N := 5) (ci := 5) hx hb hts in_X6 hown hK (hM.2.2.1) rfl k hk hlink (fun _ h9 => by rw [show (TX6 k).1 = RX6 by unfold TX6; split <;> rfl] at h9; exact h9) hv hdg kk
theorem X_get55 (hx : p.tables.exec = Jvm.exec) (hb : c.code = cc) (hts : ∀ w ∈ lw_all, w.before args s = true) (hown : s.vm.findClass own = some m.cls) (hK : KK D cA s) (hM : XW D cA ad ta h H) (k : Nat) {v : Value} (hk : k < 5) (hlink : (Cond.fieldLink own index RX6 (TX6 k).2.1 (TX6 k).2.2.1).before args s = true) (hv : (Xfs55 ad ta h)[k]? = some v) (hdg : decode cc pc = .ok (.getfield index, 3))
    (kk : W p l e R s m args below meth c H locs cells slots Q (F0 m (pc + 3) ls (v :: rest))) : W p l e R s m args below meth c H locs cells slots Q (F0 m pc ls (.ref (ad 55) :: rest)) :=
  h_get (C := RX6) (T := TX6) (N := 5) (ci := 5) hx hb hts in_X6 hown hK (hM.2.2.2.1) rfl k hk hlink (fun _ h9 => by rw [show (TX6 k).1 = RX6 by unfold TX6; split <;> rfl] at h9; exact h9) hv hdg kk
theorem X_get55N (hx : p.tables.exec = Jvm.exec) (hb : c.code = cc) (hts : ∀ w ∈ lw_all, w.before args s = true) (hown : s.vm.findClass own = some m.cls) (hK : KK D cA s) (hM : XW D cA ad ta h H) (k : Nat) {v : Value} (hk : k < 5) (hlink : (Cond.fieldLinkNest own index RX6 (TX6 k).2.1 (TX6 k).2.2.1 "StrangeKnives").before args s = true) (hv : (Xfs55 ad ta h)[k]? = some v) (hdg : decode cc pc = .ok (.getfield index, 3))
    (kk : W p l e R s m args below meth c H locs cells slots Q (F0 m (pc + 3) ls (v :: rest))) : W p l e R s m args below meth c H locs cells slots Q (F0 m pc ls (.ref (ad 55) :: rest)) :=
  h_getN (host := "StrangeKnives") (C := RX6) (T := TX6) (N := 5) (ci := 5) hx hb hts in_X6 hown hK (hM.2.2.2.1) rfl k hk hlink (fun _ h9 => by rw [show (TX6 k).1 = RX6 by unfold TX6; split <;> rfl] at h9; exact h9) hv hdg kk
theorem X_put5 (hx : p.tables.exec = Jvm.exec) (hb : c.code = cc) (hts : ∀ w ∈ lw_all, w.before args s = true) (hown : s.vm.findClass own = some m.cls) (hK : KK D cA s) (hM : XW D cA ad ta h H) (hJ : XJ z0 ad) (hA : ∀ q, XA ad q → A q) (hS : va_S A H0 H locs) {x : Int32} (hlink : (Cond.fieldLink own index RX1 (TX1 5).2.1 (TX1 5).2.2.1).before args s = true) (ty : FieldType) (hd : parseFieldDescriptor (TX1 5).2.2.1 = some ty) (hw : narrow ty (.int x) = .int x) (hf : fits ty (.int x) = true) (hdg : decode cc pc = .ok (.putfield index, 3))
    (kk : ∀ (H1 : Heap) (locs1 : List Loc), XW D cA ad ta (up2 h 5 0 x) H1 → va_S A H0 H1 locs1 → W p l e R s m args below meth c H1 locs1 cells slots Q (F0 m (pc + 3) ls rest)) : W p l e R s m args below meth c H locs cells slots Q (F0 m pc ls (.int x :: .ref (ad 17) :: rest)) :=
  h_put (C := RX1) (T := TX1) (N := 17) (ci := 1) hx hb hts in_X1 tyX1 tyX1_ok nmX1 hown hK (hM.1) (hA _ ⟨17, Or.inr (Or.inl rfl), rfl⟩) hS rfl 5 (by decide) hlink (fun _ h9 => h9) rfl hd hw hf (Nat.lt_of_lt_of_le (by decide : 5 < 17) (Nat.le_of_eq rfl)) hdg (fun H1 locs1 hc oq _ hS1 => kk H1 locs1 (XW.pt5 hM hJ hc oq) hS1)
theorem X_put5N (hx : p.tables.exec = Jvm.exec) (hb : c.code = cc) (hts : ∀ w ∈ lw_all, w.before args s = true) (hown : s.vm.findClass own = some m.cls) (hK : KK D cA s) (hM : XW D cA ad ta h H) (hJ : XJ z0 ad) (hA : ∀ q, XA ad q → A q) (hS : va_S A H0 H locs) {x : Int32} (hlink : (Cond.fieldLinkNest own index RX1 (TX1 5).2.1 (TX1 5).2.2.1 "StrangeKnives").before args s = true) (ty : FieldType) (hd : parseFieldDescriptor (TX1 5).2.2.1 = some ty) (hw : narrow ty (.int x) = .int x) (hf : fits ty (.int x) = true) (hdg : decode cc pc = .ok (.putfield index, 3))
    (kk : ∀ (H1 : Heap) (locs1 : List Loc), XW D cA ad ta (up2 h 5 0 x) H1 → va_S A H0 H1 locs1 → W p l e R s m args below meth c H1 locs1 cells slots Q (F0 m (pc + 3) ls rest)) : W p l e R s m args below meth c H locs cells slots Q (F0 m pc ls (.int x :: .ref (ad 17) :: rest)) :=
  h_putN (host := "StrangeKnives") (C := RX1) (T := TX1) (N := 17) (ci := 1) hx hb hts in_X1 tyX1 tyX1_ok nmX1 hown hK (hM.1) (hA _ ⟨17, Or.inr (Or.inl rfl), rfl⟩) hS rfl 5 (by decide) hlink (fun _ h9 => h9) rfl hd hw hf (Nat.lt_of_lt_of_le (by decide : 5 < 17) (Nat.le_of_eq rfl)) hdg (fun H1 locs1 hc oq _ hS1 => kk H1 locs1 (XW.pt5 hM hJ hc oq) hS1)
theorem X_put7 (hx : p.tables.exec = Jvm.exec) (hb : c.code = cc) (hts : ∀ w ∈ lw_all, w.before args s = true) (hown : s.vm.findClass own = some m.cls) (hK : KK D cA s) (hM : XW D cA ad ta h H) (hJ : XJ z0 ad) (hA : ∀ q, XA ad q → A q) (hS : va_S A H0 H locs) {x : Int32} (hlink : (Cond.fieldLink own index RX1 (TX1 7).2.1 (TX1 7).2.2.1).before args s = true) (ty : FieldType) (hd : parseFieldDescriptor (TX1 7).2.2.1 = some ty) (hw : narrow ty (.int x) = .int x) (hf : fits ty (.int x) = true) (hdg : decode cc pc = .ok (.putfield index, 3))
    (kk : ∀ (H1 : Heap) (locs1 : List Loc), XW D cA ad ta (up2 h 7 0 x) H1 → va_S A H0 H1 locs1 → W p l e R s m args below meth c H1 locs1 cells slots Q (F0 m (pc + 3) ls rest)) : W p l e R s m args below meth c H locs cells slots Q (F0 m pc ls (.int x :: .ref (ad 17) :: rest)) :=
  h_put (C := RX1) (T := TX1) (N := 17) (ci := 1) hx hb hts in_X1 tyX1 tyX1_ok nmX1 hown hK (hM.1) (hA _ ⟨17, Or.inr (Or.inl rfl), rfl⟩) hS rfl 7 (by decide) hlink (fun _ h9 => h9) rfl hd hw hf (Nat.lt_of_lt_of_le (by decide : 7 < 17) (Nat.le_of_eq rfl)) hdg (fun H1 locs1 hc oq _ hS1 => kk H1 locs1 (XW.pt7 hM hJ hc oq) hS1)
theorem X_put7N (hx : p.tables.exec = Jvm.exec) (hb : c.code = cc) (hts : ∀ w ∈ lw_all, w.before args s = true) (hown : s.vm.findClass own = some m.cls) (hK : KK D cA s) (hM : XW D cA ad ta h H) (hJ : XJ z0 ad) (hA : ∀ q, XA ad q → A q) (hS : va_S A H0 H locs) {x : Int32} (hlink : (Cond.fieldLinkNest own index RX1 (TX1 7).2.1 (TX1 7).2.2.1 "StrangeKnives").before args s = true) (ty : FieldType) (hd : parseFieldDescriptor (TX1 7).2.2.1 = some ty) (hw : narrow ty (.int x) = .int x) (hf : fits ty (.int x) = true) (hdg : decode cc pc = .ok (.putfield index, 3))
    (kk : ∀ (H1 : Heap) (locs1 : List Loc), XW D cA ad ta (up2 h 7 0 x) H1 → va_S A H0 H1 locs1 → W p l e R s m args below meth c H1 locs1 cells slots Q (F0 m (pc + 3) ls rest)) : W p l e R s m args below meth c H locs cells slots Q (F0 m pc ls (.int x :: .ref (ad 17) :: rest)) :=
  h_putN (host := "StrangeKnives") (C := RX1) (T := TX1) (N := 17) (ci := 1) hx hb hts in_X1 tyX1 tyX1_ok nmX1 hown hK (hM.1) (hA _ ⟨17, Or.inr (Or.inl rfl), rfl⟩) hS rfl 7 (by decide) hlink (fun _ h9 => h9) rfl hd hw hf (Nat.lt_of_lt_of_le (by decide : 7 < 17) (Nat.le_of_eq rfl)) hdg (fun H1 locs1 hc oq _ hS1 => kk H1 locs1 (XW.pt7 hM hJ hc oq) hS1)
theorem X_put8 (hx : p.tables.exec = Jvm.exec) (hb : c.code = cc) (hts : ∀ w ∈ lw_all, w.before args s = true) (hown : s.vm.findClass own = some m.cls) (hK : KK D cA s) (hM : XW D cA ad ta h H) (hJ : XJ z0 ad) (hA : ∀ q, XA ad q → A q) (hS : va_S A H0 H locs) {x : Int32} (hlink : (Cond.fieldLink own index RX1 (TX1 8).2.1 (TX1 8).2.2.1).before args s = true) (ty : FieldType) (hd : parseFieldDescriptor (TX1 8).2.2.1 = some ty) (hw : narrow ty (.int x) = .int x) (hf : fits ty (.int x) = true) (hdg : decode cc pc = .ok (.putfield index, 3))
    (kk : ∀ (H1 : Heap) (locs1 : List Loc), XW D cA ad ta (up2 h 8 0 x) H1 → va_S A H0 H1 locs1 → W p l e R s m args below meth c H1 locs1 cells slots Q (F0 m (pc + 3) ls rest)) : W p l e R s m args below meth c H locs cells slots Q (F0 m pc ls (.int x :: .ref (ad 17) :: rest)) :=
  h_put (C := RX1) (T := TX1) (N := 17) (ci := 1) hx hb hts in_X1 tyX1 tyX1_ok nmX1 hown hK (hM.1) (hA _ ⟨17, Or.inr (Or.inl rfl), rfl⟩) hS rfl 8 (by decide) hlink (fun _ h9 => h9) rfl hd hw hf (Nat.lt_of_lt_of_le (by decide : 8 < 17) (Nat.le_of_eq rfl)) hdg (fun H1 locs1 hc oq _ hS1 => kk H1 locs1 (XW.pt8 hM hJ hc oq) hS1)
theorem X_put8N (hx : p.tables.exec = Jvm.exec) (hb : c.code = cc) (hts : ∀ w ∈ lw_all, w.before args s = true) (hown : s.vm.findClass own = some m.cls) (hK : KK D cA s) (hM : XW D cA ad ta h H) (hJ : XJ z0 ad) (hA : ∀ q, XA ad q → A q) (hS : va_S A H0 H locs) {x : Int32} (hlink : (Cond.fieldLinkNest own index RX1 (TX1 8).2.1 (TX1 8).2.2.1 "StrangeKnives").before args s = true) (ty : FieldType) (hd : parseFieldDescriptor (TX1 8).2.2.1 = some ty) (hw : narrow ty (.int x) = .int x) (hf : fits ty (.int x) = true) (hdg : decode cc pc = .ok (.putfield index, 3))
    (kk : ∀ (H1 : Heap) (locs1 : List Loc), XW D cA ad ta (up2 h 8 0 x) H1 → va_S A H0 H1 locs1 → W p l e R s m args below meth c H1 locs1 cells slots Q (F0 m (pc + 3) ls rest)) : W p l e R s m args below meth c H locs cells slots Q (F0 m pc ls (.int x :: .ref (ad 17) :: rest)) :=
  h_putN (host := "StrangeKnives") (C := RX1) (T := TX1) (N := 17) (ci := 1) hx hb hts in_X1 tyX1 tyX1_ok nmX1 hown hK (hM.1) (hA _ ⟨17, Or.inr (Or.inl rfl), rfl⟩) hS rfl 8 (by decide) hlink (fun _ h9 => h9) rfl hd hw hf (Nat.lt_of_lt_of_le (by decide : 8 < 17) (Nat.le_of_eq rfl)) hdg (fun H1 locs1 hc oq _ hS1 => kk H1 locs1 (XW.pt8 hM hJ hc oq) hS1)
theorem X_put13 (hx : p.tables.exec = Jvm.exec) (hb : c.code = cc) (hts : ∀ w ∈ lw_all, w.before args s = true) (hown : s.vm.findClass own = some m.cls) (hK : KK D cA s) (hM : XW D cA ad ta h H) (hJ : XJ z0 ad) (hA : ∀ q, XA ad q → A q) (hS : va_S A H0 H locs) {x : Int32} (hlink : (Cond.fieldLink own index RX1 (TX1 13).2.1 (TX1 13).2.2.1).before args s = true) (ty : FieldType) (hd : parseFieldDescriptor (TX1 13).2.2.1 = some ty) (hw : narrow ty (.int x) = .int x) (hf : fits ty (.int x) = true) (hdg : decode cc pc = .ok (.putfield index, 3))
    (kk : ∀ (H1 : Heap) (locs1 : List Loc), XW D cA ad ta (up2 h 13 0 x) H1 → va_S A H0 H1 locs1 → W p l e R s m args below meth c H1 locs1 cells slots Q (F0 m (pc + 3) ls rest)) : W p l e R s m args below meth c H locs cells slots Q (F0 m pc ls (.int x :: .ref (ad 17) :: rest)) :=
  h_put (C := RX1) (T := TX1) (N := 17) (ci := 1) hx hb hts in_X1 tyX1 tyX1_ok nmX1 hown hK (hM.1) (hA _ ⟨17, Or.inr (Or.inl rfl), rfl⟩) hS rfl 13 (by decide) hlink (fun _ h9 => h9) rfl hd hw hf (Nat.lt_of_lt_of_le (by decide : 13 < 17) (Nat.le_of_eq rfl)) hdg (fun H1 locs1 hc oq _ hS1 => kk H1 locs1 (XW.pt13 hM hJ hc oq) hS1)
theorem X_put13N (hx : p.tables.exec = Jvm.exec) (hb : c.code = cc) (hts : ∀ w ∈ lw_all, w.before args s = true) (hown : s.vm.findClass own = some m.cls) (hK : KK D cA s) (hM : XW D cA ad ta h H) (hJ : XJ z0 ad) (hA : ∀ q, XA ad q → A q) (hS : va_S A H0 H locs) {x : Int32} (hlink : (Cond.fieldLinkNest own index RX1 (TX1 13).2.1 (TX1 13).2.2.1 "StrangeKnives").before args s = true) (ty : FieldType) (hd : parseFieldDescriptor (TX1 13).2.2.1 = some ty) (hw : narrow ty (.int x) = .int x) (hf : fits ty (.int x) = true) (hdg : decode cc pc = .ok (.putfield index, 3))
    (kk : ∀ (H1 : Heap) (locs1 : List Loc), XW D cA ad ta (up2 h 13 0 x) H1 → va_S A H0 H1 locs1 → W p l e R s m args below meth c H1 locs1 cells slots Q (F0 m (pc + 3) ls rest)) : W p l e R s m args below meth c H locs cells slots Q (F0 m pc ls (.int x :: .ref (ad 17) :: rest)) :=
  h_putN (host := "StrangeKnives") (C := RX1) (T := TX1) (N := 17) (ci := 1) hx hb hts in_X1 tyX1 tyX1_ok nmX1 hown hK (hM.1) (hA _ ⟨17, Or.inr (Or.inl rfl), rfl⟩) hS rfl 13 (by decide) hlink (fun _ h9 => h9) rfl hd hw hf (Nat.lt_of_lt_of_le (by decide : 13 < 17) (Nat.le_of_eq rfl)) hdg (fun H1 locs1 hc oq _ hS1 => kk H1 locs1 (XW.pt13 hM hJ hc oq) hS1)
theorem X_put14 (hx : p.tables.exec = Jvm.exec) (hb : c.code = cc) (hts : ∀ w ∈ lw_all, w.before args s = true) (hown : s.vm.findClass own = some m.cls) (hK : KK D cA s) (hM : XW D cA ad ta h H) (hJ : XJ z0 ad) (hA : ∀ q, XA ad q → A q) (hS : va_S A H0 H locs) {x : Int32} (hlink : (Cond.fieldLink own index RX1 (TX1 14).2.1 (TX1 14).2.2.1).before args s = true) (ty : FieldType) (hd : parseFieldDescriptor (TX1 14).2.2.1 = some ty) (hw : narrow ty (.int x) = .int x) (hf : fits ty (.int x) = true) (hdg : decode cc pc = .ok (.putfield index, 3))
    (kk : ∀ (H1 : Heap) (locs1 : List Loc), XW D cA ad ta (up2 h 14 0 x) H1 → va_S A H0 H1 locs1 → W p l e R s m args below meth c H1 locs1 cells slots Q (F0 m (pc + 3) ls rest)) : W p l e R s m args below meth c H locs cells slots Q (F0 m pc ls (.int x :: .ref (ad 17) :: rest)) :=
  h_put (C := RX1) (T := TX1) (N := 17) (ci := 1) hx hb hts in_X1 tyX1 tyX1_ok nmX1 hown hK (hM.1) (hA _ ⟨17, Or.inr (Or.inl rfl), rfl⟩) hS rfl 14 (by decide) hlink (fun _ h9 => h9) rfl hd hw hf (Nat.lt_of_lt_of_le (by decide : 14 < 17) (Nat.le_of_eq rfl)) hdg (fun H1 locs1 hc oq _ hS1 => kk H1 locs1 (XW.pt14 hM hJ hc oq) hS1)
theorem X_put14N (hx : p.tables.exec = Jvm.exec) (hb : c.code = cc) (hts : ∀ w ∈ lw_all, w.before args s = true) (hown : s.vm.findClass own = some m.cls) (hK : KK D cA s) (hM : XW D cA ad ta h H) (hJ : XJ z0 ad) (hA : ∀ q, XA ad q → A q) (hS : va_S A H0 H locs) {x : Int32} (hlink : (Cond.fieldLinkNest own index RX1 (TX1 14).2.1 (TX1 14).2.2.1 "StrangeKnives").before args s = true) (ty : FieldType) (hd : parseFieldDescriptor (TX1 14).2.2.1 = some ty) (hw : narrow ty (.int x) = .int x) (hf : fits ty (.int x) = true) (hdg : decode cc pc = .ok (.putfield index, 3))
    (kk : ∀ (H1 : Heap) (locs1 : List Loc), XW D cA ad ta (up2 h 14 0 x) H1 → va_S A H0 H1 locs1 → W p l e R s m args below meth c H1 locs1 cells slots Q (F0 m (pc + 3) ls rest)) : W p l e R s m args below meth c H locs cells slots Q (F0 m pc ls (.int x :: .ref (ad 17) :: rest)) :=
  h_putN (host := "StrangeKnives") (C := RX1) (T := TX1) (N := 17) (ci := 1) hx hb hts in_X1 tyX1 tyX1_ok nmX1 hown hK (hM.1) (hA _ ⟨17, Or.inr (Or.inl rfl), rfl⟩) hS rfl 14 (by decide) hlink (fun _ h9 => h9) rfl hd hw hf (Nat.lt_of_lt_of_le (by decide : 14 < 17) (Nat.le_of_eq rfl)) hdg (fun H1 locs1 hc oq _ hS1 => kk H1 locs1 (XW.pt14 hM hJ hc oq) hS1)
theorem X_put16 (hx : p.tables.exec = Jvm.exec) (hb : c.code = cc) (hts : ∀ w ∈ lw_all, w.before args s = true) (hown : s.vm.findClass own = some m.cls) (hK : KK D cA s) (hM : XW D cA ad ta h H) (hJ : XJ z0 ad) (hA : ∀ q, XA ad q → A q) (hS : va_S A H0 H locs) {x : Int32} (hlink : (Cond.fieldLink own index RX1 (TX1 16).2.1 (TX1 16).2.2.1).before args s = true) (ty : FieldType) (hd : parseFieldDescriptor (TX1 16).2.2.1 = some ty) (hw : narrow ty (.int x) = .int x) (hf : fits ty (.int x) = true) (hdg : decode cc pc = .ok (.putfield index, 3))
    (kk : ∀ (H1 : Heap) (locs1 : List Loc), XW D cA ad ta (up2 h 16 0 x) H1 → va_S A H0 H1 locs1 → W p l e R s m args below meth c H1 locs1 cells slots Q (F0 m (pc + 3) ls rest)) : W p l e R s m args below meth c H locs cells slots Q (F0 m pc ls (.int x :: .ref (ad 17) :: rest)) :=
  h_put (C := RX1) (T := TX1) (N := 17) (ci := 1) hx hb hts in_X1 tyX1 tyX1_ok nmX1 hown hK (hM.1) (hA _ ⟨17, Or.inr (Or.inl rfl), rfl⟩) hS rfl 16 (by decide) hlink (fun _ h9 => h9) rfl hd hw hf (Nat.lt_of_lt_of_le (by decide : 16 < 17) (Nat.le_of_eq rfl)) hdg (fun H1 locs1 hc oq _ hS1 => kk H1 locs1 (XW.pt16 hM hJ hc oq) hS1)
theorem X_put16N (hx : p.tables.exec = Jvm.exec) (hb : c.code = cc) (hts : ∀ w ∈ lw_all, w.before args s = true) (hown : s.vm.findClass own = some m.cls) (hK : KK D cA s) (hM : XW D cA ad ta h H) (hJ : XJ z0 ad) (hA : ∀ q, XA ad q → A q) (hS : va_S A H0 H locs) {x : Int32} (hlink : (Cond.fieldLinkNest own index RX1 (TX1 16).2.1 (TX1 16).2.2.1 "StrangeKnives").before args s = true) (ty : FieldType) (hd : parseFieldDescriptor (TX1 16).2.2.1 = some ty) (hw : narrow ty (.int x) = .int x) (hf : fits ty (.int x) = true) (hdg : decode cc pc = .ok (.putfield index, 3))
    (kk : ∀ (H1 : Heap) (locs1 : List Loc), XW D cA ad ta (up2 h 16 0 x) H1 → va_S A H0 H1 locs1 → W p l e R s m args below meth c H1 locs1 cells slots Q (F0 m (pc + 3) ls rest)) : W p l e R s m args below meth c H locs cells slots Q (F0 m pc ls (.int x :: .ref (ad 17) :: rest)) :=
  h_putN (host := "StrangeKnives") (C := RX1) (T := TX1) (N := 17) (ci := 1) hx hb hts in_X1 tyX1 tyX1_ok nmX1 hown hK (hM.1) (hA _ ⟨17, Or.inr (Or.inl rfl), rfl⟩) hS rfl 16 (by decide) hlink (fun _ h9 => h9) rfl hd hw hf (Nat.lt_of_lt_of_le (by decide : 16 < 17) (Nat.le_of_eq rfl)) hdg (fun H1 locs1 hc oq _ hS1 => kk H1 locs1 (XW.pt16 hM hJ hc oq) hS1)
theorem X_put28 (hx : p.tables.exec = Jvm.exec) (hb : c.code = cc) (hts : ∀ w ∈ lw_all, w.before args s = true) (hown : s.vm.findClass own = some m.cls) (hK : KK D cA s) (hM : XW D cA ad ta h H) (hJ : XJ z0 ad) (hA : ∀ q, XA ad q → A q) (hS : va_S A H0 H locs) {x : Int32} (hlink : (Cond.fieldLink own index RX5 (TX5 8).2.1 (TX5 8).2.2.1).before args s = true) (ty : FieldType) (hd : parseFieldDescriptor (TX5 8).2.2.1 = some ty) (hw : narrow ty (.int x) = .int x) (hf : fits ty (.int x) = true) (hdg : decode cc pc = .ok (.putfield index, 3))
    (kk : ∀ (H1 : Heap) (locs1 : List Loc), XW D cA ad ta (up2 h 28 0 x) H1 → va_S A H0 H1 locs1 → W p l e R s m args below meth c H1 locs1 cells slots Q (F0 m (pc + 3) ls rest)) : W p l e R s m args below meth c H locs cells slots Q (F0 m pc ls (.int x :: .ref (ad 31) :: rest)) :=
  h_put (C := RX5) (T := TX5) (N := 11) (ci := 4) hx hb hts in_X5 tyX5 tyX5_ok nmX5 hown hK (hM.2.1) (hA _ ⟨31, Or.inr (Or.inr (Or.inl rfl)), rfl⟩) hS rfl 8 (by decide) hlink (fun _ h9 => h9) rfl hd hw hf (Nat.lt_of_lt_of_le (by decide : 8 < 11) (Nat.le_of_eq rfl)) hdg (fun H1 locs1 hc oq _ hS1 => kk H1 locs1 (XW.pt28 hM hJ hc oq) hS1)
theorem X_put28N (hx : p.tables.exec = Jvm.exec) (hb : c.code = cc) (hts : ∀ w ∈ lw_all, w.before args s = true) (hown : s.vm.findClass own = some m.cls) (hK : KK D cA s) (hM : XW D cA ad ta h H) (hJ : XJ z0 ad) (hA : ∀ q, XA ad q → A q) (hS : va_S A H0 H locs) {x : Int32} (hlink : (Cond.fieldLinkNest own index RX5 (TX5 8).2.1 (TX5 8).2.2.1 "StrangeKnives").before args s = true) (ty : FieldType) (hd : parseFieldDescriptor (TX5 8).2.2.1 = some ty) (hw : narrow ty (.int x) = .int x) (hf : fits ty (.int x) = true) (hdg : decode cc pc = .ok (.putfield index, 3))
    (kk : ∀ (H1 : Heap) (locs1 : List Loc), XW D cA ad ta (up2 h 28 0 x) H1 → va_S A H0 H1 locs1 → W p l e R s m args below meth c H1 locs1 cells slots Q (F0 m (pc + 3) ls rest)) : W p l e R s m args below meth c H locs cells slots Q (F0 m pc ls (.int x :: .ref (ad 31) :: rest)) :=
  h_putN (host := "StrangeKnives") (C := RX5) (T := TX5) (N := 11) (ci := 4) hx hb hts in_X5 tyX5 tyX5_ok nmX5 hown hK (hM.2.1) (hA _ ⟨31, Or.inr (Or.inr (Or.inl rfl)), rfl⟩) hS rfl 8 (by decide) hlink (fun _ h9 => h9) rfl hd hw hf (Nat.lt_of_lt_of_le (by decide : 8 < 11) (Nat.le_of_eq rfl)) hdg (fun H1 locs1 hc oq _ hS1 => kk H1 locs1 (XW.pt28 hM hJ hc oq) hS1)
theorem X_put29 (hx : p.tables.exec = Jvm.exec) (hb : c.code = cc) (hts : ∀ w ∈ lw_all, w.before args s = true) (hown : s.vm.findClass own = some m.cls) (hK : KK D cA s) (hM : XW D cA ad ta h H) (hJ : XJ z0 ad) (hA : ∀ q, XA ad q → A q) (hS : va_S A H0 H locs) {x : Int32} (hlink : (Cond.fieldLink own index RX5 (TX5 9).2.1 (TX5 9).2.2.1).before args s = true) (ty : FieldType) (hd : parseFieldDescriptor (TX5 9).2.2.1 = some ty) (hw : narrow ty (.int x) = .int x) (hf : fits ty (.int x) = true) (hdg : decode cc pc = .ok (.putfield index, 3))
    (kk : ∀ (H1 : Heap) (locs1 : List Loc), XW D cA ad ta (up2 h 29 0 x) H1 → va_S A H0 H1 locs1 → W p l e R s m args below meth c H1 locs1 cells slots Q (F0 m (pc + 3) ls rest)) : W p l e R s m args below meth c H locs cells slots Q (F0 m pc ls (.int x :: .ref (ad 31) :: rest)) :=
  h_put (C := RX5) (T := TX5) (N := 11) (ci := 4) hx hb hts in_X5 tyX5 tyX5_ok nmX5 hown hK (hM.2.1) (hA _ ⟨31, Or.inr (Or.inr (Or.inl rfl)), rfl⟩) hS rfl 9 (by decide) hlink (fun _ h9 => h9) rfl hd hw hf (Nat.lt_of_lt_of_le (by decide : 9 < 11) (Nat.le_of_eq rfl)) hdg (fun H1 locs1 hc oq _ hS1 => kk H1 locs1 (XW.pt29 hM hJ hc oq) hS1)
theorem X_put29N (hx : p.tables.exec = Jvm.exec) (hb : c.code = cc) (hts : ∀ w ∈ lw_all, w.before args s = true) (hown : s.vm.findClass own = some m.cls) (hK : KK D cA s) (hM : XW D cA ad ta h H) (hJ : XJ z0 ad) (hA : ∀ q, XA ad q → A q) (hS : va_S A H0 H locs) {x : Int32} (hlink : (Cond.fieldLinkNest own index RX5 (TX5 9).2.1 (TX5 9).2.2.1 "StrangeKnives").before args s = true) (ty : FieldType) (hd : parseFieldDescriptor (TX5 9).2.2.1 = some ty) (hw : narrow ty (.int x) = .int x) (hf : fits ty (.int x) = true) (hdg : decode cc pc = .ok (.putfield index, 3))
    (kk : ∀ (H1 : Heap) (locs1 : List Loc), XW D cA ad ta (up2 h 29 0 x) H1 → va_S A H0 H1 locs1 → W p l e R s m args below meth c H1 locs1 cells slots Q (F0 m (pc + 3) ls rest)) : W p l e R s m args below meth c H locs cells slots Q (F0 m pc ls (.int x :: .ref (ad 31) :: rest)) :=
  h_putN (host := "StrangeKnives") (C := RX5) (T := TX5) (N := 11) (ci := 4) hx hb hts in_X5 tyX5 tyX5_ok nmX5 hown hK (hM.2.1) (hA _ ⟨31, Or.inr (Or.inr (Or.inl rfl)), rfl⟩) hS rfl 9 (by decide) hlink (fun _ h9 => h9) rfl hd hw hf (Nat.lt_of_lt_of_le (by decide : 9 < 11) (Nat.le_of_eq rfl)) hdg (fun H1 locs1 hc oq _ hS1 => kk H1 locs1 (XW.pt29 hM hJ hc oq) hS1)
theorem X_put30 (hx : p.tables.exec = Jvm.exec) (hb : c.code = cc) (hts : ∀ w ∈ lw_all, w.before args s = true) (hown : s.vm.findClass own = some m.cls) (hK : KK D cA s) (hM : XW D cA ad ta h H) (hJ : XJ z0 ad) (hA : ∀ q, XA ad q → A q) (hS : va_S A H0 H locs) {x : Int32} (hlink : (Cond.fieldLink own index RX5 (TX5 10).2.1 (TX5 10).2.2.1).before args s = true) (ty : FieldType) (hd : parseFieldDescriptor (TX5 10).2.2.1 = some ty) (hw : narrow ty (.int x) = .int x) (hf : fits ty (.int x) = true) (hdg : decode cc pc = .ok (.putfield index, 3))
    (kk : ∀ (H1 : Heap) (locs1 : List Loc), XW D cA ad ta (up2 h 30 0 x) H1 → va_S A H0 H1 locs1 → W p l e R s m args below meth c H1 locs1 cells slots Q (F0 m (pc + 3) ls rest)) : W p l e R s m args below meth c H locs cells slots Q (F0 m pc ls (.int x :: .ref (ad 31) :: rest)) :=
  h_put (C := RX5) (T := TX5) (N := 11) (ci := 4) hx hb hts in_X5 tyX5 tyX5_ok nmX5 hown hK (hM.2.1) (hA _ ⟨31, Or.inr (Or.inr (Or.inl rfl)), rfl⟩) hS rfl 10 (by decide) hlink (fun _ h9 => h9) rfl hd hw hf (Nat.lt_of_lt_of_le (by decide : 10 < 11) (Nat.le_of_eq rfl)) hdg (fun H1 locs1 hc oq _ hS1 => kk H1 locs1 (XW.pt30 hM hJ hc oq) hS1)
theorem X_put30N (hx : p.tables.exec = Jvm.exec) (hb : c.code = cc) (hts : ∀ w ∈ lw_all, w.before args s = true) (hown : s.vm.findClass own = some m.cls) (hK : KK D cA s) (hM : XW D cA ad ta h H) (hJ : XJ z0 ad) (hA : ∀ q, XA ad q → A q) (hS : va_S A H0 H locs) {x : Int32} (hlink : (Cond.fieldLinkNest own index RX5 (TX5 10).2.1 (TX5 10).2.2.1 "StrangeKnives").before args s = true) (ty : FieldType) (hd : parseFieldDescriptor (TX5 10).2.2.1 = some ty) (hw : narrow ty (.int x) = .int x) (hf : fits ty (.int x) = true) (hdg : decode cc pc = .ok (.putfield index, 3))
    (kk : ∀ (H1 : Heap) (locs1 : List Loc), XW D cA ad ta (up2 h 30 0 x) H1 → va_S A H0 H1 locs1 → W p l e R s m args below meth c H1 locs1 cells slots Q (F0 m (pc + 3) ls rest)) : W p l e R s m args below meth c H locs cells slots Q (F0 m pc ls (.int x :: .ref (ad 31) :: rest)) :=
  h_putN (host := "StrangeKnives") (C := RX5) (T := TX5) (N := 11) (ci := 4) hx hb hts in_X5 tyX5 tyX5_ok nmX5 hown hK (hM.2.1) (hA _ ⟨31, Or.inr (Or.inr (Or.inl rfl)), rfl⟩) hS rfl 10 (by decide) hlink (fun _ h9 => h9) rfl hd hw hf (Nat.lt_of_lt_of_le (by decide : 10 < 11) (Nat.le_of_eq rfl)) hdg (fun H1 locs1 hc oq _ hS1 => kk H1 locs1 (XW.pt30 hM hJ hc oq) hS1)
theorem X_put43 (hx : p.tables.exec = Jvm.exec) (hb : c.code = cc) (hts : ∀ w ∈ lw_all, w.before args s = true) (hown : s.vm.findClass own = some m.cls) (hK : KK D cA s) (hM : XW D cA ad ta h H) (hJ : XJ z0 ad) (hA : ∀ q, XA ad q → A q) (hS : va_S A H0 H locs) {x : Int32} (hlink : (Cond.fieldLink own index RX6 (TX6 3).2.1 (TX6 3).2.2.1).before args s = true) (ty : FieldType) (hd : parseFieldDescriptor (TX6 3).2.2.1 = some ty) (hw : narrow ty (.int x) = .int x) (hf : fits ty (.int x) = true) (hdg : decode cc pc = .ok (.putfield index, 3))
    (kk : ∀ (H1 : Heap) (locs1 : List Loc), XW D cA ad ta (up2 h 43 0 x) H1 → va_S A H0 H1 locs1 → W p l e R s m args below meth c H1 locs1 cells slots Q (F0 m (pc + 3) ls rest)) : W p l e R s m args below meth c H locs cells slots Q (F0 m pc ls (.int x :: .ref (ad 45) :: rest)) :=
  h_put (C := RX6) (T := TX6) (N := 5) (ci := 5) hx hb hts in_X6 tyX6 tyX6_ok nmX6 hown hK (hM.2.2.1) (hA _ ⟨45, Or.inr (Or.inr (Or.inr (Or.inl rfl))), rfl⟩) hS rfl 3 (by decide) hlink (fun _ h9 => h9) rfl hd hw hf (Nat.lt_of_lt_of_le (by decide : 3 < 5) (Nat.le_of_eq rfl)) hdg (fun H1 locs1 hc oq _ hS1 => kk H1 locs1 (XW.pt43 hM hJ hc oq) hS1)
theorem X_put43N (hx : p.tables.exec = Jvm.exec) (hb : c.code = cc) (hts : ∀ w ∈ lw_all, w.before args s = true) (hown : s.vm.findClass own = some m.cls) (hK : KK D cA s) (hM : XW D cA ad ta h H) (hJ : XJ z0 ad) (hA : ∀ q, XA ad q → A q) (hS : va_S A H0 H locs) {x : Int32} (hlink : (Cond.fieldLinkNest own index RX6 (TX6 3).2.1 (TX6 3).2.2.1 "StrangeKnives").before args s = true) (ty : FieldType) (hd : parseFieldDescriptor (TX6 3).2.2.1 = some ty) (hw : narrow ty (.int x) = .int x) (hf : fits ty (.int x) = true) (hdg : decode cc pc = .ok (.putfield index, 3))
    (kk : ∀ (H1 : Heap) (locs1 : List Loc), XW D cA ad ta (up2 h 43 0 x) H1 → va_S A H0 H1 locs1 → W p l e R s m args below meth c H1 locs1 cells slots Q (F0 m (pc + 3) ls rest)) : W p l e R s m args below meth c H locs cells slots Q (F0 m pc ls (.int x :: .ref (ad 45) :: rest)) :=
  h_putN (host := "StrangeKnives") (C := RX6) (T := TX6) (N := 5) (ci := 5) hx hb hts in_X6 tyX6 tyX6_ok nmX6 hown hK (hM.2.2.1) (hA _ ⟨45, Or.inr (Or.inr (Or.inr (Or.inl rfl))), rfl⟩) hS rfl 3 (by decide) hlink (fun _ h9 => h9) rfl hd hw hf (Nat.lt_of_lt_of_le (by decide : 3 < 5) (Nat.le_of_eq rfl)) hdg (fun H1 locs1 hc oq _ hS1 => kk H1 locs1 (XW.pt43 hM hJ hc oq) hS1)
theorem X_put44 (hx : p.tables.exec = Jvm.exec) (hb : c.code = cc) (hts : ∀ w ∈ lw_all, w.before args s = true) (hown : s.vm.findClass own = some m.cls) (hK : KK D cA s) (hM : XW D cA ad ta h H) (hJ : XJ z0 ad) (hA : ∀ q, XA ad q → A q) (hS : va_S A H0 H locs) {x : Int32} (hlink : (Cond.fieldLink own index RX6 (TX6 4).2.1 (TX6 4).2.2.1).before args s = true) (ty : FieldType) (hd : parseFieldDescriptor (TX6 4).2.2.1 = some ty) (hw : narrow ty (.int x) = .int x) (hf : fits ty (.int x) = true) (hdg : decode cc pc = .ok (.putfield index, 3))
    (kk : ∀ (H1 : Heap) (locs1 : List Loc), XW D cA ad ta (up2 h 44 0 x) H1 → va_S A H0 H1 locs1 → W p l e R s m args below meth c H1 locs1 cells slots Q (F0 m (pc + 3) ls rest)) : W p l e R s m args below meth c H locs cells slots Q (F0 m pc ls (.int x :: .ref (ad 45) :: rest)) :=
  h_put (C := RX6) (T := TX6) (N := 5) (ci := 5) hx hb hts in_X6 tyX6 tyX6_ok nmX6 hown hK (hM.2.2.1) (hA _ ⟨45, Or.inr (Or.inr (Or.inr (Or.inl rfl))), rfl⟩) hS rfl 4 (by decide) hlink (fun _ h9 => h9) rfl hd hw hf (Nat.lt_of_lt_of_le (by decide : 4 < 5) (Nat.le_of_eq rfl)) hdg (fun H1 locs1 hc oq _ hS1 => kk H1 locs1 (XW.pt44 hM hJ hc oq) hS1)
theorem X_put44N (hx : p.tables.exec = Jvm.exec) (hb : c.code = cc) (hts : ∀ w ∈ lw_all, w.before args s = true) (hown : s.vm.findClass own = some m.cls) (hK : KK D cA s) (hM : XW D cA ad ta h H) (hJ : XJ z0 ad) (hA : ∀ q, XA ad q → A q) (hS : va_S A H0 H locs) {x : Int32} (hlink : (Cond.fieldLinkNest own index RX6 (TX6 4).2.1 (TX6 4).2.2.1 "StrangeKnives").before args s = true) (ty : FieldType) (hd : parseFieldDescriptor (TX6 4).2.2.1 = some ty) (hw : narrow ty (.int x) = .int x) (hf : fits ty (.int x) = true) (hdg : decode cc pc = .ok (.putfield index, 3))
    (kk : ∀ (H1 : Heap) (locs1 : List Loc), XW D cA ad ta (up2 h 44 0 x) H1 → va_S A H0 H1 locs1 → W p l e R s m args below meth c H1 locs1 cells slots Q (F0 m (pc + 3) ls rest)) : W p l e R s m args below meth c H locs cells slots Q (F0 m pc ls (.int x :: .ref (ad 45) :: rest)) :=
  h_putN (host := "StrangeKnives") (C := RX6) (T := TX6) (N := 5) (ci := 5) hx hb hts in_X6 tyX6 tyX6_ok nmX6 hown hK (hM.2.2.1) (hA _ ⟨45, Or.inr (Or.inr (Or.inr (Or.inl rfl))), rfl⟩) hS rfl 4 (by decide) hlink (fun _ h9 => h9) rfl hd hw hf (Nat.lt_of_lt_of_le (by decide : 4 < 5) (Nat.le_of_eq rfl)) hdg (fun H1 locs1 hc oq _ hS1 => kk H1 locs1 (XW.pt44 hM hJ hc oq) hS1)
theorem X_put53 (hx : p.tables.exec = Jvm.exec) (hb : c.code = cc) (hts : ∀ w ∈ lw_all, w.before args s = true) (hown : s.vm.findClass own = some m.cls) (hK : KK D cA s) (hM : XW D cA ad ta h H) (hJ : XJ z0 ad) (hA : ∀ q, XA ad q → A q) (hS : va_S A H0 H locs) {x : Int32} (hlink : (Cond.fieldLink own index RX6 (TX6 3).2.1 (TX6 3).2.2.1).before args s = true) (ty : FieldType) (hd : parseFieldDescriptor (TX6 3).2.2.1 = some ty) (hw : narrow ty (.int x) = .int x) (hf : fits ty (.int x) = true) (hdg : decode cc pc = .ok (.putfield index, 3))
    (kk : ∀ (H1 : Heap) (locs1 : List Loc), XW D cA ad ta (up2 h 53 0 x) H1 → va_S A H0 H1 locs1 → W p l e R s m args below meth c H1 locs1 cells slots Q (F0 m (pc + 3) ls rest)) : W p l e R s m args below meth c H locs cells slots Q (F0 m pc ls (.int x :: .ref (ad 55) :: rest)) :=
  h_put (C := RX6) (T := TX6) (N := 5) (ci := 5) hx hb hts in_X6 tyX6 tyX6_ok nmX6 hown hK (hM.2.2.2.1) (hA _ ⟨55, Or.inr (Or.inr (Or.inr (Or.inr (Or.inl rfl)))), rfl⟩) hS rfl 3 (by decide) hlink (fun _ h9 => h9) rfl hd hw hf (Nat.lt_of_lt_of_le (by decide : 3 < 5) (Nat.le_of_eq rfl)) hdg (fun H1 locs1 hc oq _ hS1 => kk H1 locs1 (XW.pt53 hM hJ hc oq) hS1)
theorem X_put53N (hx : p.tables.exec = Jvm.exec) (hb : c.code = cc) (hts : ∀ w ∈ lw_all, w.before args s = true) (hown : s.vm.findClass own = some m.cls) (hK : KK D cA s) (hM : XW D cA ad ta h H) (hJ : XJ z0 ad) (hA : ∀ q, XA ad q → A q) (hS : va_S A H0 H locs) {x : Int32} (hlink : (Cond.fieldLinkNest own index RX6 (TX6 3).2.1 (TX6 3).2.2.1 "StrangeKnives").before args s = true) (ty : FieldType) (hd : parseFieldDescriptor (TX6 3).2.2.1 = some ty) (hw : narrow ty (.int x) = .int x) (hf : fits ty (.int x) = true) (hdg : decode cc pc = .ok (.putfield index, 3))
    (kk : ∀ (H1 : Heap) (locs1 : List Loc), XW D cA ad ta (up2 h 53 0 x) H1 → va_S A H0 H1 locs1 → W p l e R s m args below meth c H1 locs1 cells slots Q (F0 m (pc + 3) ls rest)) : W p l e R s m args below meth c H locs cells slots Q (F0 m pc ls (.int x :: .ref (ad 55) :: rest)) :=
  h_putN (host := "StrangeKnives") (C := RX6) (T := TX6) (N := 5) (ci := 5) hx hb hts in_X6 tyX6 tyX6_ok nmX6 hown hK (hM.2.2.2.1) (hA _ ⟨55, Or.inr (Or.inr (Or.inr (Or.inr (Or.inl rfl)))), rfl⟩) hS rfl 3 (by decide) hlink (fun _ h9 => h9) rfl hd hw hf (Nat.lt_of_lt_of_le (by decide : 3 < 5) (Nat.le_of_eq rfl)) hdg (fun H1 locs1 hc oq _ hS1 => kk H1 locs1 (XW.pt53 hM hJ hc oq) hS1)
theorem X_put54 (hx : p.tables.exec = Jvm.exec) (hb : c.code = cc) (hts : ∀ w ∈ lw_all, w.before args s = true) (hown : s.vm.findClass own = some m.cls) (hK : KK D cA s) (hM : XW D cA ad ta h H) (hJ : XJ z0 ad) (hA : ∀ q, XA ad q → A q) (hS : va_S A H0 H locs) {x : Int32} (hlink : (Cond.fieldLink own index RX6 (TX6 4).2.1 (TX6 4).2.2.1).before args s = true) (ty : FieldType) (hd : parseFieldDescriptor (TX6 4).2.2.1 = some ty) (hw : narrow ty (.int x) = .int x) (hf : fits ty (.int x) = true) (hdg : decode cc pc = .ok (.putfield index, 3))
    (kk : ∀ (H1 : Heap) (locs1 : List Loc), XW D cA ad ta (up2 h 54 0 x) H1 → va_S A H0 H1 locs1 → W p l e R s m args below meth c H1 locs1 cells slots Q (F0 m (pc + 3) ls rest)) : W p l e R s m args below meth c H locs cells slots Q (F0 m pc ls (.int x :: .ref (ad 55) :: rest)) :=
  h_put (C := RX6) (T := TX6) (N := 5) (ci := 5) hx hb hts in_X6 tyX6 tyX6_ok nmX6 hown hK (hM.2.2.2.1) (hA _ ⟨55, Or.inr (Or.inr (Or.inr (Or.inr (Or.inl rfl)))), rfl⟩) hS rfl 4 (by decide) hlink (fun _ h9 => h9) rfl hd hw hf (Nat.lt_of_lt_of_le (by decide : 4 < 5) (Nat.le_of_eq rfl)) hdg (fun H1 locs1 hc oq _ hS1 => kk H1 locs1 (XW.pt54 hM hJ hc oq) hS1)
theorem X_put54N (hx : p.tables.exec = Jvm.exec) (hb : c.code = cc) (hts : ∀ w ∈ lw_all, w.before args s = true) (hown : s.vm.findClass own = some m.cls) (hK : KK D cA s) (hM : XW D cA ad ta h H) (hJ : XJ z0 ad) (hA : ∀ q, XA ad q → A q) (hS : va_S A H0 H locs) {x : Int32} (hlink : (Cond.fieldLinkNest own index RX6 (TX6 4).2.1 (TX6 4).2.2.1 "StrangeKnives").before args s = true) (ty : FieldType) (hd : parseFieldDescriptor (TX6 4).2.2.1 = some ty) (hw : narrow ty (.int x) = .int x) (hf : fits ty (.int x) = true) (hdg : decode cc pc = .ok (.putfield index, 3))
    (kk : ∀ (H1 : Heap) (locs1 : List Loc), XW D cA ad ta (up2 h 54 0 x) H1 → va_S A H0 H1 locs1 → W p l e R s m args below meth c H1 locs1 cells slots Q (F0 m (pc + 3) ls rest)) : W p l e R s m args below meth c H locs cells slots Q (F0 m pc ls (.int x :: .ref (ad 55) :: rest)) :=
  h_putN (host := "StrangeKnives") (C := RX6) (T := TX6) (N := 5) (ci := 5) hx hb hts in_X6 tyX6 tyX6_ok nmX6 hown hK (hM.2.2.2.1) (hA _ ⟨55, Or.inr (Or.inr (Or.inr (Or.inr (Or.inl rfl)))), rfl⟩) hS rfl 4 (by decide) hlink (fun _ h9 => h9) rfl hd hw hf (Nat.lt_of_lt_of_le (by decide : 4 < 5) (Nat.le_of_eq rfl)) hdg (fun H1 locs1 hc oq _ hS1 => kk H1 locs1 (XW.pt54 hM hJ hc oq) hS1)
theorem X_iald (hx : p.tables.exec = Jvm.exec) (hb : c.code = cc) (hK : KK D cA s) (hM : XW D cA ad ta h H) (k : Nat) (hk : Xarr k = true) {i : Int32} {j : Nat} (hj : ix i = j) (hin : vp_in i (Xlen k)) (hdg : decode cc pc = .ok (.iaload, 1))
    (kk : W p l e R s m args below meth c H locs cells slots Q (F0 m (pc + 1) ls (.int (h k j) :: rest))) : W p l e R s m args below meth c H locs cells slots Q (F0 m pc ls (.int i :: .ref (ad k) :: rest)) :=
  h_iald hx hb hK (hM.2.2.2.2.2 k hk) 0 rfl hj hin hdg kk
theorem X_alen (hx : p.tables.exec = Jvm.exec) (hb : c.code = cc) (hK : KK D cA s) (hM : XW D cA ad ta h H) (k : Nat) (hk : Xarr k = true) (hdg : decode cc pc = .ok (.arraylength, 1))
    (kk : W p l e R s m args below meth c H locs cells slots Q (F0 m (pc + 1) ls (.int (nI (Xlen k)) :: rest))) : W p l e R s m args below meth c H locs cells slots Q (F0 m pc ls (.ref (ad k) :: rest)) :=
  h_alen hx hb hK (hM.2.2.2.2.2 k hk) 0 rfl rfl hdg kk
theorem X_iast (hx : p.tables.exec = Jvm.exec) (hb : c.code = cc) (hK : KK D cA s) (hM : XW D cA ad ta h H) (hJ : XJ z0 ad) (hA : ∀ q, XA ad q → A q) (hS : va_S A H0 H locs) (k : Nat) (hk : Xarr k = true) {i x : Int32} {j : Nat} (hj : ix i = j) (hin : vp_in i (Xlen k)) (hdg : decode cc pc = .ok (.iastore, 1))
    (kk : ∀ (H1 : Heap) (locs1 : List Loc), XW D cA ad ta (up2 h k j x) H1 → va_S A H0 H1 locs1 → W p l e R s m args below meth c H1 locs1 cells slots Q (F0 m (pc + 1) ls rest)) : W p l e R s m args below meth c H locs cells slots Q (F0 m pc ls (.int x :: .int i :: .ref (ad k) :: rest)) :=
  h_iast hx hb hK (hM.2.2.2.2.2 k hk) (hA _ ⟨k, Or.inl hk, rfl⟩) hS 0 rfl hj hin hdg (fun H1 locs1 hc oq _ hS1 => kk H1 locs1 (XW.st hM hJ hk hc oq) hS1)
theorem X_bast6 (hx : p.tables.exec = Jvm.exec) (hb : c.code = cc) (hK : KK D cA s) (hM : XW D cA ad ta h H) (hJ : XJ z0 ad) (hA : ∀ q, XA ad q → A q) (hS : va_S A H0 H locs) {i x : Int32} {j : Nat} (hj : ix i = j) (hin : vp_in i 600) (hdg : decode cc pc = .ok (.bastore, 1))
    (kk : ∀ (H1 : Heap) (locs1 : List Loc), XW D cA ad ta (up2 h 6 j (vp_nar .byte x)) H1 → va_S A H0 H1 locs1 → W p l e R s m args below meth c H1 locs1 cells slots Q (F0 m (pc + 1) ls rest)) : W p l e R s m args below meth c H locs cells slots Q (F0 m pc ls (.int x :: .int i :: .ref (ad 6) :: rest)) :=
  h_bast hx hb hK (hM.2.2.2.2.1) (hA _ ⟨6, Or.inr (Or.inr (Or.inr (Or.inr (Or.inr (rfl))))), rfl⟩) hS 1 rfl hj hin hdg (fun H1 locs1 hc oq _ hS1 => kk H1 locs1 (XW.sb6 hM hJ hc oq) hS1)
end RX
/-! the region V -/
def Varr : Nat → Bool := fun k => match k with
  | 0 => true
  | _ => false
def Vlen : Nat → Nat := fun k => match k with
  | 0 => 6
  | _ => 0
def VW (D : va_G) (cA : Nat → ClassId) (va : Nat → Nat) (h : Mem) (H : Heap) : Prop := (∀ k, Varr k = true → va_at D vwCl (va k, .inl (cA 0, Vlen k, .inl (h k))) H)
def Vpl (i : Nat) : Prop := Varr i = true
def VA (va : Nat → Nat) : Nat → Prop := fun q => ∃ i, Vpl i ∧ q = va i
def VJ (z0 : Nat) (va : Nat → Nat) : Prop := (∀ i j, Vpl i → Vpl j → va i = va j → i = j) ∧ ∀ i, Vpl i → z0 ≤ va i
theorem VJ.z {z0 : Nat} {va : Nat → Nat} (h : VJ z0 va) : ∀ q, VA va q → z0 ≤ q := fun q ⟨i, h1, h2⟩ => by rw [h2]; exact h.2 i h1
theorem VW.kept {D : va_G} {cA : Nat → ClassId} {va : Nat → Nat} {h : Mem} {H H1 : Heap} (hM : VW D cA va h H) (oq : ∀ q, q < H.size → H1[q]? = H[q]?) : VW D cA va h H1 := fun k hk => (hM k hk).kept (oq _ (hM k hk).lt)
theorem VW.at {D : va_G} {cA : Nat → ClassId} {va : Nat → Nat} {h : Mem} {H H1 : Heap} (ht : H1 = H) (hM : VW D cA va h H) : VW D cA va h H1 := by rw [ht]; exact hM
theorem VW.st {z0 : Nat} {D : va_G} {cA : Nat → ClassId} {va : Nat → Nat} {h : Mem} {H H1 : Heap} {k i : Nat} {x : Int32} (hM : VW D cA va h H) (hJ : VJ z0 va) (hk : Varr k = true) (hc : va_at D vwCl (va k, .inl (cA 0, Vlen k, .inl (upd (h k) i x))) H1) (oq : ∀ q, q ≠ va k → H1[q]? = H[q]?) : VW D cA va (up2 h k i x) H1 := by
  refine (fun j hj => by
    by_cases e : j = k
    · subst e
      rw [up2_same]
      exact hc
    · rw [up2_other e]
      exact (hM j hj).kept (oq _ fun q => e (hJ.1 j k (hj) (hk) q)))
section RV
variable {p : Program} {l : Launch} {e : Env} {R : Room} {s : State} {m : MethodId} {args : Array Value} {below : List Frame} {meth : Method} {c : Code} {H : Heap} {locs : List Loc} {cells slots : Nat} {Q : State → Prop}
variable {cc : ByteArray} {pc z0 : Nat} {ls : Array Slot} {rest : List Value} {A : Nat → Prop} {H0 : Heap} {D : va_G} {cA : Nat → ClassId} {va : Nat → Nat} {h : Mem} {own : String} {index : Nat}
theorem V_iald (hx : p.tables.exec = Jvm.exec) (hb : c.code = cc) (hK : KK D cA s) (hM : VW D cA va h H) (k : Nat) (hk : Varr k = true) {i : Int32} {j : Nat} (hj : ix i = j) (hin : vp_in i (Vlen k)) (hdg : decode cc pc = .ok (.iaload, 1))
    (kk : W p l e R s m args below meth c H locs cells slots Q (F0 m (pc + 1) ls (.int (h k j) :: rest))) : W p l e R s m args below meth c H locs cells slots Q (F0 m pc ls (.int i :: .ref (va k) :: rest)) :=
  h_iald hx hb hK (hM k hk) 0 rfl hj hin hdg kk
theorem V_alen (hx : p.tables.exec = Jvm.exec) (hb : c.code = cc) (hK : KK D cA s) (hM : VW D cA va h H) (k : Nat) (hk : Varr k = true) (hdg : decode cc pc = .ok (.arraylength, 1))
    (kk : W p l e R s m args below meth c H locs cells slots Q (F0 m (pc + 1) ls (.int (nI (Vlen k)) :: rest))) : W p l e R s m args below meth c H locs cells slots Q (F0 m pc ls (.ref (va k) :: rest)) :=
  h_alen hx hb hK (hM k hk) 0 rfl rfl hdg kk
theorem V_iast (hx : p.tables.exec = Jvm.exec) (hb : c.code = cc) (hK : KK D cA s) (hM : VW D cA va h H) (hJ : VJ z0 va) (hA : ∀ q, VA va q → A q) (hS : va_S A H0 H locs) (k : Nat) (hk : Varr k = true) {i x : Int32} {j : Nat} (hj : ix i = j) (hin : vp_in i (Vlen k)) (hdg : decode cc pc = .ok (.iastore, 1))
    (kk : ∀ (H1 : Heap) (locs1 : List Loc), VW D cA va (up2 h k j x) H1 → va_S A H0 H1 locs1 → W p l e R s m args below meth c H1 locs1 cells slots Q (F0 m (pc + 1) ls rest)) : W p l e R s m args below meth c H locs cells slots Q (F0 m pc ls (.int x :: .int i :: .ref (va k) :: rest)) :=
  h_iast hx hb hK (hM k hk) (hA _ ⟨k, hk, rfl⟩) hS 0 rfl hj hin hdg (fun H1 locs1 hc oq _ hS1 => kk H1 locs1 (VW.st hM hJ hk hc oq) hS1)
end RV
/-- a state's part of the component's memory, and back -/
def sub (u : Mem) (k : Nat) : Mem := fun j => u (k + j)
def put5 (u : Mem) (k : Nat) (S : Mem) : Mem := fun j => if k ≤ j ∧ j < k + 5 then S (j - k) else u j
def shf (ad : Nat → Nat) (k : Nat) : Nat → Nat := fun j => ad (k + j)
theorem XW.now {D : va_G} {cA : Nat → ClassId} {ad : Nat → Nat} {ta : Nat} {u : Mem} {H : Heap} (h : XW D cA ad ta u H) : SW D cA (shf ad 40) (sub u 40) H := by
  refine ⟨h.2.2.1, fun k hk => ?_⟩
  match k, hk with
  | 0, _ => exact h.2.2.2.2.2 40 rfl
  | 1, _ => exact h.2.2.2.2.2 41 rfl
  | 2, _ => exact h.2.2.2.2.2 42 rfl
theorem XW.tried {D : va_G} {cA : Nat → ClassId} {ad : Nat → Nat} {ta : Nat} {u : Mem} {H : Heap} (h : XW D cA ad ta u H) : SW D cA (shf ad 50) (sub u 50) H := by
  refine ⟨h.2.2.2.1, fun k hk => ?_⟩
  match k, hk with
  | 0, _ => exact h.2.2.2.2.2 50 rfl
  | 1, _ => exact h.2.2.2.2.2 51 rfl
  | 2, _ => exact h.2.2.2.2.2 52 rfl
